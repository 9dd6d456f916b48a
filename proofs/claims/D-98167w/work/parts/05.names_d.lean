/-! BeggarHeapsModel -/
set_option maxRecDepth 100000
def RX13 : String := "BeggarHeapsModel"
def TX13 : u_T := fun k => match k with
  | 0 => ("BeggarHeapsModel", "thrown", "I", false)
  | 1 => ("BeggarHeapsModel", "tape", "[I", true)
  | 2 => ("BeggarHeapsModel", "taped", "I", false)
  | 3 => ("BeggarHeapsModel", "size", "I", false)
  | 4 => ("BeggarHeapsModel", "sort", "[I", true)
  | 5 => ("BeggarHeapsModel", "place", "[I", true)
  | 6 => ("BeggarHeapsModel", "value", "[J", true)
  | 7 => ("BeggarHeapsModel", "at", "I", false)
  | 8 => ("BeggarHeapsModel", "fault", "I", false)
  | 9 => ("BeggarHeapsModel", "words", "[J", true)
  | 10 => ("BeggarHeapsModel", "tables", "[I", true)
  | 11 => ("BeggarHeapsModel", "op", "[I", true)
  | 12 => ("BeggarHeapsModel", "arg", "[I", true)
  | 13 => ("BeggarHeapsModel", "codes", "I", false)
  | 14 => ("BeggarHeapsModel", "names", "[J", true)
  | 15 => ("BeggarHeapsModel", "readNames", "[J", true)
  | 16 => ("BeggarHeapsModel", "told", "I", false)
  | 17 => ("BeggarHeapsModel", "readCards", "[I", true)
  | 18 => ("BeggarHeapsModel", "readMany", "[I", true)
  | 19 => ("BeggarHeapsModel", "readBook", "[I", true)
  | 20 => ("BeggarHeapsModel", "facts", "[I", true)
  | 21 => ("BeggarHeapsModel", "pile", "[I", true)
  | 22 => ("BeggarHeapsModel", "state", "[I", true)
  | 23 => ("BeggarHeapsModel", "undos", "I", false)
  | 24 => ("BeggarHeapsModel", "isMarked", "[Z", true)
  | 25 => ("BeggarHeapsModel", "lawKind", "I", false)
  | 26 => ("BeggarHeapsModel", "lawPays", "I", false)
  | 27 => ("BeggarHeapsModel", "laid", "[I", true)
  | 28 => ("BeggarHeapsModel", "keyA", "[J", true)
  | 29 => ("BeggarHeapsModel", "keyB", "[J", true)
  | 30 => ("BeggarHeapsModel", "keyC", "[J", true)
  | 31 => ("BeggarHeapsModel", "when", "[I", true)
  | 32 => ("BeggarHeapsModel", "heapsThen", "[I", true)
  | 33 => ("BeggarHeapsModel", "behind", "[I", true)
  | 34 => ("BeggarHeapsModel", "heads", "[I", true)
  | 35 => ("BeggarHeapsModel", "keysMany", "I", false)
  | 36 => ("BeggarHeapsModel", "end", "I", false)
  | 37 => ("BeggarHeapsModel", "endTurns", "I", false)
  | 38 => ("BeggarHeapsModel", "endHeaps", "I", false)
  | 39 => ("BeggarHeapsModel", "endRound", "I", false)
  | 40 => ("BeggarHeapsModel", "cards0", "[I", true)
  | 41 => ("BeggarHeapsModel", "cardsMany", "I", false)
  | 42 => ("BeggarHeapsModel", "allEnds", "[I", true)
  | 43 => ("BeggarHeapsModel", "allTurns", "[I", true)
  | 44 => ("BeggarHeapsModel", "allMany", "I", false)
  | 45 => ("BeggarHeapsModel", "isCounted", "Z", false)
  | 46 => ("BeggarHeapsModel", "placesOf", "[I", true)
  | 47 => ("BeggarHeapsModel", "hidden", "[I", true)
  | 48 => ("BeggarHeapsModel", "hiddenMany", "I", false)
  | 49 => ("BeggarHeapsModel", "leftOdds", "I", false)
  | 50 => ("BeggarHeapsModel", "rightOdds", "I", false)
  | 51 => ("BeggarHeapsModel", "allOdds", "I", false)
  | 52 => ("BeggarHeapsModel", "chosen", "[I", true)
  | 53 => ("BeggarHeapsModel", "bestChosen", "[I", true)
  | 54 => ("BeggarHeapsModel", "bestMany", "I", false)
  | _ => ("BeggarHeapsModel", "g", "J", false)
def tyX13 : Nat → FieldType := fun k => match k with
  | 0 => .int
  | 1 => .array .int
  | 2 => .int
  | 3 => .int
  | 4 => .array .int
  | 5 => .array .int
  | 6 => .array .long
  | 7 => .int
  | 8 => .int
  | 9 => .array .long
  | 10 => .array .int
  | 11 => .array .int
  | 12 => .array .int
  | 13 => .int
  | 14 => .array .long
  | 15 => .array .long
  | 16 => .int
  | 17 => .array .int
  | 18 => .array .int
  | 19 => .array .int
  | 20 => .array .int
  | 21 => .array .int
  | 22 => .array .int
  | 23 => .int
  | 24 => .array .boolean
  | 25 => .int
  | 26 => .int
  | 27 => .array .int
  | 28 => .array .long
  | 29 => .array .long
  | 30 => .array .long
  | 31 => .array .int
  | 32 => .array .int
  | 33 => .array .int
  | 34 => .array .int
  | 35 => .int
  | 36 => .int
  | 37 => .int
  | 38 => .int
  | 39 => .int
  | 40 => .array .int
  | 41 => .int
  | 42 => .array .int
  | 43 => .array .int
  | 44 => .int
  | 45 => .boolean
  | 46 => .array .int
  | 47 => .array .int
  | 48 => .int
  | 49 => .int
  | 50 => .int
  | 51 => .int
  | 52 => .array .int
  | 53 => .array .int
  | 54 => .int
  | _ => .long
abbrev wsX130 : List Cond := u_ws RX13 TX13 56
set_option maxRecDepth 100000 in
theorem nmX13 : ∀ a, a < 56 → ∀ b, b < 56 → a ≠ b → (TX13 a).2.1 ≠ (TX13 b).2.1 := by decide +kernel
set_option maxRecDepth 100000 in
theorem tyX13_ok : ∀ k, k < 56 → parseFieldDescriptor (TX13 k).2.2.1 = some (tyX13 k) := by decide +kernel
abbrev cX13_thrown : ByteArray := prog_24_method_1_code
def yX13_thrown : MethodName := ⟨RX13, "thrown", "()I"⟩
theorem dX13_thrown_0 : decode cX13_thrown 0 = .ok (.aload_n 0, 1) := by decide +kernel
theorem dX13_thrown_1 : decode cX13_thrown 1 = .ok (.getfield 1, 3) := by decide +kernel
theorem dX13_thrown_4 : decode cX13_thrown 4 = .ok (.ireturn, 1) := by decide +kernel
abbrev cX13_feed : ByteArray := prog_24_method_2_code
def yX13_feed : MethodName := ⟨RX13, "feed", "(JJJ)I"⟩
def dkwX13_feed_1 : List UInt8 := [180, 0, 11, 172]
abbrev dktX13_feed_1 : List UInt8 := dkwX13_feed_1 ++ []
def dkwX13_feed_0 : List UInt8 := [42, 3, 181, 0, 1, 42, 31, 182, 0, 7, 42, 33, 182, 0, 7, 42, 22, 5, 182, 0, 7, 42]
abbrev dktX13_feed_0 : List UInt8 := dkwX13_feed_0 ++ dktX13_feed_1
theorem dksX13_feed_0 : cX13_feed.data.toList.drop 0 = dktX13_feed_0 := by decide +kernel
theorem dksX13_feed_1 : cX13_feed.data.toList.drop 22 = dktX13_feed_1 := dk_seg dksX13_feed_0 22 rfl rfl
theorem dX13_feed_0 : decode cX13_feed 0 = .ok (.aload_n 0, 1) := dk_42 (dk_at dksX13_feed_0 0 rfl rfl)
theorem dX13_feed_1 : decode cX13_feed 1 = .ok (.iconst 0, 1) := dk_3 (dk_at dksX13_feed_0 1 rfl rfl)
theorem dX13_feed_2 : decode cX13_feed 2 = .ok (.putfield 1, 3) := dk_181 0 1 (dk_at dksX13_feed_0 2 rfl rfl)
theorem dX13_feed_5 : decode cX13_feed 5 = .ok (.aload_n 0, 1) := dk_42 (dk_at dksX13_feed_0 5 rfl rfl)
theorem dX13_feed_6 : decode cX13_feed 6 = .ok (.lload_n 1, 1) := dk_31 (dk_at dksX13_feed_0 6 rfl rfl)
theorem dX13_feed_7 : decode cX13_feed 7 = .ok (.invokevirtual 7, 3) := dk_182 0 7 (dk_at dksX13_feed_0 7 rfl rfl)
theorem dX13_feed_10 : decode cX13_feed 10 = .ok (.aload_n 0, 1) := dk_42 (dk_at dksX13_feed_0 10 rfl rfl)
theorem dX13_feed_11 : decode cX13_feed 11 = .ok (.lload_n 3, 1) := dk_33 (dk_at dksX13_feed_0 11 rfl rfl)
theorem dX13_feed_12 : decode cX13_feed 12 = .ok (.invokevirtual 7, 3) := dk_182 0 7 (dk_at dksX13_feed_0 12 rfl rfl)
theorem dX13_feed_15 : decode cX13_feed 15 = .ok (.aload_n 0, 1) := dk_42 (dk_at dksX13_feed_0 15 rfl rfl)
theorem dX13_feed_16 : decode cX13_feed 16 = .ok (.lload 5, 2) := dk_22 5 (dk_at dksX13_feed_0 16 rfl rfl)
theorem dX13_feed_18 : decode cX13_feed 18 = .ok (.invokevirtual 7, 3) := dk_182 0 7 (dk_at dksX13_feed_0 18 rfl rfl)
theorem dX13_feed_21 : decode cX13_feed 21 = .ok (.aload_n 0, 1) := dk_42 (dk_at dksX13_feed_0 21 rfl rfl)
theorem dX13_feed_22 : decode cX13_feed 22 = .ok (.getfield 11, 3) := dk_180 0 11 (dk_at dksX13_feed_1 0 rfl rfl)
theorem dX13_feed_25 : decode cX13_feed 25 = .ok (.ireturn, 1) := dk_172 (dk_at dksX13_feed_1 3 rfl rfl)
abbrev cX13_lay : ByteArray := prog_24_method_3_code
def yX13_lay : MethodName := ⟨RX13, "lay", "(J)V"⟩
def dkwX13_lay_3 : List UInt8 := [167, 255, 187, 177]
abbrev dktX13_lay_3 : List UInt8 := dkwX13_lay_3 ++ []
def dkwX13_lay_2 : List UInt8 := [42, 180, 0, 14, 42, 180, 0, 11, 21, 4, 79, 42, 89, 180, 0, 11, 4, 96, 181, 0, 11, 132, 3, 248]
abbrev dktX13_lay_2 : List UInt8 := dkwX13_lay_2 ++ dktX13_lay_3
def dkwX13_lay_1 : List UInt8 := [21, 4, 16, 32, 161, 0, 41, 21, 4, 16, 126, 163, 0, 34, 42, 180, 0, 11, 17, 3, 232, 162, 0, 24]
abbrev dktX13_lay_1 : List UInt8 := dkwX13_lay_1 ++ dktX13_lay_2
def dkwX13_lay_0 : List UInt8 := [16, 56, 62, 29, 155, 0, 71, 31, 29, 123, 136, 17, 0, 255, 126, 54, 4, 21, 4, 16, 10, 159, 0, 17]
abbrev dktX13_lay_0 : List UInt8 := dkwX13_lay_0 ++ dktX13_lay_1
theorem dksX13_lay_0 : cX13_lay.data.toList.drop 0 = dktX13_lay_0 := by decide +kernel
theorem dksX13_lay_1 : cX13_lay.data.toList.drop 24 = dktX13_lay_1 := dk_seg dksX13_lay_0 24 rfl rfl
theorem dksX13_lay_2 : cX13_lay.data.toList.drop 48 = dktX13_lay_2 := dk_seg dksX13_lay_1 24 rfl rfl
theorem dksX13_lay_3 : cX13_lay.data.toList.drop 72 = dktX13_lay_3 := dk_seg dksX13_lay_2 24 rfl rfl
theorem dX13_lay_0 : decode cX13_lay 0 = .ok (.bipush 56, 2) := dk_16 56 (dk_at dksX13_lay_0 0 rfl rfl)
theorem dX13_lay_2 : decode cX13_lay 2 = .ok (.istore_n 3, 1) := dk_62 (dk_at dksX13_lay_0 2 rfl rfl)
theorem dX13_lay_3 : decode cX13_lay 3 = .ok (.iload_n 3, 1) := dk_29 (dk_at dksX13_lay_0 3 rfl rfl)
theorem dX13_lay_4 : decode cX13_lay 4 = .ok (.ifCond .lt 71, 3) := dk_155 0 71 (dk_at dksX13_lay_0 4 rfl rfl)
theorem dX13_lay_7 : decode cX13_lay 7 = .ok (.lload_n 1, 1) := dk_31 (dk_at dksX13_lay_0 7 rfl rfl)
theorem dX13_lay_8 : decode cX13_lay 8 = .ok (.iload_n 3, 1) := dk_29 (dk_at dksX13_lay_0 8 rfl rfl)
theorem dX13_lay_9 : decode cX13_lay 9 = .ok (.lshr, 1) := dk_123 (dk_at dksX13_lay_0 9 rfl rfl)
theorem dX13_lay_10 : decode cX13_lay 10 = .ok (.l2i, 1) := dk_136 (dk_at dksX13_lay_0 10 rfl rfl)
theorem dX13_lay_11 : decode cX13_lay 11 = .ok (.sipush 255, 3) := dk_17 0 255 (dk_at dksX13_lay_0 11 rfl rfl)
theorem dX13_lay_14 : decode cX13_lay 14 = .ok (.iand, 1) := dk_126 (dk_at dksX13_lay_0 14 rfl rfl)
theorem dX13_lay_15 : decode cX13_lay 15 = .ok (.istore 4, 2) := dk_54 4 (dk_at dksX13_lay_0 15 rfl rfl)
theorem dX13_lay_17 : decode cX13_lay 17 = .ok (.iload 4, 2) := dk_21 4 (dk_at dksX13_lay_0 17 rfl rfl)
theorem dX13_lay_19 : decode cX13_lay 19 = .ok (.bipush 10, 2) := dk_16 10 (dk_at dksX13_lay_0 19 rfl rfl)
theorem dX13_lay_21 : decode cX13_lay 21 = .ok (.if_icmp .eq 17, 3) := dk_159 0 17 (dk_at dksX13_lay_0 21 rfl rfl)
theorem dX13_lay_24 : decode cX13_lay 24 = .ok (.iload 4, 2) := dk_21 4 (dk_at dksX13_lay_1 0 rfl rfl)
theorem dX13_lay_26 : decode cX13_lay 26 = .ok (.bipush 32, 2) := dk_16 32 (dk_at dksX13_lay_1 2 rfl rfl)
theorem dX13_lay_28 : decode cX13_lay 28 = .ok (.if_icmp .lt 41, 3) := dk_161 0 41 (dk_at dksX13_lay_1 4 rfl rfl)
theorem dX13_lay_31 : decode cX13_lay 31 = .ok (.iload 4, 2) := dk_21 4 (dk_at dksX13_lay_1 7 rfl rfl)
theorem dX13_lay_33 : decode cX13_lay 33 = .ok (.bipush 126, 2) := dk_16 126 (dk_at dksX13_lay_1 9 rfl rfl)
theorem dX13_lay_35 : decode cX13_lay 35 = .ok (.if_icmp .gt 34, 3) := dk_163 0 34 (dk_at dksX13_lay_1 11 rfl rfl)
theorem dX13_lay_38 : decode cX13_lay 38 = .ok (.aload_n 0, 1) := dk_42 (dk_at dksX13_lay_1 14 rfl rfl)
theorem dX13_lay_39 : decode cX13_lay 39 = .ok (.getfield 11, 3) := dk_180 0 11 (dk_at dksX13_lay_1 15 rfl rfl)
theorem dX13_lay_42 : decode cX13_lay 42 = .ok (.sipush 1000, 3) := dk_17 3 232 (dk_at dksX13_lay_1 18 rfl rfl)
theorem dX13_lay_45 : decode cX13_lay 45 = .ok (.if_icmp .ge 24, 3) := dk_162 0 24 (dk_at dksX13_lay_1 21 rfl rfl)
theorem dX13_lay_48 : decode cX13_lay 48 = .ok (.aload_n 0, 1) := dk_42 (dk_at dksX13_lay_2 0 rfl rfl)
theorem dX13_lay_49 : decode cX13_lay 49 = .ok (.getfield 14, 3) := dk_180 0 14 (dk_at dksX13_lay_2 1 rfl rfl)
theorem dX13_lay_52 : decode cX13_lay 52 = .ok (.aload_n 0, 1) := dk_42 (dk_at dksX13_lay_2 4 rfl rfl)
theorem dX13_lay_53 : decode cX13_lay 53 = .ok (.getfield 11, 3) := dk_180 0 11 (dk_at dksX13_lay_2 5 rfl rfl)
theorem dX13_lay_56 : decode cX13_lay 56 = .ok (.iload 4, 2) := dk_21 4 (dk_at dksX13_lay_2 8 rfl rfl)
theorem dX13_lay_58 : decode cX13_lay 58 = .ok (.iastore, 1) := dk_79 (dk_at dksX13_lay_2 10 rfl rfl)
theorem dX13_lay_59 : decode cX13_lay 59 = .ok (.aload_n 0, 1) := dk_42 (dk_at dksX13_lay_2 11 rfl rfl)
theorem dX13_lay_60 : decode cX13_lay 60 = .ok (.dup, 1) := dk_89 (dk_at dksX13_lay_2 12 rfl rfl)
theorem dX13_lay_61 : decode cX13_lay 61 = .ok (.getfield 11, 3) := dk_180 0 11 (dk_at dksX13_lay_2 13 rfl rfl)
theorem dX13_lay_64 : decode cX13_lay 64 = .ok (.iconst 1, 1) := dk_4 (dk_at dksX13_lay_2 16 rfl rfl)
theorem dX13_lay_65 : decode cX13_lay 65 = .ok (.iadd, 1) := dk_96 (dk_at dksX13_lay_2 17 rfl rfl)
theorem dX13_lay_66 : decode cX13_lay 66 = .ok (.putfield 11, 3) := dk_181 0 11 (dk_at dksX13_lay_2 18 rfl rfl)
theorem dX13_lay_69 : decode cX13_lay 69 = .ok (.iinc 3 (-8), 3) := dk_132 3 248 (dk_at dksX13_lay_2 21 rfl rfl)
theorem dX13_lay_72 : decode cX13_lay 72 = .ok (.goto (-69), 3) := dk_167 255 187 (dk_at dksX13_lay_3 0 rfl rfl)
theorem dX13_lay_75 : decode cX13_lay 75 = .ok (.return_, 1) := dk_177 (dk_at dksX13_lay_3 3 rfl rfl)
abbrev cX13_init : ByteArray := prog_24_method_4_code
def yX13_init : MethodName := ⟨RX13, "<init>", "()V"⟩
def dkwX13_init_19 : List UInt8 := [3, 182, 0, 170, 42, 3, 182, 0, 174, 177]
abbrev dktX13_init_19 : List UInt8 := dkwX13_init_19 ++ []
def dkwX13_init_18 : List UInt8 := [16, 48, 188, 10, 181, 0, 161, 42, 16, 8, 188, 10, 181, 0, 164, 42, 16, 8, 188, 10, 181, 0, 167, 42]
abbrev dktX13_init_18 : List UInt8 := dkwX13_init_18 ++ dktX13_init_19
def dkwX13_init_17 : List UInt8 := [188, 10, 181, 0, 152, 42, 17, 78, 32, 188, 10, 181, 0, 155, 42, 16, 48, 188, 10, 181, 0, 158, 42]
abbrev dktX13_init_17 : List UInt8 := dkwX13_init_17 ++ dktX13_init_18
def dkwX13_init_16 : List UInt8 := [181, 0, 143, 42, 17, 4, 0, 188, 10, 181, 0, 146, 42, 16, 24, 188, 10, 181, 0, 149, 42, 17, 78, 32]
abbrev dktX13_init_16 : List UInt8 := dkwX13_init_16 ++ dktX13_init_17
def dkwX13_init_15 : List UInt8 := [17, 11, 194, 188, 10, 181, 0, 137, 42, 17, 11, 194, 188, 10, 181, 0, 140, 42, 17, 11, 194, 188, 10]
abbrev dktX13_init_15 : List UInt8 := dkwX13_init_15 ++ dktX13_init_16
def dkwX13_init_14 : List UInt8 := [181, 0, 128, 42, 17, 11, 194, 188, 11, 181, 0, 131, 42, 17, 11, 194, 188, 11, 181, 0, 134, 42]
abbrev dktX13_init_14 : List UInt8 := dkwX13_init_14 ++ dktX13_init_15
def dkwX13_init_13 : List UInt8 := [188, 4, 181, 0, 118, 42, 2, 181, 0, 122, 42, 16, 48, 188, 10, 181, 0, 125, 42, 17, 11, 194, 188, 11]
abbrev dktX13_init_13 : List UInt8 := dkwX13_init_13 ++ dktX13_init_14
def dkwX13_init_12 : List UInt8 := [181, 0, 109, 42, 17, 4, 76, 188, 10, 181, 0, 112, 42, 17, 64, 176, 188, 10, 181, 0, 115, 42, 7]
abbrev dktX13_init_12 : List UInt8 := dkwX13_init_12 ++ dktX13_init_13
def dkwX13_init_11 : List UInt8 := [181, 0, 100, 42, 5, 188, 10, 181, 0, 103, 42, 17, 0, 190, 188, 10, 181, 0, 106, 42, 7, 188, 10]
abbrev dktX13_init_11 : List UInt8 := dkwX13_init_11 ++ dktX13_init_12
def dkwX13_init_10 : List UInt8 := [181, 0, 91, 42, 16, 8, 188, 11, 181, 0, 94, 42, 16, 8, 188, 11, 181, 0, 97, 42, 16, 48, 188, 10]
abbrev dktX13_init_10 : List UInt8 := dkwX13_init_10 ++ dktX13_init_11
def dkwX13_init_9 : List UInt8 := [17, 1, 164, 188, 10, 181, 0, 85, 42, 17, 8, 152, 188, 10, 181, 0, 88, 42, 17, 8, 152, 188, 10]
abbrev dktX13_init_9 : List UInt8 := dkwX13_init_9 ++ dktX13_init_10
def dkwX13_init_8 : List UInt8 := [20, 0, 76, 80, 89, 16, 22, 20, 0, 78, 80, 89, 16, 23, 20, 0, 80, 80, 181, 0, 82, 42]
abbrev dktX13_init_8 : List UInt8 := dkwX13_init_8 ++ dktX13_init_9
def dkwX13_init_7 : List UInt8 := [16, 18, 20, 0, 70, 80, 89, 16, 19, 20, 0, 72, 80, 89, 16, 20, 20, 0, 74, 80, 89, 16, 21]
abbrev dktX13_init_7 : List UInt8 := dkwX13_init_7 ++ dktX13_init_8
def dkwX13_init_6 : List UInt8 := [80, 89, 16, 15, 20, 0, 64, 80, 89, 16, 16, 20, 0, 66, 80, 89, 16, 17, 20, 0, 68, 80, 89]
abbrev dktX13_init_6 : List UInt8 := dkwX13_init_6 ++ dktX13_init_7
def dkwX13_init_5 : List UInt8 := [20, 0, 56, 80, 89, 16, 12, 20, 0, 58, 80, 89, 16, 13, 20, 0, 60, 80, 89, 16, 14, 20, 0, 62]
abbrev dktX13_init_5 : List UInt8 := dkwX13_init_5 ++ dktX13_init_6
def dkwX13_init_4 : List UInt8 := [89, 16, 8, 20, 0, 50, 80, 89, 16, 9, 20, 0, 52, 80, 89, 16, 10, 20, 0, 54, 80, 89, 16, 11]
abbrev dktX13_init_4 : List UInt8 := dkwX13_init_4 ++ dktX13_init_5
def dkwX13_init_3 : List UInt8 := [20, 0, 42, 80, 89, 8, 20, 0, 44, 80, 89, 16, 6, 20, 0, 46, 80, 89, 16, 7, 20, 0, 48, 80]
abbrev dktX13_init_3 : List UInt8 := dkwX13_init_3 ++ dktX13_init_4
def dkwX13_init_2 : List UInt8 := [20, 0, 34, 80, 89, 4, 20, 0, 36, 80, 89, 5, 20, 0, 38, 80, 89, 6, 20, 0, 40, 80, 89, 7]
abbrev dktX13_init_2 : List UInt8 := dkwX13_init_2 ++ dktX13_init_3
def dkwX13_init_1 : List UInt8 := [17, 3, 234, 188, 10, 181, 0, 27, 42, 17, 3, 234, 188, 11, 181, 0, 30, 42, 16, 24, 188, 11, 89, 3]
abbrev dktX13_init_1 : List UInt8 := dkwX13_init_1 ++ dktX13_init_2
def dkwX13_init_0 : List UInt8 := [42, 183, 0, 18, 42, 17, 3, 232, 188, 10, 181, 0, 14, 42, 17, 3, 234, 188, 10, 181, 0, 24, 42]
abbrev dktX13_init_0 : List UInt8 := dkwX13_init_0 ++ dktX13_init_1
theorem dksX13_init_0 : cX13_init.data.toList.drop 0 = dktX13_init_0 := by decide +kernel
theorem dksX13_init_1 : cX13_init.data.toList.drop 23 = dktX13_init_1 := dk_seg dksX13_init_0 23 rfl rfl
theorem dksX13_init_2 : cX13_init.data.toList.drop 47 = dktX13_init_2 := dk_seg dksX13_init_1 24 rfl rfl
theorem dksX13_init_3 : cX13_init.data.toList.drop 71 = dktX13_init_3 := dk_seg dksX13_init_2 24 rfl rfl
theorem dksX13_init_4 : cX13_init.data.toList.drop 95 = dktX13_init_4 := dk_seg dksX13_init_3 24 rfl rfl
theorem dksX13_init_5 : cX13_init.data.toList.drop 119 = dktX13_init_5 := dk_seg dksX13_init_4 24 rfl rfl
theorem dksX13_init_6 : cX13_init.data.toList.drop 143 = dktX13_init_6 := dk_seg dksX13_init_5 24 rfl rfl
theorem dksX13_init_7 : cX13_init.data.toList.drop 166 = dktX13_init_7 := dk_seg dksX13_init_6 23 rfl rfl
theorem dksX13_init_8 : cX13_init.data.toList.drop 189 = dktX13_init_8 := dk_seg dksX13_init_7 23 rfl rfl
theorem dksX13_init_9 : cX13_init.data.toList.drop 211 = dktX13_init_9 := dk_seg dksX13_init_8 22 rfl rfl
theorem dksX13_init_10 : cX13_init.data.toList.drop 234 = dktX13_init_10 := dk_seg dksX13_init_9 23 rfl rfl
theorem dksX13_init_11 : cX13_init.data.toList.drop 258 = dktX13_init_11 := dk_seg dksX13_init_10 24 rfl rfl
theorem dksX13_init_12 : cX13_init.data.toList.drop 281 = dktX13_init_12 := dk_seg dksX13_init_11 23 rfl rfl
theorem dksX13_init_13 : cX13_init.data.toList.drop 304 = dktX13_init_13 := dk_seg dksX13_init_12 23 rfl rfl
theorem dksX13_init_14 : cX13_init.data.toList.drop 328 = dktX13_init_14 := dk_seg dksX13_init_13 24 rfl rfl
theorem dksX13_init_15 : cX13_init.data.toList.drop 350 = dktX13_init_15 := dk_seg dksX13_init_14 22 rfl rfl
theorem dksX13_init_16 : cX13_init.data.toList.drop 373 = dktX13_init_16 := dk_seg dksX13_init_15 23 rfl rfl
theorem dksX13_init_17 : cX13_init.data.toList.drop 397 = dktX13_init_17 := dk_seg dksX13_init_16 24 rfl rfl
theorem dksX13_init_18 : cX13_init.data.toList.drop 420 = dktX13_init_18 := dk_seg dksX13_init_17 23 rfl rfl
theorem dksX13_init_19 : cX13_init.data.toList.drop 444 = dktX13_init_19 := dk_seg dksX13_init_18 24 rfl rfl
theorem dX13_init_0 : decode cX13_init 0 = .ok (.aload_n 0, 1) := dk_42 (dk_at dksX13_init_0 0 rfl rfl)
theorem dX13_init_1 : decode cX13_init 1 = .ok (.invokespecial 18, 3) := dk_183 0 18 (dk_at dksX13_init_0 1 rfl rfl)
theorem dX13_init_4 : decode cX13_init 4 = .ok (.aload_n 0, 1) := dk_42 (dk_at dksX13_init_0 4 rfl rfl)
theorem dX13_init_5 : decode cX13_init 5 = .ok (.sipush 1000, 3) := dk_17 3 232 (dk_at dksX13_init_0 5 rfl rfl)
theorem dX13_init_8 : decode cX13_init 8 = .ok (.newarray .int, 2) := dk_188_10 (dk_at dksX13_init_0 8 rfl rfl)
theorem dX13_init_10 : decode cX13_init 10 = .ok (.putfield 14, 3) := dk_181 0 14 (dk_at dksX13_init_0 10 rfl rfl)
theorem dX13_init_13 : decode cX13_init 13 = .ok (.aload_n 0, 1) := dk_42 (dk_at dksX13_init_0 13 rfl rfl)
theorem dX13_init_14 : decode cX13_init 14 = .ok (.sipush 1002, 3) := dk_17 3 234 (dk_at dksX13_init_0 14 rfl rfl)
theorem dX13_init_17 : decode cX13_init 17 = .ok (.newarray .int, 2) := dk_188_10 (dk_at dksX13_init_0 17 rfl rfl)
theorem dX13_init_19 : decode cX13_init 19 = .ok (.putfield 24, 3) := dk_181 0 24 (dk_at dksX13_init_0 19 rfl rfl)
theorem dX13_init_22 : decode cX13_init 22 = .ok (.aload_n 0, 1) := dk_42 (dk_at dksX13_init_0 22 rfl rfl)
theorem dX13_init_23 : decode cX13_init 23 = .ok (.sipush 1002, 3) := dk_17 3 234 (dk_at dksX13_init_1 0 rfl rfl)
theorem dX13_init_26 : decode cX13_init 26 = .ok (.newarray .int, 2) := dk_188_10 (dk_at dksX13_init_1 3 rfl rfl)
theorem dX13_init_28 : decode cX13_init 28 = .ok (.putfield 27, 3) := dk_181 0 27 (dk_at dksX13_init_1 5 rfl rfl)
theorem dX13_init_31 : decode cX13_init 31 = .ok (.aload_n 0, 1) := dk_42 (dk_at dksX13_init_1 8 rfl rfl)
theorem dX13_init_32 : decode cX13_init 32 = .ok (.sipush 1002, 3) := dk_17 3 234 (dk_at dksX13_init_1 9 rfl rfl)
theorem dX13_init_35 : decode cX13_init 35 = .ok (.newarray .long, 2) := dk_188_11 (dk_at dksX13_init_1 12 rfl rfl)
theorem dX13_init_37 : decode cX13_init 37 = .ok (.putfield 30, 3) := dk_181 0 30 (dk_at dksX13_init_1 14 rfl rfl)
theorem dX13_init_40 : decode cX13_init 40 = .ok (.aload_n 0, 1) := dk_42 (dk_at dksX13_init_1 17 rfl rfl)
theorem dX13_init_41 : decode cX13_init 41 = .ok (.bipush 24, 2) := dk_16 24 (dk_at dksX13_init_1 18 rfl rfl)
theorem dX13_init_43 : decode cX13_init 43 = .ok (.newarray .long, 2) := dk_188_11 (dk_at dksX13_init_1 20 rfl rfl)
theorem dX13_init_45 : decode cX13_init 45 = .ok (.dup, 1) := dk_89 (dk_at dksX13_init_1 22 rfl rfl)
theorem dX13_init_46 : decode cX13_init 46 = .ok (.iconst 0, 1) := dk_3 (dk_at dksX13_init_1 23 rfl rfl)
theorem dX13_init_47 : decode cX13_init 47 = .ok (.ldc2_w 34, 3) := dk_20 0 34 (dk_at dksX13_init_2 0 rfl rfl)
theorem dX13_init_50 : decode cX13_init 50 = .ok (.lastore, 1) := dk_80 (dk_at dksX13_init_2 3 rfl rfl)
theorem dX13_init_51 : decode cX13_init 51 = .ok (.dup, 1) := dk_89 (dk_at dksX13_init_2 4 rfl rfl)
theorem dX13_init_52 : decode cX13_init 52 = .ok (.iconst 1, 1) := dk_4 (dk_at dksX13_init_2 5 rfl rfl)
theorem dX13_init_53 : decode cX13_init 53 = .ok (.ldc2_w 36, 3) := dk_20 0 36 (dk_at dksX13_init_2 6 rfl rfl)
theorem dX13_init_56 : decode cX13_init 56 = .ok (.lastore, 1) := dk_80 (dk_at dksX13_init_2 9 rfl rfl)
theorem dX13_init_57 : decode cX13_init 57 = .ok (.dup, 1) := dk_89 (dk_at dksX13_init_2 10 rfl rfl)
theorem dX13_init_58 : decode cX13_init 58 = .ok (.iconst 2, 1) := dk_5 (dk_at dksX13_init_2 11 rfl rfl)
theorem dX13_init_59 : decode cX13_init 59 = .ok (.ldc2_w 38, 3) := dk_20 0 38 (dk_at dksX13_init_2 12 rfl rfl)
theorem dX13_init_62 : decode cX13_init 62 = .ok (.lastore, 1) := dk_80 (dk_at dksX13_init_2 15 rfl rfl)
theorem dX13_init_63 : decode cX13_init 63 = .ok (.dup, 1) := dk_89 (dk_at dksX13_init_2 16 rfl rfl)
theorem dX13_init_64 : decode cX13_init 64 = .ok (.iconst 3, 1) := dk_6 (dk_at dksX13_init_2 17 rfl rfl)
theorem dX13_init_65 : decode cX13_init 65 = .ok (.ldc2_w 40, 3) := dk_20 0 40 (dk_at dksX13_init_2 18 rfl rfl)
theorem dX13_init_68 : decode cX13_init 68 = .ok (.lastore, 1) := dk_80 (dk_at dksX13_init_2 21 rfl rfl)
theorem dX13_init_69 : decode cX13_init 69 = .ok (.dup, 1) := dk_89 (dk_at dksX13_init_2 22 rfl rfl)
theorem dX13_init_70 : decode cX13_init 70 = .ok (.iconst 4, 1) := dk_7 (dk_at dksX13_init_2 23 rfl rfl)
theorem dX13_init_71 : decode cX13_init 71 = .ok (.ldc2_w 42, 3) := dk_20 0 42 (dk_at dksX13_init_3 0 rfl rfl)
theorem dX13_init_74 : decode cX13_init 74 = .ok (.lastore, 1) := dk_80 (dk_at dksX13_init_3 3 rfl rfl)
theorem dX13_init_75 : decode cX13_init 75 = .ok (.dup, 1) := dk_89 (dk_at dksX13_init_3 4 rfl rfl)
theorem dX13_init_76 : decode cX13_init 76 = .ok (.iconst 5, 1) := dk_8 (dk_at dksX13_init_3 5 rfl rfl)
theorem dX13_init_77 : decode cX13_init 77 = .ok (.ldc2_w 44, 3) := dk_20 0 44 (dk_at dksX13_init_3 6 rfl rfl)
theorem dX13_init_80 : decode cX13_init 80 = .ok (.lastore, 1) := dk_80 (dk_at dksX13_init_3 9 rfl rfl)
theorem dX13_init_81 : decode cX13_init 81 = .ok (.dup, 1) := dk_89 (dk_at dksX13_init_3 10 rfl rfl)
theorem dX13_init_82 : decode cX13_init 82 = .ok (.bipush 6, 2) := dk_16 6 (dk_at dksX13_init_3 11 rfl rfl)
theorem dX13_init_84 : decode cX13_init 84 = .ok (.ldc2_w 46, 3) := dk_20 0 46 (dk_at dksX13_init_3 13 rfl rfl)
theorem dX13_init_87 : decode cX13_init 87 = .ok (.lastore, 1) := dk_80 (dk_at dksX13_init_3 16 rfl rfl)
theorem dX13_init_88 : decode cX13_init 88 = .ok (.dup, 1) := dk_89 (dk_at dksX13_init_3 17 rfl rfl)
theorem dX13_init_89 : decode cX13_init 89 = .ok (.bipush 7, 2) := dk_16 7 (dk_at dksX13_init_3 18 rfl rfl)
theorem dX13_init_91 : decode cX13_init 91 = .ok (.ldc2_w 48, 3) := dk_20 0 48 (dk_at dksX13_init_3 20 rfl rfl)
theorem dX13_init_94 : decode cX13_init 94 = .ok (.lastore, 1) := dk_80 (dk_at dksX13_init_3 23 rfl rfl)
theorem dX13_init_95 : decode cX13_init 95 = .ok (.dup, 1) := dk_89 (dk_at dksX13_init_4 0 rfl rfl)
theorem dX13_init_96 : decode cX13_init 96 = .ok (.bipush 8, 2) := dk_16 8 (dk_at dksX13_init_4 1 rfl rfl)
theorem dX13_init_98 : decode cX13_init 98 = .ok (.ldc2_w 50, 3) := dk_20 0 50 (dk_at dksX13_init_4 3 rfl rfl)
theorem dX13_init_101 : decode cX13_init 101 = .ok (.lastore, 1) := dk_80 (dk_at dksX13_init_4 6 rfl rfl)
theorem dX13_init_102 : decode cX13_init 102 = .ok (.dup, 1) := dk_89 (dk_at dksX13_init_4 7 rfl rfl)
theorem dX13_init_103 : decode cX13_init 103 = .ok (.bipush 9, 2) := dk_16 9 (dk_at dksX13_init_4 8 rfl rfl)
theorem dX13_init_105 : decode cX13_init 105 = .ok (.ldc2_w 52, 3) := dk_20 0 52 (dk_at dksX13_init_4 10 rfl rfl)
theorem dX13_init_108 : decode cX13_init 108 = .ok (.lastore, 1) := dk_80 (dk_at dksX13_init_4 13 rfl rfl)
theorem dX13_init_109 : decode cX13_init 109 = .ok (.dup, 1) := dk_89 (dk_at dksX13_init_4 14 rfl rfl)
theorem dX13_init_110 : decode cX13_init 110 = .ok (.bipush 10, 2) := dk_16 10 (dk_at dksX13_init_4 15 rfl rfl)
theorem dX13_init_112 : decode cX13_init 112 = .ok (.ldc2_w 54, 3) := dk_20 0 54 (dk_at dksX13_init_4 17 rfl rfl)
theorem dX13_init_115 : decode cX13_init 115 = .ok (.lastore, 1) := dk_80 (dk_at dksX13_init_4 20 rfl rfl)
theorem dX13_init_116 : decode cX13_init 116 = .ok (.dup, 1) := dk_89 (dk_at dksX13_init_4 21 rfl rfl)
theorem dX13_init_117 : decode cX13_init 117 = .ok (.bipush 11, 2) := dk_16 11 (dk_at dksX13_init_4 22 rfl rfl)
theorem dX13_init_119 : decode cX13_init 119 = .ok (.ldc2_w 56, 3) := dk_20 0 56 (dk_at dksX13_init_5 0 rfl rfl)
theorem dX13_init_122 : decode cX13_init 122 = .ok (.lastore, 1) := dk_80 (dk_at dksX13_init_5 3 rfl rfl)
theorem dX13_init_123 : decode cX13_init 123 = .ok (.dup, 1) := dk_89 (dk_at dksX13_init_5 4 rfl rfl)
theorem dX13_init_124 : decode cX13_init 124 = .ok (.bipush 12, 2) := dk_16 12 (dk_at dksX13_init_5 5 rfl rfl)
theorem dX13_init_126 : decode cX13_init 126 = .ok (.ldc2_w 58, 3) := dk_20 0 58 (dk_at dksX13_init_5 7 rfl rfl)
theorem dX13_init_129 : decode cX13_init 129 = .ok (.lastore, 1) := dk_80 (dk_at dksX13_init_5 10 rfl rfl)
theorem dX13_init_130 : decode cX13_init 130 = .ok (.dup, 1) := dk_89 (dk_at dksX13_init_5 11 rfl rfl)
theorem dX13_init_131 : decode cX13_init 131 = .ok (.bipush 13, 2) := dk_16 13 (dk_at dksX13_init_5 12 rfl rfl)
theorem dX13_init_133 : decode cX13_init 133 = .ok (.ldc2_w 60, 3) := dk_20 0 60 (dk_at dksX13_init_5 14 rfl rfl)
theorem dX13_init_136 : decode cX13_init 136 = .ok (.lastore, 1) := dk_80 (dk_at dksX13_init_5 17 rfl rfl)
theorem dX13_init_137 : decode cX13_init 137 = .ok (.dup, 1) := dk_89 (dk_at dksX13_init_5 18 rfl rfl)
theorem dX13_init_138 : decode cX13_init 138 = .ok (.bipush 14, 2) := dk_16 14 (dk_at dksX13_init_5 19 rfl rfl)
theorem dX13_init_140 : decode cX13_init 140 = .ok (.ldc2_w 62, 3) := dk_20 0 62 (dk_at dksX13_init_5 21 rfl rfl)
theorem dX13_init_143 : decode cX13_init 143 = .ok (.lastore, 1) := dk_80 (dk_at dksX13_init_6 0 rfl rfl)
theorem dX13_init_144 : decode cX13_init 144 = .ok (.dup, 1) := dk_89 (dk_at dksX13_init_6 1 rfl rfl)
theorem dX13_init_145 : decode cX13_init 145 = .ok (.bipush 15, 2) := dk_16 15 (dk_at dksX13_init_6 2 rfl rfl)
theorem dX13_init_147 : decode cX13_init 147 = .ok (.ldc2_w 64, 3) := dk_20 0 64 (dk_at dksX13_init_6 4 rfl rfl)
theorem dX13_init_150 : decode cX13_init 150 = .ok (.lastore, 1) := dk_80 (dk_at dksX13_init_6 7 rfl rfl)
theorem dX13_init_151 : decode cX13_init 151 = .ok (.dup, 1) := dk_89 (dk_at dksX13_init_6 8 rfl rfl)
theorem dX13_init_152 : decode cX13_init 152 = .ok (.bipush 16, 2) := dk_16 16 (dk_at dksX13_init_6 9 rfl rfl)
theorem dX13_init_154 : decode cX13_init 154 = .ok (.ldc2_w 66, 3) := dk_20 0 66 (dk_at dksX13_init_6 11 rfl rfl)
theorem dX13_init_157 : decode cX13_init 157 = .ok (.lastore, 1) := dk_80 (dk_at dksX13_init_6 14 rfl rfl)
theorem dX13_init_158 : decode cX13_init 158 = .ok (.dup, 1) := dk_89 (dk_at dksX13_init_6 15 rfl rfl)
theorem dX13_init_159 : decode cX13_init 159 = .ok (.bipush 17, 2) := dk_16 17 (dk_at dksX13_init_6 16 rfl rfl)
theorem dX13_init_161 : decode cX13_init 161 = .ok (.ldc2_w 68, 3) := dk_20 0 68 (dk_at dksX13_init_6 18 rfl rfl)
theorem dX13_init_164 : decode cX13_init 164 = .ok (.lastore, 1) := dk_80 (dk_at dksX13_init_6 21 rfl rfl)
theorem dX13_init_165 : decode cX13_init 165 = .ok (.dup, 1) := dk_89 (dk_at dksX13_init_6 22 rfl rfl)
theorem dX13_init_166 : decode cX13_init 166 = .ok (.bipush 18, 2) := dk_16 18 (dk_at dksX13_init_7 0 rfl rfl)
theorem dX13_init_168 : decode cX13_init 168 = .ok (.ldc2_w 70, 3) := dk_20 0 70 (dk_at dksX13_init_7 2 rfl rfl)
theorem dX13_init_171 : decode cX13_init 171 = .ok (.lastore, 1) := dk_80 (dk_at dksX13_init_7 5 rfl rfl)
theorem dX13_init_172 : decode cX13_init 172 = .ok (.dup, 1) := dk_89 (dk_at dksX13_init_7 6 rfl rfl)
theorem dX13_init_173 : decode cX13_init 173 = .ok (.bipush 19, 2) := dk_16 19 (dk_at dksX13_init_7 7 rfl rfl)
theorem dX13_init_175 : decode cX13_init 175 = .ok (.ldc2_w 72, 3) := dk_20 0 72 (dk_at dksX13_init_7 9 rfl rfl)
theorem dX13_init_178 : decode cX13_init 178 = .ok (.lastore, 1) := dk_80 (dk_at dksX13_init_7 12 rfl rfl)
theorem dX13_init_179 : decode cX13_init 179 = .ok (.dup, 1) := dk_89 (dk_at dksX13_init_7 13 rfl rfl)
theorem dX13_init_180 : decode cX13_init 180 = .ok (.bipush 20, 2) := dk_16 20 (dk_at dksX13_init_7 14 rfl rfl)
theorem dX13_init_182 : decode cX13_init 182 = .ok (.ldc2_w 74, 3) := dk_20 0 74 (dk_at dksX13_init_7 16 rfl rfl)
theorem dX13_init_185 : decode cX13_init 185 = .ok (.lastore, 1) := dk_80 (dk_at dksX13_init_7 19 rfl rfl)
theorem dX13_init_186 : decode cX13_init 186 = .ok (.dup, 1) := dk_89 (dk_at dksX13_init_7 20 rfl rfl)
theorem dX13_init_187 : decode cX13_init 187 = .ok (.bipush 21, 2) := dk_16 21 (dk_at dksX13_init_7 21 rfl rfl)
theorem dX13_init_189 : decode cX13_init 189 = .ok (.ldc2_w 76, 3) := dk_20 0 76 (dk_at dksX13_init_8 0 rfl rfl)
theorem dX13_init_192 : decode cX13_init 192 = .ok (.lastore, 1) := dk_80 (dk_at dksX13_init_8 3 rfl rfl)
theorem dX13_init_193 : decode cX13_init 193 = .ok (.dup, 1) := dk_89 (dk_at dksX13_init_8 4 rfl rfl)
theorem dX13_init_194 : decode cX13_init 194 = .ok (.bipush 22, 2) := dk_16 22 (dk_at dksX13_init_8 5 rfl rfl)
theorem dX13_init_196 : decode cX13_init 196 = .ok (.ldc2_w 78, 3) := dk_20 0 78 (dk_at dksX13_init_8 7 rfl rfl)
theorem dX13_init_199 : decode cX13_init 199 = .ok (.lastore, 1) := dk_80 (dk_at dksX13_init_8 10 rfl rfl)
theorem dX13_init_200 : decode cX13_init 200 = .ok (.dup, 1) := dk_89 (dk_at dksX13_init_8 11 rfl rfl)
theorem dX13_init_201 : decode cX13_init 201 = .ok (.bipush 23, 2) := dk_16 23 (dk_at dksX13_init_8 12 rfl rfl)
theorem dX13_init_203 : decode cX13_init 203 = .ok (.ldc2_w 80, 3) := dk_20 0 80 (dk_at dksX13_init_8 14 rfl rfl)
theorem dX13_init_206 : decode cX13_init 206 = .ok (.lastore, 1) := dk_80 (dk_at dksX13_init_8 17 rfl rfl)
theorem dX13_init_207 : decode cX13_init 207 = .ok (.putfield 82, 3) := dk_181 0 82 (dk_at dksX13_init_8 18 rfl rfl)
theorem dX13_init_210 : decode cX13_init 210 = .ok (.aload_n 0, 1) := dk_42 (dk_at dksX13_init_8 21 rfl rfl)
theorem dX13_init_211 : decode cX13_init 211 = .ok (.sipush 420, 3) := dk_17 1 164 (dk_at dksX13_init_9 0 rfl rfl)
theorem dX13_init_214 : decode cX13_init 214 = .ok (.newarray .int, 2) := dk_188_10 (dk_at dksX13_init_9 3 rfl rfl)
theorem dX13_init_216 : decode cX13_init 216 = .ok (.putfield 85, 3) := dk_181 0 85 (dk_at dksX13_init_9 5 rfl rfl)
theorem dX13_init_219 : decode cX13_init 219 = .ok (.aload_n 0, 1) := dk_42 (dk_at dksX13_init_9 8 rfl rfl)
theorem dX13_init_220 : decode cX13_init 220 = .ok (.sipush 2200, 3) := dk_17 8 152 (dk_at dksX13_init_9 9 rfl rfl)
theorem dX13_init_223 : decode cX13_init 223 = .ok (.newarray .int, 2) := dk_188_10 (dk_at dksX13_init_9 12 rfl rfl)
theorem dX13_init_225 : decode cX13_init 225 = .ok (.putfield 88, 3) := dk_181 0 88 (dk_at dksX13_init_9 14 rfl rfl)
theorem dX13_init_228 : decode cX13_init 228 = .ok (.aload_n 0, 1) := dk_42 (dk_at dksX13_init_9 17 rfl rfl)
theorem dX13_init_229 : decode cX13_init 229 = .ok (.sipush 2200, 3) := dk_17 8 152 (dk_at dksX13_init_9 18 rfl rfl)
theorem dX13_init_232 : decode cX13_init 232 = .ok (.newarray .int, 2) := dk_188_10 (dk_at dksX13_init_9 21 rfl rfl)
theorem dX13_init_234 : decode cX13_init 234 = .ok (.putfield 91, 3) := dk_181 0 91 (dk_at dksX13_init_10 0 rfl rfl)
theorem dX13_init_237 : decode cX13_init 237 = .ok (.aload_n 0, 1) := dk_42 (dk_at dksX13_init_10 3 rfl rfl)
theorem dX13_init_238 : decode cX13_init 238 = .ok (.bipush 8, 2) := dk_16 8 (dk_at dksX13_init_10 4 rfl rfl)
theorem dX13_init_240 : decode cX13_init 240 = .ok (.newarray .long, 2) := dk_188_11 (dk_at dksX13_init_10 6 rfl rfl)
theorem dX13_init_242 : decode cX13_init 242 = .ok (.putfield 94, 3) := dk_181 0 94 (dk_at dksX13_init_10 8 rfl rfl)
theorem dX13_init_245 : decode cX13_init 245 = .ok (.aload_n 0, 1) := dk_42 (dk_at dksX13_init_10 11 rfl rfl)
theorem dX13_init_246 : decode cX13_init 246 = .ok (.bipush 8, 2) := dk_16 8 (dk_at dksX13_init_10 12 rfl rfl)
theorem dX13_init_248 : decode cX13_init 248 = .ok (.newarray .long, 2) := dk_188_11 (dk_at dksX13_init_10 14 rfl rfl)
theorem dX13_init_250 : decode cX13_init 250 = .ok (.putfield 97, 3) := dk_181 0 97 (dk_at dksX13_init_10 16 rfl rfl)
theorem dX13_init_253 : decode cX13_init 253 = .ok (.aload_n 0, 1) := dk_42 (dk_at dksX13_init_10 19 rfl rfl)
theorem dX13_init_254 : decode cX13_init 254 = .ok (.bipush 48, 2) := dk_16 48 (dk_at dksX13_init_10 20 rfl rfl)
theorem dX13_init_256 : decode cX13_init 256 = .ok (.newarray .int, 2) := dk_188_10 (dk_at dksX13_init_10 22 rfl rfl)
theorem dX13_init_258 : decode cX13_init 258 = .ok (.putfield 100, 3) := dk_181 0 100 (dk_at dksX13_init_11 0 rfl rfl)
theorem dX13_init_261 : decode cX13_init 261 = .ok (.aload_n 0, 1) := dk_42 (dk_at dksX13_init_11 3 rfl rfl)
theorem dX13_init_262 : decode cX13_init 262 = .ok (.iconst 2, 1) := dk_5 (dk_at dksX13_init_11 4 rfl rfl)
theorem dX13_init_263 : decode cX13_init 263 = .ok (.newarray .int, 2) := dk_188_10 (dk_at dksX13_init_11 5 rfl rfl)
theorem dX13_init_265 : decode cX13_init 265 = .ok (.putfield 103, 3) := dk_181 0 103 (dk_at dksX13_init_11 7 rfl rfl)
theorem dX13_init_268 : decode cX13_init 268 = .ok (.aload_n 0, 1) := dk_42 (dk_at dksX13_init_11 10 rfl rfl)
theorem dX13_init_269 : decode cX13_init 269 = .ok (.sipush 190, 3) := dk_17 0 190 (dk_at dksX13_init_11 11 rfl rfl)
theorem dX13_init_272 : decode cX13_init 272 = .ok (.newarray .int, 2) := dk_188_10 (dk_at dksX13_init_11 14 rfl rfl)
theorem dX13_init_274 : decode cX13_init 274 = .ok (.putfield 106, 3) := dk_181 0 106 (dk_at dksX13_init_11 16 rfl rfl)
theorem dX13_init_277 : decode cX13_init 277 = .ok (.aload_n 0, 1) := dk_42 (dk_at dksX13_init_11 19 rfl rfl)
theorem dX13_init_278 : decode cX13_init 278 = .ok (.iconst 4, 1) := dk_7 (dk_at dksX13_init_11 20 rfl rfl)
theorem dX13_init_279 : decode cX13_init 279 = .ok (.newarray .int, 2) := dk_188_10 (dk_at dksX13_init_11 21 rfl rfl)
theorem dX13_init_281 : decode cX13_init 281 = .ok (.putfield 109, 3) := dk_181 0 109 (dk_at dksX13_init_12 0 rfl rfl)
theorem dX13_init_284 : decode cX13_init 284 = .ok (.aload_n 0, 1) := dk_42 (dk_at dksX13_init_12 3 rfl rfl)
theorem dX13_init_285 : decode cX13_init 285 = .ok (.sipush 1100, 3) := dk_17 4 76 (dk_at dksX13_init_12 4 rfl rfl)
theorem dX13_init_288 : decode cX13_init 288 = .ok (.newarray .int, 2) := dk_188_10 (dk_at dksX13_init_12 7 rfl rfl)
theorem dX13_init_290 : decode cX13_init 290 = .ok (.putfield 112, 3) := dk_181 0 112 (dk_at dksX13_init_12 9 rfl rfl)
theorem dX13_init_293 : decode cX13_init 293 = .ok (.aload_n 0, 1) := dk_42 (dk_at dksX13_init_12 12 rfl rfl)
theorem dX13_init_294 : decode cX13_init 294 = .ok (.sipush 16560, 3) := dk_17 64 176 (dk_at dksX13_init_12 13 rfl rfl)
theorem dX13_init_297 : decode cX13_init 297 = .ok (.newarray .int, 2) := dk_188_10 (dk_at dksX13_init_12 16 rfl rfl)
theorem dX13_init_299 : decode cX13_init 299 = .ok (.putfield 115, 3) := dk_181 0 115 (dk_at dksX13_init_12 18 rfl rfl)
theorem dX13_init_302 : decode cX13_init 302 = .ok (.aload_n 0, 1) := dk_42 (dk_at dksX13_init_12 21 rfl rfl)
theorem dX13_init_303 : decode cX13_init 303 = .ok (.iconst 4, 1) := dk_7 (dk_at dksX13_init_12 22 rfl rfl)
theorem dX13_init_304 : decode cX13_init 304 = .ok (.newarray .boolean, 2) := dk_188_4 (dk_at dksX13_init_13 0 rfl rfl)
theorem dX13_init_306 : decode cX13_init 306 = .ok (.putfield 118, 3) := dk_181 0 118 (dk_at dksX13_init_13 2 rfl rfl)
theorem dX13_init_309 : decode cX13_init 309 = .ok (.aload_n 0, 1) := dk_42 (dk_at dksX13_init_13 5 rfl rfl)
theorem dX13_init_310 : decode cX13_init 310 = .ok (.iconst (-1), 1) := dk_2 (dk_at dksX13_init_13 6 rfl rfl)
theorem dX13_init_311 : decode cX13_init 311 = .ok (.putfield 122, 3) := dk_181 0 122 (dk_at dksX13_init_13 7 rfl rfl)
theorem dX13_init_314 : decode cX13_init 314 = .ok (.aload_n 0, 1) := dk_42 (dk_at dksX13_init_13 10 rfl rfl)
theorem dX13_init_315 : decode cX13_init 315 = .ok (.bipush 48, 2) := dk_16 48 (dk_at dksX13_init_13 11 rfl rfl)
theorem dX13_init_317 : decode cX13_init 317 = .ok (.newarray .int, 2) := dk_188_10 (dk_at dksX13_init_13 13 rfl rfl)
theorem dX13_init_319 : decode cX13_init 319 = .ok (.putfield 125, 3) := dk_181 0 125 (dk_at dksX13_init_13 15 rfl rfl)
theorem dX13_init_322 : decode cX13_init 322 = .ok (.aload_n 0, 1) := dk_42 (dk_at dksX13_init_13 18 rfl rfl)
theorem dX13_init_323 : decode cX13_init 323 = .ok (.sipush 3010, 3) := dk_17 11 194 (dk_at dksX13_init_13 19 rfl rfl)
theorem dX13_init_326 : decode cX13_init 326 = .ok (.newarray .long, 2) := dk_188_11 (dk_at dksX13_init_13 22 rfl rfl)
theorem dX13_init_328 : decode cX13_init 328 = .ok (.putfield 128, 3) := dk_181 0 128 (dk_at dksX13_init_14 0 rfl rfl)
theorem dX13_init_331 : decode cX13_init 331 = .ok (.aload_n 0, 1) := dk_42 (dk_at dksX13_init_14 3 rfl rfl)
theorem dX13_init_332 : decode cX13_init 332 = .ok (.sipush 3010, 3) := dk_17 11 194 (dk_at dksX13_init_14 4 rfl rfl)
theorem dX13_init_335 : decode cX13_init 335 = .ok (.newarray .long, 2) := dk_188_11 (dk_at dksX13_init_14 7 rfl rfl)
theorem dX13_init_337 : decode cX13_init 337 = .ok (.putfield 131, 3) := dk_181 0 131 (dk_at dksX13_init_14 9 rfl rfl)
theorem dX13_init_340 : decode cX13_init 340 = .ok (.aload_n 0, 1) := dk_42 (dk_at dksX13_init_14 12 rfl rfl)
theorem dX13_init_341 : decode cX13_init 341 = .ok (.sipush 3010, 3) := dk_17 11 194 (dk_at dksX13_init_14 13 rfl rfl)
theorem dX13_init_344 : decode cX13_init 344 = .ok (.newarray .long, 2) := dk_188_11 (dk_at dksX13_init_14 16 rfl rfl)
theorem dX13_init_346 : decode cX13_init 346 = .ok (.putfield 134, 3) := dk_181 0 134 (dk_at dksX13_init_14 18 rfl rfl)
theorem dX13_init_349 : decode cX13_init 349 = .ok (.aload_n 0, 1) := dk_42 (dk_at dksX13_init_14 21 rfl rfl)
theorem dX13_init_350 : decode cX13_init 350 = .ok (.sipush 3010, 3) := dk_17 11 194 (dk_at dksX13_init_15 0 rfl rfl)
theorem dX13_init_353 : decode cX13_init 353 = .ok (.newarray .int, 2) := dk_188_10 (dk_at dksX13_init_15 3 rfl rfl)
theorem dX13_init_355 : decode cX13_init 355 = .ok (.putfield 137, 3) := dk_181 0 137 (dk_at dksX13_init_15 5 rfl rfl)
theorem dX13_init_358 : decode cX13_init 358 = .ok (.aload_n 0, 1) := dk_42 (dk_at dksX13_init_15 8 rfl rfl)
theorem dX13_init_359 : decode cX13_init 359 = .ok (.sipush 3010, 3) := dk_17 11 194 (dk_at dksX13_init_15 9 rfl rfl)
theorem dX13_init_362 : decode cX13_init 362 = .ok (.newarray .int, 2) := dk_188_10 (dk_at dksX13_init_15 12 rfl rfl)
theorem dX13_init_364 : decode cX13_init 364 = .ok (.putfield 140, 3) := dk_181 0 140 (dk_at dksX13_init_15 14 rfl rfl)
theorem dX13_init_367 : decode cX13_init 367 = .ok (.aload_n 0, 1) := dk_42 (dk_at dksX13_init_15 17 rfl rfl)
theorem dX13_init_368 : decode cX13_init 368 = .ok (.sipush 3010, 3) := dk_17 11 194 (dk_at dksX13_init_15 18 rfl rfl)
theorem dX13_init_371 : decode cX13_init 371 = .ok (.newarray .int, 2) := dk_188_10 (dk_at dksX13_init_15 21 rfl rfl)
theorem dX13_init_373 : decode cX13_init 373 = .ok (.putfield 143, 3) := dk_181 0 143 (dk_at dksX13_init_16 0 rfl rfl)
theorem dX13_init_376 : decode cX13_init 376 = .ok (.aload_n 0, 1) := dk_42 (dk_at dksX13_init_16 3 rfl rfl)
theorem dX13_init_377 : decode cX13_init 377 = .ok (.sipush 1024, 3) := dk_17 4 0 (dk_at dksX13_init_16 4 rfl rfl)
theorem dX13_init_380 : decode cX13_init 380 = .ok (.newarray .int, 2) := dk_188_10 (dk_at dksX13_init_16 7 rfl rfl)
theorem dX13_init_382 : decode cX13_init 382 = .ok (.putfield 146, 3) := dk_181 0 146 (dk_at dksX13_init_16 9 rfl rfl)
theorem dX13_init_385 : decode cX13_init 385 = .ok (.aload_n 0, 1) := dk_42 (dk_at dksX13_init_16 12 rfl rfl)
theorem dX13_init_386 : decode cX13_init 386 = .ok (.bipush 24, 2) := dk_16 24 (dk_at dksX13_init_16 13 rfl rfl)
theorem dX13_init_388 : decode cX13_init 388 = .ok (.newarray .int, 2) := dk_188_10 (dk_at dksX13_init_16 15 rfl rfl)
theorem dX13_init_390 : decode cX13_init 390 = .ok (.putfield 149, 3) := dk_181 0 149 (dk_at dksX13_init_16 17 rfl rfl)
theorem dX13_init_393 : decode cX13_init 393 = .ok (.aload_n 0, 1) := dk_42 (dk_at dksX13_init_16 20 rfl rfl)
theorem dX13_init_394 : decode cX13_init 394 = .ok (.sipush 20000, 3) := dk_17 78 32 (dk_at dksX13_init_16 21 rfl rfl)
theorem dX13_init_397 : decode cX13_init 397 = .ok (.newarray .int, 2) := dk_188_10 (dk_at dksX13_init_17 0 rfl rfl)
theorem dX13_init_399 : decode cX13_init 399 = .ok (.putfield 152, 3) := dk_181 0 152 (dk_at dksX13_init_17 2 rfl rfl)
theorem dX13_init_402 : decode cX13_init 402 = .ok (.aload_n 0, 1) := dk_42 (dk_at dksX13_init_17 5 rfl rfl)
theorem dX13_init_403 : decode cX13_init 403 = .ok (.sipush 20000, 3) := dk_17 78 32 (dk_at dksX13_init_17 6 rfl rfl)
theorem dX13_init_406 : decode cX13_init 406 = .ok (.newarray .int, 2) := dk_188_10 (dk_at dksX13_init_17 9 rfl rfl)
theorem dX13_init_408 : decode cX13_init 408 = .ok (.putfield 155, 3) := dk_181 0 155 (dk_at dksX13_init_17 11 rfl rfl)
theorem dX13_init_411 : decode cX13_init 411 = .ok (.aload_n 0, 1) := dk_42 (dk_at dksX13_init_17 14 rfl rfl)
theorem dX13_init_412 : decode cX13_init 412 = .ok (.bipush 48, 2) := dk_16 48 (dk_at dksX13_init_17 15 rfl rfl)
theorem dX13_init_414 : decode cX13_init 414 = .ok (.newarray .int, 2) := dk_188_10 (dk_at dksX13_init_17 17 rfl rfl)
theorem dX13_init_416 : decode cX13_init 416 = .ok (.putfield 158, 3) := dk_181 0 158 (dk_at dksX13_init_17 19 rfl rfl)
theorem dX13_init_419 : decode cX13_init 419 = .ok (.aload_n 0, 1) := dk_42 (dk_at dksX13_init_17 22 rfl rfl)
theorem dX13_init_420 : decode cX13_init 420 = .ok (.bipush 48, 2) := dk_16 48 (dk_at dksX13_init_18 0 rfl rfl)
theorem dX13_init_422 : decode cX13_init 422 = .ok (.newarray .int, 2) := dk_188_10 (dk_at dksX13_init_18 2 rfl rfl)
theorem dX13_init_424 : decode cX13_init 424 = .ok (.putfield 161, 3) := dk_181 0 161 (dk_at dksX13_init_18 4 rfl rfl)
theorem dX13_init_427 : decode cX13_init 427 = .ok (.aload_n 0, 1) := dk_42 (dk_at dksX13_init_18 7 rfl rfl)
theorem dX13_init_428 : decode cX13_init 428 = .ok (.bipush 8, 2) := dk_16 8 (dk_at dksX13_init_18 8 rfl rfl)
theorem dX13_init_430 : decode cX13_init 430 = .ok (.newarray .int, 2) := dk_188_10 (dk_at dksX13_init_18 10 rfl rfl)
theorem dX13_init_432 : decode cX13_init 432 = .ok (.putfield 164, 3) := dk_181 0 164 (dk_at dksX13_init_18 12 rfl rfl)
theorem dX13_init_435 : decode cX13_init 435 = .ok (.aload_n 0, 1) := dk_42 (dk_at dksX13_init_18 15 rfl rfl)
theorem dX13_init_436 : decode cX13_init 436 = .ok (.bipush 8, 2) := dk_16 8 (dk_at dksX13_init_18 16 rfl rfl)
theorem dX13_init_438 : decode cX13_init 438 = .ok (.newarray .int, 2) := dk_188_10 (dk_at dksX13_init_18 18 rfl rfl)
theorem dX13_init_440 : decode cX13_init 440 = .ok (.putfield 167, 3) := dk_181 0 167 (dk_at dksX13_init_18 20 rfl rfl)
theorem dX13_init_443 : decode cX13_init 443 = .ok (.aload_n 0, 1) := dk_42 (dk_at dksX13_init_18 23 rfl rfl)
theorem dX13_init_444 : decode cX13_init 444 = .ok (.iconst 0, 1) := dk_3 (dk_at dksX13_init_19 0 rfl rfl)
theorem dX13_init_445 : decode cX13_init 445 = .ok (.invokevirtual 170, 3) := dk_182 0 170 (dk_at dksX13_init_19 1 rfl rfl)
theorem dX13_init_448 : decode cX13_init 448 = .ok (.aload_n 0, 1) := dk_42 (dk_at dksX13_init_19 4 rfl rfl)
theorem dX13_init_449 : decode cX13_init 449 = .ok (.iconst 0, 1) := dk_3 (dk_at dksX13_init_19 5 rfl rfl)
theorem dX13_init_450 : decode cX13_init 450 = .ok (.invokevirtual 174, 3) := dk_182 0 174 (dk_at dksX13_init_19 6 rfl rfl)
theorem dX13_init_453 : decode cX13_init 453 = .ok (.return_, 1) := dk_177 (dk_at dksX13_init_19 9 rfl rfl)
abbrev cX13_standsAsAlways : ByteArray := prog_24_method_18_code
def yX13_standsAsAlways : MethodName := ⟨RX13, "standsAsAlways", "(I)V"⟩
def dkwX13_standsAsAlways_1 : List UInt8 := [42, 180, 0, 85, 27, 6, 96, 17, 3, 232, 79, 42, 180, 0, 85, 27, 7, 96, 2, 79, 177]
abbrev dktX13_standsAsAlways_1 : List UInt8 := dkwX13_standsAsAlways_1 ++ []
def dkwX13_standsAsAlways_0 : List UInt8 := [3, 61, 28, 17, 0, 210, 162, 0, 18, 42, 180, 0, 85, 27, 28, 96, 3, 79, 132, 2, 1, 167, 255, 237]
abbrev dktX13_standsAsAlways_0 : List UInt8 := dkwX13_standsAsAlways_0 ++ dktX13_standsAsAlways_1
theorem dksX13_standsAsAlways_0 : cX13_standsAsAlways.data.toList.drop 0 = dktX13_standsAsAlways_0 := by decide +kernel
theorem dksX13_standsAsAlways_1 : cX13_standsAsAlways.data.toList.drop 24 = dktX13_standsAsAlways_1 := dk_seg dksX13_standsAsAlways_0 24 rfl rfl
theorem dX13_standsAsAlways_0 : decode cX13_standsAsAlways 0 = .ok (.iconst 0, 1) := dk_3 (dk_at dksX13_standsAsAlways_0 0 rfl rfl)
theorem dX13_standsAsAlways_1 : decode cX13_standsAsAlways 1 = .ok (.istore_n 2, 1) := dk_61 (dk_at dksX13_standsAsAlways_0 1 rfl rfl)
theorem dX13_standsAsAlways_2 : decode cX13_standsAsAlways 2 = .ok (.iload_n 2, 1) := dk_28 (dk_at dksX13_standsAsAlways_0 2 rfl rfl)
theorem dX13_standsAsAlways_3 : decode cX13_standsAsAlways 3 = .ok (.sipush 210, 3) := dk_17 0 210 (dk_at dksX13_standsAsAlways_0 3 rfl rfl)
theorem dX13_standsAsAlways_6 : decode cX13_standsAsAlways 6 = .ok (.if_icmp .ge 18, 3) := dk_162 0 18 (dk_at dksX13_standsAsAlways_0 6 rfl rfl)
theorem dX13_standsAsAlways_9 : decode cX13_standsAsAlways 9 = .ok (.aload_n 0, 1) := dk_42 (dk_at dksX13_standsAsAlways_0 9 rfl rfl)
theorem dX13_standsAsAlways_10 : decode cX13_standsAsAlways 10 = .ok (.getfield 85, 3) := dk_180 0 85 (dk_at dksX13_standsAsAlways_0 10 rfl rfl)
theorem dX13_standsAsAlways_13 : decode cX13_standsAsAlways 13 = .ok (.iload_n 1, 1) := dk_27 (dk_at dksX13_standsAsAlways_0 13 rfl rfl)
theorem dX13_standsAsAlways_14 : decode cX13_standsAsAlways 14 = .ok (.iload_n 2, 1) := dk_28 (dk_at dksX13_standsAsAlways_0 14 rfl rfl)
theorem dX13_standsAsAlways_15 : decode cX13_standsAsAlways 15 = .ok (.iadd, 1) := dk_96 (dk_at dksX13_standsAsAlways_0 15 rfl rfl)
theorem dX13_standsAsAlways_16 : decode cX13_standsAsAlways 16 = .ok (.iconst 0, 1) := dk_3 (dk_at dksX13_standsAsAlways_0 16 rfl rfl)
theorem dX13_standsAsAlways_17 : decode cX13_standsAsAlways 17 = .ok (.iastore, 1) := dk_79 (dk_at dksX13_standsAsAlways_0 17 rfl rfl)
theorem dX13_standsAsAlways_18 : decode cX13_standsAsAlways 18 = .ok (.iinc 2 1, 3) := dk_132 2 1 (dk_at dksX13_standsAsAlways_0 18 rfl rfl)
theorem dX13_standsAsAlways_21 : decode cX13_standsAsAlways 21 = .ok (.goto (-19), 3) := dk_167 255 237 (dk_at dksX13_standsAsAlways_0 21 rfl rfl)
theorem dX13_standsAsAlways_24 : decode cX13_standsAsAlways 24 = .ok (.aload_n 0, 1) := dk_42 (dk_at dksX13_standsAsAlways_1 0 rfl rfl)
theorem dX13_standsAsAlways_25 : decode cX13_standsAsAlways 25 = .ok (.getfield 85, 3) := dk_180 0 85 (dk_at dksX13_standsAsAlways_1 1 rfl rfl)
theorem dX13_standsAsAlways_28 : decode cX13_standsAsAlways 28 = .ok (.iload_n 1, 1) := dk_27 (dk_at dksX13_standsAsAlways_1 4 rfl rfl)
theorem dX13_standsAsAlways_29 : decode cX13_standsAsAlways 29 = .ok (.iconst 3, 1) := dk_6 (dk_at dksX13_standsAsAlways_1 5 rfl rfl)
theorem dX13_standsAsAlways_30 : decode cX13_standsAsAlways 30 = .ok (.iadd, 1) := dk_96 (dk_at dksX13_standsAsAlways_1 6 rfl rfl)
theorem dX13_standsAsAlways_31 : decode cX13_standsAsAlways 31 = .ok (.sipush 1000, 3) := dk_17 3 232 (dk_at dksX13_standsAsAlways_1 7 rfl rfl)
theorem dX13_standsAsAlways_34 : decode cX13_standsAsAlways 34 = .ok (.iastore, 1) := dk_79 (dk_at dksX13_standsAsAlways_1 10 rfl rfl)
theorem dX13_standsAsAlways_35 : decode cX13_standsAsAlways 35 = .ok (.aload_n 0, 1) := dk_42 (dk_at dksX13_standsAsAlways_1 11 rfl rfl)
theorem dX13_standsAsAlways_36 : decode cX13_standsAsAlways 36 = .ok (.getfield 85, 3) := dk_180 0 85 (dk_at dksX13_standsAsAlways_1 12 rfl rfl)
theorem dX13_standsAsAlways_39 : decode cX13_standsAsAlways 39 = .ok (.iload_n 1, 1) := dk_27 (dk_at dksX13_standsAsAlways_1 15 rfl rfl)
theorem dX13_standsAsAlways_40 : decode cX13_standsAsAlways 40 = .ok (.iconst 4, 1) := dk_7 (dk_at dksX13_standsAsAlways_1 16 rfl rfl)
theorem dX13_standsAsAlways_41 : decode cX13_standsAsAlways 41 = .ok (.iadd, 1) := dk_96 (dk_at dksX13_standsAsAlways_1 17 rfl rfl)
theorem dX13_standsAsAlways_42 : decode cX13_standsAsAlways 42 = .ok (.iconst (-1), 1) := dk_2 (dk_at dksX13_standsAsAlways_1 18 rfl rfl)
theorem dX13_standsAsAlways_43 : decode cX13_standsAsAlways 43 = .ok (.iastore, 1) := dk_79 (dk_at dksX13_standsAsAlways_1 19 rfl rfl)
theorem dX13_standsAsAlways_44 : decode cX13_standsAsAlways 44 = .ok (.return_, 1) := dk_177 (dk_at dksX13_standsAsAlways_1 20 rfl rfl)
abbrev cX13_begins : ByteArray := prog_24_method_45_code
def yX13_begins : MethodName := ⟨RX13, "begins", "(I)V"⟩
def dkwX13_begins_7 : List UInt8 := [132, 2, 1, 167, 255, 168, 177]
abbrev dktX13_begins_7 : List UInt8 := dkwX13_begins_7 ++ []
def dkwX13_begins_6 : List UInt8 := [180, 0, 115, 27, 17, 0, 212, 96, 16, 24, 28, 104, 96, 29, 96, 46, 96, 79, 132, 3, 1, 167, 255, 202]
abbrev dktX13_begins_6 : List UInt8 := dkwX13_begins_6 ++ dktX13_begins_7
def dkwX13_begins_5 : List UInt8 := [46, 162, 0, 45, 42, 180, 0, 115, 27, 16, 20, 96, 16, 48, 28, 104, 96, 29, 96, 16, 8, 42]
abbrev dktX13_begins_5 : List UInt8 := dkwX13_begins_5 ++ dktX13_begins_6
def dkwX13_begins_4 : List UInt8 := [180, 0, 115, 27, 16, 16, 96, 28, 96, 46, 79, 3, 62, 29, 42, 180, 0, 115, 27, 16, 16, 96, 28, 96]
abbrev dktX13_begins_4 : List UInt8 := dkwX13_begins_4 ++ dktX13_begins_5
def dkwX13_begins_3 : List UInt8 := [16, 9, 96, 16, 100, 79, 3, 61, 28, 5, 162, 0, 89, 42, 180, 0, 115, 27, 3, 96, 28, 96, 42]
abbrev dktX13_begins_3 : List UInt8 := dkwX13_begins_3 ++ dktX13_begins_4
def dkwX13_begins_2 : List UInt8 := [180, 0, 115, 27, 16, 8, 96, 2, 79, 42, 180, 0, 115, 27, 8, 96, 2, 79, 42, 180, 0, 115, 27]
abbrev dktX13_begins_2 : List UInt8 := dkwX13_begins_2 ++ dktX13_begins_3
def dkwX13_begins_1 : List UInt8 := [180, 0, 115, 27, 16, 18, 96, 3, 79, 42, 180, 0, 115, 27, 6, 96, 42, 180, 0, 85, 5, 46, 79, 42]
abbrev dktX13_begins_1 : List UInt8 := dkwX13_begins_1 ++ dktX13_begins_2
def dkwX13_begins_0 : List UInt8 := [3, 61, 28, 16, 15, 162, 0, 18, 42, 180, 0, 115, 27, 28, 96, 3, 79, 132, 2, 1, 167, 255, 238, 42]
abbrev dktX13_begins_0 : List UInt8 := dkwX13_begins_0 ++ dktX13_begins_1
theorem dksX13_begins_0 : cX13_begins.data.toList.drop 0 = dktX13_begins_0 := by decide +kernel
theorem dksX13_begins_1 : cX13_begins.data.toList.drop 24 = dktX13_begins_1 := dk_seg dksX13_begins_0 24 rfl rfl
theorem dksX13_begins_2 : cX13_begins.data.toList.drop 48 = dktX13_begins_2 := dk_seg dksX13_begins_1 24 rfl rfl
theorem dksX13_begins_3 : cX13_begins.data.toList.drop 71 = dktX13_begins_3 := dk_seg dksX13_begins_2 23 rfl rfl
theorem dksX13_begins_4 : cX13_begins.data.toList.drop 94 = dktX13_begins_4 := dk_seg dksX13_begins_3 23 rfl rfl
theorem dksX13_begins_5 : cX13_begins.data.toList.drop 118 = dktX13_begins_5 := dk_seg dksX13_begins_4 24 rfl rfl
theorem dksX13_begins_6 : cX13_begins.data.toList.drop 140 = dktX13_begins_6 := dk_seg dksX13_begins_5 22 rfl rfl
theorem dksX13_begins_7 : cX13_begins.data.toList.drop 164 = dktX13_begins_7 := dk_seg dksX13_begins_6 24 rfl rfl
theorem dX13_begins_0 : decode cX13_begins 0 = .ok (.iconst 0, 1) := dk_3 (dk_at dksX13_begins_0 0 rfl rfl)
theorem dX13_begins_1 : decode cX13_begins 1 = .ok (.istore_n 2, 1) := dk_61 (dk_at dksX13_begins_0 1 rfl rfl)
theorem dX13_begins_2 : decode cX13_begins 2 = .ok (.iload_n 2, 1) := dk_28 (dk_at dksX13_begins_0 2 rfl rfl)
theorem dX13_begins_3 : decode cX13_begins 3 = .ok (.bipush 15, 2) := dk_16 15 (dk_at dksX13_begins_0 3 rfl rfl)
theorem dX13_begins_5 : decode cX13_begins 5 = .ok (.if_icmp .ge 18, 3) := dk_162 0 18 (dk_at dksX13_begins_0 5 rfl rfl)
theorem dX13_begins_8 : decode cX13_begins 8 = .ok (.aload_n 0, 1) := dk_42 (dk_at dksX13_begins_0 8 rfl rfl)
theorem dX13_begins_9 : decode cX13_begins 9 = .ok (.getfield 115, 3) := dk_180 0 115 (dk_at dksX13_begins_0 9 rfl rfl)
theorem dX13_begins_12 : decode cX13_begins 12 = .ok (.iload_n 1, 1) := dk_27 (dk_at dksX13_begins_0 12 rfl rfl)
theorem dX13_begins_13 : decode cX13_begins 13 = .ok (.iload_n 2, 1) := dk_28 (dk_at dksX13_begins_0 13 rfl rfl)
theorem dX13_begins_14 : decode cX13_begins 14 = .ok (.iadd, 1) := dk_96 (dk_at dksX13_begins_0 14 rfl rfl)
theorem dX13_begins_15 : decode cX13_begins 15 = .ok (.iconst 0, 1) := dk_3 (dk_at dksX13_begins_0 15 rfl rfl)
theorem dX13_begins_16 : decode cX13_begins 16 = .ok (.iastore, 1) := dk_79 (dk_at dksX13_begins_0 16 rfl rfl)
theorem dX13_begins_17 : decode cX13_begins 17 = .ok (.iinc 2 1, 3) := dk_132 2 1 (dk_at dksX13_begins_0 17 rfl rfl)
theorem dX13_begins_20 : decode cX13_begins 20 = .ok (.goto (-18), 3) := dk_167 255 238 (dk_at dksX13_begins_0 20 rfl rfl)
theorem dX13_begins_23 : decode cX13_begins 23 = .ok (.aload_n 0, 1) := dk_42 (dk_at dksX13_begins_0 23 rfl rfl)
theorem dX13_begins_24 : decode cX13_begins 24 = .ok (.getfield 115, 3) := dk_180 0 115 (dk_at dksX13_begins_1 0 rfl rfl)
theorem dX13_begins_27 : decode cX13_begins 27 = .ok (.iload_n 1, 1) := dk_27 (dk_at dksX13_begins_1 3 rfl rfl)
theorem dX13_begins_28 : decode cX13_begins 28 = .ok (.bipush 18, 2) := dk_16 18 (dk_at dksX13_begins_1 4 rfl rfl)
theorem dX13_begins_30 : decode cX13_begins 30 = .ok (.iadd, 1) := dk_96 (dk_at dksX13_begins_1 6 rfl rfl)
theorem dX13_begins_31 : decode cX13_begins 31 = .ok (.iconst 0, 1) := dk_3 (dk_at dksX13_begins_1 7 rfl rfl)
theorem dX13_begins_32 : decode cX13_begins 32 = .ok (.iastore, 1) := dk_79 (dk_at dksX13_begins_1 8 rfl rfl)
theorem dX13_begins_33 : decode cX13_begins 33 = .ok (.aload_n 0, 1) := dk_42 (dk_at dksX13_begins_1 9 rfl rfl)
theorem dX13_begins_34 : decode cX13_begins 34 = .ok (.getfield 115, 3) := dk_180 0 115 (dk_at dksX13_begins_1 10 rfl rfl)
theorem dX13_begins_37 : decode cX13_begins 37 = .ok (.iload_n 1, 1) := dk_27 (dk_at dksX13_begins_1 13 rfl rfl)
theorem dX13_begins_38 : decode cX13_begins 38 = .ok (.iconst 3, 1) := dk_6 (dk_at dksX13_begins_1 14 rfl rfl)
theorem dX13_begins_39 : decode cX13_begins 39 = .ok (.iadd, 1) := dk_96 (dk_at dksX13_begins_1 15 rfl rfl)
theorem dX13_begins_40 : decode cX13_begins 40 = .ok (.aload_n 0, 1) := dk_42 (dk_at dksX13_begins_1 16 rfl rfl)
theorem dX13_begins_41 : decode cX13_begins 41 = .ok (.getfield 85, 3) := dk_180 0 85 (dk_at dksX13_begins_1 17 rfl rfl)
theorem dX13_begins_44 : decode cX13_begins 44 = .ok (.iconst 2, 1) := dk_5 (dk_at dksX13_begins_1 20 rfl rfl)
theorem dX13_begins_45 : decode cX13_begins 45 = .ok (.iaload, 1) := dk_46 (dk_at dksX13_begins_1 21 rfl rfl)
theorem dX13_begins_46 : decode cX13_begins 46 = .ok (.iastore, 1) := dk_79 (dk_at dksX13_begins_1 22 rfl rfl)
theorem dX13_begins_47 : decode cX13_begins 47 = .ok (.aload_n 0, 1) := dk_42 (dk_at dksX13_begins_1 23 rfl rfl)
theorem dX13_begins_48 : decode cX13_begins 48 = .ok (.getfield 115, 3) := dk_180 0 115 (dk_at dksX13_begins_2 0 rfl rfl)
theorem dX13_begins_51 : decode cX13_begins 51 = .ok (.iload_n 1, 1) := dk_27 (dk_at dksX13_begins_2 3 rfl rfl)
theorem dX13_begins_52 : decode cX13_begins 52 = .ok (.bipush 8, 2) := dk_16 8 (dk_at dksX13_begins_2 4 rfl rfl)
theorem dX13_begins_54 : decode cX13_begins 54 = .ok (.iadd, 1) := dk_96 (dk_at dksX13_begins_2 6 rfl rfl)
theorem dX13_begins_55 : decode cX13_begins 55 = .ok (.iconst (-1), 1) := dk_2 (dk_at dksX13_begins_2 7 rfl rfl)
theorem dX13_begins_56 : decode cX13_begins 56 = .ok (.iastore, 1) := dk_79 (dk_at dksX13_begins_2 8 rfl rfl)
theorem dX13_begins_57 : decode cX13_begins 57 = .ok (.aload_n 0, 1) := dk_42 (dk_at dksX13_begins_2 9 rfl rfl)
theorem dX13_begins_58 : decode cX13_begins 58 = .ok (.getfield 115, 3) := dk_180 0 115 (dk_at dksX13_begins_2 10 rfl rfl)
theorem dX13_begins_61 : decode cX13_begins 61 = .ok (.iload_n 1, 1) := dk_27 (dk_at dksX13_begins_2 13 rfl rfl)
theorem dX13_begins_62 : decode cX13_begins 62 = .ok (.iconst 5, 1) := dk_8 (dk_at dksX13_begins_2 14 rfl rfl)
theorem dX13_begins_63 : decode cX13_begins 63 = .ok (.iadd, 1) := dk_96 (dk_at dksX13_begins_2 15 rfl rfl)
theorem dX13_begins_64 : decode cX13_begins 64 = .ok (.iconst (-1), 1) := dk_2 (dk_at dksX13_begins_2 16 rfl rfl)
theorem dX13_begins_65 : decode cX13_begins 65 = .ok (.iastore, 1) := dk_79 (dk_at dksX13_begins_2 17 rfl rfl)
theorem dX13_begins_66 : decode cX13_begins 66 = .ok (.aload_n 0, 1) := dk_42 (dk_at dksX13_begins_2 18 rfl rfl)
theorem dX13_begins_67 : decode cX13_begins 67 = .ok (.getfield 115, 3) := dk_180 0 115 (dk_at dksX13_begins_2 19 rfl rfl)
theorem dX13_begins_70 : decode cX13_begins 70 = .ok (.iload_n 1, 1) := dk_27 (dk_at dksX13_begins_2 22 rfl rfl)
theorem dX13_begins_71 : decode cX13_begins 71 = .ok (.bipush 9, 2) := dk_16 9 (dk_at dksX13_begins_3 0 rfl rfl)
theorem dX13_begins_73 : decode cX13_begins 73 = .ok (.iadd, 1) := dk_96 (dk_at dksX13_begins_3 2 rfl rfl)
theorem dX13_begins_74 : decode cX13_begins 74 = .ok (.bipush 100, 2) := dk_16 100 (dk_at dksX13_begins_3 3 rfl rfl)
theorem dX13_begins_76 : decode cX13_begins 76 = .ok (.iastore, 1) := dk_79 (dk_at dksX13_begins_3 5 rfl rfl)
theorem dX13_begins_77 : decode cX13_begins 77 = .ok (.iconst 0, 1) := dk_3 (dk_at dksX13_begins_3 6 rfl rfl)
theorem dX13_begins_78 : decode cX13_begins 78 = .ok (.istore_n 2, 1) := dk_61 (dk_at dksX13_begins_3 7 rfl rfl)
theorem dX13_begins_79 : decode cX13_begins 79 = .ok (.iload_n 2, 1) := dk_28 (dk_at dksX13_begins_3 8 rfl rfl)
theorem dX13_begins_80 : decode cX13_begins 80 = .ok (.iconst 2, 1) := dk_5 (dk_at dksX13_begins_3 9 rfl rfl)
theorem dX13_begins_81 : decode cX13_begins 81 = .ok (.if_icmp .ge 89, 3) := dk_162 0 89 (dk_at dksX13_begins_3 10 rfl rfl)
theorem dX13_begins_84 : decode cX13_begins 84 = .ok (.aload_n 0, 1) := dk_42 (dk_at dksX13_begins_3 13 rfl rfl)
theorem dX13_begins_85 : decode cX13_begins 85 = .ok (.getfield 115, 3) := dk_180 0 115 (dk_at dksX13_begins_3 14 rfl rfl)
theorem dX13_begins_88 : decode cX13_begins 88 = .ok (.iload_n 1, 1) := dk_27 (dk_at dksX13_begins_3 17 rfl rfl)
theorem dX13_begins_89 : decode cX13_begins 89 = .ok (.iconst 0, 1) := dk_3 (dk_at dksX13_begins_3 18 rfl rfl)
theorem dX13_begins_90 : decode cX13_begins 90 = .ok (.iadd, 1) := dk_96 (dk_at dksX13_begins_3 19 rfl rfl)
theorem dX13_begins_91 : decode cX13_begins 91 = .ok (.iload_n 2, 1) := dk_28 (dk_at dksX13_begins_3 20 rfl rfl)
theorem dX13_begins_92 : decode cX13_begins 92 = .ok (.iadd, 1) := dk_96 (dk_at dksX13_begins_3 21 rfl rfl)
theorem dX13_begins_93 : decode cX13_begins 93 = .ok (.aload_n 0, 1) := dk_42 (dk_at dksX13_begins_3 22 rfl rfl)
theorem dX13_begins_94 : decode cX13_begins 94 = .ok (.getfield 115, 3) := dk_180 0 115 (dk_at dksX13_begins_4 0 rfl rfl)
theorem dX13_begins_97 : decode cX13_begins 97 = .ok (.iload_n 1, 1) := dk_27 (dk_at dksX13_begins_4 3 rfl rfl)
theorem dX13_begins_98 : decode cX13_begins 98 = .ok (.bipush 16, 2) := dk_16 16 (dk_at dksX13_begins_4 4 rfl rfl)
theorem dX13_begins_100 : decode cX13_begins 100 = .ok (.iadd, 1) := dk_96 (dk_at dksX13_begins_4 6 rfl rfl)
theorem dX13_begins_101 : decode cX13_begins 101 = .ok (.iload_n 2, 1) := dk_28 (dk_at dksX13_begins_4 7 rfl rfl)
theorem dX13_begins_102 : decode cX13_begins 102 = .ok (.iadd, 1) := dk_96 (dk_at dksX13_begins_4 8 rfl rfl)
theorem dX13_begins_103 : decode cX13_begins 103 = .ok (.iaload, 1) := dk_46 (dk_at dksX13_begins_4 9 rfl rfl)
theorem dX13_begins_104 : decode cX13_begins 104 = .ok (.iastore, 1) := dk_79 (dk_at dksX13_begins_4 10 rfl rfl)
theorem dX13_begins_105 : decode cX13_begins 105 = .ok (.iconst 0, 1) := dk_3 (dk_at dksX13_begins_4 11 rfl rfl)
theorem dX13_begins_106 : decode cX13_begins 106 = .ok (.istore_n 3, 1) := dk_62 (dk_at dksX13_begins_4 12 rfl rfl)
theorem dX13_begins_107 : decode cX13_begins 107 = .ok (.iload_n 3, 1) := dk_29 (dk_at dksX13_begins_4 13 rfl rfl)
theorem dX13_begins_108 : decode cX13_begins 108 = .ok (.aload_n 0, 1) := dk_42 (dk_at dksX13_begins_4 14 rfl rfl)
theorem dX13_begins_109 : decode cX13_begins 109 = .ok (.getfield 115, 3) := dk_180 0 115 (dk_at dksX13_begins_4 15 rfl rfl)
theorem dX13_begins_112 : decode cX13_begins 112 = .ok (.iload_n 1, 1) := dk_27 (dk_at dksX13_begins_4 18 rfl rfl)
theorem dX13_begins_113 : decode cX13_begins 113 = .ok (.bipush 16, 2) := dk_16 16 (dk_at dksX13_begins_4 19 rfl rfl)
theorem dX13_begins_115 : decode cX13_begins 115 = .ok (.iadd, 1) := dk_96 (dk_at dksX13_begins_4 21 rfl rfl)
theorem dX13_begins_116 : decode cX13_begins 116 = .ok (.iload_n 2, 1) := dk_28 (dk_at dksX13_begins_4 22 rfl rfl)
theorem dX13_begins_117 : decode cX13_begins 117 = .ok (.iadd, 1) := dk_96 (dk_at dksX13_begins_4 23 rfl rfl)
theorem dX13_begins_118 : decode cX13_begins 118 = .ok (.iaload, 1) := dk_46 (dk_at dksX13_begins_5 0 rfl rfl)
theorem dX13_begins_119 : decode cX13_begins 119 = .ok (.if_icmp .ge 45, 3) := dk_162 0 45 (dk_at dksX13_begins_5 1 rfl rfl)
theorem dX13_begins_122 : decode cX13_begins 122 = .ok (.aload_n 0, 1) := dk_42 (dk_at dksX13_begins_5 4 rfl rfl)
theorem dX13_begins_123 : decode cX13_begins 123 = .ok (.getfield 115, 3) := dk_180 0 115 (dk_at dksX13_begins_5 5 rfl rfl)
theorem dX13_begins_126 : decode cX13_begins 126 = .ok (.iload_n 1, 1) := dk_27 (dk_at dksX13_begins_5 8 rfl rfl)
theorem dX13_begins_127 : decode cX13_begins 127 = .ok (.bipush 20, 2) := dk_16 20 (dk_at dksX13_begins_5 9 rfl rfl)
theorem dX13_begins_129 : decode cX13_begins 129 = .ok (.iadd, 1) := dk_96 (dk_at dksX13_begins_5 11 rfl rfl)
theorem dX13_begins_130 : decode cX13_begins 130 = .ok (.bipush 48, 2) := dk_16 48 (dk_at dksX13_begins_5 12 rfl rfl)
theorem dX13_begins_132 : decode cX13_begins 132 = .ok (.iload_n 2, 1) := dk_28 (dk_at dksX13_begins_5 14 rfl rfl)
theorem dX13_begins_133 : decode cX13_begins 133 = .ok (.imul, 1) := dk_104 (dk_at dksX13_begins_5 15 rfl rfl)
theorem dX13_begins_134 : decode cX13_begins 134 = .ok (.iadd, 1) := dk_96 (dk_at dksX13_begins_5 16 rfl rfl)
theorem dX13_begins_135 : decode cX13_begins 135 = .ok (.iload_n 3, 1) := dk_29 (dk_at dksX13_begins_5 17 rfl rfl)
theorem dX13_begins_136 : decode cX13_begins 136 = .ok (.iadd, 1) := dk_96 (dk_at dksX13_begins_5 18 rfl rfl)
theorem dX13_begins_137 : decode cX13_begins 137 = .ok (.bipush 8, 2) := dk_16 8 (dk_at dksX13_begins_5 19 rfl rfl)
theorem dX13_begins_139 : decode cX13_begins 139 = .ok (.aload_n 0, 1) := dk_42 (dk_at dksX13_begins_5 21 rfl rfl)
theorem dX13_begins_140 : decode cX13_begins 140 = .ok (.getfield 115, 3) := dk_180 0 115 (dk_at dksX13_begins_6 0 rfl rfl)
theorem dX13_begins_143 : decode cX13_begins 143 = .ok (.iload_n 1, 1) := dk_27 (dk_at dksX13_begins_6 3 rfl rfl)
theorem dX13_begins_144 : decode cX13_begins 144 = .ok (.sipush 212, 3) := dk_17 0 212 (dk_at dksX13_begins_6 4 rfl rfl)
theorem dX13_begins_147 : decode cX13_begins 147 = .ok (.iadd, 1) := dk_96 (dk_at dksX13_begins_6 7 rfl rfl)
theorem dX13_begins_148 : decode cX13_begins 148 = .ok (.bipush 24, 2) := dk_16 24 (dk_at dksX13_begins_6 8 rfl rfl)
theorem dX13_begins_150 : decode cX13_begins 150 = .ok (.iload_n 2, 1) := dk_28 (dk_at dksX13_begins_6 10 rfl rfl)
theorem dX13_begins_151 : decode cX13_begins 151 = .ok (.imul, 1) := dk_104 (dk_at dksX13_begins_6 11 rfl rfl)
theorem dX13_begins_152 : decode cX13_begins 152 = .ok (.iadd, 1) := dk_96 (dk_at dksX13_begins_6 12 rfl rfl)
theorem dX13_begins_153 : decode cX13_begins 153 = .ok (.iload_n 3, 1) := dk_29 (dk_at dksX13_begins_6 13 rfl rfl)
theorem dX13_begins_154 : decode cX13_begins 154 = .ok (.iadd, 1) := dk_96 (dk_at dksX13_begins_6 14 rfl rfl)
theorem dX13_begins_155 : decode cX13_begins 155 = .ok (.iaload, 1) := dk_46 (dk_at dksX13_begins_6 15 rfl rfl)
theorem dX13_begins_156 : decode cX13_begins 156 = .ok (.iadd, 1) := dk_96 (dk_at dksX13_begins_6 16 rfl rfl)
theorem dX13_begins_157 : decode cX13_begins 157 = .ok (.iastore, 1) := dk_79 (dk_at dksX13_begins_6 17 rfl rfl)
theorem dX13_begins_158 : decode cX13_begins 158 = .ok (.iinc 3 1, 3) := dk_132 3 1 (dk_at dksX13_begins_6 18 rfl rfl)
theorem dX13_begins_161 : decode cX13_begins 161 = .ok (.goto (-54), 3) := dk_167 255 202 (dk_at dksX13_begins_6 21 rfl rfl)
theorem dX13_begins_164 : decode cX13_begins 164 = .ok (.iinc 2 1, 3) := dk_132 2 1 (dk_at dksX13_begins_7 0 rfl rfl)
theorem dX13_begins_167 : decode cX13_begins 167 = .ok (.goto (-88), 3) := dk_167 255 168 (dk_at dksX13_begins_7 3 rfl rfl)
theorem dX13_begins_170 : decode cX13_begins 170 = .ok (.return_, 1) := dk_177 (dk_at dksX13_begins_7 6 rfl rfl)
abbrev cX13_table : ByteArray := prog_24_method_24_code
def yX13_table : MethodName := ⟨RX13, "table", "()I"⟩
def dkwX13_table_9 : List UInt8 := [180, 0, 115, 16, 17, 3, 79, 42, 3, 182, 0, 174, 42, 3, 181, 0, 237, 42, 3, 181, 0, 240, 3, 172]
abbrev dktX13_table_9 : List UInt8 := dkwX13_table_9 ++ []
def dkwX13_table_8 : List UInt8 := [132, 1, 1, 167, 255, 241, 42, 180, 0, 115, 16, 15, 3, 79, 42, 180, 0, 115, 16, 16, 3, 79, 42]
abbrev dktX13_table_8 : List UInt8 := dkwX13_table_8 ++ dktX13_table_9
def dkwX13_table_7 : List UInt8 := [96, 46, 79, 132, 1, 1, 167, 255, 213, 3, 60, 27, 7, 162, 0, 16, 42, 180, 0, 118, 27, 3, 84]
abbrev dktX13_table_7 : List UInt8 := dkwX13_table_7 ++ dktX13_table_8
def dkwX13_table_6 : List UInt8 := [42, 180, 0, 88, 17, 4, 76, 27, 96, 46, 79, 42, 180, 0, 91, 27, 42, 180, 0, 91, 17, 4, 76, 27]
abbrev dktX13_table_6 : List UInt8 := dkwX13_table_6 ++ dktX13_table_7
def dkwX13_table_5 : List UInt8 := [27, 47, 80, 132, 1, 1, 167, 255, 235, 3, 60, 27, 42, 180, 0, 225, 162, 0, 41, 42, 180, 0, 88, 27]
abbrev dktX13_table_5 : List UInt8 := dkwX13_table_5 ++ dktX13_table_6
def dkwX13_table_4 : List UInt8 := [79, 132, 1, 1, 167, 255, 230, 3, 60, 27, 16, 8, 162, 0, 21, 42, 180, 0, 94, 27, 42, 180, 0, 97]
abbrev dktX13_table_4 : List UInt8 := dkwX13_table_4 ++ dktX13_table_5
def dkwX13_table_3 : List UInt8 := [3, 60, 27, 17, 0, 210, 162, 0, 25, 42, 180, 0, 85, 27, 42, 180, 0, 85, 17, 0, 210, 27, 96, 46]
abbrev dktX13_table_3 : List UInt8 := dkwX13_table_3 ++ dktX13_table_4
def dkwX13_table_2 : List UInt8 := [182, 0, 231, 42, 16, 59, 182, 0, 234, 167, 255, 227, 42, 180, 0, 203, 158, 0, 8, 42, 180, 0, 203, 172]
abbrev dktX13_table_2 : List UInt8 := dkwX13_table_2 ++ dktX13_table_3
def dkwX13_table_1 : List UInt8 := [182, 0, 170, 42, 180, 0, 203, 154, 0, 28, 42, 180, 0, 24, 42, 180, 0, 200, 46, 153, 0, 16, 42]
abbrev dktX13_table_1 : List UInt8 := dkwX13_table_1 ++ dktX13_table_2
def dkwX13_table_0 : List UInt8 := [42, 3, 181, 0, 1, 42, 182, 0, 222, 42, 3, 181, 0, 225, 42, 3, 181, 0, 228, 42, 17, 0, 210]
abbrev dktX13_table_0 : List UInt8 := dkwX13_table_0 ++ dktX13_table_1
theorem dksX13_table_0 : cX13_table.data.toList.drop 0 = dktX13_table_0 := by decide +kernel
theorem dksX13_table_1 : cX13_table.data.toList.drop 23 = dktX13_table_1 := dk_seg dksX13_table_0 23 rfl rfl
theorem dksX13_table_2 : cX13_table.data.toList.drop 46 = dktX13_table_2 := dk_seg dksX13_table_1 23 rfl rfl
theorem dksX13_table_3 : cX13_table.data.toList.drop 70 = dktX13_table_3 := dk_seg dksX13_table_2 24 rfl rfl
theorem dksX13_table_4 : cX13_table.data.toList.drop 94 = dktX13_table_4 := dk_seg dksX13_table_3 24 rfl rfl
theorem dksX13_table_5 : cX13_table.data.toList.drop 118 = dktX13_table_5 := dk_seg dksX13_table_4 24 rfl rfl
theorem dksX13_table_6 : cX13_table.data.toList.drop 142 = dktX13_table_6 := dk_seg dksX13_table_5 24 rfl rfl
theorem dksX13_table_7 : cX13_table.data.toList.drop 166 = dktX13_table_7 := dk_seg dksX13_table_6 24 rfl rfl
theorem dksX13_table_8 : cX13_table.data.toList.drop 189 = dktX13_table_8 := dk_seg dksX13_table_7 23 rfl rfl
theorem dksX13_table_9 : cX13_table.data.toList.drop 212 = dktX13_table_9 := dk_seg dksX13_table_8 23 rfl rfl
theorem dX13_table_0 : decode cX13_table 0 = .ok (.aload_n 0, 1) := dk_42 (dk_at dksX13_table_0 0 rfl rfl)
theorem dX13_table_1 : decode cX13_table 1 = .ok (.iconst 0, 1) := dk_3 (dk_at dksX13_table_0 1 rfl rfl)
theorem dX13_table_2 : decode cX13_table 2 = .ok (.putfield 1, 3) := dk_181 0 1 (dk_at dksX13_table_0 2 rfl rfl)
theorem dX13_table_5 : decode cX13_table 5 = .ok (.aload_n 0, 1) := dk_42 (dk_at dksX13_table_0 5 rfl rfl)
theorem dX13_table_6 : decode cX13_table 6 = .ok (.invokevirtual 222, 3) := dk_182 0 222 (dk_at dksX13_table_0 6 rfl rfl)
theorem dX13_table_9 : decode cX13_table 9 = .ok (.aload_n 0, 1) := dk_42 (dk_at dksX13_table_0 9 rfl rfl)
theorem dX13_table_10 : decode cX13_table 10 = .ok (.iconst 0, 1) := dk_3 (dk_at dksX13_table_0 10 rfl rfl)
theorem dX13_table_11 : decode cX13_table 11 = .ok (.putfield 225, 3) := dk_181 0 225 (dk_at dksX13_table_0 11 rfl rfl)
theorem dX13_table_14 : decode cX13_table 14 = .ok (.aload_n 0, 1) := dk_42 (dk_at dksX13_table_0 14 rfl rfl)
theorem dX13_table_15 : decode cX13_table 15 = .ok (.iconst 0, 1) := dk_3 (dk_at dksX13_table_0 15 rfl rfl)
theorem dX13_table_16 : decode cX13_table 16 = .ok (.putfield 228, 3) := dk_181 0 228 (dk_at dksX13_table_0 16 rfl rfl)
theorem dX13_table_19 : decode cX13_table 19 = .ok (.aload_n 0, 1) := dk_42 (dk_at dksX13_table_0 19 rfl rfl)
theorem dX13_table_20 : decode cX13_table 20 = .ok (.sipush 210, 3) := dk_17 0 210 (dk_at dksX13_table_0 20 rfl rfl)
theorem dX13_table_23 : decode cX13_table 23 = .ok (.invokevirtual 170, 3) := dk_182 0 170 (dk_at dksX13_table_1 0 rfl rfl)
theorem dX13_table_26 : decode cX13_table 26 = .ok (.aload_n 0, 1) := dk_42 (dk_at dksX13_table_1 3 rfl rfl)
theorem dX13_table_27 : decode cX13_table 27 = .ok (.getfield 203, 3) := dk_180 0 203 (dk_at dksX13_table_1 4 rfl rfl)
theorem dX13_table_30 : decode cX13_table 30 = .ok (.ifCond .ne 28, 3) := dk_154 0 28 (dk_at dksX13_table_1 7 rfl rfl)
theorem dX13_table_33 : decode cX13_table 33 = .ok (.aload_n 0, 1) := dk_42 (dk_at dksX13_table_1 10 rfl rfl)
theorem dX13_table_34 : decode cX13_table 34 = .ok (.getfield 24, 3) := dk_180 0 24 (dk_at dksX13_table_1 11 rfl rfl)
theorem dX13_table_37 : decode cX13_table 37 = .ok (.aload_n 0, 1) := dk_42 (dk_at dksX13_table_1 14 rfl rfl)
theorem dX13_table_38 : decode cX13_table 38 = .ok (.getfield 200, 3) := dk_180 0 200 (dk_at dksX13_table_1 15 rfl rfl)
theorem dX13_table_41 : decode cX13_table 41 = .ok (.iaload, 1) := dk_46 (dk_at dksX13_table_1 18 rfl rfl)
theorem dX13_table_42 : decode cX13_table 42 = .ok (.ifCond .eq 16, 3) := dk_153 0 16 (dk_at dksX13_table_1 19 rfl rfl)
theorem dX13_table_45 : decode cX13_table 45 = .ok (.aload_n 0, 1) := dk_42 (dk_at dksX13_table_1 22 rfl rfl)
theorem dX13_table_46 : decode cX13_table 46 = .ok (.invokevirtual 231, 3) := dk_182 0 231 (dk_at dksX13_table_2 0 rfl rfl)
theorem dX13_table_49 : decode cX13_table 49 = .ok (.aload_n 0, 1) := dk_42 (dk_at dksX13_table_2 3 rfl rfl)
theorem dX13_table_50 : decode cX13_table 50 = .ok (.bipush 59, 2) := dk_16 59 (dk_at dksX13_table_2 4 rfl rfl)
theorem dX13_table_52 : decode cX13_table 52 = .ok (.invokevirtual 234, 3) := dk_182 0 234 (dk_at dksX13_table_2 6 rfl rfl)
theorem dX13_table_55 : decode cX13_table 55 = .ok (.goto (-29), 3) := dk_167 255 227 (dk_at dksX13_table_2 9 rfl rfl)
theorem dX13_table_58 : decode cX13_table 58 = .ok (.aload_n 0, 1) := dk_42 (dk_at dksX13_table_2 12 rfl rfl)
theorem dX13_table_59 : decode cX13_table 59 = .ok (.getfield 203, 3) := dk_180 0 203 (dk_at dksX13_table_2 13 rfl rfl)
theorem dX13_table_62 : decode cX13_table 62 = .ok (.ifCond .le 8, 3) := dk_158 0 8 (dk_at dksX13_table_2 16 rfl rfl)
theorem dX13_table_65 : decode cX13_table 65 = .ok (.aload_n 0, 1) := dk_42 (dk_at dksX13_table_2 19 rfl rfl)
theorem dX13_table_66 : decode cX13_table 66 = .ok (.getfield 203, 3) := dk_180 0 203 (dk_at dksX13_table_2 20 rfl rfl)
theorem dX13_table_69 : decode cX13_table 69 = .ok (.ireturn, 1) := dk_172 (dk_at dksX13_table_2 23 rfl rfl)
theorem dX13_table_70 : decode cX13_table 70 = .ok (.iconst 0, 1) := dk_3 (dk_at dksX13_table_3 0 rfl rfl)
theorem dX13_table_71 : decode cX13_table 71 = .ok (.istore_n 1, 1) := dk_60 (dk_at dksX13_table_3 1 rfl rfl)
theorem dX13_table_72 : decode cX13_table 72 = .ok (.iload_n 1, 1) := dk_27 (dk_at dksX13_table_3 2 rfl rfl)
theorem dX13_table_73 : decode cX13_table 73 = .ok (.sipush 210, 3) := dk_17 0 210 (dk_at dksX13_table_3 3 rfl rfl)
theorem dX13_table_76 : decode cX13_table 76 = .ok (.if_icmp .ge 25, 3) := dk_162 0 25 (dk_at dksX13_table_3 6 rfl rfl)
theorem dX13_table_79 : decode cX13_table 79 = .ok (.aload_n 0, 1) := dk_42 (dk_at dksX13_table_3 9 rfl rfl)
theorem dX13_table_80 : decode cX13_table 80 = .ok (.getfield 85, 3) := dk_180 0 85 (dk_at dksX13_table_3 10 rfl rfl)
theorem dX13_table_83 : decode cX13_table 83 = .ok (.iload_n 1, 1) := dk_27 (dk_at dksX13_table_3 13 rfl rfl)
theorem dX13_table_84 : decode cX13_table 84 = .ok (.aload_n 0, 1) := dk_42 (dk_at dksX13_table_3 14 rfl rfl)
theorem dX13_table_85 : decode cX13_table 85 = .ok (.getfield 85, 3) := dk_180 0 85 (dk_at dksX13_table_3 15 rfl rfl)
theorem dX13_table_88 : decode cX13_table 88 = .ok (.sipush 210, 3) := dk_17 0 210 (dk_at dksX13_table_3 18 rfl rfl)
theorem dX13_table_91 : decode cX13_table 91 = .ok (.iload_n 1, 1) := dk_27 (dk_at dksX13_table_3 21 rfl rfl)
theorem dX13_table_92 : decode cX13_table 92 = .ok (.iadd, 1) := dk_96 (dk_at dksX13_table_3 22 rfl rfl)
theorem dX13_table_93 : decode cX13_table 93 = .ok (.iaload, 1) := dk_46 (dk_at dksX13_table_3 23 rfl rfl)
theorem dX13_table_94 : decode cX13_table 94 = .ok (.iastore, 1) := dk_79 (dk_at dksX13_table_4 0 rfl rfl)
theorem dX13_table_95 : decode cX13_table 95 = .ok (.iinc 1 1, 3) := dk_132 1 1 (dk_at dksX13_table_4 1 rfl rfl)
theorem dX13_table_98 : decode cX13_table 98 = .ok (.goto (-26), 3) := dk_167 255 230 (dk_at dksX13_table_4 4 rfl rfl)
theorem dX13_table_101 : decode cX13_table 101 = .ok (.iconst 0, 1) := dk_3 (dk_at dksX13_table_4 7 rfl rfl)
theorem dX13_table_102 : decode cX13_table 102 = .ok (.istore_n 1, 1) := dk_60 (dk_at dksX13_table_4 8 rfl rfl)
theorem dX13_table_103 : decode cX13_table 103 = .ok (.iload_n 1, 1) := dk_27 (dk_at dksX13_table_4 9 rfl rfl)
theorem dX13_table_104 : decode cX13_table 104 = .ok (.bipush 8, 2) := dk_16 8 (dk_at dksX13_table_4 10 rfl rfl)
theorem dX13_table_106 : decode cX13_table 106 = .ok (.if_icmp .ge 21, 3) := dk_162 0 21 (dk_at dksX13_table_4 12 rfl rfl)
theorem dX13_table_109 : decode cX13_table 109 = .ok (.aload_n 0, 1) := dk_42 (dk_at dksX13_table_4 15 rfl rfl)
theorem dX13_table_110 : decode cX13_table 110 = .ok (.getfield 94, 3) := dk_180 0 94 (dk_at dksX13_table_4 16 rfl rfl)
theorem dX13_table_113 : decode cX13_table 113 = .ok (.iload_n 1, 1) := dk_27 (dk_at dksX13_table_4 19 rfl rfl)
theorem dX13_table_114 : decode cX13_table 114 = .ok (.aload_n 0, 1) := dk_42 (dk_at dksX13_table_4 20 rfl rfl)
theorem dX13_table_115 : decode cX13_table 115 = .ok (.getfield 97, 3) := dk_180 0 97 (dk_at dksX13_table_4 21 rfl rfl)
theorem dX13_table_118 : decode cX13_table 118 = .ok (.iload_n 1, 1) := dk_27 (dk_at dksX13_table_5 0 rfl rfl)
theorem dX13_table_119 : decode cX13_table 119 = .ok (.laload, 1) := dk_47 (dk_at dksX13_table_5 1 rfl rfl)
theorem dX13_table_120 : decode cX13_table 120 = .ok (.lastore, 1) := dk_80 (dk_at dksX13_table_5 2 rfl rfl)
theorem dX13_table_121 : decode cX13_table 121 = .ok (.iinc 1 1, 3) := dk_132 1 1 (dk_at dksX13_table_5 3 rfl rfl)
theorem dX13_table_124 : decode cX13_table 124 = .ok (.goto (-21), 3) := dk_167 255 235 (dk_at dksX13_table_5 6 rfl rfl)
theorem dX13_table_127 : decode cX13_table 127 = .ok (.iconst 0, 1) := dk_3 (dk_at dksX13_table_5 9 rfl rfl)
theorem dX13_table_128 : decode cX13_table 128 = .ok (.istore_n 1, 1) := dk_60 (dk_at dksX13_table_5 10 rfl rfl)
theorem dX13_table_129 : decode cX13_table 129 = .ok (.iload_n 1, 1) := dk_27 (dk_at dksX13_table_5 11 rfl rfl)
theorem dX13_table_130 : decode cX13_table 130 = .ok (.aload_n 0, 1) := dk_42 (dk_at dksX13_table_5 12 rfl rfl)
theorem dX13_table_131 : decode cX13_table 131 = .ok (.getfield 225, 3) := dk_180 0 225 (dk_at dksX13_table_5 13 rfl rfl)
theorem dX13_table_134 : decode cX13_table 134 = .ok (.if_icmp .ge 41, 3) := dk_162 0 41 (dk_at dksX13_table_5 16 rfl rfl)
theorem dX13_table_137 : decode cX13_table 137 = .ok (.aload_n 0, 1) := dk_42 (dk_at dksX13_table_5 19 rfl rfl)
theorem dX13_table_138 : decode cX13_table 138 = .ok (.getfield 88, 3) := dk_180 0 88 (dk_at dksX13_table_5 20 rfl rfl)
theorem dX13_table_141 : decode cX13_table 141 = .ok (.iload_n 1, 1) := dk_27 (dk_at dksX13_table_5 23 rfl rfl)
theorem dX13_table_142 : decode cX13_table 142 = .ok (.aload_n 0, 1) := dk_42 (dk_at dksX13_table_6 0 rfl rfl)
theorem dX13_table_143 : decode cX13_table 143 = .ok (.getfield 88, 3) := dk_180 0 88 (dk_at dksX13_table_6 1 rfl rfl)
theorem dX13_table_146 : decode cX13_table 146 = .ok (.sipush 1100, 3) := dk_17 4 76 (dk_at dksX13_table_6 4 rfl rfl)
theorem dX13_table_149 : decode cX13_table 149 = .ok (.iload_n 1, 1) := dk_27 (dk_at dksX13_table_6 7 rfl rfl)
theorem dX13_table_150 : decode cX13_table 150 = .ok (.iadd, 1) := dk_96 (dk_at dksX13_table_6 8 rfl rfl)
theorem dX13_table_151 : decode cX13_table 151 = .ok (.iaload, 1) := dk_46 (dk_at dksX13_table_6 9 rfl rfl)
theorem dX13_table_152 : decode cX13_table 152 = .ok (.iastore, 1) := dk_79 (dk_at dksX13_table_6 10 rfl rfl)
theorem dX13_table_153 : decode cX13_table 153 = .ok (.aload_n 0, 1) := dk_42 (dk_at dksX13_table_6 11 rfl rfl)
theorem dX13_table_154 : decode cX13_table 154 = .ok (.getfield 91, 3) := dk_180 0 91 (dk_at dksX13_table_6 12 rfl rfl)
theorem dX13_table_157 : decode cX13_table 157 = .ok (.iload_n 1, 1) := dk_27 (dk_at dksX13_table_6 15 rfl rfl)
theorem dX13_table_158 : decode cX13_table 158 = .ok (.aload_n 0, 1) := dk_42 (dk_at dksX13_table_6 16 rfl rfl)
theorem dX13_table_159 : decode cX13_table 159 = .ok (.getfield 91, 3) := dk_180 0 91 (dk_at dksX13_table_6 17 rfl rfl)
theorem dX13_table_162 : decode cX13_table 162 = .ok (.sipush 1100, 3) := dk_17 4 76 (dk_at dksX13_table_6 20 rfl rfl)
theorem dX13_table_165 : decode cX13_table 165 = .ok (.iload_n 1, 1) := dk_27 (dk_at dksX13_table_6 23 rfl rfl)
theorem dX13_table_166 : decode cX13_table 166 = .ok (.iadd, 1) := dk_96 (dk_at dksX13_table_7 0 rfl rfl)
theorem dX13_table_167 : decode cX13_table 167 = .ok (.iaload, 1) := dk_46 (dk_at dksX13_table_7 1 rfl rfl)
theorem dX13_table_168 : decode cX13_table 168 = .ok (.iastore, 1) := dk_79 (dk_at dksX13_table_7 2 rfl rfl)
theorem dX13_table_169 : decode cX13_table 169 = .ok (.iinc 1 1, 3) := dk_132 1 1 (dk_at dksX13_table_7 3 rfl rfl)
theorem dX13_table_172 : decode cX13_table 172 = .ok (.goto (-43), 3) := dk_167 255 213 (dk_at dksX13_table_7 6 rfl rfl)
theorem dX13_table_175 : decode cX13_table 175 = .ok (.iconst 0, 1) := dk_3 (dk_at dksX13_table_7 9 rfl rfl)
theorem dX13_table_176 : decode cX13_table 176 = .ok (.istore_n 1, 1) := dk_60 (dk_at dksX13_table_7 10 rfl rfl)
theorem dX13_table_177 : decode cX13_table 177 = .ok (.iload_n 1, 1) := dk_27 (dk_at dksX13_table_7 11 rfl rfl)
theorem dX13_table_178 : decode cX13_table 178 = .ok (.iconst 4, 1) := dk_7 (dk_at dksX13_table_7 12 rfl rfl)
theorem dX13_table_179 : decode cX13_table 179 = .ok (.if_icmp .ge 16, 3) := dk_162 0 16 (dk_at dksX13_table_7 13 rfl rfl)
theorem dX13_table_182 : decode cX13_table 182 = .ok (.aload_n 0, 1) := dk_42 (dk_at dksX13_table_7 16 rfl rfl)
theorem dX13_table_183 : decode cX13_table 183 = .ok (.getfield 118, 3) := dk_180 0 118 (dk_at dksX13_table_7 17 rfl rfl)
theorem dX13_table_186 : decode cX13_table 186 = .ok (.iload_n 1, 1) := dk_27 (dk_at dksX13_table_7 20 rfl rfl)
theorem dX13_table_187 : decode cX13_table 187 = .ok (.iconst 0, 1) := dk_3 (dk_at dksX13_table_7 21 rfl rfl)
theorem dX13_table_188 : decode cX13_table 188 = .ok (.bastore, 1) := dk_84 (dk_at dksX13_table_7 22 rfl rfl)
theorem dX13_table_189 : decode cX13_table 189 = .ok (.iinc 1 1, 3) := dk_132 1 1 (dk_at dksX13_table_8 0 rfl rfl)
theorem dX13_table_192 : decode cX13_table 192 = .ok (.goto (-15), 3) := dk_167 255 241 (dk_at dksX13_table_8 3 rfl rfl)
theorem dX13_table_195 : decode cX13_table 195 = .ok (.aload_n 0, 1) := dk_42 (dk_at dksX13_table_8 6 rfl rfl)
theorem dX13_table_196 : decode cX13_table 196 = .ok (.getfield 115, 3) := dk_180 0 115 (dk_at dksX13_table_8 7 rfl rfl)
theorem dX13_table_199 : decode cX13_table 199 = .ok (.bipush 15, 2) := dk_16 15 (dk_at dksX13_table_8 10 rfl rfl)
theorem dX13_table_201 : decode cX13_table 201 = .ok (.iconst 0, 1) := dk_3 (dk_at dksX13_table_8 12 rfl rfl)
theorem dX13_table_202 : decode cX13_table 202 = .ok (.iastore, 1) := dk_79 (dk_at dksX13_table_8 13 rfl rfl)
theorem dX13_table_203 : decode cX13_table 203 = .ok (.aload_n 0, 1) := dk_42 (dk_at dksX13_table_8 14 rfl rfl)
theorem dX13_table_204 : decode cX13_table 204 = .ok (.getfield 115, 3) := dk_180 0 115 (dk_at dksX13_table_8 15 rfl rfl)
theorem dX13_table_207 : decode cX13_table 207 = .ok (.bipush 16, 2) := dk_16 16 (dk_at dksX13_table_8 18 rfl rfl)
theorem dX13_table_209 : decode cX13_table 209 = .ok (.iconst 0, 1) := dk_3 (dk_at dksX13_table_8 20 rfl rfl)
theorem dX13_table_210 : decode cX13_table 210 = .ok (.iastore, 1) := dk_79 (dk_at dksX13_table_8 21 rfl rfl)
theorem dX13_table_211 : decode cX13_table 211 = .ok (.aload_n 0, 1) := dk_42 (dk_at dksX13_table_8 22 rfl rfl)
theorem dX13_table_212 : decode cX13_table 212 = .ok (.getfield 115, 3) := dk_180 0 115 (dk_at dksX13_table_9 0 rfl rfl)
theorem dX13_table_215 : decode cX13_table 215 = .ok (.bipush 17, 2) := dk_16 17 (dk_at dksX13_table_9 3 rfl rfl)
theorem dX13_table_217 : decode cX13_table 217 = .ok (.iconst 0, 1) := dk_3 (dk_at dksX13_table_9 5 rfl rfl)
theorem dX13_table_218 : decode cX13_table 218 = .ok (.iastore, 1) := dk_79 (dk_at dksX13_table_9 6 rfl rfl)
theorem dX13_table_219 : decode cX13_table 219 = .ok (.aload_n 0, 1) := dk_42 (dk_at dksX13_table_9 7 rfl rfl)
theorem dX13_table_220 : decode cX13_table 220 = .ok (.iconst 0, 1) := dk_3 (dk_at dksX13_table_9 8 rfl rfl)
theorem dX13_table_221 : decode cX13_table 221 = .ok (.invokevirtual 174, 3) := dk_182 0 174 (dk_at dksX13_table_9 9 rfl rfl)
theorem dX13_table_224 : decode cX13_table 224 = .ok (.aload_n 0, 1) := dk_42 (dk_at dksX13_table_9 12 rfl rfl)
theorem dX13_table_225 : decode cX13_table 225 = .ok (.iconst 0, 1) := dk_3 (dk_at dksX13_table_9 13 rfl rfl)
theorem dX13_table_226 : decode cX13_table 226 = .ok (.putfield 237, 3) := dk_181 0 237 (dk_at dksX13_table_9 14 rfl rfl)
theorem dX13_table_229 : decode cX13_table 229 = .ok (.aload_n 0, 1) := dk_42 (dk_at dksX13_table_9 17 rfl rfl)
theorem dX13_table_230 : decode cX13_table 230 = .ok (.iconst 0, 1) := dk_3 (dk_at dksX13_table_9 18 rfl rfl)
theorem dX13_table_231 : decode cX13_table 231 = .ok (.putfield 240, 3) := dk_181 0 240 (dk_at dksX13_table_9 19 rfl rfl)
theorem dX13_table_234 : decode cX13_table 234 = .ok (.iconst 0, 1) := dk_3 (dk_at dksX13_table_9 22 rfl rfl)
theorem dX13_table_235 : decode cX13_table 235 = .ok (.ireturn, 1) := dk_172 (dk_at dksX13_table_9 23 rfl rfl)
abbrev cX13_cutAll : ByteArray := prog_24_method_9_code
def yX13_cutAll : MethodName := ⟨RX13, "cutAll", "()V"⟩
def dkwX13_cutAll_13 : List UInt8 := [181, 0, 203, 177]
abbrev dktX13_cutAll_13 : List UInt8 := dkwX13_cutAll_13 ++ []
def dkwX13_cutAll_12 : List UInt8 := [180, 0, 24, 27, 3, 79, 42, 180, 0, 27, 27, 42, 180, 0, 181, 79, 42, 3, 181, 0, 200, 42, 3]
abbrev dktX13_cutAll_12 : List UInt8 := dkwX13_cutAll_12 ++ dktX13_cutAll_13
def dkwX13_cutAll_11 : List UInt8 := [6, 167, 0, 4, 7, 79, 132, 2, 1, 42, 180, 0, 30, 27, 22, 5, 80, 132, 1, 1, 167, 254, 253, 42]
abbrev dktX13_cutAll_11 : List UInt8 := dkwX13_cutAll_11 ++ dktX13_cutAll_12
def dkwX13_cutAll_10 : List UInt8 := [167, 0, 4, 5, 79, 167, 0, 28, 29, 133, 55, 5, 42, 180, 0, 24, 27, 29, 184, 0, 197, 153, 0, 7]
abbrev dktX13_cutAll_10 : List UInt8 := dkwX13_cutAll_10 ++ dktX13_cutAll_11
def dkwX13_cutAll_9 : List UInt8 := [22, 5, 55, 5, 132, 2, 1, 167, 255, 200, 42, 180, 0, 24, 27, 28, 21, 4, 100, 7, 164, 0, 7, 7]
abbrev dktX13_cutAll_9 : List UInt8 := dkwX13_cutAll_9 ++ dktX13_cutAll_10
def dkwX13_cutAll_8 : List UInt8 := [162, 0, 24, 20, 0, 193, 22, 5, 105, 42, 180, 0, 14, 28, 46, 133, 97, 20, 0, 195, 101, 167, 0, 5]
abbrev dktX13_cutAll_8 : List UInt8 := dkwX13_cutAll_8 ++ dktX13_cutAll_9
def dkwX13_cutAll_7 : List UInt8 := [180, 0, 181, 162, 0, 54, 42, 180, 0, 14, 28, 46, 184, 0, 190, 153, 0, 42, 28, 21, 4, 100, 7]
abbrev dktX13_cutAll_7 : List UInt8 := dkwX13_cutAll_7 ++ dktX13_cutAll_8
def dkwX13_cutAll_6 : List UInt8 := [16, 8, 164, 0, 7, 7, 167, 0, 4, 4, 79, 167, 0, 116, 29, 184, 0, 190, 153, 0, 84, 28, 42]
abbrev dktX13_cutAll_6 : List UInt8 := dkwX13_cutAll_6 ++ dktX13_cutAll_7
def dkwX13_cutAll_5 : List UInt8 := [97, 167, 0, 5, 22, 5, 55, 5, 132, 2, 1, 167, 255, 200, 42, 180, 0, 24, 27, 28, 21, 4, 100]
abbrev dktX13_cutAll_5 : List UInt8 := dkwX13_cutAll_5 ++ dktX13_cutAll_6
def dkwX13_cutAll_4 : List UInt8 := [21, 4, 100, 16, 8, 162, 0, 23, 20, 0, 184, 22, 5, 105, 42, 180, 0, 14, 28, 46, 184, 0, 186, 133]
abbrev dktX13_cutAll_4 : List UInt8 := dkwX13_cutAll_4 ++ dktX13_cutAll_5
def dkwX13_cutAll_3 : List UInt8 := [153, 0, 85, 28, 42, 180, 0, 181, 162, 0, 54, 42, 180, 0, 14, 28, 46, 184, 0, 177, 153, 0, 42, 28]
abbrev dktX13_cutAll_3 : List UInt8 := dkwX13_cutAll_3 ++ dktX13_cutAll_4
def dkwX13_cutAll_2 : List UInt8 := [132, 2, 1, 167, 255, 226, 28, 54, 4, 9, 55, 5, 42, 180, 0, 27, 27, 28, 79, 29, 184, 0, 177]
abbrev dktX13_cutAll_2 : List UInt8 := dkwX13_cutAll_2 ++ dktX13_cutAll_3
def dkwX13_cutAll_1 : List UInt8 := [162, 1, 1, 42, 180, 0, 14, 28, 46, 62, 29, 16, 10, 159, 0, 9, 29, 16, 32, 160, 0, 9]
abbrev dktX13_cutAll_1 : List UInt8 := dkwX13_cutAll_1 ++ dktX13_cutAll_2
def dkwX13_cutAll_0 : List UInt8 := [42, 42, 180, 0, 11, 181, 0, 181, 42, 3, 181, 0, 11, 3, 60, 3, 61, 28, 42, 180, 0, 181]
abbrev dktX13_cutAll_0 : List UInt8 := dkwX13_cutAll_0 ++ dktX13_cutAll_1
theorem dksX13_cutAll_0 : cX13_cutAll.data.toList.drop 0 = dktX13_cutAll_0 := by decide +kernel
theorem dksX13_cutAll_1 : cX13_cutAll.data.toList.drop 22 = dktX13_cutAll_1 := dk_seg dksX13_cutAll_0 22 rfl rfl
theorem dksX13_cutAll_2 : cX13_cutAll.data.toList.drop 44 = dktX13_cutAll_2 := dk_seg dksX13_cutAll_1 22 rfl rfl
theorem dksX13_cutAll_3 : cX13_cutAll.data.toList.drop 67 = dktX13_cutAll_3 := dk_seg dksX13_cutAll_2 23 rfl rfl
theorem dksX13_cutAll_4 : cX13_cutAll.data.toList.drop 91 = dktX13_cutAll_4 := dk_seg dksX13_cutAll_3 24 rfl rfl
theorem dksX13_cutAll_5 : cX13_cutAll.data.toList.drop 115 = dktX13_cutAll_5 := dk_seg dksX13_cutAll_4 24 rfl rfl
theorem dksX13_cutAll_6 : cX13_cutAll.data.toList.drop 138 = dktX13_cutAll_6 := dk_seg dksX13_cutAll_5 23 rfl rfl
theorem dksX13_cutAll_7 : cX13_cutAll.data.toList.drop 161 = dktX13_cutAll_7 := dk_seg dksX13_cutAll_6 23 rfl rfl
theorem dksX13_cutAll_8 : cX13_cutAll.data.toList.drop 184 = dktX13_cutAll_8 := dk_seg dksX13_cutAll_7 23 rfl rfl
theorem dksX13_cutAll_9 : cX13_cutAll.data.toList.drop 208 = dktX13_cutAll_9 := dk_seg dksX13_cutAll_8 24 rfl rfl
theorem dksX13_cutAll_10 : cX13_cutAll.data.toList.drop 232 = dktX13_cutAll_10 := dk_seg dksX13_cutAll_9 24 rfl rfl
theorem dksX13_cutAll_11 : cX13_cutAll.data.toList.drop 256 = dktX13_cutAll_11 := dk_seg dksX13_cutAll_10 24 rfl rfl
theorem dksX13_cutAll_12 : cX13_cutAll.data.toList.drop 280 = dktX13_cutAll_12 := dk_seg dksX13_cutAll_11 24 rfl rfl
theorem dksX13_cutAll_13 : cX13_cutAll.data.toList.drop 303 = dktX13_cutAll_13 := dk_seg dksX13_cutAll_12 23 rfl rfl
theorem dX13_cutAll_0 : decode cX13_cutAll 0 = .ok (.aload_n 0, 1) := dk_42 (dk_at dksX13_cutAll_0 0 rfl rfl)
theorem dX13_cutAll_1 : decode cX13_cutAll 1 = .ok (.aload_n 0, 1) := dk_42 (dk_at dksX13_cutAll_0 1 rfl rfl)
theorem dX13_cutAll_2 : decode cX13_cutAll 2 = .ok (.getfield 11, 3) := dk_180 0 11 (dk_at dksX13_cutAll_0 2 rfl rfl)
theorem dX13_cutAll_5 : decode cX13_cutAll 5 = .ok (.putfield 181, 3) := dk_181 0 181 (dk_at dksX13_cutAll_0 5 rfl rfl)
theorem dX13_cutAll_8 : decode cX13_cutAll 8 = .ok (.aload_n 0, 1) := dk_42 (dk_at dksX13_cutAll_0 8 rfl rfl)
theorem dX13_cutAll_9 : decode cX13_cutAll 9 = .ok (.iconst 0, 1) := dk_3 (dk_at dksX13_cutAll_0 9 rfl rfl)
theorem dX13_cutAll_10 : decode cX13_cutAll 10 = .ok (.putfield 11, 3) := dk_181 0 11 (dk_at dksX13_cutAll_0 10 rfl rfl)
theorem dX13_cutAll_13 : decode cX13_cutAll 13 = .ok (.iconst 0, 1) := dk_3 (dk_at dksX13_cutAll_0 13 rfl rfl)
theorem dX13_cutAll_14 : decode cX13_cutAll 14 = .ok (.istore_n 1, 1) := dk_60 (dk_at dksX13_cutAll_0 14 rfl rfl)
theorem dX13_cutAll_15 : decode cX13_cutAll 15 = .ok (.iconst 0, 1) := dk_3 (dk_at dksX13_cutAll_0 15 rfl rfl)
theorem dX13_cutAll_16 : decode cX13_cutAll 16 = .ok (.istore_n 2, 1) := dk_61 (dk_at dksX13_cutAll_0 16 rfl rfl)
theorem dX13_cutAll_17 : decode cX13_cutAll 17 = .ok (.iload_n 2, 1) := dk_28 (dk_at dksX13_cutAll_0 17 rfl rfl)
theorem dX13_cutAll_18 : decode cX13_cutAll 18 = .ok (.aload_n 0, 1) := dk_42 (dk_at dksX13_cutAll_0 18 rfl rfl)
theorem dX13_cutAll_19 : decode cX13_cutAll 19 = .ok (.getfield 181, 3) := dk_180 0 181 (dk_at dksX13_cutAll_0 19 rfl rfl)
theorem dX13_cutAll_22 : decode cX13_cutAll 22 = .ok (.if_icmp .ge 257, 3) := dk_162 1 1 (dk_at dksX13_cutAll_1 0 rfl rfl)
theorem dX13_cutAll_25 : decode cX13_cutAll 25 = .ok (.aload_n 0, 1) := dk_42 (dk_at dksX13_cutAll_1 3 rfl rfl)
theorem dX13_cutAll_26 : decode cX13_cutAll 26 = .ok (.getfield 14, 3) := dk_180 0 14 (dk_at dksX13_cutAll_1 4 rfl rfl)
theorem dX13_cutAll_29 : decode cX13_cutAll 29 = .ok (.iload_n 2, 1) := dk_28 (dk_at dksX13_cutAll_1 7 rfl rfl)
theorem dX13_cutAll_30 : decode cX13_cutAll 30 = .ok (.iaload, 1) := dk_46 (dk_at dksX13_cutAll_1 8 rfl rfl)
theorem dX13_cutAll_31 : decode cX13_cutAll 31 = .ok (.istore_n 3, 1) := dk_62 (dk_at dksX13_cutAll_1 9 rfl rfl)
theorem dX13_cutAll_32 : decode cX13_cutAll 32 = .ok (.iload_n 3, 1) := dk_29 (dk_at dksX13_cutAll_1 10 rfl rfl)
theorem dX13_cutAll_33 : decode cX13_cutAll 33 = .ok (.bipush 10, 2) := dk_16 10 (dk_at dksX13_cutAll_1 11 rfl rfl)
theorem dX13_cutAll_35 : decode cX13_cutAll 35 = .ok (.if_icmp .eq 9, 3) := dk_159 0 9 (dk_at dksX13_cutAll_1 13 rfl rfl)
theorem dX13_cutAll_38 : decode cX13_cutAll 38 = .ok (.iload_n 3, 1) := dk_29 (dk_at dksX13_cutAll_1 16 rfl rfl)
theorem dX13_cutAll_39 : decode cX13_cutAll 39 = .ok (.bipush 32, 2) := dk_16 32 (dk_at dksX13_cutAll_1 17 rfl rfl)
theorem dX13_cutAll_41 : decode cX13_cutAll 41 = .ok (.if_icmp .ne 9, 3) := dk_160 0 9 (dk_at dksX13_cutAll_1 19 rfl rfl)
theorem dX13_cutAll_44 : decode cX13_cutAll 44 = .ok (.iinc 2 1, 3) := dk_132 2 1 (dk_at dksX13_cutAll_2 0 rfl rfl)
theorem dX13_cutAll_47 : decode cX13_cutAll 47 = .ok (.goto (-30), 3) := dk_167 255 226 (dk_at dksX13_cutAll_2 3 rfl rfl)
theorem dX13_cutAll_50 : decode cX13_cutAll 50 = .ok (.iload_n 2, 1) := dk_28 (dk_at dksX13_cutAll_2 6 rfl rfl)
theorem dX13_cutAll_51 : decode cX13_cutAll 51 = .ok (.istore 4, 2) := dk_54 4 (dk_at dksX13_cutAll_2 7 rfl rfl)
theorem dX13_cutAll_53 : decode cX13_cutAll 53 = .ok (.lconst 0, 1) := dk_9 (dk_at dksX13_cutAll_2 9 rfl rfl)
theorem dX13_cutAll_54 : decode cX13_cutAll 54 = .ok (.lstore 5, 2) := dk_55 5 (dk_at dksX13_cutAll_2 10 rfl rfl)
theorem dX13_cutAll_56 : decode cX13_cutAll 56 = .ok (.aload_n 0, 1) := dk_42 (dk_at dksX13_cutAll_2 12 rfl rfl)
theorem dX13_cutAll_57 : decode cX13_cutAll 57 = .ok (.getfield 27, 3) := dk_180 0 27 (dk_at dksX13_cutAll_2 13 rfl rfl)
theorem dX13_cutAll_60 : decode cX13_cutAll 60 = .ok (.iload_n 1, 1) := dk_27 (dk_at dksX13_cutAll_2 16 rfl rfl)
theorem dX13_cutAll_61 : decode cX13_cutAll 61 = .ok (.iload_n 2, 1) := dk_28 (dk_at dksX13_cutAll_2 17 rfl rfl)
theorem dX13_cutAll_62 : decode cX13_cutAll 62 = .ok (.iastore, 1) := dk_79 (dk_at dksX13_cutAll_2 18 rfl rfl)
theorem dX13_cutAll_63 : decode cX13_cutAll 63 = .ok (.iload_n 3, 1) := dk_29 (dk_at dksX13_cutAll_2 19 rfl rfl)
theorem dX13_cutAll_64 : decode cX13_cutAll 64 = .ok (.invokestatic 177, 3) := dk_184 0 177 (dk_at dksX13_cutAll_2 20 rfl rfl)
theorem dX13_cutAll_67 : decode cX13_cutAll 67 = .ok (.ifCond .eq 85, 3) := dk_153 0 85 (dk_at dksX13_cutAll_3 0 rfl rfl)
theorem dX13_cutAll_70 : decode cX13_cutAll 70 = .ok (.iload_n 2, 1) := dk_28 (dk_at dksX13_cutAll_3 3 rfl rfl)
theorem dX13_cutAll_71 : decode cX13_cutAll 71 = .ok (.aload_n 0, 1) := dk_42 (dk_at dksX13_cutAll_3 4 rfl rfl)
theorem dX13_cutAll_72 : decode cX13_cutAll 72 = .ok (.getfield 181, 3) := dk_180 0 181 (dk_at dksX13_cutAll_3 5 rfl rfl)
theorem dX13_cutAll_75 : decode cX13_cutAll 75 = .ok (.if_icmp .ge 54, 3) := dk_162 0 54 (dk_at dksX13_cutAll_3 8 rfl rfl)
theorem dX13_cutAll_78 : decode cX13_cutAll 78 = .ok (.aload_n 0, 1) := dk_42 (dk_at dksX13_cutAll_3 11 rfl rfl)
theorem dX13_cutAll_79 : decode cX13_cutAll 79 = .ok (.getfield 14, 3) := dk_180 0 14 (dk_at dksX13_cutAll_3 12 rfl rfl)
theorem dX13_cutAll_82 : decode cX13_cutAll 82 = .ok (.iload_n 2, 1) := dk_28 (dk_at dksX13_cutAll_3 15 rfl rfl)
theorem dX13_cutAll_83 : decode cX13_cutAll 83 = .ok (.iaload, 1) := dk_46 (dk_at dksX13_cutAll_3 16 rfl rfl)
theorem dX13_cutAll_84 : decode cX13_cutAll 84 = .ok (.invokestatic 177, 3) := dk_184 0 177 (dk_at dksX13_cutAll_3 17 rfl rfl)
theorem dX13_cutAll_87 : decode cX13_cutAll 87 = .ok (.ifCond .eq 42, 3) := dk_153 0 42 (dk_at dksX13_cutAll_3 20 rfl rfl)
theorem dX13_cutAll_90 : decode cX13_cutAll 90 = .ok (.iload_n 2, 1) := dk_28 (dk_at dksX13_cutAll_3 23 rfl rfl)
theorem dX13_cutAll_91 : decode cX13_cutAll 91 = .ok (.iload 4, 2) := dk_21 4 (dk_at dksX13_cutAll_4 0 rfl rfl)
theorem dX13_cutAll_93 : decode cX13_cutAll 93 = .ok (.isub, 1) := dk_100 (dk_at dksX13_cutAll_4 2 rfl rfl)
theorem dX13_cutAll_94 : decode cX13_cutAll 94 = .ok (.bipush 8, 2) := dk_16 8 (dk_at dksX13_cutAll_4 3 rfl rfl)
theorem dX13_cutAll_96 : decode cX13_cutAll 96 = .ok (.if_icmp .ge 23, 3) := dk_162 0 23 (dk_at dksX13_cutAll_4 5 rfl rfl)
theorem dX13_cutAll_99 : decode cX13_cutAll 99 = .ok (.ldc2_w 184, 3) := dk_20 0 184 (dk_at dksX13_cutAll_4 8 rfl rfl)
theorem dX13_cutAll_102 : decode cX13_cutAll 102 = .ok (.lload 5, 2) := dk_22 5 (dk_at dksX13_cutAll_4 11 rfl rfl)
theorem dX13_cutAll_104 : decode cX13_cutAll 104 = .ok (.lmul, 1) := dk_105 (dk_at dksX13_cutAll_4 13 rfl rfl)
theorem dX13_cutAll_105 : decode cX13_cutAll 105 = .ok (.aload_n 0, 1) := dk_42 (dk_at dksX13_cutAll_4 14 rfl rfl)
theorem dX13_cutAll_106 : decode cX13_cutAll 106 = .ok (.getfield 14, 3) := dk_180 0 14 (dk_at dksX13_cutAll_4 15 rfl rfl)
theorem dX13_cutAll_109 : decode cX13_cutAll 109 = .ok (.iload_n 2, 1) := dk_28 (dk_at dksX13_cutAll_4 18 rfl rfl)
theorem dX13_cutAll_110 : decode cX13_cutAll 110 = .ok (.iaload, 1) := dk_46 (dk_at dksX13_cutAll_4 19 rfl rfl)
theorem dX13_cutAll_111 : decode cX13_cutAll 111 = .ok (.invokestatic 186, 3) := dk_184 0 186 (dk_at dksX13_cutAll_4 20 rfl rfl)
theorem dX13_cutAll_114 : decode cX13_cutAll 114 = .ok (.i2l, 1) := dk_133 (dk_at dksX13_cutAll_4 23 rfl rfl)
theorem dX13_cutAll_115 : decode cX13_cutAll 115 = .ok (.ladd, 1) := dk_97 (dk_at dksX13_cutAll_5 0 rfl rfl)
theorem dX13_cutAll_116 : decode cX13_cutAll 116 = .ok (.goto 5, 3) := dk_167 0 5 (dk_at dksX13_cutAll_5 1 rfl rfl)
theorem dX13_cutAll_119 : decode cX13_cutAll 119 = .ok (.lload 5, 2) := dk_22 5 (dk_at dksX13_cutAll_5 4 rfl rfl)
theorem dX13_cutAll_121 : decode cX13_cutAll 121 = .ok (.lstore 5, 2) := dk_55 5 (dk_at dksX13_cutAll_5 6 rfl rfl)
theorem dX13_cutAll_123 : decode cX13_cutAll 123 = .ok (.iinc 2 1, 3) := dk_132 2 1 (dk_at dksX13_cutAll_5 8 rfl rfl)
theorem dX13_cutAll_126 : decode cX13_cutAll 126 = .ok (.goto (-56), 3) := dk_167 255 200 (dk_at dksX13_cutAll_5 11 rfl rfl)
theorem dX13_cutAll_129 : decode cX13_cutAll 129 = .ok (.aload_n 0, 1) := dk_42 (dk_at dksX13_cutAll_5 14 rfl rfl)
theorem dX13_cutAll_130 : decode cX13_cutAll 130 = .ok (.getfield 24, 3) := dk_180 0 24 (dk_at dksX13_cutAll_5 15 rfl rfl)
theorem dX13_cutAll_133 : decode cX13_cutAll 133 = .ok (.iload_n 1, 1) := dk_27 (dk_at dksX13_cutAll_5 18 rfl rfl)
theorem dX13_cutAll_134 : decode cX13_cutAll 134 = .ok (.iload_n 2, 1) := dk_28 (dk_at dksX13_cutAll_5 19 rfl rfl)
theorem dX13_cutAll_135 : decode cX13_cutAll 135 = .ok (.iload 4, 2) := dk_21 4 (dk_at dksX13_cutAll_5 20 rfl rfl)
theorem dX13_cutAll_137 : decode cX13_cutAll 137 = .ok (.isub, 1) := dk_100 (dk_at dksX13_cutAll_5 22 rfl rfl)
theorem dX13_cutAll_138 : decode cX13_cutAll 138 = .ok (.bipush 8, 2) := dk_16 8 (dk_at dksX13_cutAll_6 0 rfl rfl)
theorem dX13_cutAll_140 : decode cX13_cutAll 140 = .ok (.if_icmp .le 7, 3) := dk_164 0 7 (dk_at dksX13_cutAll_6 2 rfl rfl)
theorem dX13_cutAll_143 : decode cX13_cutAll 143 = .ok (.iconst 4, 1) := dk_7 (dk_at dksX13_cutAll_6 5 rfl rfl)
theorem dX13_cutAll_144 : decode cX13_cutAll 144 = .ok (.goto 4, 3) := dk_167 0 4 (dk_at dksX13_cutAll_6 6 rfl rfl)
theorem dX13_cutAll_147 : decode cX13_cutAll 147 = .ok (.iconst 1, 1) := dk_4 (dk_at dksX13_cutAll_6 9 rfl rfl)
theorem dX13_cutAll_148 : decode cX13_cutAll 148 = .ok (.iastore, 1) := dk_79 (dk_at dksX13_cutAll_6 10 rfl rfl)
theorem dX13_cutAll_149 : decode cX13_cutAll 149 = .ok (.goto 116, 3) := dk_167 0 116 (dk_at dksX13_cutAll_6 11 rfl rfl)
theorem dX13_cutAll_152 : decode cX13_cutAll 152 = .ok (.iload_n 3, 1) := dk_29 (dk_at dksX13_cutAll_6 14 rfl rfl)
theorem dX13_cutAll_153 : decode cX13_cutAll 153 = .ok (.invokestatic 190, 3) := dk_184 0 190 (dk_at dksX13_cutAll_6 15 rfl rfl)
theorem dX13_cutAll_156 : decode cX13_cutAll 156 = .ok (.ifCond .eq 84, 3) := dk_153 0 84 (dk_at dksX13_cutAll_6 18 rfl rfl)
theorem dX13_cutAll_159 : decode cX13_cutAll 159 = .ok (.iload_n 2, 1) := dk_28 (dk_at dksX13_cutAll_6 21 rfl rfl)
theorem dX13_cutAll_160 : decode cX13_cutAll 160 = .ok (.aload_n 0, 1) := dk_42 (dk_at dksX13_cutAll_6 22 rfl rfl)
theorem dX13_cutAll_161 : decode cX13_cutAll 161 = .ok (.getfield 181, 3) := dk_180 0 181 (dk_at dksX13_cutAll_7 0 rfl rfl)
theorem dX13_cutAll_164 : decode cX13_cutAll 164 = .ok (.if_icmp .ge 54, 3) := dk_162 0 54 (dk_at dksX13_cutAll_7 3 rfl rfl)
theorem dX13_cutAll_167 : decode cX13_cutAll 167 = .ok (.aload_n 0, 1) := dk_42 (dk_at dksX13_cutAll_7 6 rfl rfl)
theorem dX13_cutAll_168 : decode cX13_cutAll 168 = .ok (.getfield 14, 3) := dk_180 0 14 (dk_at dksX13_cutAll_7 7 rfl rfl)
theorem dX13_cutAll_171 : decode cX13_cutAll 171 = .ok (.iload_n 2, 1) := dk_28 (dk_at dksX13_cutAll_7 10 rfl rfl)
theorem dX13_cutAll_172 : decode cX13_cutAll 172 = .ok (.iaload, 1) := dk_46 (dk_at dksX13_cutAll_7 11 rfl rfl)
theorem dX13_cutAll_173 : decode cX13_cutAll 173 = .ok (.invokestatic 190, 3) := dk_184 0 190 (dk_at dksX13_cutAll_7 12 rfl rfl)
theorem dX13_cutAll_176 : decode cX13_cutAll 176 = .ok (.ifCond .eq 42, 3) := dk_153 0 42 (dk_at dksX13_cutAll_7 15 rfl rfl)
theorem dX13_cutAll_179 : decode cX13_cutAll 179 = .ok (.iload_n 2, 1) := dk_28 (dk_at dksX13_cutAll_7 18 rfl rfl)
theorem dX13_cutAll_180 : decode cX13_cutAll 180 = .ok (.iload 4, 2) := dk_21 4 (dk_at dksX13_cutAll_7 19 rfl rfl)
theorem dX13_cutAll_182 : decode cX13_cutAll 182 = .ok (.isub, 1) := dk_100 (dk_at dksX13_cutAll_7 21 rfl rfl)
theorem dX13_cutAll_183 : decode cX13_cutAll 183 = .ok (.iconst 4, 1) := dk_7 (dk_at dksX13_cutAll_7 22 rfl rfl)
theorem dX13_cutAll_184 : decode cX13_cutAll 184 = .ok (.if_icmp .ge 24, 3) := dk_162 0 24 (dk_at dksX13_cutAll_8 0 rfl rfl)
theorem dX13_cutAll_187 : decode cX13_cutAll 187 = .ok (.ldc2_w 193, 3) := dk_20 0 193 (dk_at dksX13_cutAll_8 3 rfl rfl)
theorem dX13_cutAll_190 : decode cX13_cutAll 190 = .ok (.lload 5, 2) := dk_22 5 (dk_at dksX13_cutAll_8 6 rfl rfl)
theorem dX13_cutAll_192 : decode cX13_cutAll 192 = .ok (.lmul, 1) := dk_105 (dk_at dksX13_cutAll_8 8 rfl rfl)
theorem dX13_cutAll_193 : decode cX13_cutAll 193 = .ok (.aload_n 0, 1) := dk_42 (dk_at dksX13_cutAll_8 9 rfl rfl)
theorem dX13_cutAll_194 : decode cX13_cutAll 194 = .ok (.getfield 14, 3) := dk_180 0 14 (dk_at dksX13_cutAll_8 10 rfl rfl)
theorem dX13_cutAll_197 : decode cX13_cutAll 197 = .ok (.iload_n 2, 1) := dk_28 (dk_at dksX13_cutAll_8 13 rfl rfl)
theorem dX13_cutAll_198 : decode cX13_cutAll 198 = .ok (.iaload, 1) := dk_46 (dk_at dksX13_cutAll_8 14 rfl rfl)
theorem dX13_cutAll_199 : decode cX13_cutAll 199 = .ok (.i2l, 1) := dk_133 (dk_at dksX13_cutAll_8 15 rfl rfl)
theorem dX13_cutAll_200 : decode cX13_cutAll 200 = .ok (.ladd, 1) := dk_97 (dk_at dksX13_cutAll_8 16 rfl rfl)
theorem dX13_cutAll_201 : decode cX13_cutAll 201 = .ok (.ldc2_w 195, 3) := dk_20 0 195 (dk_at dksX13_cutAll_8 17 rfl rfl)
theorem dX13_cutAll_204 : decode cX13_cutAll 204 = .ok (.lsub, 1) := dk_101 (dk_at dksX13_cutAll_8 20 rfl rfl)
theorem dX13_cutAll_205 : decode cX13_cutAll 205 = .ok (.goto 5, 3) := dk_167 0 5 (dk_at dksX13_cutAll_8 21 rfl rfl)
theorem dX13_cutAll_208 : decode cX13_cutAll 208 = .ok (.lload 5, 2) := dk_22 5 (dk_at dksX13_cutAll_9 0 rfl rfl)
theorem dX13_cutAll_210 : decode cX13_cutAll 210 = .ok (.lstore 5, 2) := dk_55 5 (dk_at dksX13_cutAll_9 2 rfl rfl)
theorem dX13_cutAll_212 : decode cX13_cutAll 212 = .ok (.iinc 2 1, 3) := dk_132 2 1 (dk_at dksX13_cutAll_9 4 rfl rfl)
theorem dX13_cutAll_215 : decode cX13_cutAll 215 = .ok (.goto (-56), 3) := dk_167 255 200 (dk_at dksX13_cutAll_9 7 rfl rfl)
theorem dX13_cutAll_218 : decode cX13_cutAll 218 = .ok (.aload_n 0, 1) := dk_42 (dk_at dksX13_cutAll_9 10 rfl rfl)
theorem dX13_cutAll_219 : decode cX13_cutAll 219 = .ok (.getfield 24, 3) := dk_180 0 24 (dk_at dksX13_cutAll_9 11 rfl rfl)
theorem dX13_cutAll_222 : decode cX13_cutAll 222 = .ok (.iload_n 1, 1) := dk_27 (dk_at dksX13_cutAll_9 14 rfl rfl)
theorem dX13_cutAll_223 : decode cX13_cutAll 223 = .ok (.iload_n 2, 1) := dk_28 (dk_at dksX13_cutAll_9 15 rfl rfl)
theorem dX13_cutAll_224 : decode cX13_cutAll 224 = .ok (.iload 4, 2) := dk_21 4 (dk_at dksX13_cutAll_9 16 rfl rfl)
theorem dX13_cutAll_226 : decode cX13_cutAll 226 = .ok (.isub, 1) := dk_100 (dk_at dksX13_cutAll_9 18 rfl rfl)
theorem dX13_cutAll_227 : decode cX13_cutAll 227 = .ok (.iconst 4, 1) := dk_7 (dk_at dksX13_cutAll_9 19 rfl rfl)
theorem dX13_cutAll_228 : decode cX13_cutAll 228 = .ok (.if_icmp .le 7, 3) := dk_164 0 7 (dk_at dksX13_cutAll_9 20 rfl rfl)
theorem dX13_cutAll_231 : decode cX13_cutAll 231 = .ok (.iconst 4, 1) := dk_7 (dk_at dksX13_cutAll_9 23 rfl rfl)
theorem dX13_cutAll_232 : decode cX13_cutAll 232 = .ok (.goto 4, 3) := dk_167 0 4 (dk_at dksX13_cutAll_10 0 rfl rfl)
theorem dX13_cutAll_235 : decode cX13_cutAll 235 = .ok (.iconst 2, 1) := dk_5 (dk_at dksX13_cutAll_10 3 rfl rfl)
theorem dX13_cutAll_236 : decode cX13_cutAll 236 = .ok (.iastore, 1) := dk_79 (dk_at dksX13_cutAll_10 4 rfl rfl)
theorem dX13_cutAll_237 : decode cX13_cutAll 237 = .ok (.goto 28, 3) := dk_167 0 28 (dk_at dksX13_cutAll_10 5 rfl rfl)
theorem dX13_cutAll_240 : decode cX13_cutAll 240 = .ok (.iload_n 3, 1) := dk_29 (dk_at dksX13_cutAll_10 8 rfl rfl)
theorem dX13_cutAll_241 : decode cX13_cutAll 241 = .ok (.i2l, 1) := dk_133 (dk_at dksX13_cutAll_10 9 rfl rfl)
theorem dX13_cutAll_242 : decode cX13_cutAll 242 = .ok (.lstore 5, 2) := dk_55 5 (dk_at dksX13_cutAll_10 10 rfl rfl)
theorem dX13_cutAll_244 : decode cX13_cutAll 244 = .ok (.aload_n 0, 1) := dk_42 (dk_at dksX13_cutAll_10 12 rfl rfl)
theorem dX13_cutAll_245 : decode cX13_cutAll 245 = .ok (.getfield 24, 3) := dk_180 0 24 (dk_at dksX13_cutAll_10 13 rfl rfl)
theorem dX13_cutAll_248 : decode cX13_cutAll 248 = .ok (.iload_n 1, 1) := dk_27 (dk_at dksX13_cutAll_10 16 rfl rfl)
theorem dX13_cutAll_249 : decode cX13_cutAll 249 = .ok (.iload_n 3, 1) := dk_29 (dk_at dksX13_cutAll_10 17 rfl rfl)
theorem dX13_cutAll_250 : decode cX13_cutAll 250 = .ok (.invokestatic 197, 3) := dk_184 0 197 (dk_at dksX13_cutAll_10 18 rfl rfl)
theorem dX13_cutAll_253 : decode cX13_cutAll 253 = .ok (.ifCond .eq 7, 3) := dk_153 0 7 (dk_at dksX13_cutAll_10 21 rfl rfl)
theorem dX13_cutAll_256 : decode cX13_cutAll 256 = .ok (.iconst 3, 1) := dk_6 (dk_at dksX13_cutAll_11 0 rfl rfl)
theorem dX13_cutAll_257 : decode cX13_cutAll 257 = .ok (.goto 4, 3) := dk_167 0 4 (dk_at dksX13_cutAll_11 1 rfl rfl)
theorem dX13_cutAll_260 : decode cX13_cutAll 260 = .ok (.iconst 4, 1) := dk_7 (dk_at dksX13_cutAll_11 4 rfl rfl)
theorem dX13_cutAll_261 : decode cX13_cutAll 261 = .ok (.iastore, 1) := dk_79 (dk_at dksX13_cutAll_11 5 rfl rfl)
theorem dX13_cutAll_262 : decode cX13_cutAll 262 = .ok (.iinc 2 1, 3) := dk_132 2 1 (dk_at dksX13_cutAll_11 6 rfl rfl)
theorem dX13_cutAll_265 : decode cX13_cutAll 265 = .ok (.aload_n 0, 1) := dk_42 (dk_at dksX13_cutAll_11 9 rfl rfl)
theorem dX13_cutAll_266 : decode cX13_cutAll 266 = .ok (.getfield 30, 3) := dk_180 0 30 (dk_at dksX13_cutAll_11 10 rfl rfl)
theorem dX13_cutAll_269 : decode cX13_cutAll 269 = .ok (.iload_n 1, 1) := dk_27 (dk_at dksX13_cutAll_11 13 rfl rfl)
theorem dX13_cutAll_270 : decode cX13_cutAll 270 = .ok (.lload 5, 2) := dk_22 5 (dk_at dksX13_cutAll_11 14 rfl rfl)
theorem dX13_cutAll_272 : decode cX13_cutAll 272 = .ok (.lastore, 1) := dk_80 (dk_at dksX13_cutAll_11 16 rfl rfl)
theorem dX13_cutAll_273 : decode cX13_cutAll 273 = .ok (.iinc 1 1, 3) := dk_132 1 1 (dk_at dksX13_cutAll_11 17 rfl rfl)
theorem dX13_cutAll_276 : decode cX13_cutAll 276 = .ok (.goto (-259), 3) := dk_167 254 253 (dk_at dksX13_cutAll_11 20 rfl rfl)
theorem dX13_cutAll_279 : decode cX13_cutAll 279 = .ok (.aload_n 0, 1) := dk_42 (dk_at dksX13_cutAll_11 23 rfl rfl)
theorem dX13_cutAll_280 : decode cX13_cutAll 280 = .ok (.getfield 24, 3) := dk_180 0 24 (dk_at dksX13_cutAll_12 0 rfl rfl)
theorem dX13_cutAll_283 : decode cX13_cutAll 283 = .ok (.iload_n 1, 1) := dk_27 (dk_at dksX13_cutAll_12 3 rfl rfl)
theorem dX13_cutAll_284 : decode cX13_cutAll 284 = .ok (.iconst 0, 1) := dk_3 (dk_at dksX13_cutAll_12 4 rfl rfl)
theorem dX13_cutAll_285 : decode cX13_cutAll 285 = .ok (.iastore, 1) := dk_79 (dk_at dksX13_cutAll_12 5 rfl rfl)
theorem dX13_cutAll_286 : decode cX13_cutAll 286 = .ok (.aload_n 0, 1) := dk_42 (dk_at dksX13_cutAll_12 6 rfl rfl)
theorem dX13_cutAll_287 : decode cX13_cutAll 287 = .ok (.getfield 27, 3) := dk_180 0 27 (dk_at dksX13_cutAll_12 7 rfl rfl)
theorem dX13_cutAll_290 : decode cX13_cutAll 290 = .ok (.iload_n 1, 1) := dk_27 (dk_at dksX13_cutAll_12 10 rfl rfl)
theorem dX13_cutAll_291 : decode cX13_cutAll 291 = .ok (.aload_n 0, 1) := dk_42 (dk_at dksX13_cutAll_12 11 rfl rfl)
theorem dX13_cutAll_292 : decode cX13_cutAll 292 = .ok (.getfield 181, 3) := dk_180 0 181 (dk_at dksX13_cutAll_12 12 rfl rfl)
theorem dX13_cutAll_295 : decode cX13_cutAll 295 = .ok (.iastore, 1) := dk_79 (dk_at dksX13_cutAll_12 15 rfl rfl)
theorem dX13_cutAll_296 : decode cX13_cutAll 296 = .ok (.aload_n 0, 1) := dk_42 (dk_at dksX13_cutAll_12 16 rfl rfl)
theorem dX13_cutAll_297 : decode cX13_cutAll 297 = .ok (.iconst 0, 1) := dk_3 (dk_at dksX13_cutAll_12 17 rfl rfl)
theorem dX13_cutAll_298 : decode cX13_cutAll 298 = .ok (.putfield 200, 3) := dk_181 0 200 (dk_at dksX13_cutAll_12 18 rfl rfl)
theorem dX13_cutAll_301 : decode cX13_cutAll 301 = .ok (.aload_n 0, 1) := dk_42 (dk_at dksX13_cutAll_12 21 rfl rfl)
theorem dX13_cutAll_302 : decode cX13_cutAll 302 = .ok (.iconst 0, 1) := dk_3 (dk_at dksX13_cutAll_12 22 rfl rfl)
theorem dX13_cutAll_303 : decode cX13_cutAll 303 = .ok (.putfield 203, 3) := dk_181 0 203 (dk_at dksX13_cutAll_13 0 rfl rfl)
theorem dX13_cutAll_306 : decode cX13_cutAll 306 = .ok (.return_, 1) := dk_177 (dk_at dksX13_cutAll_13 3 rfl rfl)
abbrev cX13_isLetter : ByteArray := prog_24_method_5_code
def yX13_isLetter : MethodName := ⟨RX13, "isLetter", "(I)Z"⟩
def dkwX13_isLetter_0 : List UInt8 := [26, 16, 97, 161, 0, 13, 26, 16, 122, 163, 0, 7, 4, 167, 0, 4, 3, 172]
abbrev dktX13_isLetter_0 : List UInt8 := dkwX13_isLetter_0 ++ []
theorem dksX13_isLetter_0 : cX13_isLetter.data.toList.drop 0 = dktX13_isLetter_0 := by decide +kernel
theorem dX13_isLetter_0 : decode cX13_isLetter 0 = .ok (.iload_n 0, 1) := dk_26 (dk_at dksX13_isLetter_0 0 rfl rfl)
theorem dX13_isLetter_1 : decode cX13_isLetter 1 = .ok (.bipush 97, 2) := dk_16 97 (dk_at dksX13_isLetter_0 1 rfl rfl)
theorem dX13_isLetter_3 : decode cX13_isLetter 3 = .ok (.if_icmp .lt 13, 3) := dk_161 0 13 (dk_at dksX13_isLetter_0 3 rfl rfl)
theorem dX13_isLetter_6 : decode cX13_isLetter 6 = .ok (.iload_n 0, 1) := dk_26 (dk_at dksX13_isLetter_0 6 rfl rfl)
theorem dX13_isLetter_7 : decode cX13_isLetter 7 = .ok (.bipush 122, 2) := dk_16 122 (dk_at dksX13_isLetter_0 7 rfl rfl)
theorem dX13_isLetter_9 : decode cX13_isLetter 9 = .ok (.if_icmp .gt 7, 3) := dk_163 0 7 (dk_at dksX13_isLetter_0 9 rfl rfl)
theorem dX13_isLetter_12 : decode cX13_isLetter 12 = .ok (.iconst 1, 1) := dk_4 (dk_at dksX13_isLetter_0 12 rfl rfl)
theorem dX13_isLetter_13 : decode cX13_isLetter 13 = .ok (.goto 4, 3) := dk_167 0 4 (dk_at dksX13_isLetter_0 13 rfl rfl)
theorem dX13_isLetter_16 : decode cX13_isLetter 16 = .ok (.iconst 0, 1) := dk_3 (dk_at dksX13_isLetter_0 16 rfl rfl)
theorem dX13_isLetter_17 : decode cX13_isLetter 17 = .ok (.ireturn, 1) := dk_172 (dk_at dksX13_isLetter_0 17 rfl rfl)
abbrev cX13_rank : ByteArray := prog_24_method_7_code
def yX13_rank : MethodName := ⟨RX13, "rank", "(I)I"⟩
def dkwX13_rank_0 : List UInt8 := [26, 184, 0, 177, 153, 0, 10, 26, 16, 96, 100, 167, 0, 7, 26, 16, 21, 100, 172]
abbrev dktX13_rank_0 : List UInt8 := dkwX13_rank_0 ++ []
theorem dksX13_rank_0 : cX13_rank.data.toList.drop 0 = dktX13_rank_0 := by decide +kernel
theorem dX13_rank_0 : decode cX13_rank 0 = .ok (.iload_n 0, 1) := dk_26 (dk_at dksX13_rank_0 0 rfl rfl)
theorem dX13_rank_1 : decode cX13_rank 1 = .ok (.invokestatic 177, 3) := dk_184 0 177 (dk_at dksX13_rank_0 1 rfl rfl)
theorem dX13_rank_4 : decode cX13_rank 4 = .ok (.ifCond .eq 10, 3) := dk_153 0 10 (dk_at dksX13_rank_0 4 rfl rfl)
theorem dX13_rank_7 : decode cX13_rank 7 = .ok (.iload_n 0, 1) := dk_26 (dk_at dksX13_rank_0 7 rfl rfl)
theorem dX13_rank_8 : decode cX13_rank 8 = .ok (.bipush 96, 2) := dk_16 96 (dk_at dksX13_rank_0 8 rfl rfl)
theorem dX13_rank_10 : decode cX13_rank 10 = .ok (.isub, 1) := dk_100 (dk_at dksX13_rank_0 10 rfl rfl)
theorem dX13_rank_11 : decode cX13_rank 11 = .ok (.goto 7, 3) := dk_167 0 7 (dk_at dksX13_rank_0 11 rfl rfl)
theorem dX13_rank_14 : decode cX13_rank 14 = .ok (.iload_n 0, 1) := dk_26 (dk_at dksX13_rank_0 14 rfl rfl)
theorem dX13_rank_15 : decode cX13_rank 15 = .ok (.bipush 21, 2) := dk_16 21 (dk_at dksX13_rank_0 15 rfl rfl)
theorem dX13_rank_17 : decode cX13_rank 17 = .ok (.isub, 1) := dk_100 (dk_at dksX13_rank_0 17 rfl rfl)
theorem dX13_rank_18 : decode cX13_rank 18 = .ok (.ireturn, 1) := dk_172 (dk_at dksX13_rank_0 18 rfl rfl)
abbrev cX13_isDigit : ByteArray := prog_24_method_6_code
def yX13_isDigit : MethodName := ⟨RX13, "isDigit", "(I)Z"⟩
def dkwX13_isDigit_0 : List UInt8 := [26, 16, 48, 161, 0, 13, 26, 16, 57, 163, 0, 7, 4, 167, 0, 4, 3, 172]
abbrev dktX13_isDigit_0 : List UInt8 := dkwX13_isDigit_0 ++ []
theorem dksX13_isDigit_0 : cX13_isDigit.data.toList.drop 0 = dktX13_isDigit_0 := by decide +kernel
theorem dX13_isDigit_0 : decode cX13_isDigit 0 = .ok (.iload_n 0, 1) := dk_26 (dk_at dksX13_isDigit_0 0 rfl rfl)
theorem dX13_isDigit_1 : decode cX13_isDigit 1 = .ok (.bipush 48, 2) := dk_16 48 (dk_at dksX13_isDigit_0 1 rfl rfl)
theorem dX13_isDigit_3 : decode cX13_isDigit 3 = .ok (.if_icmp .lt 13, 3) := dk_161 0 13 (dk_at dksX13_isDigit_0 3 rfl rfl)
theorem dX13_isDigit_6 : decode cX13_isDigit 6 = .ok (.iload_n 0, 1) := dk_26 (dk_at dksX13_isDigit_0 6 rfl rfl)
theorem dX13_isDigit_7 : decode cX13_isDigit 7 = .ok (.bipush 57, 2) := dk_16 57 (dk_at dksX13_isDigit_0 7 rfl rfl)
theorem dX13_isDigit_9 : decode cX13_isDigit 9 = .ok (.if_icmp .gt 7, 3) := dk_163 0 7 (dk_at dksX13_isDigit_0 9 rfl rfl)
theorem dX13_isDigit_12 : decode cX13_isDigit 12 = .ok (.iconst 1, 1) := dk_4 (dk_at dksX13_isDigit_0 12 rfl rfl)
theorem dX13_isDigit_13 : decode cX13_isDigit 13 = .ok (.goto 4, 3) := dk_167 0 4 (dk_at dksX13_isDigit_0 13 rfl rfl)
theorem dX13_isDigit_16 : decode cX13_isDigit 16 = .ok (.iconst 0, 1) := dk_3 (dk_at dksX13_isDigit_0 16 rfl rfl)
theorem dX13_isDigit_17 : decode cX13_isDigit 17 = .ok (.ireturn, 1) := dk_172 (dk_at dksX13_isDigit_0 17 rfl rfl)
abbrev cX13_isSignOf : ByteArray := prog_24_method_8_code
def yX13_isSignOf : MethodName := ⟨RX13, "isSignOf", "(I)Z"⟩
def dkwX13_isSignOf_2 : List UInt8 := [26, 16, 44, 160, 0, 7, 4, 167, 0, 4, 3, 172]
abbrev dktX13_isSignOf_2 : List UInt8 := dkwX13_isSignOf_2 ++ []
def dkwX13_isSignOf_1 : List UInt8 := [26, 16, 60, 159, 0, 27, 26, 16, 43, 159, 0, 21, 26, 16, 45, 159, 0, 15, 26, 16, 42, 159, 0, 9]
abbrev dktX13_isSignOf_1 : List UInt8 := dkwX13_isSignOf_1 ++ dktX13_isSignOf_2
def dkwX13_isSignOf_0 : List UInt8 := [26, 16, 40, 159, 0, 51, 26, 16, 41, 159, 0, 45, 26, 16, 59, 159, 0, 39, 26, 16, 61, 159, 0, 33]
abbrev dktX13_isSignOf_0 : List UInt8 := dkwX13_isSignOf_0 ++ dktX13_isSignOf_1
theorem dksX13_isSignOf_0 : cX13_isSignOf.data.toList.drop 0 = dktX13_isSignOf_0 := by decide +kernel
theorem dksX13_isSignOf_1 : cX13_isSignOf.data.toList.drop 24 = dktX13_isSignOf_1 := dk_seg dksX13_isSignOf_0 24 rfl rfl
theorem dksX13_isSignOf_2 : cX13_isSignOf.data.toList.drop 48 = dktX13_isSignOf_2 := dk_seg dksX13_isSignOf_1 24 rfl rfl
theorem dX13_isSignOf_0 : decode cX13_isSignOf 0 = .ok (.iload_n 0, 1) := dk_26 (dk_at dksX13_isSignOf_0 0 rfl rfl)
theorem dX13_isSignOf_1 : decode cX13_isSignOf 1 = .ok (.bipush 40, 2) := dk_16 40 (dk_at dksX13_isSignOf_0 1 rfl rfl)
theorem dX13_isSignOf_3 : decode cX13_isSignOf 3 = .ok (.if_icmp .eq 51, 3) := dk_159 0 51 (dk_at dksX13_isSignOf_0 3 rfl rfl)
theorem dX13_isSignOf_6 : decode cX13_isSignOf 6 = .ok (.iload_n 0, 1) := dk_26 (dk_at dksX13_isSignOf_0 6 rfl rfl)
theorem dX13_isSignOf_7 : decode cX13_isSignOf 7 = .ok (.bipush 41, 2) := dk_16 41 (dk_at dksX13_isSignOf_0 7 rfl rfl)
theorem dX13_isSignOf_9 : decode cX13_isSignOf 9 = .ok (.if_icmp .eq 45, 3) := dk_159 0 45 (dk_at dksX13_isSignOf_0 9 rfl rfl)
theorem dX13_isSignOf_12 : decode cX13_isSignOf 12 = .ok (.iload_n 0, 1) := dk_26 (dk_at dksX13_isSignOf_0 12 rfl rfl)
theorem dX13_isSignOf_13 : decode cX13_isSignOf 13 = .ok (.bipush 59, 2) := dk_16 59 (dk_at dksX13_isSignOf_0 13 rfl rfl)
theorem dX13_isSignOf_15 : decode cX13_isSignOf 15 = .ok (.if_icmp .eq 39, 3) := dk_159 0 39 (dk_at dksX13_isSignOf_0 15 rfl rfl)
theorem dX13_isSignOf_18 : decode cX13_isSignOf 18 = .ok (.iload_n 0, 1) := dk_26 (dk_at dksX13_isSignOf_0 18 rfl rfl)
theorem dX13_isSignOf_19 : decode cX13_isSignOf 19 = .ok (.bipush 61, 2) := dk_16 61 (dk_at dksX13_isSignOf_0 19 rfl rfl)
theorem dX13_isSignOf_21 : decode cX13_isSignOf 21 = .ok (.if_icmp .eq 33, 3) := dk_159 0 33 (dk_at dksX13_isSignOf_0 21 rfl rfl)
theorem dX13_isSignOf_24 : decode cX13_isSignOf 24 = .ok (.iload_n 0, 1) := dk_26 (dk_at dksX13_isSignOf_1 0 rfl rfl)
theorem dX13_isSignOf_25 : decode cX13_isSignOf 25 = .ok (.bipush 60, 2) := dk_16 60 (dk_at dksX13_isSignOf_1 1 rfl rfl)
theorem dX13_isSignOf_27 : decode cX13_isSignOf 27 = .ok (.if_icmp .eq 27, 3) := dk_159 0 27 (dk_at dksX13_isSignOf_1 3 rfl rfl)
theorem dX13_isSignOf_30 : decode cX13_isSignOf 30 = .ok (.iload_n 0, 1) := dk_26 (dk_at dksX13_isSignOf_1 6 rfl rfl)
theorem dX13_isSignOf_31 : decode cX13_isSignOf 31 = .ok (.bipush 43, 2) := dk_16 43 (dk_at dksX13_isSignOf_1 7 rfl rfl)
theorem dX13_isSignOf_33 : decode cX13_isSignOf 33 = .ok (.if_icmp .eq 21, 3) := dk_159 0 21 (dk_at dksX13_isSignOf_1 9 rfl rfl)
theorem dX13_isSignOf_36 : decode cX13_isSignOf 36 = .ok (.iload_n 0, 1) := dk_26 (dk_at dksX13_isSignOf_1 12 rfl rfl)
theorem dX13_isSignOf_37 : decode cX13_isSignOf 37 = .ok (.bipush 45, 2) := dk_16 45 (dk_at dksX13_isSignOf_1 13 rfl rfl)
theorem dX13_isSignOf_39 : decode cX13_isSignOf 39 = .ok (.if_icmp .eq 15, 3) := dk_159 0 15 (dk_at dksX13_isSignOf_1 15 rfl rfl)
theorem dX13_isSignOf_42 : decode cX13_isSignOf 42 = .ok (.iload_n 0, 1) := dk_26 (dk_at dksX13_isSignOf_1 18 rfl rfl)
theorem dX13_isSignOf_43 : decode cX13_isSignOf 43 = .ok (.bipush 42, 2) := dk_16 42 (dk_at dksX13_isSignOf_1 19 rfl rfl)
theorem dX13_isSignOf_45 : decode cX13_isSignOf 45 = .ok (.if_icmp .eq 9, 3) := dk_159 0 9 (dk_at dksX13_isSignOf_1 21 rfl rfl)
theorem dX13_isSignOf_48 : decode cX13_isSignOf 48 = .ok (.iload_n 0, 1) := dk_26 (dk_at dksX13_isSignOf_2 0 rfl rfl)
theorem dX13_isSignOf_49 : decode cX13_isSignOf 49 = .ok (.bipush 44, 2) := dk_16 44 (dk_at dksX13_isSignOf_2 1 rfl rfl)
theorem dX13_isSignOf_51 : decode cX13_isSignOf 51 = .ok (.if_icmp .ne 7, 3) := dk_160 0 7 (dk_at dksX13_isSignOf_2 3 rfl rfl)
theorem dX13_isSignOf_54 : decode cX13_isSignOf 54 = .ok (.iconst 1, 1) := dk_4 (dk_at dksX13_isSignOf_2 6 rfl rfl)
theorem dX13_isSignOf_55 : decode cX13_isSignOf 55 = .ok (.goto 4, 3) := dk_167 0 4 (dk_at dksX13_isSignOf_2 7 rfl rfl)
theorem dX13_isSignOf_58 : decode cX13_isSignOf 58 = .ok (.iconst 0, 1) := dk_3 (dk_at dksX13_isSignOf_2 10 rfl rfl)
theorem dX13_isSignOf_59 : decode cX13_isSignOf 59 = .ok (.ireturn, 1) := dk_172 (dk_at dksX13_isSignOf_2 11 rfl rfl)
abbrev cX13_readLine : ByteArray := prog_24_method_25_code
def yX13_readLine : MethodName := ⟨RX13, "readLine", "()V"⟩
def dkwX13_readLine_1 : List UInt8 := [182, 0, 247, 167, 0, 7, 42, 182, 0, 250, 177]
abbrev dktX13_readLine_1 : List UInt8 := dkwX13_readLine_1 ++ []
def dkwX13_readLine_0 : List UInt8 := [42, 3, 182, 0, 212, 153, 0, 10, 42, 182, 0, 244, 167, 0, 22, 42, 5, 182, 0, 212, 153, 0, 10, 42]
abbrev dktX13_readLine_0 : List UInt8 := dkwX13_readLine_0 ++ dktX13_readLine_1
theorem dksX13_readLine_0 : cX13_readLine.data.toList.drop 0 = dktX13_readLine_0 := by decide +kernel
theorem dksX13_readLine_1 : cX13_readLine.data.toList.drop 24 = dktX13_readLine_1 := dk_seg dksX13_readLine_0 24 rfl rfl
theorem dX13_readLine_0 : decode cX13_readLine 0 = .ok (.aload_n 0, 1) := dk_42 (dk_at dksX13_readLine_0 0 rfl rfl)
theorem dX13_readLine_1 : decode cX13_readLine 1 = .ok (.iconst 0, 1) := dk_3 (dk_at dksX13_readLine_0 1 rfl rfl)
theorem dX13_readLine_2 : decode cX13_readLine 2 = .ok (.invokevirtual 212, 3) := dk_182 0 212 (dk_at dksX13_readLine_0 2 rfl rfl)
theorem dX13_readLine_5 : decode cX13_readLine 5 = .ok (.ifCond .eq 10, 3) := dk_153 0 10 (dk_at dksX13_readLine_0 5 rfl rfl)
theorem dX13_readLine_8 : decode cX13_readLine 8 = .ok (.aload_n 0, 1) := dk_42 (dk_at dksX13_readLine_0 8 rfl rfl)
theorem dX13_readLine_9 : decode cX13_readLine 9 = .ok (.invokevirtual 244, 3) := dk_182 0 244 (dk_at dksX13_readLine_0 9 rfl rfl)
theorem dX13_readLine_12 : decode cX13_readLine 12 = .ok (.goto 22, 3) := dk_167 0 22 (dk_at dksX13_readLine_0 12 rfl rfl)
theorem dX13_readLine_15 : decode cX13_readLine 15 = .ok (.aload_n 0, 1) := dk_42 (dk_at dksX13_readLine_0 15 rfl rfl)
theorem dX13_readLine_16 : decode cX13_readLine 16 = .ok (.iconst 2, 1) := dk_5 (dk_at dksX13_readLine_0 16 rfl rfl)
theorem dX13_readLine_17 : decode cX13_readLine 17 = .ok (.invokevirtual 212, 3) := dk_182 0 212 (dk_at dksX13_readLine_0 17 rfl rfl)
theorem dX13_readLine_20 : decode cX13_readLine 20 = .ok (.ifCond .eq 10, 3) := dk_153 0 10 (dk_at dksX13_readLine_0 20 rfl rfl)
theorem dX13_readLine_23 : decode cX13_readLine 23 = .ok (.aload_n 0, 1) := dk_42 (dk_at dksX13_readLine_0 23 rfl rfl)
theorem dX13_readLine_24 : decode cX13_readLine 24 = .ok (.invokevirtual 247, 3) := dk_182 0 247 (dk_at dksX13_readLine_1 0 rfl rfl)
theorem dX13_readLine_27 : decode cX13_readLine 27 = .ok (.goto 7, 3) := dk_167 0 7 (dk_at dksX13_readLine_1 3 rfl rfl)
theorem dX13_readLine_30 : decode cX13_readLine 30 = .ok (.aload_n 0, 1) := dk_42 (dk_at dksX13_readLine_1 6 rfl rfl)
theorem dX13_readLine_31 : decode cX13_readLine 31 = .ok (.invokevirtual 250, 3) := dk_182 0 250 (dk_at dksX13_readLine_1 7 rfl rfl)
theorem dX13_readLine_34 : decode cX13_readLine 34 = .ok (.return_, 1) := dk_177 (dk_at dksX13_readLine_1 10 rfl rfl)
abbrev cX13_isWord : ByteArray := prog_24_method_12_code
def yX13_isWord : MethodName := ⟨RX13, "isWord", "(I)Z"⟩
def dkwX13_isWord_1 : List UInt8 := [42, 180, 0, 200, 47, 42, 180, 0, 82, 27, 47, 148, 154, 0, 7, 4, 167, 0, 4, 3, 172]
abbrev dktX13_isWord_1 : List UInt8 := dkwX13_isWord_1 ++ []
def dkwX13_isWord_0 : List UInt8 := [42, 180, 0, 203, 154, 0, 39, 42, 180, 0, 24, 42, 180, 0, 200, 46, 4, 160, 0, 26, 42, 180, 0, 30]
abbrev dktX13_isWord_0 : List UInt8 := dkwX13_isWord_0 ++ dktX13_isWord_1
theorem dksX13_isWord_0 : cX13_isWord.data.toList.drop 0 = dktX13_isWord_0 := by decide +kernel
theorem dksX13_isWord_1 : cX13_isWord.data.toList.drop 24 = dktX13_isWord_1 := dk_seg dksX13_isWord_0 24 rfl rfl
theorem dX13_isWord_0 : decode cX13_isWord 0 = .ok (.aload_n 0, 1) := dk_42 (dk_at dksX13_isWord_0 0 rfl rfl)
theorem dX13_isWord_1 : decode cX13_isWord 1 = .ok (.getfield 203, 3) := dk_180 0 203 (dk_at dksX13_isWord_0 1 rfl rfl)
theorem dX13_isWord_4 : decode cX13_isWord 4 = .ok (.ifCond .ne 39, 3) := dk_154 0 39 (dk_at dksX13_isWord_0 4 rfl rfl)
theorem dX13_isWord_7 : decode cX13_isWord 7 = .ok (.aload_n 0, 1) := dk_42 (dk_at dksX13_isWord_0 7 rfl rfl)
theorem dX13_isWord_8 : decode cX13_isWord 8 = .ok (.getfield 24, 3) := dk_180 0 24 (dk_at dksX13_isWord_0 8 rfl rfl)
theorem dX13_isWord_11 : decode cX13_isWord 11 = .ok (.aload_n 0, 1) := dk_42 (dk_at dksX13_isWord_0 11 rfl rfl)
theorem dX13_isWord_12 : decode cX13_isWord 12 = .ok (.getfield 200, 3) := dk_180 0 200 (dk_at dksX13_isWord_0 12 rfl rfl)
theorem dX13_isWord_15 : decode cX13_isWord 15 = .ok (.iaload, 1) := dk_46 (dk_at dksX13_isWord_0 15 rfl rfl)
theorem dX13_isWord_16 : decode cX13_isWord 16 = .ok (.iconst 1, 1) := dk_4 (dk_at dksX13_isWord_0 16 rfl rfl)
theorem dX13_isWord_17 : decode cX13_isWord 17 = .ok (.if_icmp .ne 26, 3) := dk_160 0 26 (dk_at dksX13_isWord_0 17 rfl rfl)
theorem dX13_isWord_20 : decode cX13_isWord 20 = .ok (.aload_n 0, 1) := dk_42 (dk_at dksX13_isWord_0 20 rfl rfl)
theorem dX13_isWord_21 : decode cX13_isWord 21 = .ok (.getfield 30, 3) := dk_180 0 30 (dk_at dksX13_isWord_0 21 rfl rfl)
theorem dX13_isWord_24 : decode cX13_isWord 24 = .ok (.aload_n 0, 1) := dk_42 (dk_at dksX13_isWord_1 0 rfl rfl)
theorem dX13_isWord_25 : decode cX13_isWord 25 = .ok (.getfield 200, 3) := dk_180 0 200 (dk_at dksX13_isWord_1 1 rfl rfl)
theorem dX13_isWord_28 : decode cX13_isWord 28 = .ok (.laload, 1) := dk_47 (dk_at dksX13_isWord_1 4 rfl rfl)
theorem dX13_isWord_29 : decode cX13_isWord 29 = .ok (.aload_n 0, 1) := dk_42 (dk_at dksX13_isWord_1 5 rfl rfl)
theorem dX13_isWord_30 : decode cX13_isWord 30 = .ok (.getfield 82, 3) := dk_180 0 82 (dk_at dksX13_isWord_1 6 rfl rfl)
theorem dX13_isWord_33 : decode cX13_isWord 33 = .ok (.iload_n 1, 1) := dk_27 (dk_at dksX13_isWord_1 9 rfl rfl)
theorem dX13_isWord_34 : decode cX13_isWord 34 = .ok (.laload, 1) := dk_47 (dk_at dksX13_isWord_1 10 rfl rfl)
theorem dX13_isWord_35 : decode cX13_isWord 35 = .ok (.lcmp, 1) := dk_148 (dk_at dksX13_isWord_1 11 rfl rfl)
theorem dX13_isWord_36 : decode cX13_isWord 36 = .ok (.ifCond .ne 7, 3) := dk_154 0 7 (dk_at dksX13_isWord_1 12 rfl rfl)
theorem dX13_isWord_39 : decode cX13_isWord 39 = .ok (.iconst 1, 1) := dk_4 (dk_at dksX13_isWord_1 15 rfl rfl)
theorem dX13_isWord_40 : decode cX13_isWord 40 = .ok (.goto 4, 3) := dk_167 0 4 (dk_at dksX13_isWord_1 16 rfl rfl)
theorem dX13_isWord_43 : decode cX13_isWord 43 = .ok (.iconst 0, 1) := dk_3 (dk_at dksX13_isWord_1 19 rfl rfl)
theorem dX13_isWord_44 : decode cX13_isWord 44 = .ok (.ireturn, 1) := dk_172 (dk_at dksX13_isWord_1 20 rfl rfl)
abbrev cX13_readKind : ByteArray := prog_24_method_26_code
def yX13_readKind : MethodName := ⟨RX13, "readKind", "()V"⟩
def dkwX13_readKind_5 : List UInt8 := [182, 1, 8, 79, 42, 180, 0, 85, 17, 0, 210, 92, 46, 4, 96, 79, 177]
abbrev dktX13_readKind_5 : List UInt8 := dkwX13_readKind_5 ++ []
def dkwX13_readKind_4 : List UInt8 := [181, 0, 200, 42, 4, 182, 1, 5, 42, 180, 0, 85, 17, 0, 215, 5, 27, 104, 96, 42, 3, 16, 6]
abbrev dktX13_readKind_4 : List UInt8 := dkwX13_readKind_4 ++ dktX13_readKind_5
def dkwX13_readKind_3 : List UInt8 := [42, 180, 0, 97, 27, 42, 180, 0, 30, 42, 180, 0, 200, 47, 80, 42, 89, 180, 0, 200, 4, 96]
abbrev dktX13_readKind_3 : List UInt8 := dkwX13_readKind_3 ++ dktX13_readKind_4
def dkwX13_readKind_2 : List UInt8 := [42, 180, 0, 97, 27, 182, 1, 1, 155, 0, 8, 42, 6, 182, 0, 209, 42, 180, 0, 203, 158, 0, 4, 177]
abbrev dktX13_readKind_2 : List UInt8 := dkwX13_readKind_2 ++ dktX13_readKind_3
def dkwX13_readKind_1 : List UInt8 := [180, 0, 200, 4, 96, 181, 0, 200, 42, 182, 0, 253, 154, 0, 11, 42, 4, 182, 0, 209, 167, 0, 20, 42]
abbrev dktX13_readKind_1 : List UInt8 := dkwX13_readKind_1 ++ dktX13_readKind_2
def dkwX13_readKind_0 : List UInt8 := [42, 180, 0, 85, 17, 0, 210, 46, 60, 27, 16, 8, 160, 0, 9, 42, 8, 182, 0, 209, 177, 42, 89]
abbrev dktX13_readKind_0 : List UInt8 := dkwX13_readKind_0 ++ dktX13_readKind_1
theorem dksX13_readKind_0 : cX13_readKind.data.toList.drop 0 = dktX13_readKind_0 := by decide +kernel
theorem dksX13_readKind_1 : cX13_readKind.data.toList.drop 23 = dktX13_readKind_1 := dk_seg dksX13_readKind_0 23 rfl rfl
theorem dksX13_readKind_2 : cX13_readKind.data.toList.drop 47 = dktX13_readKind_2 := dk_seg dksX13_readKind_1 24 rfl rfl
theorem dksX13_readKind_3 : cX13_readKind.data.toList.drop 71 = dktX13_readKind_3 := dk_seg dksX13_readKind_2 24 rfl rfl
theorem dksX13_readKind_4 : cX13_readKind.data.toList.drop 93 = dktX13_readKind_4 := dk_seg dksX13_readKind_3 22 rfl rfl
theorem dksX13_readKind_5 : cX13_readKind.data.toList.drop 116 = dktX13_readKind_5 := dk_seg dksX13_readKind_4 23 rfl rfl
theorem dX13_readKind_0 : decode cX13_readKind 0 = .ok (.aload_n 0, 1) := dk_42 (dk_at dksX13_readKind_0 0 rfl rfl)
theorem dX13_readKind_1 : decode cX13_readKind 1 = .ok (.getfield 85, 3) := dk_180 0 85 (dk_at dksX13_readKind_0 1 rfl rfl)
theorem dX13_readKind_4 : decode cX13_readKind 4 = .ok (.sipush 210, 3) := dk_17 0 210 (dk_at dksX13_readKind_0 4 rfl rfl)
theorem dX13_readKind_7 : decode cX13_readKind 7 = .ok (.iaload, 1) := dk_46 (dk_at dksX13_readKind_0 7 rfl rfl)
theorem dX13_readKind_8 : decode cX13_readKind 8 = .ok (.istore_n 1, 1) := dk_60 (dk_at dksX13_readKind_0 8 rfl rfl)
theorem dX13_readKind_9 : decode cX13_readKind 9 = .ok (.iload_n 1, 1) := dk_27 (dk_at dksX13_readKind_0 9 rfl rfl)
theorem dX13_readKind_10 : decode cX13_readKind 10 = .ok (.bipush 8, 2) := dk_16 8 (dk_at dksX13_readKind_0 10 rfl rfl)
theorem dX13_readKind_12 : decode cX13_readKind 12 = .ok (.if_icmp .ne 9, 3) := dk_160 0 9 (dk_at dksX13_readKind_0 12 rfl rfl)
theorem dX13_readKind_15 : decode cX13_readKind 15 = .ok (.aload_n 0, 1) := dk_42 (dk_at dksX13_readKind_0 15 rfl rfl)
theorem dX13_readKind_16 : decode cX13_readKind 16 = .ok (.iconst 5, 1) := dk_8 (dk_at dksX13_readKind_0 16 rfl rfl)
theorem dX13_readKind_17 : decode cX13_readKind 17 = .ok (.invokevirtual 209, 3) := dk_182 0 209 (dk_at dksX13_readKind_0 17 rfl rfl)
theorem dX13_readKind_20 : decode cX13_readKind 20 = .ok (.return_, 1) := dk_177 (dk_at dksX13_readKind_0 20 rfl rfl)
theorem dX13_readKind_21 : decode cX13_readKind 21 = .ok (.aload_n 0, 1) := dk_42 (dk_at dksX13_readKind_0 21 rfl rfl)
theorem dX13_readKind_22 : decode cX13_readKind 22 = .ok (.dup, 1) := dk_89 (dk_at dksX13_readKind_0 22 rfl rfl)
theorem dX13_readKind_23 : decode cX13_readKind 23 = .ok (.getfield 200, 3) := dk_180 0 200 (dk_at dksX13_readKind_1 0 rfl rfl)
theorem dX13_readKind_26 : decode cX13_readKind 26 = .ok (.iconst 1, 1) := dk_4 (dk_at dksX13_readKind_1 3 rfl rfl)
theorem dX13_readKind_27 : decode cX13_readKind 27 = .ok (.iadd, 1) := dk_96 (dk_at dksX13_readKind_1 4 rfl rfl)
theorem dX13_readKind_28 : decode cX13_readKind 28 = .ok (.putfield 200, 3) := dk_181 0 200 (dk_at dksX13_readKind_1 5 rfl rfl)
theorem dX13_readKind_31 : decode cX13_readKind 31 = .ok (.aload_n 0, 1) := dk_42 (dk_at dksX13_readKind_1 8 rfl rfl)
theorem dX13_readKind_32 : decode cX13_readKind 32 = .ok (.invokevirtual 253, 3) := dk_182 0 253 (dk_at dksX13_readKind_1 9 rfl rfl)
theorem dX13_readKind_35 : decode cX13_readKind 35 = .ok (.ifCond .ne 11, 3) := dk_154 0 11 (dk_at dksX13_readKind_1 12 rfl rfl)
theorem dX13_readKind_38 : decode cX13_readKind 38 = .ok (.aload_n 0, 1) := dk_42 (dk_at dksX13_readKind_1 15 rfl rfl)
theorem dX13_readKind_39 : decode cX13_readKind 39 = .ok (.iconst 1, 1) := dk_4 (dk_at dksX13_readKind_1 16 rfl rfl)
theorem dX13_readKind_40 : decode cX13_readKind 40 = .ok (.invokevirtual 209, 3) := dk_182 0 209 (dk_at dksX13_readKind_1 17 rfl rfl)
theorem dX13_readKind_43 : decode cX13_readKind 43 = .ok (.goto 20, 3) := dk_167 0 20 (dk_at dksX13_readKind_1 20 rfl rfl)
theorem dX13_readKind_46 : decode cX13_readKind 46 = .ok (.aload_n 0, 1) := dk_42 (dk_at dksX13_readKind_1 23 rfl rfl)
theorem dX13_readKind_47 : decode cX13_readKind 47 = .ok (.aload_n 0, 1) := dk_42 (dk_at dksX13_readKind_2 0 rfl rfl)
theorem dX13_readKind_48 : decode cX13_readKind 48 = .ok (.getfield 97, 3) := dk_180 0 97 (dk_at dksX13_readKind_2 1 rfl rfl)
theorem dX13_readKind_51 : decode cX13_readKind 51 = .ok (.iload_n 1, 1) := dk_27 (dk_at dksX13_readKind_2 4 rfl rfl)
theorem dX13_readKind_52 : decode cX13_readKind 52 = .ok (.invokevirtual 257, 3) := dk_182 1 1 (dk_at dksX13_readKind_2 5 rfl rfl)
theorem dX13_readKind_55 : decode cX13_readKind 55 = .ok (.ifCond .lt 8, 3) := dk_155 0 8 (dk_at dksX13_readKind_2 8 rfl rfl)
theorem dX13_readKind_58 : decode cX13_readKind 58 = .ok (.aload_n 0, 1) := dk_42 (dk_at dksX13_readKind_2 11 rfl rfl)
theorem dX13_readKind_59 : decode cX13_readKind 59 = .ok (.iconst 3, 1) := dk_6 (dk_at dksX13_readKind_2 12 rfl rfl)
theorem dX13_readKind_60 : decode cX13_readKind 60 = .ok (.invokevirtual 209, 3) := dk_182 0 209 (dk_at dksX13_readKind_2 13 rfl rfl)
theorem dX13_readKind_63 : decode cX13_readKind 63 = .ok (.aload_n 0, 1) := dk_42 (dk_at dksX13_readKind_2 16 rfl rfl)
theorem dX13_readKind_64 : decode cX13_readKind 64 = .ok (.getfield 203, 3) := dk_180 0 203 (dk_at dksX13_readKind_2 17 rfl rfl)
theorem dX13_readKind_67 : decode cX13_readKind 67 = .ok (.ifCond .le 4, 3) := dk_158 0 4 (dk_at dksX13_readKind_2 20 rfl rfl)
theorem dX13_readKind_70 : decode cX13_readKind 70 = .ok (.return_, 1) := dk_177 (dk_at dksX13_readKind_2 23 rfl rfl)
theorem dX13_readKind_71 : decode cX13_readKind 71 = .ok (.aload_n 0, 1) := dk_42 (dk_at dksX13_readKind_3 0 rfl rfl)
theorem dX13_readKind_72 : decode cX13_readKind 72 = .ok (.getfield 97, 3) := dk_180 0 97 (dk_at dksX13_readKind_3 1 rfl rfl)
theorem dX13_readKind_75 : decode cX13_readKind 75 = .ok (.iload_n 1, 1) := dk_27 (dk_at dksX13_readKind_3 4 rfl rfl)
theorem dX13_readKind_76 : decode cX13_readKind 76 = .ok (.aload_n 0, 1) := dk_42 (dk_at dksX13_readKind_3 5 rfl rfl)
theorem dX13_readKind_77 : decode cX13_readKind 77 = .ok (.getfield 30, 3) := dk_180 0 30 (dk_at dksX13_readKind_3 6 rfl rfl)
theorem dX13_readKind_80 : decode cX13_readKind 80 = .ok (.aload_n 0, 1) := dk_42 (dk_at dksX13_readKind_3 9 rfl rfl)
theorem dX13_readKind_81 : decode cX13_readKind 81 = .ok (.getfield 200, 3) := dk_180 0 200 (dk_at dksX13_readKind_3 10 rfl rfl)
theorem dX13_readKind_84 : decode cX13_readKind 84 = .ok (.laload, 1) := dk_47 (dk_at dksX13_readKind_3 13 rfl rfl)
theorem dX13_readKind_85 : decode cX13_readKind 85 = .ok (.lastore, 1) := dk_80 (dk_at dksX13_readKind_3 14 rfl rfl)
theorem dX13_readKind_86 : decode cX13_readKind 86 = .ok (.aload_n 0, 1) := dk_42 (dk_at dksX13_readKind_3 15 rfl rfl)
theorem dX13_readKind_87 : decode cX13_readKind 87 = .ok (.dup, 1) := dk_89 (dk_at dksX13_readKind_3 16 rfl rfl)
theorem dX13_readKind_88 : decode cX13_readKind 88 = .ok (.getfield 200, 3) := dk_180 0 200 (dk_at dksX13_readKind_3 17 rfl rfl)
theorem dX13_readKind_91 : decode cX13_readKind 91 = .ok (.iconst 1, 1) := dk_4 (dk_at dksX13_readKind_3 20 rfl rfl)
theorem dX13_readKind_92 : decode cX13_readKind 92 = .ok (.iadd, 1) := dk_96 (dk_at dksX13_readKind_3 21 rfl rfl)
theorem dX13_readKind_93 : decode cX13_readKind 93 = .ok (.putfield 200, 3) := dk_181 0 200 (dk_at dksX13_readKind_4 0 rfl rfl)
theorem dX13_readKind_96 : decode cX13_readKind 96 = .ok (.aload_n 0, 1) := dk_42 (dk_at dksX13_readKind_4 3 rfl rfl)
theorem dX13_readKind_97 : decode cX13_readKind 97 = .ok (.iconst 1, 1) := dk_4 (dk_at dksX13_readKind_4 4 rfl rfl)
theorem dX13_readKind_98 : decode cX13_readKind 98 = .ok (.invokevirtual 261, 3) := dk_182 1 5 (dk_at dksX13_readKind_4 5 rfl rfl)
theorem dX13_readKind_101 : decode cX13_readKind 101 = .ok (.aload_n 0, 1) := dk_42 (dk_at dksX13_readKind_4 8 rfl rfl)
theorem dX13_readKind_102 : decode cX13_readKind 102 = .ok (.getfield 85, 3) := dk_180 0 85 (dk_at dksX13_readKind_4 9 rfl rfl)
theorem dX13_readKind_105 : decode cX13_readKind 105 = .ok (.sipush 215, 3) := dk_17 0 215 (dk_at dksX13_readKind_4 12 rfl rfl)
theorem dX13_readKind_108 : decode cX13_readKind 108 = .ok (.iconst 2, 1) := dk_5 (dk_at dksX13_readKind_4 15 rfl rfl)
theorem dX13_readKind_109 : decode cX13_readKind 109 = .ok (.iload_n 1, 1) := dk_27 (dk_at dksX13_readKind_4 16 rfl rfl)
theorem dX13_readKind_110 : decode cX13_readKind 110 = .ok (.imul, 1) := dk_104 (dk_at dksX13_readKind_4 17 rfl rfl)
theorem dX13_readKind_111 : decode cX13_readKind 111 = .ok (.iadd, 1) := dk_96 (dk_at dksX13_readKind_4 18 rfl rfl)
theorem dX13_readKind_112 : decode cX13_readKind 112 = .ok (.aload_n 0, 1) := dk_42 (dk_at dksX13_readKind_4 19 rfl rfl)
theorem dX13_readKind_113 : decode cX13_readKind 113 = .ok (.iconst 0, 1) := dk_3 (dk_at dksX13_readKind_4 20 rfl rfl)
theorem dX13_readKind_114 : decode cX13_readKind 114 = .ok (.bipush 6, 2) := dk_16 6 (dk_at dksX13_readKind_4 21 rfl rfl)
theorem dX13_readKind_116 : decode cX13_readKind 116 = .ok (.invokevirtual 264, 3) := dk_182 1 8 (dk_at dksX13_readKind_5 0 rfl rfl)
theorem dX13_readKind_119 : decode cX13_readKind 119 = .ok (.iastore, 1) := dk_79 (dk_at dksX13_readKind_5 3 rfl rfl)
theorem dX13_readKind_120 : decode cX13_readKind 120 = .ok (.aload_n 0, 1) := dk_42 (dk_at dksX13_readKind_5 4 rfl rfl)
theorem dX13_readKind_121 : decode cX13_readKind 121 = .ok (.getfield 85, 3) := dk_180 0 85 (dk_at dksX13_readKind_5 5 rfl rfl)
theorem dX13_readKind_124 : decode cX13_readKind 124 = .ok (.sipush 210, 3) := dk_17 0 210 (dk_at dksX13_readKind_5 8 rfl rfl)
theorem dX13_readKind_127 : decode cX13_readKind 127 = .ok (.dup2, 1) := dk_92 (dk_at dksX13_readKind_5 11 rfl rfl)
theorem dX13_readKind_128 : decode cX13_readKind 128 = .ok (.iaload, 1) := dk_46 (dk_at dksX13_readKind_5 12 rfl rfl)
theorem dX13_readKind_129 : decode cX13_readKind 129 = .ok (.iconst 1, 1) := dk_4 (dk_at dksX13_readKind_5 13 rfl rfl)
theorem dX13_readKind_130 : decode cX13_readKind 130 = .ok (.iadd, 1) := dk_96 (dk_at dksX13_readKind_5 14 rfl rfl)
theorem dX13_readKind_131 : decode cX13_readKind 131 = .ok (.iastore, 1) := dk_79 (dk_at dksX13_readKind_5 15 rfl rfl)
theorem dX13_readKind_132 : decode cX13_readKind 132 = .ok (.return_, 1) := dk_177 (dk_at dksX13_readKind_5 16 rfl rfl)
abbrev cX13_wrong : ByteArray := prog_24_method_10_code
def yX13_wrong : MethodName := ⟨RX13, "wrong", "(I)V"⟩
def dkwX13_wrong_1 : List UInt8 := [181, 0, 203, 177]
abbrev dktX13_wrong_1 : List UInt8 := dkwX13_wrong_1 ++ []
def dkwX13_wrong_0 : List UInt8 := [42, 180, 0, 203, 154, 0, 21, 42, 27, 16, 16, 42, 180, 0, 27, 42, 180, 0, 200, 46, 104, 96]
abbrev dktX13_wrong_0 : List UInt8 := dkwX13_wrong_0 ++ dktX13_wrong_1
theorem dksX13_wrong_0 : cX13_wrong.data.toList.drop 0 = dktX13_wrong_0 := by decide +kernel
theorem dksX13_wrong_1 : cX13_wrong.data.toList.drop 22 = dktX13_wrong_1 := dk_seg dksX13_wrong_0 22 rfl rfl
theorem dX13_wrong_0 : decode cX13_wrong 0 = .ok (.aload_n 0, 1) := dk_42 (dk_at dksX13_wrong_0 0 rfl rfl)
theorem dX13_wrong_1 : decode cX13_wrong 1 = .ok (.getfield 203, 3) := dk_180 0 203 (dk_at dksX13_wrong_0 1 rfl rfl)
theorem dX13_wrong_4 : decode cX13_wrong 4 = .ok (.ifCond .ne 21, 3) := dk_154 0 21 (dk_at dksX13_wrong_0 4 rfl rfl)
theorem dX13_wrong_7 : decode cX13_wrong 7 = .ok (.aload_n 0, 1) := dk_42 (dk_at dksX13_wrong_0 7 rfl rfl)
theorem dX13_wrong_8 : decode cX13_wrong 8 = .ok (.iload_n 1, 1) := dk_27 (dk_at dksX13_wrong_0 8 rfl rfl)
theorem dX13_wrong_9 : decode cX13_wrong 9 = .ok (.bipush 16, 2) := dk_16 16 (dk_at dksX13_wrong_0 9 rfl rfl)
theorem dX13_wrong_11 : decode cX13_wrong 11 = .ok (.aload_n 0, 1) := dk_42 (dk_at dksX13_wrong_0 11 rfl rfl)
theorem dX13_wrong_12 : decode cX13_wrong 12 = .ok (.getfield 27, 3) := dk_180 0 27 (dk_at dksX13_wrong_0 12 rfl rfl)
theorem dX13_wrong_15 : decode cX13_wrong 15 = .ok (.aload_n 0, 1) := dk_42 (dk_at dksX13_wrong_0 15 rfl rfl)
theorem dX13_wrong_16 : decode cX13_wrong 16 = .ok (.getfield 200, 3) := dk_180 0 200 (dk_at dksX13_wrong_0 16 rfl rfl)
theorem dX13_wrong_19 : decode cX13_wrong 19 = .ok (.iaload, 1) := dk_46 (dk_at dksX13_wrong_0 19 rfl rfl)
theorem dX13_wrong_20 : decode cX13_wrong 20 = .ok (.imul, 1) := dk_104 (dk_at dksX13_wrong_0 20 rfl rfl)
theorem dX13_wrong_21 : decode cX13_wrong 21 = .ok (.iadd, 1) := dk_96 (dk_at dksX13_wrong_0 21 rfl rfl)
theorem dX13_wrong_22 : decode cX13_wrong 22 = .ok (.putfield 203, 3) := dk_181 0 203 (dk_at dksX13_wrong_1 0 rfl rfl)
theorem dX13_wrong_25 : decode cX13_wrong 25 = .ok (.return_, 1) := dk_177 (dk_at dksX13_wrong_1 3 rfl rfl)
abbrev cX13_isName : ByteArray := prog_24_method_20_code
def yX13_isName : MethodName := ⟨RX13, "isName", "()Z"⟩
def dkwX13_isName_2 : List UInt8 := [180, 0, 82, 28, 47, 148, 153, 0, 7, 4, 167, 0, 4, 3, 60, 132, 2, 1, 167, 255, 218, 27, 172]
abbrev dktX13_isName_2 : List UInt8 := dkwX13_isName_2 ++ []
def dkwX13_isName_1 : List UInt8 := [3, 60, 3, 61, 28, 16, 20, 162, 0, 38, 27, 153, 0, 26, 42, 180, 0, 30, 42, 180, 0, 200, 47, 42]
abbrev dktX13_isName_1 : List UInt8 := dkwX13_isName_1 ++ dktX13_isName_2
def dkwX13_isName_0 : List UInt8 := [42, 180, 0, 203, 154, 0, 20, 42, 180, 0, 24, 42, 180, 0, 200, 46, 4, 160, 0, 7, 4, 167, 0, 4]
abbrev dktX13_isName_0 : List UInt8 := dkwX13_isName_0 ++ dktX13_isName_1
theorem dksX13_isName_0 : cX13_isName.data.toList.drop 0 = dktX13_isName_0 := by decide +kernel
theorem dksX13_isName_1 : cX13_isName.data.toList.drop 24 = dktX13_isName_1 := dk_seg dksX13_isName_0 24 rfl rfl
theorem dksX13_isName_2 : cX13_isName.data.toList.drop 48 = dktX13_isName_2 := dk_seg dksX13_isName_1 24 rfl rfl
theorem dX13_isName_0 : decode cX13_isName 0 = .ok (.aload_n 0, 1) := dk_42 (dk_at dksX13_isName_0 0 rfl rfl)
theorem dX13_isName_1 : decode cX13_isName 1 = .ok (.getfield 203, 3) := dk_180 0 203 (dk_at dksX13_isName_0 1 rfl rfl)
theorem dX13_isName_4 : decode cX13_isName 4 = .ok (.ifCond .ne 20, 3) := dk_154 0 20 (dk_at dksX13_isName_0 4 rfl rfl)
theorem dX13_isName_7 : decode cX13_isName 7 = .ok (.aload_n 0, 1) := dk_42 (dk_at dksX13_isName_0 7 rfl rfl)
theorem dX13_isName_8 : decode cX13_isName 8 = .ok (.getfield 24, 3) := dk_180 0 24 (dk_at dksX13_isName_0 8 rfl rfl)
theorem dX13_isName_11 : decode cX13_isName 11 = .ok (.aload_n 0, 1) := dk_42 (dk_at dksX13_isName_0 11 rfl rfl)
theorem dX13_isName_12 : decode cX13_isName 12 = .ok (.getfield 200, 3) := dk_180 0 200 (dk_at dksX13_isName_0 12 rfl rfl)
theorem dX13_isName_15 : decode cX13_isName 15 = .ok (.iaload, 1) := dk_46 (dk_at dksX13_isName_0 15 rfl rfl)
theorem dX13_isName_16 : decode cX13_isName 16 = .ok (.iconst 1, 1) := dk_4 (dk_at dksX13_isName_0 16 rfl rfl)
theorem dX13_isName_17 : decode cX13_isName 17 = .ok (.if_icmp .ne 7, 3) := dk_160 0 7 (dk_at dksX13_isName_0 17 rfl rfl)
theorem dX13_isName_20 : decode cX13_isName 20 = .ok (.iconst 1, 1) := dk_4 (dk_at dksX13_isName_0 20 rfl rfl)
theorem dX13_isName_21 : decode cX13_isName 21 = .ok (.goto 4, 3) := dk_167 0 4 (dk_at dksX13_isName_0 21 rfl rfl)
theorem dX13_isName_24 : decode cX13_isName 24 = .ok (.iconst 0, 1) := dk_3 (dk_at dksX13_isName_1 0 rfl rfl)
theorem dX13_isName_25 : decode cX13_isName 25 = .ok (.istore_n 1, 1) := dk_60 (dk_at dksX13_isName_1 1 rfl rfl)
theorem dX13_isName_26 : decode cX13_isName 26 = .ok (.iconst 0, 1) := dk_3 (dk_at dksX13_isName_1 2 rfl rfl)
theorem dX13_isName_27 : decode cX13_isName 27 = .ok (.istore_n 2, 1) := dk_61 (dk_at dksX13_isName_1 3 rfl rfl)
theorem dX13_isName_28 : decode cX13_isName 28 = .ok (.iload_n 2, 1) := dk_28 (dk_at dksX13_isName_1 4 rfl rfl)
theorem dX13_isName_29 : decode cX13_isName 29 = .ok (.bipush 20, 2) := dk_16 20 (dk_at dksX13_isName_1 5 rfl rfl)
theorem dX13_isName_31 : decode cX13_isName 31 = .ok (.if_icmp .ge 38, 3) := dk_162 0 38 (dk_at dksX13_isName_1 7 rfl rfl)
theorem dX13_isName_34 : decode cX13_isName 34 = .ok (.iload_n 1, 1) := dk_27 (dk_at dksX13_isName_1 10 rfl rfl)
theorem dX13_isName_35 : decode cX13_isName 35 = .ok (.ifCond .eq 26, 3) := dk_153 0 26 (dk_at dksX13_isName_1 11 rfl rfl)
theorem dX13_isName_38 : decode cX13_isName 38 = .ok (.aload_n 0, 1) := dk_42 (dk_at dksX13_isName_1 14 rfl rfl)
theorem dX13_isName_39 : decode cX13_isName 39 = .ok (.getfield 30, 3) := dk_180 0 30 (dk_at dksX13_isName_1 15 rfl rfl)
theorem dX13_isName_42 : decode cX13_isName 42 = .ok (.aload_n 0, 1) := dk_42 (dk_at dksX13_isName_1 18 rfl rfl)
theorem dX13_isName_43 : decode cX13_isName 43 = .ok (.getfield 200, 3) := dk_180 0 200 (dk_at dksX13_isName_1 19 rfl rfl)
theorem dX13_isName_46 : decode cX13_isName 46 = .ok (.laload, 1) := dk_47 (dk_at dksX13_isName_1 22 rfl rfl)
theorem dX13_isName_47 : decode cX13_isName 47 = .ok (.aload_n 0, 1) := dk_42 (dk_at dksX13_isName_1 23 rfl rfl)
theorem dX13_isName_48 : decode cX13_isName 48 = .ok (.getfield 82, 3) := dk_180 0 82 (dk_at dksX13_isName_2 0 rfl rfl)
theorem dX13_isName_51 : decode cX13_isName 51 = .ok (.iload_n 2, 1) := dk_28 (dk_at dksX13_isName_2 3 rfl rfl)
theorem dX13_isName_52 : decode cX13_isName 52 = .ok (.laload, 1) := dk_47 (dk_at dksX13_isName_2 4 rfl rfl)
theorem dX13_isName_53 : decode cX13_isName 53 = .ok (.lcmp, 1) := dk_148 (dk_at dksX13_isName_2 5 rfl rfl)
theorem dX13_isName_54 : decode cX13_isName 54 = .ok (.ifCond .eq 7, 3) := dk_153 0 7 (dk_at dksX13_isName_2 6 rfl rfl)
theorem dX13_isName_57 : decode cX13_isName 57 = .ok (.iconst 1, 1) := dk_4 (dk_at dksX13_isName_2 9 rfl rfl)
theorem dX13_isName_58 : decode cX13_isName 58 = .ok (.goto 4, 3) := dk_167 0 4 (dk_at dksX13_isName_2 10 rfl rfl)
theorem dX13_isName_61 : decode cX13_isName 61 = .ok (.iconst 0, 1) := dk_3 (dk_at dksX13_isName_2 13 rfl rfl)
theorem dX13_isName_62 : decode cX13_isName 62 = .ok (.istore_n 1, 1) := dk_60 (dk_at dksX13_isName_2 14 rfl rfl)
theorem dX13_isName_63 : decode cX13_isName 63 = .ok (.iinc 2 1, 3) := dk_132 2 1 (dk_at dksX13_isName_2 15 rfl rfl)
theorem dX13_isName_66 : decode cX13_isName 66 = .ok (.goto (-38), 3) := dk_167 255 218 (dk_at dksX13_isName_2 18 rfl rfl)
theorem dX13_isName_69 : decode cX13_isName 69 = .ok (.iload_n 1, 1) := dk_27 (dk_at dksX13_isName_2 21 rfl rfl)
theorem dX13_isName_70 : decode cX13_isName 70 = .ok (.ireturn, 1) := dk_172 (dk_at dksX13_isName_2 22 rfl rfl)
abbrev cX13_find : ByteArray := prog_24_method_21_code
def yX13_find : MethodName := ⟨RX13, "find", "([JI)I"⟩
def dkwX13_find_1 : List UInt8 := [172, 132, 3, 1, 167, 255, 230, 2, 172]
abbrev dktX13_find_1 : List UInt8 := dkwX13_find_1 ++ []
def dkwX13_find_0 : List UInt8 := [3, 62, 29, 28, 162, 0, 27, 43, 29, 47, 42, 180, 0, 30, 42, 180, 0, 200, 47, 148, 154, 0, 5, 29]
abbrev dktX13_find_0 : List UInt8 := dkwX13_find_0 ++ dktX13_find_1
theorem dksX13_find_0 : cX13_find.data.toList.drop 0 = dktX13_find_0 := by decide +kernel
theorem dksX13_find_1 : cX13_find.data.toList.drop 24 = dktX13_find_1 := dk_seg dksX13_find_0 24 rfl rfl
theorem dX13_find_0 : decode cX13_find 0 = .ok (.iconst 0, 1) := dk_3 (dk_at dksX13_find_0 0 rfl rfl)
theorem dX13_find_1 : decode cX13_find 1 = .ok (.istore_n 3, 1) := dk_62 (dk_at dksX13_find_0 1 rfl rfl)
theorem dX13_find_2 : decode cX13_find 2 = .ok (.iload_n 3, 1) := dk_29 (dk_at dksX13_find_0 2 rfl rfl)
theorem dX13_find_3 : decode cX13_find 3 = .ok (.iload_n 2, 1) := dk_28 (dk_at dksX13_find_0 3 rfl rfl)
theorem dX13_find_4 : decode cX13_find 4 = .ok (.if_icmp .ge 27, 3) := dk_162 0 27 (dk_at dksX13_find_0 4 rfl rfl)
theorem dX13_find_7 : decode cX13_find 7 = .ok (.aload_n 1, 1) := dk_43 (dk_at dksX13_find_0 7 rfl rfl)
theorem dX13_find_8 : decode cX13_find 8 = .ok (.iload_n 3, 1) := dk_29 (dk_at dksX13_find_0 8 rfl rfl)
theorem dX13_find_9 : decode cX13_find 9 = .ok (.laload, 1) := dk_47 (dk_at dksX13_find_0 9 rfl rfl)
theorem dX13_find_10 : decode cX13_find 10 = .ok (.aload_n 0, 1) := dk_42 (dk_at dksX13_find_0 10 rfl rfl)
theorem dX13_find_11 : decode cX13_find 11 = .ok (.getfield 30, 3) := dk_180 0 30 (dk_at dksX13_find_0 11 rfl rfl)
theorem dX13_find_14 : decode cX13_find 14 = .ok (.aload_n 0, 1) := dk_42 (dk_at dksX13_find_0 14 rfl rfl)
theorem dX13_find_15 : decode cX13_find 15 = .ok (.getfield 200, 3) := dk_180 0 200 (dk_at dksX13_find_0 15 rfl rfl)
theorem dX13_find_18 : decode cX13_find 18 = .ok (.laload, 1) := dk_47 (dk_at dksX13_find_0 18 rfl rfl)
theorem dX13_find_19 : decode cX13_find 19 = .ok (.lcmp, 1) := dk_148 (dk_at dksX13_find_0 19 rfl rfl)
theorem dX13_find_20 : decode cX13_find 20 = .ok (.ifCond .ne 5, 3) := dk_154 0 5 (dk_at dksX13_find_0 20 rfl rfl)
theorem dX13_find_23 : decode cX13_find 23 = .ok (.iload_n 3, 1) := dk_29 (dk_at dksX13_find_0 23 rfl rfl)
theorem dX13_find_24 : decode cX13_find 24 = .ok (.ireturn, 1) := dk_172 (dk_at dksX13_find_1 0 rfl rfl)
theorem dX13_find_25 : decode cX13_find 25 = .ok (.iinc 3 1, 3) := dk_132 3 1 (dk_at dksX13_find_1 1 rfl rfl)
theorem dX13_find_28 : decode cX13_find 28 = .ok (.goto (-26), 3) := dk_167 255 230 (dk_at dksX13_find_1 4 rfl rfl)
theorem dX13_find_31 : decode cX13_find 31 = .ok (.iconst (-1), 1) := dk_2 (dk_at dksX13_find_1 7 rfl rfl)
theorem dX13_find_32 : decode cX13_find 32 = .ok (.ireturn, 1) := dk_172 (dk_at dksX13_find_1 8 rfl rfl)
abbrev cX13_takeWord : ByteArray := prog_24_method_16_code
def yX13_takeWord : MethodName := ⟨RX13, "takeWord", "(I)V"⟩
def dkwX13_takeWord_0 : List UInt8 := [42, 27, 182, 0, 215, 154, 0, 8, 42, 4, 182, 0, 209, 177]
abbrev dktX13_takeWord_0 : List UInt8 := dkwX13_takeWord_0 ++ []
theorem dksX13_takeWord_0 : cX13_takeWord.data.toList.drop 0 = dktX13_takeWord_0 := by decide +kernel
theorem dX13_takeWord_0 : decode cX13_takeWord 0 = .ok (.aload_n 0, 1) := dk_42 (dk_at dksX13_takeWord_0 0 rfl rfl)
theorem dX13_takeWord_1 : decode cX13_takeWord 1 = .ok (.iload_n 1, 1) := dk_27 (dk_at dksX13_takeWord_0 1 rfl rfl)
theorem dX13_takeWord_2 : decode cX13_takeWord 2 = .ok (.invokevirtual 215, 3) := dk_182 0 215 (dk_at dksX13_takeWord_0 2 rfl rfl)
theorem dX13_takeWord_5 : decode cX13_takeWord 5 = .ok (.ifCond .ne 8, 3) := dk_154 0 8 (dk_at dksX13_takeWord_0 5 rfl rfl)
theorem dX13_takeWord_8 : decode cX13_takeWord 8 = .ok (.aload_n 0, 1) := dk_42 (dk_at dksX13_takeWord_0 8 rfl rfl)
theorem dX13_takeWord_9 : decode cX13_takeWord 9 = .ok (.iconst 1, 1) := dk_4 (dk_at dksX13_takeWord_0 9 rfl rfl)
theorem dX13_takeWord_10 : decode cX13_takeWord 10 = .ok (.invokevirtual 209, 3) := dk_182 0 209 (dk_at dksX13_takeWord_0 10 rfl rfl)
theorem dX13_takeWord_13 : decode cX13_takeWord 13 = .ok (.return_, 1) := dk_177 (dk_at dksX13_takeWord_0 13 rfl rfl)
abbrev cX13_hasWord : ByteArray := prog_24_method_15_code
def yX13_hasWord : MethodName := ⟨RX13, "hasWord", "(I)Z"⟩
def dkwX13_hasWord_1 : List UInt8 := [28, 172]
abbrev dktX13_hasWord_1 : List UInt8 := dkwX13_hasWord_1 ++ []
def dkwX13_hasWord_0 : List UInt8 := [42, 27, 182, 0, 212, 61, 42, 89, 180, 0, 200, 28, 153, 0, 7, 4, 167, 0, 4, 3, 96, 181, 0, 200]
abbrev dktX13_hasWord_0 : List UInt8 := dkwX13_hasWord_0 ++ dktX13_hasWord_1
theorem dksX13_hasWord_0 : cX13_hasWord.data.toList.drop 0 = dktX13_hasWord_0 := by decide +kernel
theorem dksX13_hasWord_1 : cX13_hasWord.data.toList.drop 24 = dktX13_hasWord_1 := dk_seg dksX13_hasWord_0 24 rfl rfl
theorem dX13_hasWord_0 : decode cX13_hasWord 0 = .ok (.aload_n 0, 1) := dk_42 (dk_at dksX13_hasWord_0 0 rfl rfl)
theorem dX13_hasWord_1 : decode cX13_hasWord 1 = .ok (.iload_n 1, 1) := dk_27 (dk_at dksX13_hasWord_0 1 rfl rfl)
theorem dX13_hasWord_2 : decode cX13_hasWord 2 = .ok (.invokevirtual 212, 3) := dk_182 0 212 (dk_at dksX13_hasWord_0 2 rfl rfl)
theorem dX13_hasWord_5 : decode cX13_hasWord 5 = .ok (.istore_n 2, 1) := dk_61 (dk_at dksX13_hasWord_0 5 rfl rfl)
theorem dX13_hasWord_6 : decode cX13_hasWord 6 = .ok (.aload_n 0, 1) := dk_42 (dk_at dksX13_hasWord_0 6 rfl rfl)
theorem dX13_hasWord_7 : decode cX13_hasWord 7 = .ok (.dup, 1) := dk_89 (dk_at dksX13_hasWord_0 7 rfl rfl)
theorem dX13_hasWord_8 : decode cX13_hasWord 8 = .ok (.getfield 200, 3) := dk_180 0 200 (dk_at dksX13_hasWord_0 8 rfl rfl)
theorem dX13_hasWord_11 : decode cX13_hasWord 11 = .ok (.iload_n 2, 1) := dk_28 (dk_at dksX13_hasWord_0 11 rfl rfl)
theorem dX13_hasWord_12 : decode cX13_hasWord 12 = .ok (.ifCond .eq 7, 3) := dk_153 0 7 (dk_at dksX13_hasWord_0 12 rfl rfl)
theorem dX13_hasWord_15 : decode cX13_hasWord 15 = .ok (.iconst 1, 1) := dk_4 (dk_at dksX13_hasWord_0 15 rfl rfl)
theorem dX13_hasWord_16 : decode cX13_hasWord 16 = .ok (.goto 4, 3) := dk_167 0 4 (dk_at dksX13_hasWord_0 16 rfl rfl)
theorem dX13_hasWord_19 : decode cX13_hasWord 19 = .ok (.iconst 0, 1) := dk_3 (dk_at dksX13_hasWord_0 19 rfl rfl)
theorem dX13_hasWord_20 : decode cX13_hasWord 20 = .ok (.iadd, 1) := dk_96 (dk_at dksX13_hasWord_0 20 rfl rfl)
theorem dX13_hasWord_21 : decode cX13_hasWord 21 = .ok (.putfield 200, 3) := dk_181 0 200 (dk_at dksX13_hasWord_0 21 rfl rfl)
theorem dX13_hasWord_24 : decode cX13_hasWord 24 = .ok (.iload_n 2, 1) := dk_28 (dk_at dksX13_hasWord_1 0 rfl rfl)
theorem dX13_hasWord_25 : decode cX13_hasWord 25 = .ok (.ireturn, 1) := dk_172 (dk_at dksX13_hasWord_1 1 rfl rfl)
abbrev cX13_takeNumber : ByteArray := prog_24_method_19_code
def yX13_takeNumber : MethodName := ⟨RX13, "takeNumber", "(II)I"⟩
def dkwX13_takeNumber_4 : List UInt8 := [180, 0, 200, 4, 100, 47, 136, 172]
abbrev dktX13_takeNumber_4 : List UInt8 := dkwX13_takeNumber_4 ++ []
def dkwX13_takeNumber_3 : List UInt8 := [42, 180, 0, 203, 158, 0, 5, 3, 172, 42, 89, 180, 0, 200, 4, 96, 181, 0, 200, 42, 180, 0, 30, 42]
abbrev dktX13_takeNumber_3 : List UInt8 := dkwX13_takeNumber_3 ++ dktX13_takeNumber_4
def dkwX13_takeNumber_2 : List UInt8 := [148, 155, 0, 18, 42, 180, 0, 30, 42, 180, 0, 200, 47, 28, 133, 148, 158, 0, 8, 42, 7, 182, 0, 209]
abbrev dktX13_takeNumber_2 : List UInt8 := dkwX13_takeNumber_2 ++ dktX13_takeNumber_3
def dkwX13_takeNumber_1 : List UInt8 := [182, 0, 209, 167, 0, 45, 42, 180, 0, 203, 154, 0, 38, 42, 180, 0, 30, 42, 180, 0, 200, 47, 27, 133]
abbrev dktX13_takeNumber_1 : List UInt8 := dkwX13_takeNumber_1 ++ dktX13_takeNumber_2
def dkwX13_takeNumber_0 : List UInt8 := [42, 180, 0, 203, 154, 0, 24, 42, 180, 0, 24, 42, 180, 0, 200, 46, 5, 159, 0, 11, 42, 4]
abbrev dktX13_takeNumber_0 : List UInt8 := dkwX13_takeNumber_0 ++ dktX13_takeNumber_1
theorem dksX13_takeNumber_0 : cX13_takeNumber.data.toList.drop 0 = dktX13_takeNumber_0 := by decide +kernel
theorem dksX13_takeNumber_1 : cX13_takeNumber.data.toList.drop 22 = dktX13_takeNumber_1 := dk_seg dksX13_takeNumber_0 22 rfl rfl
theorem dksX13_takeNumber_2 : cX13_takeNumber.data.toList.drop 46 = dktX13_takeNumber_2 := dk_seg dksX13_takeNumber_1 24 rfl rfl
theorem dksX13_takeNumber_3 : cX13_takeNumber.data.toList.drop 70 = dktX13_takeNumber_3 := dk_seg dksX13_takeNumber_2 24 rfl rfl
theorem dksX13_takeNumber_4 : cX13_takeNumber.data.toList.drop 94 = dktX13_takeNumber_4 := dk_seg dksX13_takeNumber_3 24 rfl rfl
theorem dX13_takeNumber_0 : decode cX13_takeNumber 0 = .ok (.aload_n 0, 1) := dk_42 (dk_at dksX13_takeNumber_0 0 rfl rfl)
theorem dX13_takeNumber_1 : decode cX13_takeNumber 1 = .ok (.getfield 203, 3) := dk_180 0 203 (dk_at dksX13_takeNumber_0 1 rfl rfl)
theorem dX13_takeNumber_4 : decode cX13_takeNumber 4 = .ok (.ifCond .ne 24, 3) := dk_154 0 24 (dk_at dksX13_takeNumber_0 4 rfl rfl)
theorem dX13_takeNumber_7 : decode cX13_takeNumber 7 = .ok (.aload_n 0, 1) := dk_42 (dk_at dksX13_takeNumber_0 7 rfl rfl)
theorem dX13_takeNumber_8 : decode cX13_takeNumber 8 = .ok (.getfield 24, 3) := dk_180 0 24 (dk_at dksX13_takeNumber_0 8 rfl rfl)
theorem dX13_takeNumber_11 : decode cX13_takeNumber 11 = .ok (.aload_n 0, 1) := dk_42 (dk_at dksX13_takeNumber_0 11 rfl rfl)
theorem dX13_takeNumber_12 : decode cX13_takeNumber 12 = .ok (.getfield 200, 3) := dk_180 0 200 (dk_at dksX13_takeNumber_0 12 rfl rfl)
theorem dX13_takeNumber_15 : decode cX13_takeNumber 15 = .ok (.iaload, 1) := dk_46 (dk_at dksX13_takeNumber_0 15 rfl rfl)
theorem dX13_takeNumber_16 : decode cX13_takeNumber 16 = .ok (.iconst 2, 1) := dk_5 (dk_at dksX13_takeNumber_0 16 rfl rfl)
theorem dX13_takeNumber_17 : decode cX13_takeNumber 17 = .ok (.if_icmp .eq 11, 3) := dk_159 0 11 (dk_at dksX13_takeNumber_0 17 rfl rfl)
theorem dX13_takeNumber_20 : decode cX13_takeNumber 20 = .ok (.aload_n 0, 1) := dk_42 (dk_at dksX13_takeNumber_0 20 rfl rfl)
theorem dX13_takeNumber_21 : decode cX13_takeNumber 21 = .ok (.iconst 1, 1) := dk_4 (dk_at dksX13_takeNumber_0 21 rfl rfl)
theorem dX13_takeNumber_22 : decode cX13_takeNumber 22 = .ok (.invokevirtual 209, 3) := dk_182 0 209 (dk_at dksX13_takeNumber_1 0 rfl rfl)
theorem dX13_takeNumber_25 : decode cX13_takeNumber 25 = .ok (.goto 45, 3) := dk_167 0 45 (dk_at dksX13_takeNumber_1 3 rfl rfl)
theorem dX13_takeNumber_28 : decode cX13_takeNumber 28 = .ok (.aload_n 0, 1) := dk_42 (dk_at dksX13_takeNumber_1 6 rfl rfl)
theorem dX13_takeNumber_29 : decode cX13_takeNumber 29 = .ok (.getfield 203, 3) := dk_180 0 203 (dk_at dksX13_takeNumber_1 7 rfl rfl)
theorem dX13_takeNumber_32 : decode cX13_takeNumber 32 = .ok (.ifCond .ne 38, 3) := dk_154 0 38 (dk_at dksX13_takeNumber_1 10 rfl rfl)
theorem dX13_takeNumber_35 : decode cX13_takeNumber 35 = .ok (.aload_n 0, 1) := dk_42 (dk_at dksX13_takeNumber_1 13 rfl rfl)
theorem dX13_takeNumber_36 : decode cX13_takeNumber 36 = .ok (.getfield 30, 3) := dk_180 0 30 (dk_at dksX13_takeNumber_1 14 rfl rfl)
theorem dX13_takeNumber_39 : decode cX13_takeNumber 39 = .ok (.aload_n 0, 1) := dk_42 (dk_at dksX13_takeNumber_1 17 rfl rfl)
theorem dX13_takeNumber_40 : decode cX13_takeNumber 40 = .ok (.getfield 200, 3) := dk_180 0 200 (dk_at dksX13_takeNumber_1 18 rfl rfl)
theorem dX13_takeNumber_43 : decode cX13_takeNumber 43 = .ok (.laload, 1) := dk_47 (dk_at dksX13_takeNumber_1 21 rfl rfl)
theorem dX13_takeNumber_44 : decode cX13_takeNumber 44 = .ok (.iload_n 1, 1) := dk_27 (dk_at dksX13_takeNumber_1 22 rfl rfl)
theorem dX13_takeNumber_45 : decode cX13_takeNumber 45 = .ok (.i2l, 1) := dk_133 (dk_at dksX13_takeNumber_1 23 rfl rfl)
theorem dX13_takeNumber_46 : decode cX13_takeNumber 46 = .ok (.lcmp, 1) := dk_148 (dk_at dksX13_takeNumber_2 0 rfl rfl)
theorem dX13_takeNumber_47 : decode cX13_takeNumber 47 = .ok (.ifCond .lt 18, 3) := dk_155 0 18 (dk_at dksX13_takeNumber_2 1 rfl rfl)
theorem dX13_takeNumber_50 : decode cX13_takeNumber 50 = .ok (.aload_n 0, 1) := dk_42 (dk_at dksX13_takeNumber_2 4 rfl rfl)
theorem dX13_takeNumber_51 : decode cX13_takeNumber 51 = .ok (.getfield 30, 3) := dk_180 0 30 (dk_at dksX13_takeNumber_2 5 rfl rfl)
theorem dX13_takeNumber_54 : decode cX13_takeNumber 54 = .ok (.aload_n 0, 1) := dk_42 (dk_at dksX13_takeNumber_2 8 rfl rfl)
theorem dX13_takeNumber_55 : decode cX13_takeNumber 55 = .ok (.getfield 200, 3) := dk_180 0 200 (dk_at dksX13_takeNumber_2 9 rfl rfl)
theorem dX13_takeNumber_58 : decode cX13_takeNumber 58 = .ok (.laload, 1) := dk_47 (dk_at dksX13_takeNumber_2 12 rfl rfl)
theorem dX13_takeNumber_59 : decode cX13_takeNumber 59 = .ok (.iload_n 2, 1) := dk_28 (dk_at dksX13_takeNumber_2 13 rfl rfl)
theorem dX13_takeNumber_60 : decode cX13_takeNumber 60 = .ok (.i2l, 1) := dk_133 (dk_at dksX13_takeNumber_2 14 rfl rfl)
theorem dX13_takeNumber_61 : decode cX13_takeNumber 61 = .ok (.lcmp, 1) := dk_148 (dk_at dksX13_takeNumber_2 15 rfl rfl)
theorem dX13_takeNumber_62 : decode cX13_takeNumber 62 = .ok (.ifCond .le 8, 3) := dk_158 0 8 (dk_at dksX13_takeNumber_2 16 rfl rfl)
theorem dX13_takeNumber_65 : decode cX13_takeNumber 65 = .ok (.aload_n 0, 1) := dk_42 (dk_at dksX13_takeNumber_2 19 rfl rfl)
theorem dX13_takeNumber_66 : decode cX13_takeNumber 66 = .ok (.iconst 4, 1) := dk_7 (dk_at dksX13_takeNumber_2 20 rfl rfl)
theorem dX13_takeNumber_67 : decode cX13_takeNumber 67 = .ok (.invokevirtual 209, 3) := dk_182 0 209 (dk_at dksX13_takeNumber_2 21 rfl rfl)
theorem dX13_takeNumber_70 : decode cX13_takeNumber 70 = .ok (.aload_n 0, 1) := dk_42 (dk_at dksX13_takeNumber_3 0 rfl rfl)
theorem dX13_takeNumber_71 : decode cX13_takeNumber 71 = .ok (.getfield 203, 3) := dk_180 0 203 (dk_at dksX13_takeNumber_3 1 rfl rfl)
theorem dX13_takeNumber_74 : decode cX13_takeNumber 74 = .ok (.ifCond .le 5, 3) := dk_158 0 5 (dk_at dksX13_takeNumber_3 4 rfl rfl)
theorem dX13_takeNumber_77 : decode cX13_takeNumber 77 = .ok (.iconst 0, 1) := dk_3 (dk_at dksX13_takeNumber_3 7 rfl rfl)
theorem dX13_takeNumber_78 : decode cX13_takeNumber 78 = .ok (.ireturn, 1) := dk_172 (dk_at dksX13_takeNumber_3 8 rfl rfl)
theorem dX13_takeNumber_79 : decode cX13_takeNumber 79 = .ok (.aload_n 0, 1) := dk_42 (dk_at dksX13_takeNumber_3 9 rfl rfl)
theorem dX13_takeNumber_80 : decode cX13_takeNumber 80 = .ok (.dup, 1) := dk_89 (dk_at dksX13_takeNumber_3 10 rfl rfl)
theorem dX13_takeNumber_81 : decode cX13_takeNumber 81 = .ok (.getfield 200, 3) := dk_180 0 200 (dk_at dksX13_takeNumber_3 11 rfl rfl)
theorem dX13_takeNumber_84 : decode cX13_takeNumber 84 = .ok (.iconst 1, 1) := dk_4 (dk_at dksX13_takeNumber_3 14 rfl rfl)
theorem dX13_takeNumber_85 : decode cX13_takeNumber 85 = .ok (.iadd, 1) := dk_96 (dk_at dksX13_takeNumber_3 15 rfl rfl)
theorem dX13_takeNumber_86 : decode cX13_takeNumber 86 = .ok (.putfield 200, 3) := dk_181 0 200 (dk_at dksX13_takeNumber_3 16 rfl rfl)
theorem dX13_takeNumber_89 : decode cX13_takeNumber 89 = .ok (.aload_n 0, 1) := dk_42 (dk_at dksX13_takeNumber_3 19 rfl rfl)
theorem dX13_takeNumber_90 : decode cX13_takeNumber 90 = .ok (.getfield 30, 3) := dk_180 0 30 (dk_at dksX13_takeNumber_3 20 rfl rfl)
theorem dX13_takeNumber_93 : decode cX13_takeNumber 93 = .ok (.aload_n 0, 1) := dk_42 (dk_at dksX13_takeNumber_3 23 rfl rfl)
theorem dX13_takeNumber_94 : decode cX13_takeNumber 94 = .ok (.getfield 200, 3) := dk_180 0 200 (dk_at dksX13_takeNumber_4 0 rfl rfl)
theorem dX13_takeNumber_97 : decode cX13_takeNumber 97 = .ok (.iconst 1, 1) := dk_4 (dk_at dksX13_takeNumber_4 3 rfl rfl)
theorem dX13_takeNumber_98 : decode cX13_takeNumber 98 = .ok (.isub, 1) := dk_100 (dk_at dksX13_takeNumber_4 4 rfl rfl)
theorem dX13_takeNumber_99 : decode cX13_takeNumber 99 = .ok (.laload, 1) := dk_47 (dk_at dksX13_takeNumber_4 5 rfl rfl)
theorem dX13_takeNumber_100 : decode cX13_takeNumber 100 = .ok (.l2i, 1) := dk_136 (dk_at dksX13_takeNumber_4 6 rfl rfl)
theorem dX13_takeNumber_101 : decode cX13_takeNumber 101 = .ok (.ireturn, 1) := dk_172 (dk_at dksX13_takeNumber_4 7 rfl rfl)
abbrev cX13_readPack : ByteArray := prog_24_method_27_code
def yX13_readPack : MethodName := ⟨RX13, "readPack", "()V"⟩
def dkwX13_readPack_7 : List UInt8 := [4, 96, 28, 79, 177]
abbrev dktX13_readPack_7 : List UInt8 := dkwX13_readPack_7 ++ []
def dkwX13_readPack_6 : List UInt8 := [180, 0, 200, 4, 100, 181, 0, 200, 42, 7, 182, 0, 209, 42, 180, 0, 85, 17, 0, 215, 5, 27, 104, 96]
abbrev dktX13_readPack_6 : List UInt8 := dkwX13_readPack_6 ++ dktX13_readPack_7
def dkwX13_readPack_5 : List UInt8 := [180, 0, 203, 154, 0, 32, 42, 17, 0, 210, 182, 1, 11, 28, 96, 16, 24, 164, 0, 18, 42, 89]
abbrev dktX13_readPack_5 : List UInt8 := dkwX13_readPack_5 ++ dktX13_readPack_6
def dkwX13_readPack_4 : List UInt8 := [181, 0, 228, 42, 89, 180, 0, 200, 4, 96, 181, 0, 200, 42, 3, 16, 12, 182, 1, 8, 61, 42]
abbrev dktX13_readPack_4 : List UInt8 := dkwX13_readPack_4 ++ dktX13_readPack_5
def dkwX13_readPack_3 : List UInt8 := [182, 0, 209, 42, 180, 0, 203, 158, 0, 4, 177, 42, 89, 180, 0, 228, 4, 16, 8, 27, 96, 120, 128]
abbrev dktX13_readPack_3 : List UInt8 := dkwX13_readPack_3 ++ dktX13_readPack_4
def dkwX13_readPack_2 : List UInt8 := [182, 0, 209, 167, 0, 23, 42, 180, 0, 228, 16, 8, 27, 96, 122, 4, 126, 4, 160, 0, 8, 42, 6]
abbrev dktX13_readPack_2 : List UInt8 := dkwX13_readPack_2 ++ dktX13_readPack_3
def dkwX13_readPack_1 : List UInt8 := [42, 180, 0, 97, 42, 180, 0, 85, 17, 0, 210, 46, 182, 1, 1, 60, 27, 156, 0, 11, 42, 5]
abbrev dktX13_readPack_1 : List UInt8 := dkwX13_readPack_1 ++ dktX13_readPack_2
def dkwX13_readPack_0 : List UInt8 := [42, 89, 180, 0, 200, 4, 96, 181, 0, 200, 42, 182, 0, 253, 154, 0, 9, 42, 4, 182, 0, 209, 177, 42]
abbrev dktX13_readPack_0 : List UInt8 := dkwX13_readPack_0 ++ dktX13_readPack_1
theorem dksX13_readPack_0 : cX13_readPack.data.toList.drop 0 = dktX13_readPack_0 := by decide +kernel
theorem dksX13_readPack_1 : cX13_readPack.data.toList.drop 24 = dktX13_readPack_1 := dk_seg dksX13_readPack_0 24 rfl rfl
theorem dksX13_readPack_2 : cX13_readPack.data.toList.drop 46 = dktX13_readPack_2 := dk_seg dksX13_readPack_1 22 rfl rfl
theorem dksX13_readPack_3 : cX13_readPack.data.toList.drop 69 = dktX13_readPack_3 := dk_seg dksX13_readPack_2 23 rfl rfl
theorem dksX13_readPack_4 : cX13_readPack.data.toList.drop 92 = dktX13_readPack_4 := dk_seg dksX13_readPack_3 23 rfl rfl
theorem dksX13_readPack_5 : cX13_readPack.data.toList.drop 114 = dktX13_readPack_5 := dk_seg dksX13_readPack_4 22 rfl rfl
theorem dksX13_readPack_6 : cX13_readPack.data.toList.drop 136 = dktX13_readPack_6 := dk_seg dksX13_readPack_5 22 rfl rfl
theorem dksX13_readPack_7 : cX13_readPack.data.toList.drop 160 = dktX13_readPack_7 := dk_seg dksX13_readPack_6 24 rfl rfl
theorem dX13_readPack_0 : decode cX13_readPack 0 = .ok (.aload_n 0, 1) := dk_42 (dk_at dksX13_readPack_0 0 rfl rfl)
theorem dX13_readPack_1 : decode cX13_readPack 1 = .ok (.dup, 1) := dk_89 (dk_at dksX13_readPack_0 1 rfl rfl)
theorem dX13_readPack_2 : decode cX13_readPack 2 = .ok (.getfield 200, 3) := dk_180 0 200 (dk_at dksX13_readPack_0 2 rfl rfl)
theorem dX13_readPack_5 : decode cX13_readPack 5 = .ok (.iconst 1, 1) := dk_4 (dk_at dksX13_readPack_0 5 rfl rfl)
theorem dX13_readPack_6 : decode cX13_readPack 6 = .ok (.iadd, 1) := dk_96 (dk_at dksX13_readPack_0 6 rfl rfl)
theorem dX13_readPack_7 : decode cX13_readPack 7 = .ok (.putfield 200, 3) := dk_181 0 200 (dk_at dksX13_readPack_0 7 rfl rfl)
theorem dX13_readPack_10 : decode cX13_readPack 10 = .ok (.aload_n 0, 1) := dk_42 (dk_at dksX13_readPack_0 10 rfl rfl)
theorem dX13_readPack_11 : decode cX13_readPack 11 = .ok (.invokevirtual 253, 3) := dk_182 0 253 (dk_at dksX13_readPack_0 11 rfl rfl)
theorem dX13_readPack_14 : decode cX13_readPack 14 = .ok (.ifCond .ne 9, 3) := dk_154 0 9 (dk_at dksX13_readPack_0 14 rfl rfl)
theorem dX13_readPack_17 : decode cX13_readPack 17 = .ok (.aload_n 0, 1) := dk_42 (dk_at dksX13_readPack_0 17 rfl rfl)
theorem dX13_readPack_18 : decode cX13_readPack 18 = .ok (.iconst 1, 1) := dk_4 (dk_at dksX13_readPack_0 18 rfl rfl)
theorem dX13_readPack_19 : decode cX13_readPack 19 = .ok (.invokevirtual 209, 3) := dk_182 0 209 (dk_at dksX13_readPack_0 19 rfl rfl)
theorem dX13_readPack_22 : decode cX13_readPack 22 = .ok (.return_, 1) := dk_177 (dk_at dksX13_readPack_0 22 rfl rfl)
theorem dX13_readPack_23 : decode cX13_readPack 23 = .ok (.aload_n 0, 1) := dk_42 (dk_at dksX13_readPack_0 23 rfl rfl)
theorem dX13_readPack_24 : decode cX13_readPack 24 = .ok (.aload_n 0, 1) := dk_42 (dk_at dksX13_readPack_1 0 rfl rfl)
theorem dX13_readPack_25 : decode cX13_readPack 25 = .ok (.getfield 97, 3) := dk_180 0 97 (dk_at dksX13_readPack_1 1 rfl rfl)
theorem dX13_readPack_28 : decode cX13_readPack 28 = .ok (.aload_n 0, 1) := dk_42 (dk_at dksX13_readPack_1 4 rfl rfl)
theorem dX13_readPack_29 : decode cX13_readPack 29 = .ok (.getfield 85, 3) := dk_180 0 85 (dk_at dksX13_readPack_1 5 rfl rfl)
theorem dX13_readPack_32 : decode cX13_readPack 32 = .ok (.sipush 210, 3) := dk_17 0 210 (dk_at dksX13_readPack_1 8 rfl rfl)
theorem dX13_readPack_35 : decode cX13_readPack 35 = .ok (.iaload, 1) := dk_46 (dk_at dksX13_readPack_1 11 rfl rfl)
theorem dX13_readPack_36 : decode cX13_readPack 36 = .ok (.invokevirtual 257, 3) := dk_182 1 1 (dk_at dksX13_readPack_1 12 rfl rfl)
theorem dX13_readPack_39 : decode cX13_readPack 39 = .ok (.istore_n 1, 1) := dk_60 (dk_at dksX13_readPack_1 15 rfl rfl)
theorem dX13_readPack_40 : decode cX13_readPack 40 = .ok (.iload_n 1, 1) := dk_27 (dk_at dksX13_readPack_1 16 rfl rfl)
theorem dX13_readPack_41 : decode cX13_readPack 41 = .ok (.ifCond .ge 11, 3) := dk_156 0 11 (dk_at dksX13_readPack_1 17 rfl rfl)
theorem dX13_readPack_44 : decode cX13_readPack 44 = .ok (.aload_n 0, 1) := dk_42 (dk_at dksX13_readPack_1 20 rfl rfl)
theorem dX13_readPack_45 : decode cX13_readPack 45 = .ok (.iconst 2, 1) := dk_5 (dk_at dksX13_readPack_1 21 rfl rfl)
theorem dX13_readPack_46 : decode cX13_readPack 46 = .ok (.invokevirtual 209, 3) := dk_182 0 209 (dk_at dksX13_readPack_2 0 rfl rfl)
theorem dX13_readPack_49 : decode cX13_readPack 49 = .ok (.goto 23, 3) := dk_167 0 23 (dk_at dksX13_readPack_2 3 rfl rfl)
theorem dX13_readPack_52 : decode cX13_readPack 52 = .ok (.aload_n 0, 1) := dk_42 (dk_at dksX13_readPack_2 6 rfl rfl)
theorem dX13_readPack_53 : decode cX13_readPack 53 = .ok (.getfield 228, 3) := dk_180 0 228 (dk_at dksX13_readPack_2 7 rfl rfl)
theorem dX13_readPack_56 : decode cX13_readPack 56 = .ok (.bipush 8, 2) := dk_16 8 (dk_at dksX13_readPack_2 10 rfl rfl)
theorem dX13_readPack_58 : decode cX13_readPack 58 = .ok (.iload_n 1, 1) := dk_27 (dk_at dksX13_readPack_2 12 rfl rfl)
theorem dX13_readPack_59 : decode cX13_readPack 59 = .ok (.iadd, 1) := dk_96 (dk_at dksX13_readPack_2 13 rfl rfl)
theorem dX13_readPack_60 : decode cX13_readPack 60 = .ok (.ishr, 1) := dk_122 (dk_at dksX13_readPack_2 14 rfl rfl)
theorem dX13_readPack_61 : decode cX13_readPack 61 = .ok (.iconst 1, 1) := dk_4 (dk_at dksX13_readPack_2 15 rfl rfl)
theorem dX13_readPack_62 : decode cX13_readPack 62 = .ok (.iand, 1) := dk_126 (dk_at dksX13_readPack_2 16 rfl rfl)
theorem dX13_readPack_63 : decode cX13_readPack 63 = .ok (.iconst 1, 1) := dk_4 (dk_at dksX13_readPack_2 17 rfl rfl)
theorem dX13_readPack_64 : decode cX13_readPack 64 = .ok (.if_icmp .ne 8, 3) := dk_160 0 8 (dk_at dksX13_readPack_2 18 rfl rfl)
theorem dX13_readPack_67 : decode cX13_readPack 67 = .ok (.aload_n 0, 1) := dk_42 (dk_at dksX13_readPack_2 21 rfl rfl)
theorem dX13_readPack_68 : decode cX13_readPack 68 = .ok (.iconst 3, 1) := dk_6 (dk_at dksX13_readPack_2 22 rfl rfl)
theorem dX13_readPack_69 : decode cX13_readPack 69 = .ok (.invokevirtual 209, 3) := dk_182 0 209 (dk_at dksX13_readPack_3 0 rfl rfl)
theorem dX13_readPack_72 : decode cX13_readPack 72 = .ok (.aload_n 0, 1) := dk_42 (dk_at dksX13_readPack_3 3 rfl rfl)
theorem dX13_readPack_73 : decode cX13_readPack 73 = .ok (.getfield 203, 3) := dk_180 0 203 (dk_at dksX13_readPack_3 4 rfl rfl)
theorem dX13_readPack_76 : decode cX13_readPack 76 = .ok (.ifCond .le 4, 3) := dk_158 0 4 (dk_at dksX13_readPack_3 7 rfl rfl)
theorem dX13_readPack_79 : decode cX13_readPack 79 = .ok (.return_, 1) := dk_177 (dk_at dksX13_readPack_3 10 rfl rfl)
theorem dX13_readPack_80 : decode cX13_readPack 80 = .ok (.aload_n 0, 1) := dk_42 (dk_at dksX13_readPack_3 11 rfl rfl)
theorem dX13_readPack_81 : decode cX13_readPack 81 = .ok (.dup, 1) := dk_89 (dk_at dksX13_readPack_3 12 rfl rfl)
theorem dX13_readPack_82 : decode cX13_readPack 82 = .ok (.getfield 228, 3) := dk_180 0 228 (dk_at dksX13_readPack_3 13 rfl rfl)
theorem dX13_readPack_85 : decode cX13_readPack 85 = .ok (.iconst 1, 1) := dk_4 (dk_at dksX13_readPack_3 16 rfl rfl)
theorem dX13_readPack_86 : decode cX13_readPack 86 = .ok (.bipush 8, 2) := dk_16 8 (dk_at dksX13_readPack_3 17 rfl rfl)
theorem dX13_readPack_88 : decode cX13_readPack 88 = .ok (.iload_n 1, 1) := dk_27 (dk_at dksX13_readPack_3 19 rfl rfl)
theorem dX13_readPack_89 : decode cX13_readPack 89 = .ok (.iadd, 1) := dk_96 (dk_at dksX13_readPack_3 20 rfl rfl)
theorem dX13_readPack_90 : decode cX13_readPack 90 = .ok (.ishl, 1) := dk_120 (dk_at dksX13_readPack_3 21 rfl rfl)
theorem dX13_readPack_91 : decode cX13_readPack 91 = .ok (.ior, 1) := dk_128 (dk_at dksX13_readPack_3 22 rfl rfl)
theorem dX13_readPack_92 : decode cX13_readPack 92 = .ok (.putfield 228, 3) := dk_181 0 228 (dk_at dksX13_readPack_4 0 rfl rfl)
theorem dX13_readPack_95 : decode cX13_readPack 95 = .ok (.aload_n 0, 1) := dk_42 (dk_at dksX13_readPack_4 3 rfl rfl)
theorem dX13_readPack_96 : decode cX13_readPack 96 = .ok (.dup, 1) := dk_89 (dk_at dksX13_readPack_4 4 rfl rfl)
theorem dX13_readPack_97 : decode cX13_readPack 97 = .ok (.getfield 200, 3) := dk_180 0 200 (dk_at dksX13_readPack_4 5 rfl rfl)
theorem dX13_readPack_100 : decode cX13_readPack 100 = .ok (.iconst 1, 1) := dk_4 (dk_at dksX13_readPack_4 8 rfl rfl)
theorem dX13_readPack_101 : decode cX13_readPack 101 = .ok (.iadd, 1) := dk_96 (dk_at dksX13_readPack_4 9 rfl rfl)
theorem dX13_readPack_102 : decode cX13_readPack 102 = .ok (.putfield 200, 3) := dk_181 0 200 (dk_at dksX13_readPack_4 10 rfl rfl)
theorem dX13_readPack_105 : decode cX13_readPack 105 = .ok (.aload_n 0, 1) := dk_42 (dk_at dksX13_readPack_4 13 rfl rfl)
theorem dX13_readPack_106 : decode cX13_readPack 106 = .ok (.iconst 0, 1) := dk_3 (dk_at dksX13_readPack_4 14 rfl rfl)
theorem dX13_readPack_107 : decode cX13_readPack 107 = .ok (.bipush 12, 2) := dk_16 12 (dk_at dksX13_readPack_4 15 rfl rfl)
theorem dX13_readPack_109 : decode cX13_readPack 109 = .ok (.invokevirtual 264, 3) := dk_182 1 8 (dk_at dksX13_readPack_4 17 rfl rfl)
theorem dX13_readPack_112 : decode cX13_readPack 112 = .ok (.istore_n 2, 1) := dk_61 (dk_at dksX13_readPack_4 20 rfl rfl)
theorem dX13_readPack_113 : decode cX13_readPack 113 = .ok (.aload_n 0, 1) := dk_42 (dk_at dksX13_readPack_4 21 rfl rfl)
theorem dX13_readPack_114 : decode cX13_readPack 114 = .ok (.getfield 203, 3) := dk_180 0 203 (dk_at dksX13_readPack_5 0 rfl rfl)
theorem dX13_readPack_117 : decode cX13_readPack 117 = .ok (.ifCond .ne 32, 3) := dk_154 0 32 (dk_at dksX13_readPack_5 3 rfl rfl)
theorem dX13_readPack_120 : decode cX13_readPack 120 = .ok (.aload_n 0, 1) := dk_42 (dk_at dksX13_readPack_5 6 rfl rfl)
theorem dX13_readPack_121 : decode cX13_readPack 121 = .ok (.sipush 210, 3) := dk_17 0 210 (dk_at dksX13_readPack_5 7 rfl rfl)
theorem dX13_readPack_124 : decode cX13_readPack 124 = .ok (.invokevirtual 267, 3) := dk_182 1 11 (dk_at dksX13_readPack_5 10 rfl rfl)
theorem dX13_readPack_127 : decode cX13_readPack 127 = .ok (.iload_n 2, 1) := dk_28 (dk_at dksX13_readPack_5 13 rfl rfl)
theorem dX13_readPack_128 : decode cX13_readPack 128 = .ok (.iadd, 1) := dk_96 (dk_at dksX13_readPack_5 14 rfl rfl)
theorem dX13_readPack_129 : decode cX13_readPack 129 = .ok (.bipush 24, 2) := dk_16 24 (dk_at dksX13_readPack_5 15 rfl rfl)
theorem dX13_readPack_131 : decode cX13_readPack 131 = .ok (.if_icmp .le 18, 3) := dk_164 0 18 (dk_at dksX13_readPack_5 17 rfl rfl)
theorem dX13_readPack_134 : decode cX13_readPack 134 = .ok (.aload_n 0, 1) := dk_42 (dk_at dksX13_readPack_5 20 rfl rfl)
theorem dX13_readPack_135 : decode cX13_readPack 135 = .ok (.dup, 1) := dk_89 (dk_at dksX13_readPack_5 21 rfl rfl)
theorem dX13_readPack_136 : decode cX13_readPack 136 = .ok (.getfield 200, 3) := dk_180 0 200 (dk_at dksX13_readPack_6 0 rfl rfl)
theorem dX13_readPack_139 : decode cX13_readPack 139 = .ok (.iconst 1, 1) := dk_4 (dk_at dksX13_readPack_6 3 rfl rfl)
theorem dX13_readPack_140 : decode cX13_readPack 140 = .ok (.isub, 1) := dk_100 (dk_at dksX13_readPack_6 4 rfl rfl)
theorem dX13_readPack_141 : decode cX13_readPack 141 = .ok (.putfield 200, 3) := dk_181 0 200 (dk_at dksX13_readPack_6 5 rfl rfl)
theorem dX13_readPack_144 : decode cX13_readPack 144 = .ok (.aload_n 0, 1) := dk_42 (dk_at dksX13_readPack_6 8 rfl rfl)
theorem dX13_readPack_145 : decode cX13_readPack 145 = .ok (.iconst 4, 1) := dk_7 (dk_at dksX13_readPack_6 9 rfl rfl)
theorem dX13_readPack_146 : decode cX13_readPack 146 = .ok (.invokevirtual 209, 3) := dk_182 0 209 (dk_at dksX13_readPack_6 10 rfl rfl)
theorem dX13_readPack_149 : decode cX13_readPack 149 = .ok (.aload_n 0, 1) := dk_42 (dk_at dksX13_readPack_6 13 rfl rfl)
theorem dX13_readPack_150 : decode cX13_readPack 150 = .ok (.getfield 85, 3) := dk_180 0 85 (dk_at dksX13_readPack_6 14 rfl rfl)
theorem dX13_readPack_153 : decode cX13_readPack 153 = .ok (.sipush 215, 3) := dk_17 0 215 (dk_at dksX13_readPack_6 17 rfl rfl)
theorem dX13_readPack_156 : decode cX13_readPack 156 = .ok (.iconst 2, 1) := dk_5 (dk_at dksX13_readPack_6 20 rfl rfl)
theorem dX13_readPack_157 : decode cX13_readPack 157 = .ok (.iload_n 1, 1) := dk_27 (dk_at dksX13_readPack_6 21 rfl rfl)
theorem dX13_readPack_158 : decode cX13_readPack 158 = .ok (.imul, 1) := dk_104 (dk_at dksX13_readPack_6 22 rfl rfl)
theorem dX13_readPack_159 : decode cX13_readPack 159 = .ok (.iadd, 1) := dk_96 (dk_at dksX13_readPack_6 23 rfl rfl)
theorem dX13_readPack_160 : decode cX13_readPack 160 = .ok (.iconst 1, 1) := dk_4 (dk_at dksX13_readPack_7 0 rfl rfl)
theorem dX13_readPack_161 : decode cX13_readPack 161 = .ok (.iadd, 1) := dk_96 (dk_at dksX13_readPack_7 1 rfl rfl)
theorem dX13_readPack_162 : decode cX13_readPack 162 = .ok (.iload_n 2, 1) := dk_28 (dk_at dksX13_readPack_7 2 rfl rfl)
theorem dX13_readPack_163 : decode cX13_readPack 163 = .ok (.iastore, 1) := dk_79 (dk_at dksX13_readPack_7 3 rfl rfl)
theorem dX13_readPack_164 : decode cX13_readPack 164 = .ok (.return_, 1) := dk_177 (dk_at dksX13_readPack_7 4 rfl rfl)
abbrev cX13_cards : ByteArray := prog_24_method_28_code
def yX13_cards : MethodName := ⟨RX13, "cards", "(I)I"⟩
def dkwX13_cards_1 : List UInt8 := [46, 96, 61, 132, 3, 1, 167, 255, 230, 28, 172]
abbrev dktX13_cards_1 : List UInt8 := dkwX13_cards_1 ++ []
def dkwX13_cards_0 : List UInt8 := [3, 61, 3, 62, 29, 16, 8, 162, 0, 26, 28, 42, 180, 0, 85, 27, 8, 96, 5, 29, 104, 96, 4, 96]
abbrev dktX13_cards_0 : List UInt8 := dkwX13_cards_0 ++ dktX13_cards_1
theorem dksX13_cards_0 : cX13_cards.data.toList.drop 0 = dktX13_cards_0 := by decide +kernel
theorem dksX13_cards_1 : cX13_cards.data.toList.drop 24 = dktX13_cards_1 := dk_seg dksX13_cards_0 24 rfl rfl
theorem dX13_cards_0 : decode cX13_cards 0 = .ok (.iconst 0, 1) := dk_3 (dk_at dksX13_cards_0 0 rfl rfl)
theorem dX13_cards_1 : decode cX13_cards 1 = .ok (.istore_n 2, 1) := dk_61 (dk_at dksX13_cards_0 1 rfl rfl)
theorem dX13_cards_2 : decode cX13_cards 2 = .ok (.iconst 0, 1) := dk_3 (dk_at dksX13_cards_0 2 rfl rfl)
theorem dX13_cards_3 : decode cX13_cards 3 = .ok (.istore_n 3, 1) := dk_62 (dk_at dksX13_cards_0 3 rfl rfl)
theorem dX13_cards_4 : decode cX13_cards 4 = .ok (.iload_n 3, 1) := dk_29 (dk_at dksX13_cards_0 4 rfl rfl)
theorem dX13_cards_5 : decode cX13_cards 5 = .ok (.bipush 8, 2) := dk_16 8 (dk_at dksX13_cards_0 5 rfl rfl)
theorem dX13_cards_7 : decode cX13_cards 7 = .ok (.if_icmp .ge 26, 3) := dk_162 0 26 (dk_at dksX13_cards_0 7 rfl rfl)
theorem dX13_cards_10 : decode cX13_cards 10 = .ok (.iload_n 2, 1) := dk_28 (dk_at dksX13_cards_0 10 rfl rfl)
theorem dX13_cards_11 : decode cX13_cards 11 = .ok (.aload_n 0, 1) := dk_42 (dk_at dksX13_cards_0 11 rfl rfl)
theorem dX13_cards_12 : decode cX13_cards 12 = .ok (.getfield 85, 3) := dk_180 0 85 (dk_at dksX13_cards_0 12 rfl rfl)
theorem dX13_cards_15 : decode cX13_cards 15 = .ok (.iload_n 1, 1) := dk_27 (dk_at dksX13_cards_0 15 rfl rfl)
theorem dX13_cards_16 : decode cX13_cards 16 = .ok (.iconst 5, 1) := dk_8 (dk_at dksX13_cards_0 16 rfl rfl)
theorem dX13_cards_17 : decode cX13_cards 17 = .ok (.iadd, 1) := dk_96 (dk_at dksX13_cards_0 17 rfl rfl)
theorem dX13_cards_18 : decode cX13_cards 18 = .ok (.iconst 2, 1) := dk_5 (dk_at dksX13_cards_0 18 rfl rfl)
theorem dX13_cards_19 : decode cX13_cards 19 = .ok (.iload_n 3, 1) := dk_29 (dk_at dksX13_cards_0 19 rfl rfl)
theorem dX13_cards_20 : decode cX13_cards 20 = .ok (.imul, 1) := dk_104 (dk_at dksX13_cards_0 20 rfl rfl)
theorem dX13_cards_21 : decode cX13_cards 21 = .ok (.iadd, 1) := dk_96 (dk_at dksX13_cards_0 21 rfl rfl)
theorem dX13_cards_22 : decode cX13_cards 22 = .ok (.iconst 1, 1) := dk_4 (dk_at dksX13_cards_0 22 rfl rfl)
theorem dX13_cards_23 : decode cX13_cards 23 = .ok (.iadd, 1) := dk_96 (dk_at dksX13_cards_0 23 rfl rfl)
theorem dX13_cards_24 : decode cX13_cards 24 = .ok (.iaload, 1) := dk_46 (dk_at dksX13_cards_1 0 rfl rfl)
theorem dX13_cards_25 : decode cX13_cards 25 = .ok (.iadd, 1) := dk_96 (dk_at dksX13_cards_1 1 rfl rfl)
theorem dX13_cards_26 : decode cX13_cards 26 = .ok (.istore_n 2, 1) := dk_61 (dk_at dksX13_cards_1 2 rfl rfl)
theorem dX13_cards_27 : decode cX13_cards 27 = .ok (.iinc 3 1, 3) := dk_132 3 1 (dk_at dksX13_cards_1 3 rfl rfl)
theorem dX13_cards_30 : decode cX13_cards 30 = .ok (.goto (-26), 3) := dk_167 255 230 (dk_at dksX13_cards_1 6 rfl rfl)
theorem dX13_cards_33 : decode cX13_cards 33 = .ok (.iload_n 2, 1) := dk_28 (dk_at dksX13_cards_1 9 rfl rfl)
theorem dX13_cards_34 : decode cX13_cards 34 = .ok (.ireturn, 1) := dk_172 (dk_at dksX13_cards_1 10 rfl rfl)
abbrev cX13_readOnce : ByteArray := prog_24_method_29_code
def yX13_readOnce : MethodName := ⟨RX13, "readOnce", "()V"⟩
def dkwX13_readOnce_6 : List UInt8 := [17, 11, 184, 182, 1, 8, 79, 177]
abbrev dktX13_readOnce_6 : List UInt8 := dkwX13_readOnce_6 ++ []
def dkwX13_readOnce_5 : List UInt8 := [42, 3, 182, 1, 17, 42, 3, 3, 182, 1, 20, 167, 0, 20, 42, 180, 0, 85, 17, 0, 213, 42, 16, 10]
abbrev dktX13_readOnce_5 : List UInt8 := dkwX13_readOnce_5 ++ dktX13_readOnce_6
def dkwX13_readOnce_4 : List UInt8 := [182, 1, 14, 79, 167, 0, 51, 27, 5, 160, 0, 29, 42, 180, 0, 85, 17, 0, 214, 42, 180, 0, 225, 79]
abbrev dktX13_readOnce_4 : List UInt8 := dkwX13_readOnce_4 ++ dktX13_readOnce_5
def dkwX13_readOnce_3 : List UInt8 := [182, 1, 14, 79, 167, 0, 74, 27, 4, 160, 0, 21, 42, 180, 0, 85, 17, 0, 212, 42, 16, 12, 5]
abbrev dktX13_readOnce_3 : List UInt8 := dkwX13_readOnce_3 ++ dktX13_readOnce_4
def dkwX13_readOnce_2 : List UInt8 := [89, 180, 0, 200, 4, 96, 181, 0, 200, 27, 154, 0, 21, 42, 180, 0, 85, 17, 0, 211, 42, 16, 7, 8]
abbrev dktX13_readOnce_2 : List UInt8 := dkwX13_readOnce_2 ++ dktX13_readOnce_3
def dkwX13_readOnce_1 : List UInt8 := [126, 4, 160, 0, 9, 42, 6, 182, 0, 209, 177, 42, 89, 180, 0, 228, 4, 27, 120, 128, 181, 0, 228, 42]
abbrev dktX13_readOnce_1 : List UInt8 := dkwX13_readOnce_1 ++ dktX13_readOnce_2
def dkwX13_readOnce_0 : List UInt8 := [42, 6, 7, 182, 0, 218, 60, 27, 156, 0, 9, 42, 4, 182, 0, 209, 177, 42, 180, 0, 228, 27, 122, 4]
abbrev dktX13_readOnce_0 : List UInt8 := dkwX13_readOnce_0 ++ dktX13_readOnce_1
theorem dksX13_readOnce_0 : cX13_readOnce.data.toList.drop 0 = dktX13_readOnce_0 := by decide +kernel
theorem dksX13_readOnce_1 : cX13_readOnce.data.toList.drop 24 = dktX13_readOnce_1 := dk_seg dksX13_readOnce_0 24 rfl rfl
theorem dksX13_readOnce_2 : cX13_readOnce.data.toList.drop 48 = dktX13_readOnce_2 := dk_seg dksX13_readOnce_1 24 rfl rfl
theorem dksX13_readOnce_3 : cX13_readOnce.data.toList.drop 72 = dktX13_readOnce_3 := dk_seg dksX13_readOnce_2 24 rfl rfl
theorem dksX13_readOnce_4 : cX13_readOnce.data.toList.drop 95 = dktX13_readOnce_4 := dk_seg dksX13_readOnce_3 23 rfl rfl
theorem dksX13_readOnce_5 : cX13_readOnce.data.toList.drop 119 = dktX13_readOnce_5 := dk_seg dksX13_readOnce_4 24 rfl rfl
theorem dksX13_readOnce_6 : cX13_readOnce.data.toList.drop 143 = dktX13_readOnce_6 := dk_seg dksX13_readOnce_5 24 rfl rfl
theorem dX13_readOnce_0 : decode cX13_readOnce 0 = .ok (.aload_n 0, 1) := dk_42 (dk_at dksX13_readOnce_0 0 rfl rfl)
theorem dX13_readOnce_1 : decode cX13_readOnce 1 = .ok (.iconst 3, 1) := dk_6 (dk_at dksX13_readOnce_0 1 rfl rfl)
theorem dX13_readOnce_2 : decode cX13_readOnce 2 = .ok (.iconst 4, 1) := dk_7 (dk_at dksX13_readOnce_0 2 rfl rfl)
theorem dX13_readOnce_3 : decode cX13_readOnce 3 = .ok (.invokevirtual 218, 3) := dk_182 0 218 (dk_at dksX13_readOnce_0 3 rfl rfl)
theorem dX13_readOnce_6 : decode cX13_readOnce 6 = .ok (.istore_n 1, 1) := dk_60 (dk_at dksX13_readOnce_0 6 rfl rfl)
theorem dX13_readOnce_7 : decode cX13_readOnce 7 = .ok (.iload_n 1, 1) := dk_27 (dk_at dksX13_readOnce_0 7 rfl rfl)
theorem dX13_readOnce_8 : decode cX13_readOnce 8 = .ok (.ifCond .ge 9, 3) := dk_156 0 9 (dk_at dksX13_readOnce_0 8 rfl rfl)
theorem dX13_readOnce_11 : decode cX13_readOnce 11 = .ok (.aload_n 0, 1) := dk_42 (dk_at dksX13_readOnce_0 11 rfl rfl)
theorem dX13_readOnce_12 : decode cX13_readOnce 12 = .ok (.iconst 1, 1) := dk_4 (dk_at dksX13_readOnce_0 12 rfl rfl)
theorem dX13_readOnce_13 : decode cX13_readOnce 13 = .ok (.invokevirtual 209, 3) := dk_182 0 209 (dk_at dksX13_readOnce_0 13 rfl rfl)
theorem dX13_readOnce_16 : decode cX13_readOnce 16 = .ok (.return_, 1) := dk_177 (dk_at dksX13_readOnce_0 16 rfl rfl)
theorem dX13_readOnce_17 : decode cX13_readOnce 17 = .ok (.aload_n 0, 1) := dk_42 (dk_at dksX13_readOnce_0 17 rfl rfl)
theorem dX13_readOnce_18 : decode cX13_readOnce 18 = .ok (.getfield 228, 3) := dk_180 0 228 (dk_at dksX13_readOnce_0 18 rfl rfl)
theorem dX13_readOnce_21 : decode cX13_readOnce 21 = .ok (.iload_n 1, 1) := dk_27 (dk_at dksX13_readOnce_0 21 rfl rfl)
theorem dX13_readOnce_22 : decode cX13_readOnce 22 = .ok (.ishr, 1) := dk_122 (dk_at dksX13_readOnce_0 22 rfl rfl)
theorem dX13_readOnce_23 : decode cX13_readOnce 23 = .ok (.iconst 1, 1) := dk_4 (dk_at dksX13_readOnce_0 23 rfl rfl)
theorem dX13_readOnce_24 : decode cX13_readOnce 24 = .ok (.iand, 1) := dk_126 (dk_at dksX13_readOnce_1 0 rfl rfl)
theorem dX13_readOnce_25 : decode cX13_readOnce 25 = .ok (.iconst 1, 1) := dk_4 (dk_at dksX13_readOnce_1 1 rfl rfl)
theorem dX13_readOnce_26 : decode cX13_readOnce 26 = .ok (.if_icmp .ne 9, 3) := dk_160 0 9 (dk_at dksX13_readOnce_1 2 rfl rfl)
theorem dX13_readOnce_29 : decode cX13_readOnce 29 = .ok (.aload_n 0, 1) := dk_42 (dk_at dksX13_readOnce_1 5 rfl rfl)
theorem dX13_readOnce_30 : decode cX13_readOnce 30 = .ok (.iconst 3, 1) := dk_6 (dk_at dksX13_readOnce_1 6 rfl rfl)
theorem dX13_readOnce_31 : decode cX13_readOnce 31 = .ok (.invokevirtual 209, 3) := dk_182 0 209 (dk_at dksX13_readOnce_1 7 rfl rfl)
theorem dX13_readOnce_34 : decode cX13_readOnce 34 = .ok (.return_, 1) := dk_177 (dk_at dksX13_readOnce_1 10 rfl rfl)
theorem dX13_readOnce_35 : decode cX13_readOnce 35 = .ok (.aload_n 0, 1) := dk_42 (dk_at dksX13_readOnce_1 11 rfl rfl)
theorem dX13_readOnce_36 : decode cX13_readOnce 36 = .ok (.dup, 1) := dk_89 (dk_at dksX13_readOnce_1 12 rfl rfl)
theorem dX13_readOnce_37 : decode cX13_readOnce 37 = .ok (.getfield 228, 3) := dk_180 0 228 (dk_at dksX13_readOnce_1 13 rfl rfl)
theorem dX13_readOnce_40 : decode cX13_readOnce 40 = .ok (.iconst 1, 1) := dk_4 (dk_at dksX13_readOnce_1 16 rfl rfl)
theorem dX13_readOnce_41 : decode cX13_readOnce 41 = .ok (.iload_n 1, 1) := dk_27 (dk_at dksX13_readOnce_1 17 rfl rfl)
theorem dX13_readOnce_42 : decode cX13_readOnce 42 = .ok (.ishl, 1) := dk_120 (dk_at dksX13_readOnce_1 18 rfl rfl)
theorem dX13_readOnce_43 : decode cX13_readOnce 43 = .ok (.ior, 1) := dk_128 (dk_at dksX13_readOnce_1 19 rfl rfl)
theorem dX13_readOnce_44 : decode cX13_readOnce 44 = .ok (.putfield 228, 3) := dk_181 0 228 (dk_at dksX13_readOnce_1 20 rfl rfl)
theorem dX13_readOnce_47 : decode cX13_readOnce 47 = .ok (.aload_n 0, 1) := dk_42 (dk_at dksX13_readOnce_1 23 rfl rfl)
theorem dX13_readOnce_48 : decode cX13_readOnce 48 = .ok (.dup, 1) := dk_89 (dk_at dksX13_readOnce_2 0 rfl rfl)
theorem dX13_readOnce_49 : decode cX13_readOnce 49 = .ok (.getfield 200, 3) := dk_180 0 200 (dk_at dksX13_readOnce_2 1 rfl rfl)
theorem dX13_readOnce_52 : decode cX13_readOnce 52 = .ok (.iconst 1, 1) := dk_4 (dk_at dksX13_readOnce_2 4 rfl rfl)
theorem dX13_readOnce_53 : decode cX13_readOnce 53 = .ok (.iadd, 1) := dk_96 (dk_at dksX13_readOnce_2 5 rfl rfl)
theorem dX13_readOnce_54 : decode cX13_readOnce 54 = .ok (.putfield 200, 3) := dk_181 0 200 (dk_at dksX13_readOnce_2 6 rfl rfl)
theorem dX13_readOnce_57 : decode cX13_readOnce 57 = .ok (.iload_n 1, 1) := dk_27 (dk_at dksX13_readOnce_2 9 rfl rfl)
theorem dX13_readOnce_58 : decode cX13_readOnce 58 = .ok (.ifCond .ne 21, 3) := dk_154 0 21 (dk_at dksX13_readOnce_2 10 rfl rfl)
theorem dX13_readOnce_61 : decode cX13_readOnce 61 = .ok (.aload_n 0, 1) := dk_42 (dk_at dksX13_readOnce_2 13 rfl rfl)
theorem dX13_readOnce_62 : decode cX13_readOnce 62 = .ok (.getfield 85, 3) := dk_180 0 85 (dk_at dksX13_readOnce_2 14 rfl rfl)
theorem dX13_readOnce_65 : decode cX13_readOnce 65 = .ok (.sipush 211, 3) := dk_17 0 211 (dk_at dksX13_readOnce_2 17 rfl rfl)
theorem dX13_readOnce_68 : decode cX13_readOnce 68 = .ok (.aload_n 0, 1) := dk_42 (dk_at dksX13_readOnce_2 20 rfl rfl)
theorem dX13_readOnce_69 : decode cX13_readOnce 69 = .ok (.bipush 7, 2) := dk_16 7 (dk_at dksX13_readOnce_2 21 rfl rfl)
theorem dX13_readOnce_71 : decode cX13_readOnce 71 = .ok (.iconst 5, 1) := dk_8 (dk_at dksX13_readOnce_2 23 rfl rfl)
theorem dX13_readOnce_72 : decode cX13_readOnce 72 = .ok (.invokevirtual 270, 3) := dk_182 1 14 (dk_at dksX13_readOnce_3 0 rfl rfl)
theorem dX13_readOnce_75 : decode cX13_readOnce 75 = .ok (.iastore, 1) := dk_79 (dk_at dksX13_readOnce_3 3 rfl rfl)
theorem dX13_readOnce_76 : decode cX13_readOnce 76 = .ok (.goto 74, 3) := dk_167 0 74 (dk_at dksX13_readOnce_3 4 rfl rfl)
theorem dX13_readOnce_79 : decode cX13_readOnce 79 = .ok (.iload_n 1, 1) := dk_27 (dk_at dksX13_readOnce_3 7 rfl rfl)
theorem dX13_readOnce_80 : decode cX13_readOnce 80 = .ok (.iconst 1, 1) := dk_4 (dk_at dksX13_readOnce_3 8 rfl rfl)
theorem dX13_readOnce_81 : decode cX13_readOnce 81 = .ok (.if_icmp .ne 21, 3) := dk_160 0 21 (dk_at dksX13_readOnce_3 9 rfl rfl)
theorem dX13_readOnce_84 : decode cX13_readOnce 84 = .ok (.aload_n 0, 1) := dk_42 (dk_at dksX13_readOnce_3 12 rfl rfl)
theorem dX13_readOnce_85 : decode cX13_readOnce 85 = .ok (.getfield 85, 3) := dk_180 0 85 (dk_at dksX13_readOnce_3 13 rfl rfl)
theorem dX13_readOnce_88 : decode cX13_readOnce 88 = .ok (.sipush 212, 3) := dk_17 0 212 (dk_at dksX13_readOnce_3 16 rfl rfl)
theorem dX13_readOnce_91 : decode cX13_readOnce 91 = .ok (.aload_n 0, 1) := dk_42 (dk_at dksX13_readOnce_3 19 rfl rfl)
theorem dX13_readOnce_92 : decode cX13_readOnce 92 = .ok (.bipush 12, 2) := dk_16 12 (dk_at dksX13_readOnce_3 20 rfl rfl)
theorem dX13_readOnce_94 : decode cX13_readOnce 94 = .ok (.iconst 2, 1) := dk_5 (dk_at dksX13_readOnce_3 22 rfl rfl)
theorem dX13_readOnce_95 : decode cX13_readOnce 95 = .ok (.invokevirtual 270, 3) := dk_182 1 14 (dk_at dksX13_readOnce_4 0 rfl rfl)
theorem dX13_readOnce_98 : decode cX13_readOnce 98 = .ok (.iastore, 1) := dk_79 (dk_at dksX13_readOnce_4 3 rfl rfl)
theorem dX13_readOnce_99 : decode cX13_readOnce 99 = .ok (.goto 51, 3) := dk_167 0 51 (dk_at dksX13_readOnce_4 4 rfl rfl)
theorem dX13_readOnce_102 : decode cX13_readOnce 102 = .ok (.iload_n 1, 1) := dk_27 (dk_at dksX13_readOnce_4 7 rfl rfl)
theorem dX13_readOnce_103 : decode cX13_readOnce 103 = .ok (.iconst 2, 1) := dk_5 (dk_at dksX13_readOnce_4 8 rfl rfl)
theorem dX13_readOnce_104 : decode cX13_readOnce 104 = .ok (.if_icmp .ne 29, 3) := dk_160 0 29 (dk_at dksX13_readOnce_4 9 rfl rfl)
theorem dX13_readOnce_107 : decode cX13_readOnce 107 = .ok (.aload_n 0, 1) := dk_42 (dk_at dksX13_readOnce_4 12 rfl rfl)
theorem dX13_readOnce_108 : decode cX13_readOnce 108 = .ok (.getfield 85, 3) := dk_180 0 85 (dk_at dksX13_readOnce_4 13 rfl rfl)
theorem dX13_readOnce_111 : decode cX13_readOnce 111 = .ok (.sipush 214, 3) := dk_17 0 214 (dk_at dksX13_readOnce_4 16 rfl rfl)
theorem dX13_readOnce_114 : decode cX13_readOnce 114 = .ok (.aload_n 0, 1) := dk_42 (dk_at dksX13_readOnce_4 19 rfl rfl)
theorem dX13_readOnce_115 : decode cX13_readOnce 115 = .ok (.getfield 225, 3) := dk_180 0 225 (dk_at dksX13_readOnce_4 20 rfl rfl)
theorem dX13_readOnce_118 : decode cX13_readOnce 118 = .ok (.iastore, 1) := dk_79 (dk_at dksX13_readOnce_4 23 rfl rfl)
theorem dX13_readOnce_119 : decode cX13_readOnce 119 = .ok (.aload_n 0, 1) := dk_42 (dk_at dksX13_readOnce_5 0 rfl rfl)
theorem dX13_readOnce_120 : decode cX13_readOnce 120 = .ok (.iconst 0, 1) := dk_3 (dk_at dksX13_readOnce_5 1 rfl rfl)
theorem dX13_readOnce_121 : decode cX13_readOnce 121 = .ok (.invokevirtual 273, 3) := dk_182 1 17 (dk_at dksX13_readOnce_5 2 rfl rfl)
theorem dX13_readOnce_124 : decode cX13_readOnce 124 = .ok (.aload_n 0, 1) := dk_42 (dk_at dksX13_readOnce_5 5 rfl rfl)
theorem dX13_readOnce_125 : decode cX13_readOnce 125 = .ok (.iconst 0, 1) := dk_3 (dk_at dksX13_readOnce_5 6 rfl rfl)
theorem dX13_readOnce_126 : decode cX13_readOnce 126 = .ok (.iconst 0, 1) := dk_3 (dk_at dksX13_readOnce_5 7 rfl rfl)
theorem dX13_readOnce_127 : decode cX13_readOnce 127 = .ok (.invokevirtual 276, 3) := dk_182 1 20 (dk_at dksX13_readOnce_5 8 rfl rfl)
theorem dX13_readOnce_130 : decode cX13_readOnce 130 = .ok (.goto 20, 3) := dk_167 0 20 (dk_at dksX13_readOnce_5 11 rfl rfl)
theorem dX13_readOnce_133 : decode cX13_readOnce 133 = .ok (.aload_n 0, 1) := dk_42 (dk_at dksX13_readOnce_5 14 rfl rfl)
theorem dX13_readOnce_134 : decode cX13_readOnce 134 = .ok (.getfield 85, 3) := dk_180 0 85 (dk_at dksX13_readOnce_5 15 rfl rfl)
theorem dX13_readOnce_137 : decode cX13_readOnce 137 = .ok (.sipush 213, 3) := dk_17 0 213 (dk_at dksX13_readOnce_5 18 rfl rfl)
theorem dX13_readOnce_140 : decode cX13_readOnce 140 = .ok (.aload_n 0, 1) := dk_42 (dk_at dksX13_readOnce_5 21 rfl rfl)
theorem dX13_readOnce_141 : decode cX13_readOnce 141 = .ok (.bipush 10, 2) := dk_16 10 (dk_at dksX13_readOnce_5 22 rfl rfl)
theorem dX13_readOnce_143 : decode cX13_readOnce 143 = .ok (.sipush 3000, 3) := dk_17 11 184 (dk_at dksX13_readOnce_6 0 rfl rfl)
theorem dX13_readOnce_146 : decode cX13_readOnce 146 = .ok (.invokevirtual 264, 3) := dk_182 1 8 (dk_at dksX13_readOnce_6 3 rfl rfl)
theorem dX13_readOnce_149 : decode cX13_readOnce 149 = .ok (.iastore, 1) := dk_79 (dk_at dksX13_readOnce_6 6 rfl rfl)
theorem dX13_readOnce_150 : decode cX13_readOnce 150 = .ok (.return_, 1) := dk_177 (dk_at dksX13_readOnce_6 7 rfl rfl)
abbrev cX13_wordHere : ByteArray := prog_24_method_22_code
def yX13_wordHere : MethodName := ⟨RX13, "wordHere", "(II)I"⟩
def dkwX13_wordHere_1 : List UInt8 := [167, 0, 4, 29, 62, 132, 4, 1, 167, 255, 229, 29, 172]
abbrev dktX13_wordHere_1 : List UInt8 := dkwX13_wordHere_1 ++ []
def dkwX13_wordHere_0 : List UInt8 := [2, 62, 3, 54, 4, 21, 4, 28, 162, 0, 27, 42, 27, 21, 4, 96, 182, 0, 212, 153, 0, 8, 21, 4]
abbrev dktX13_wordHere_0 : List UInt8 := dkwX13_wordHere_0 ++ dktX13_wordHere_1
theorem dksX13_wordHere_0 : cX13_wordHere.data.toList.drop 0 = dktX13_wordHere_0 := by decide +kernel
theorem dksX13_wordHere_1 : cX13_wordHere.data.toList.drop 24 = dktX13_wordHere_1 := dk_seg dksX13_wordHere_0 24 rfl rfl
theorem dX13_wordHere_0 : decode cX13_wordHere 0 = .ok (.iconst (-1), 1) := dk_2 (dk_at dksX13_wordHere_0 0 rfl rfl)
theorem dX13_wordHere_1 : decode cX13_wordHere 1 = .ok (.istore_n 3, 1) := dk_62 (dk_at dksX13_wordHere_0 1 rfl rfl)
theorem dX13_wordHere_2 : decode cX13_wordHere 2 = .ok (.iconst 0, 1) := dk_3 (dk_at dksX13_wordHere_0 2 rfl rfl)
theorem dX13_wordHere_3 : decode cX13_wordHere 3 = .ok (.istore 4, 2) := dk_54 4 (dk_at dksX13_wordHere_0 3 rfl rfl)
theorem dX13_wordHere_5 : decode cX13_wordHere 5 = .ok (.iload 4, 2) := dk_21 4 (dk_at dksX13_wordHere_0 5 rfl rfl)
theorem dX13_wordHere_7 : decode cX13_wordHere 7 = .ok (.iload_n 2, 1) := dk_28 (dk_at dksX13_wordHere_0 7 rfl rfl)
theorem dX13_wordHere_8 : decode cX13_wordHere 8 = .ok (.if_icmp .ge 27, 3) := dk_162 0 27 (dk_at dksX13_wordHere_0 8 rfl rfl)
theorem dX13_wordHere_11 : decode cX13_wordHere 11 = .ok (.aload_n 0, 1) := dk_42 (dk_at dksX13_wordHere_0 11 rfl rfl)
theorem dX13_wordHere_12 : decode cX13_wordHere 12 = .ok (.iload_n 1, 1) := dk_27 (dk_at dksX13_wordHere_0 12 rfl rfl)
theorem dX13_wordHere_13 : decode cX13_wordHere 13 = .ok (.iload 4, 2) := dk_21 4 (dk_at dksX13_wordHere_0 13 rfl rfl)
theorem dX13_wordHere_15 : decode cX13_wordHere 15 = .ok (.iadd, 1) := dk_96 (dk_at dksX13_wordHere_0 15 rfl rfl)
theorem dX13_wordHere_16 : decode cX13_wordHere 16 = .ok (.invokevirtual 212, 3) := dk_182 0 212 (dk_at dksX13_wordHere_0 16 rfl rfl)
theorem dX13_wordHere_19 : decode cX13_wordHere 19 = .ok (.ifCond .eq 8, 3) := dk_153 0 8 (dk_at dksX13_wordHere_0 19 rfl rfl)
theorem dX13_wordHere_22 : decode cX13_wordHere 22 = .ok (.iload 4, 2) := dk_21 4 (dk_at dksX13_wordHere_0 22 rfl rfl)
theorem dX13_wordHere_24 : decode cX13_wordHere 24 = .ok (.goto 4, 3) := dk_167 0 4 (dk_at dksX13_wordHere_1 0 rfl rfl)
theorem dX13_wordHere_27 : decode cX13_wordHere 27 = .ok (.iload_n 3, 1) := dk_29 (dk_at dksX13_wordHere_1 3 rfl rfl)
theorem dX13_wordHere_28 : decode cX13_wordHere 28 = .ok (.istore_n 3, 1) := dk_62 (dk_at dksX13_wordHere_1 4 rfl rfl)
theorem dX13_wordHere_29 : decode cX13_wordHere 29 = .ok (.iinc 4 1, 3) := dk_132 4 1 (dk_at dksX13_wordHere_1 5 rfl rfl)
theorem dX13_wordHere_32 : decode cX13_wordHere 32 = .ok (.goto (-27), 3) := dk_167 255 229 (dk_at dksX13_wordHere_1 8 rfl rfl)
theorem dX13_wordHere_35 : decode cX13_wordHere 35 = .ok (.iload_n 3, 1) := dk_29 (dk_at dksX13_wordHere_1 11 rfl rfl)
theorem dX13_wordHere_36 : decode cX13_wordHere 36 = .ok (.ireturn, 1) := dk_172 (dk_at dksX13_wordHere_1 12 rfl rfl)
abbrev cX13_takeOne : ByteArray := prog_24_method_23_code
def yX13_takeOne : MethodName := ⟨RX13, "takeOne", "(II)I"⟩
def dkwX13_takeOne_1 : List UInt8 := [180, 0, 203, 158, 0, 7, 3, 167, 0, 4, 4, 96, 181, 0, 200, 29, 172]
abbrev dktX13_takeOne_1 : List UInt8 := dkwX13_takeOne_1 ++ []
def dkwX13_takeOne_0 : List UInt8 := [42, 27, 28, 182, 0, 218, 62, 29, 156, 0, 8, 42, 4, 182, 0, 209, 42, 89, 180, 0, 200, 42]
abbrev dktX13_takeOne_0 : List UInt8 := dkwX13_takeOne_0 ++ dktX13_takeOne_1
theorem dksX13_takeOne_0 : cX13_takeOne.data.toList.drop 0 = dktX13_takeOne_0 := by decide +kernel
theorem dksX13_takeOne_1 : cX13_takeOne.data.toList.drop 22 = dktX13_takeOne_1 := dk_seg dksX13_takeOne_0 22 rfl rfl
theorem dX13_takeOne_0 : decode cX13_takeOne 0 = .ok (.aload_n 0, 1) := dk_42 (dk_at dksX13_takeOne_0 0 rfl rfl)
theorem dX13_takeOne_1 : decode cX13_takeOne 1 = .ok (.iload_n 1, 1) := dk_27 (dk_at dksX13_takeOne_0 1 rfl rfl)
theorem dX13_takeOne_2 : decode cX13_takeOne 2 = .ok (.iload_n 2, 1) := dk_28 (dk_at dksX13_takeOne_0 2 rfl rfl)
theorem dX13_takeOne_3 : decode cX13_takeOne 3 = .ok (.invokevirtual 218, 3) := dk_182 0 218 (dk_at dksX13_takeOne_0 3 rfl rfl)
theorem dX13_takeOne_6 : decode cX13_takeOne 6 = .ok (.istore_n 3, 1) := dk_62 (dk_at dksX13_takeOne_0 6 rfl rfl)
theorem dX13_takeOne_7 : decode cX13_takeOne 7 = .ok (.iload_n 3, 1) := dk_29 (dk_at dksX13_takeOne_0 7 rfl rfl)
theorem dX13_takeOne_8 : decode cX13_takeOne 8 = .ok (.ifCond .ge 8, 3) := dk_156 0 8 (dk_at dksX13_takeOne_0 8 rfl rfl)
theorem dX13_takeOne_11 : decode cX13_takeOne 11 = .ok (.aload_n 0, 1) := dk_42 (dk_at dksX13_takeOne_0 11 rfl rfl)
theorem dX13_takeOne_12 : decode cX13_takeOne 12 = .ok (.iconst 1, 1) := dk_4 (dk_at dksX13_takeOne_0 12 rfl rfl)
theorem dX13_takeOne_13 : decode cX13_takeOne 13 = .ok (.invokevirtual 209, 3) := dk_182 0 209 (dk_at dksX13_takeOne_0 13 rfl rfl)
theorem dX13_takeOne_16 : decode cX13_takeOne 16 = .ok (.aload_n 0, 1) := dk_42 (dk_at dksX13_takeOne_0 16 rfl rfl)
theorem dX13_takeOne_17 : decode cX13_takeOne 17 = .ok (.dup, 1) := dk_89 (dk_at dksX13_takeOne_0 17 rfl rfl)
theorem dX13_takeOne_18 : decode cX13_takeOne 18 = .ok (.getfield 200, 3) := dk_180 0 200 (dk_at dksX13_takeOne_0 18 rfl rfl)
theorem dX13_takeOne_21 : decode cX13_takeOne 21 = .ok (.aload_n 0, 1) := dk_42 (dk_at dksX13_takeOne_0 21 rfl rfl)
theorem dX13_takeOne_22 : decode cX13_takeOne 22 = .ok (.getfield 203, 3) := dk_180 0 203 (dk_at dksX13_takeOne_1 0 rfl rfl)
theorem dX13_takeOne_25 : decode cX13_takeOne 25 = .ok (.ifCond .le 7, 3) := dk_158 0 7 (dk_at dksX13_takeOne_1 3 rfl rfl)
theorem dX13_takeOne_28 : decode cX13_takeOne 28 = .ok (.iconst 0, 1) := dk_3 (dk_at dksX13_takeOne_1 6 rfl rfl)
theorem dX13_takeOne_29 : decode cX13_takeOne 29 = .ok (.goto 4, 3) := dk_167 0 4 (dk_at dksX13_takeOne_1 7 rfl rfl)
theorem dX13_takeOne_32 : decode cX13_takeOne 32 = .ok (.iconst 1, 1) := dk_4 (dk_at dksX13_takeOne_1 10 rfl rfl)
theorem dX13_takeOne_33 : decode cX13_takeOne 33 = .ok (.iadd, 1) := dk_96 (dk_at dksX13_takeOne_1 11 rfl rfl)
theorem dX13_takeOne_34 : decode cX13_takeOne 34 = .ok (.putfield 200, 3) := dk_181 0 200 (dk_at dksX13_takeOne_1 12 rfl rfl)
theorem dX13_takeOne_37 : decode cX13_takeOne 37 = .ok (.iload_n 3, 1) := dk_29 (dk_at dksX13_takeOne_1 15 rfl rfl)
theorem dX13_takeOne_38 : decode cX13_takeOne 38 = .ok (.ireturn, 1) := dk_172 (dk_at dksX13_takeOne_1 16 rfl rfl)
abbrev cX13_ands : ByteArray := prog_24_method_36_code
def yX13_ands : MethodName := ⟨RX13, "ands", "(I)V"⟩
def dkwX13_ands_2 : List UInt8 := [153, 0, 8, 16, 9, 167, 0, 5, 16, 10, 3, 182, 1, 20, 167, 255, 200, 177]
abbrev dktX13_ands_2 : List UInt8 := dkwX13_ands_2 ++ []
def dkwX13_ands_1 : List UInt8 := [16, 18, 182, 0, 212, 61, 42, 89, 180, 0, 200, 4, 96, 181, 0, 200, 42, 27, 182, 1, 33, 42, 28]
abbrev dktX13_ands_1 : List UInt8 := dkwX13_ands_1 ++ dktX13_ands_2
def dkwX13_ands_0 : List UInt8 := [42, 27, 182, 1, 33, 42, 16, 18, 182, 0, 212, 154, 0, 12, 42, 16, 19, 182, 0, 212, 153, 0, 44, 42]
abbrev dktX13_ands_0 : List UInt8 := dkwX13_ands_0 ++ dktX13_ands_1
theorem dksX13_ands_0 : cX13_ands.data.toList.drop 0 = dktX13_ands_0 := by decide +kernel
theorem dksX13_ands_1 : cX13_ands.data.toList.drop 24 = dktX13_ands_1 := dk_seg dksX13_ands_0 24 rfl rfl
theorem dksX13_ands_2 : cX13_ands.data.toList.drop 47 = dktX13_ands_2 := dk_seg dksX13_ands_1 23 rfl rfl
theorem dX13_ands_0 : decode cX13_ands 0 = .ok (.aload_n 0, 1) := dk_42 (dk_at dksX13_ands_0 0 rfl rfl)
theorem dX13_ands_1 : decode cX13_ands 1 = .ok (.iload_n 1, 1) := dk_27 (dk_at dksX13_ands_0 1 rfl rfl)
theorem dX13_ands_2 : decode cX13_ands 2 = .ok (.invokevirtual 289, 3) := dk_182 1 33 (dk_at dksX13_ands_0 2 rfl rfl)
theorem dX13_ands_5 : decode cX13_ands 5 = .ok (.aload_n 0, 1) := dk_42 (dk_at dksX13_ands_0 5 rfl rfl)
theorem dX13_ands_6 : decode cX13_ands 6 = .ok (.bipush 18, 2) := dk_16 18 (dk_at dksX13_ands_0 6 rfl rfl)
theorem dX13_ands_8 : decode cX13_ands 8 = .ok (.invokevirtual 212, 3) := dk_182 0 212 (dk_at dksX13_ands_0 8 rfl rfl)
theorem dX13_ands_11 : decode cX13_ands 11 = .ok (.ifCond .ne 12, 3) := dk_154 0 12 (dk_at dksX13_ands_0 11 rfl rfl)
theorem dX13_ands_14 : decode cX13_ands 14 = .ok (.aload_n 0, 1) := dk_42 (dk_at dksX13_ands_0 14 rfl rfl)
theorem dX13_ands_15 : decode cX13_ands 15 = .ok (.bipush 19, 2) := dk_16 19 (dk_at dksX13_ands_0 15 rfl rfl)
theorem dX13_ands_17 : decode cX13_ands 17 = .ok (.invokevirtual 212, 3) := dk_182 0 212 (dk_at dksX13_ands_0 17 rfl rfl)
theorem dX13_ands_20 : decode cX13_ands 20 = .ok (.ifCond .eq 44, 3) := dk_153 0 44 (dk_at dksX13_ands_0 20 rfl rfl)
theorem dX13_ands_23 : decode cX13_ands 23 = .ok (.aload_n 0, 1) := dk_42 (dk_at dksX13_ands_0 23 rfl rfl)
theorem dX13_ands_24 : decode cX13_ands 24 = .ok (.bipush 18, 2) := dk_16 18 (dk_at dksX13_ands_1 0 rfl rfl)
theorem dX13_ands_26 : decode cX13_ands 26 = .ok (.invokevirtual 212, 3) := dk_182 0 212 (dk_at dksX13_ands_1 2 rfl rfl)
theorem dX13_ands_29 : decode cX13_ands 29 = .ok (.istore_n 2, 1) := dk_61 (dk_at dksX13_ands_1 5 rfl rfl)
theorem dX13_ands_30 : decode cX13_ands 30 = .ok (.aload_n 0, 1) := dk_42 (dk_at dksX13_ands_1 6 rfl rfl)
theorem dX13_ands_31 : decode cX13_ands 31 = .ok (.dup, 1) := dk_89 (dk_at dksX13_ands_1 7 rfl rfl)
theorem dX13_ands_32 : decode cX13_ands 32 = .ok (.getfield 200, 3) := dk_180 0 200 (dk_at dksX13_ands_1 8 rfl rfl)
theorem dX13_ands_35 : decode cX13_ands 35 = .ok (.iconst 1, 1) := dk_4 (dk_at dksX13_ands_1 11 rfl rfl)
theorem dX13_ands_36 : decode cX13_ands 36 = .ok (.iadd, 1) := dk_96 (dk_at dksX13_ands_1 12 rfl rfl)
theorem dX13_ands_37 : decode cX13_ands 37 = .ok (.putfield 200, 3) := dk_181 0 200 (dk_at dksX13_ands_1 13 rfl rfl)
theorem dX13_ands_40 : decode cX13_ands 40 = .ok (.aload_n 0, 1) := dk_42 (dk_at dksX13_ands_1 16 rfl rfl)
theorem dX13_ands_41 : decode cX13_ands 41 = .ok (.iload_n 1, 1) := dk_27 (dk_at dksX13_ands_1 17 rfl rfl)
theorem dX13_ands_42 : decode cX13_ands 42 = .ok (.invokevirtual 289, 3) := dk_182 1 33 (dk_at dksX13_ands_1 18 rfl rfl)
theorem dX13_ands_45 : decode cX13_ands 45 = .ok (.aload_n 0, 1) := dk_42 (dk_at dksX13_ands_1 21 rfl rfl)
theorem dX13_ands_46 : decode cX13_ands 46 = .ok (.iload_n 2, 1) := dk_28 (dk_at dksX13_ands_1 22 rfl rfl)
theorem dX13_ands_47 : decode cX13_ands 47 = .ok (.ifCond .eq 8, 3) := dk_153 0 8 (dk_at dksX13_ands_2 0 rfl rfl)
theorem dX13_ands_50 : decode cX13_ands 50 = .ok (.bipush 9, 2) := dk_16 9 (dk_at dksX13_ands_2 3 rfl rfl)
theorem dX13_ands_52 : decode cX13_ands 52 = .ok (.goto 5, 3) := dk_167 0 5 (dk_at dksX13_ands_2 5 rfl rfl)
theorem dX13_ands_55 : decode cX13_ands 55 = .ok (.bipush 10, 2) := dk_16 10 (dk_at dksX13_ands_2 8 rfl rfl)
theorem dX13_ands_57 : decode cX13_ands 57 = .ok (.iconst 0, 1) := dk_3 (dk_at dksX13_ands_2 10 rfl rfl)
theorem dX13_ands_58 : decode cX13_ands 58 = .ok (.invokevirtual 276, 3) := dk_182 1 20 (dk_at dksX13_ands_2 11 rfl rfl)
theorem dX13_ands_61 : decode cX13_ands 61 = .ok (.goto (-56), 3) := dk_167 255 200 (dk_at dksX13_ands_2 14 rfl rfl)
theorem dX13_ands_64 : decode cX13_ands 64 = .ok (.return_, 1) := dk_177 (dk_at dksX13_ands_2 17 rfl rfl)
abbrev cX13_test : ByteArray := prog_24_method_37_code
def yX13_test : MethodName := ⟨RX13, "test", "(I)V"⟩
def dkwX13_test_2 : List UInt8 := [182, 1, 20, 177]
abbrev dktX13_test_2 : List UInt8 := dkwX13_test_2 ++ []
def dkwX13_test_1 : List UInt8 := [182, 1, 39, 153, 0, 24, 42, 27, 182, 1, 36, 42, 28, 153, 0, 8, 16, 7, 167, 0, 5, 16, 8, 3]
abbrev dktX13_test_1 : List UInt8 := dkwX13_test_1 ++ dktX13_test_2
def dkwX13_test_0 : List UInt8 := [42, 27, 182, 1, 36, 42, 16, 60, 182, 0, 206, 61, 42, 16, 60, 182, 1, 39, 154, 0, 12, 42, 16, 61]
abbrev dktX13_test_0 : List UInt8 := dkwX13_test_0 ++ dktX13_test_1
theorem dksX13_test_0 : cX13_test.data.toList.drop 0 = dktX13_test_0 := by decide +kernel
theorem dksX13_test_1 : cX13_test.data.toList.drop 24 = dktX13_test_1 := dk_seg dksX13_test_0 24 rfl rfl
theorem dksX13_test_2 : cX13_test.data.toList.drop 48 = dktX13_test_2 := dk_seg dksX13_test_1 24 rfl rfl
theorem dX13_test_0 : decode cX13_test 0 = .ok (.aload_n 0, 1) := dk_42 (dk_at dksX13_test_0 0 rfl rfl)
theorem dX13_test_1 : decode cX13_test 1 = .ok (.iload_n 1, 1) := dk_27 (dk_at dksX13_test_0 1 rfl rfl)
theorem dX13_test_2 : decode cX13_test 2 = .ok (.invokevirtual 292, 3) := dk_182 1 36 (dk_at dksX13_test_0 2 rfl rfl)
theorem dX13_test_5 : decode cX13_test 5 = .ok (.aload_n 0, 1) := dk_42 (dk_at dksX13_test_0 5 rfl rfl)
theorem dX13_test_6 : decode cX13_test 6 = .ok (.bipush 60, 2) := dk_16 60 (dk_at dksX13_test_0 6 rfl rfl)
theorem dX13_test_8 : decode cX13_test 8 = .ok (.invokevirtual 206, 3) := dk_182 0 206 (dk_at dksX13_test_0 8 rfl rfl)
theorem dX13_test_11 : decode cX13_test 11 = .ok (.istore_n 2, 1) := dk_61 (dk_at dksX13_test_0 11 rfl rfl)
theorem dX13_test_12 : decode cX13_test 12 = .ok (.aload_n 0, 1) := dk_42 (dk_at dksX13_test_0 12 rfl rfl)
theorem dX13_test_13 : decode cX13_test 13 = .ok (.bipush 60, 2) := dk_16 60 (dk_at dksX13_test_0 13 rfl rfl)
theorem dX13_test_15 : decode cX13_test 15 = .ok (.invokevirtual 295, 3) := dk_182 1 39 (dk_at dksX13_test_0 15 rfl rfl)
theorem dX13_test_18 : decode cX13_test 18 = .ok (.ifCond .ne 12, 3) := dk_154 0 12 (dk_at dksX13_test_0 18 rfl rfl)
theorem dX13_test_21 : decode cX13_test 21 = .ok (.aload_n 0, 1) := dk_42 (dk_at dksX13_test_0 21 rfl rfl)
theorem dX13_test_22 : decode cX13_test 22 = .ok (.bipush 61, 2) := dk_16 61 (dk_at dksX13_test_0 22 rfl rfl)
theorem dX13_test_24 : decode cX13_test 24 = .ok (.invokevirtual 295, 3) := dk_182 1 39 (dk_at dksX13_test_1 0 rfl rfl)
theorem dX13_test_27 : decode cX13_test 27 = .ok (.ifCond .eq 24, 3) := dk_153 0 24 (dk_at dksX13_test_1 3 rfl rfl)
theorem dX13_test_30 : decode cX13_test 30 = .ok (.aload_n 0, 1) := dk_42 (dk_at dksX13_test_1 6 rfl rfl)
theorem dX13_test_31 : decode cX13_test 31 = .ok (.iload_n 1, 1) := dk_27 (dk_at dksX13_test_1 7 rfl rfl)
theorem dX13_test_32 : decode cX13_test 32 = .ok (.invokevirtual 292, 3) := dk_182 1 36 (dk_at dksX13_test_1 8 rfl rfl)
theorem dX13_test_35 : decode cX13_test 35 = .ok (.aload_n 0, 1) := dk_42 (dk_at dksX13_test_1 11 rfl rfl)
theorem dX13_test_36 : decode cX13_test 36 = .ok (.iload_n 2, 1) := dk_28 (dk_at dksX13_test_1 12 rfl rfl)
theorem dX13_test_37 : decode cX13_test 37 = .ok (.ifCond .eq 8, 3) := dk_153 0 8 (dk_at dksX13_test_1 13 rfl rfl)
theorem dX13_test_40 : decode cX13_test 40 = .ok (.bipush 7, 2) := dk_16 7 (dk_at dksX13_test_1 16 rfl rfl)
theorem dX13_test_42 : decode cX13_test 42 = .ok (.goto 5, 3) := dk_167 0 5 (dk_at dksX13_test_1 18 rfl rfl)
theorem dX13_test_45 : decode cX13_test 45 = .ok (.bipush 8, 2) := dk_16 8 (dk_at dksX13_test_1 21 rfl rfl)
theorem dX13_test_47 : decode cX13_test 47 = .ok (.iconst 0, 1) := dk_3 (dk_at dksX13_test_1 23 rfl rfl)
theorem dX13_test_48 : decode cX13_test 48 = .ok (.invokevirtual 276, 3) := dk_182 1 20 (dk_at dksX13_test_2 0 rfl rfl)
theorem dX13_test_51 : decode cX13_test 51 = .ok (.return_, 1) := dk_177 (dk_at dksX13_test_2 3 rfl rfl)
abbrev cX13_sums : ByteArray := prog_24_method_38_code
def yX13_sums : MethodName := ⟨RX13, "sums", "(I)V"⟩
def dkwX13_sums_2 : List UInt8 := [153, 0, 7, 7, 167, 0, 4, 8, 3, 182, 1, 20, 167, 255, 202, 177]
abbrev dktX13_sums_2 : List UInt8 := dkwX13_sums_2 ++ []
def dkwX13_sums_1 : List UInt8 := [16, 43, 182, 0, 206, 61, 42, 89, 180, 0, 200, 4, 96, 181, 0, 200, 42, 27, 182, 1, 42, 42, 28]
abbrev dktX13_sums_1 : List UInt8 := dkwX13_sums_1 ++ dktX13_sums_2
def dkwX13_sums_0 : List UInt8 := [42, 27, 182, 1, 42, 42, 16, 43, 182, 0, 206, 154, 0, 12, 42, 16, 45, 182, 0, 206, 153, 0, 42, 42]
abbrev dktX13_sums_0 : List UInt8 := dkwX13_sums_0 ++ dktX13_sums_1
theorem dksX13_sums_0 : cX13_sums.data.toList.drop 0 = dktX13_sums_0 := by decide +kernel
theorem dksX13_sums_1 : cX13_sums.data.toList.drop 24 = dktX13_sums_1 := dk_seg dksX13_sums_0 24 rfl rfl
theorem dksX13_sums_2 : cX13_sums.data.toList.drop 47 = dktX13_sums_2 := dk_seg dksX13_sums_1 23 rfl rfl
theorem dX13_sums_0 : decode cX13_sums 0 = .ok (.aload_n 0, 1) := dk_42 (dk_at dksX13_sums_0 0 rfl rfl)
theorem dX13_sums_1 : decode cX13_sums 1 = .ok (.iload_n 1, 1) := dk_27 (dk_at dksX13_sums_0 1 rfl rfl)
theorem dX13_sums_2 : decode cX13_sums 2 = .ok (.invokevirtual 298, 3) := dk_182 1 42 (dk_at dksX13_sums_0 2 rfl rfl)
theorem dX13_sums_5 : decode cX13_sums 5 = .ok (.aload_n 0, 1) := dk_42 (dk_at dksX13_sums_0 5 rfl rfl)
theorem dX13_sums_6 : decode cX13_sums 6 = .ok (.bipush 43, 2) := dk_16 43 (dk_at dksX13_sums_0 6 rfl rfl)
theorem dX13_sums_8 : decode cX13_sums 8 = .ok (.invokevirtual 206, 3) := dk_182 0 206 (dk_at dksX13_sums_0 8 rfl rfl)
theorem dX13_sums_11 : decode cX13_sums 11 = .ok (.ifCond .ne 12, 3) := dk_154 0 12 (dk_at dksX13_sums_0 11 rfl rfl)
theorem dX13_sums_14 : decode cX13_sums 14 = .ok (.aload_n 0, 1) := dk_42 (dk_at dksX13_sums_0 14 rfl rfl)
theorem dX13_sums_15 : decode cX13_sums 15 = .ok (.bipush 45, 2) := dk_16 45 (dk_at dksX13_sums_0 15 rfl rfl)
theorem dX13_sums_17 : decode cX13_sums 17 = .ok (.invokevirtual 206, 3) := dk_182 0 206 (dk_at dksX13_sums_0 17 rfl rfl)
theorem dX13_sums_20 : decode cX13_sums 20 = .ok (.ifCond .eq 42, 3) := dk_153 0 42 (dk_at dksX13_sums_0 20 rfl rfl)
theorem dX13_sums_23 : decode cX13_sums 23 = .ok (.aload_n 0, 1) := dk_42 (dk_at dksX13_sums_0 23 rfl rfl)
theorem dX13_sums_24 : decode cX13_sums 24 = .ok (.bipush 43, 2) := dk_16 43 (dk_at dksX13_sums_1 0 rfl rfl)
theorem dX13_sums_26 : decode cX13_sums 26 = .ok (.invokevirtual 206, 3) := dk_182 0 206 (dk_at dksX13_sums_1 2 rfl rfl)
theorem dX13_sums_29 : decode cX13_sums 29 = .ok (.istore_n 2, 1) := dk_61 (dk_at dksX13_sums_1 5 rfl rfl)
theorem dX13_sums_30 : decode cX13_sums 30 = .ok (.aload_n 0, 1) := dk_42 (dk_at dksX13_sums_1 6 rfl rfl)
theorem dX13_sums_31 : decode cX13_sums 31 = .ok (.dup, 1) := dk_89 (dk_at dksX13_sums_1 7 rfl rfl)
theorem dX13_sums_32 : decode cX13_sums 32 = .ok (.getfield 200, 3) := dk_180 0 200 (dk_at dksX13_sums_1 8 rfl rfl)
theorem dX13_sums_35 : decode cX13_sums 35 = .ok (.iconst 1, 1) := dk_4 (dk_at dksX13_sums_1 11 rfl rfl)
theorem dX13_sums_36 : decode cX13_sums 36 = .ok (.iadd, 1) := dk_96 (dk_at dksX13_sums_1 12 rfl rfl)
theorem dX13_sums_37 : decode cX13_sums 37 = .ok (.putfield 200, 3) := dk_181 0 200 (dk_at dksX13_sums_1 13 rfl rfl)
theorem dX13_sums_40 : decode cX13_sums 40 = .ok (.aload_n 0, 1) := dk_42 (dk_at dksX13_sums_1 16 rfl rfl)
theorem dX13_sums_41 : decode cX13_sums 41 = .ok (.iload_n 1, 1) := dk_27 (dk_at dksX13_sums_1 17 rfl rfl)
theorem dX13_sums_42 : decode cX13_sums 42 = .ok (.invokevirtual 298, 3) := dk_182 1 42 (dk_at dksX13_sums_1 18 rfl rfl)
theorem dX13_sums_45 : decode cX13_sums 45 = .ok (.aload_n 0, 1) := dk_42 (dk_at dksX13_sums_1 21 rfl rfl)
theorem dX13_sums_46 : decode cX13_sums 46 = .ok (.iload_n 2, 1) := dk_28 (dk_at dksX13_sums_1 22 rfl rfl)
theorem dX13_sums_47 : decode cX13_sums 47 = .ok (.ifCond .eq 7, 3) := dk_153 0 7 (dk_at dksX13_sums_2 0 rfl rfl)
theorem dX13_sums_50 : decode cX13_sums 50 = .ok (.iconst 4, 1) := dk_7 (dk_at dksX13_sums_2 3 rfl rfl)
theorem dX13_sums_51 : decode cX13_sums 51 = .ok (.goto 4, 3) := dk_167 0 4 (dk_at dksX13_sums_2 4 rfl rfl)
theorem dX13_sums_54 : decode cX13_sums 54 = .ok (.iconst 5, 1) := dk_8 (dk_at dksX13_sums_2 7 rfl rfl)
theorem dX13_sums_55 : decode cX13_sums 55 = .ok (.iconst 0, 1) := dk_3 (dk_at dksX13_sums_2 8 rfl rfl)
theorem dX13_sums_56 : decode cX13_sums 56 = .ok (.invokevirtual 276, 3) := dk_182 1 20 (dk_at dksX13_sums_2 9 rfl rfl)
theorem dX13_sums_59 : decode cX13_sums 59 = .ok (.goto (-54), 3) := dk_167 255 202 (dk_at dksX13_sums_2 12 rfl rfl)
theorem dX13_sums_62 : decode cX13_sums 62 = .ok (.return_, 1) := dk_177 (dk_at dksX13_sums_2 15 rfl rfl)
abbrev cX13_products : ByteArray := prog_24_method_39_code
def yX13_products : MethodName := ⟨RX13, "products", "(I)V"⟩
def dkwX13_products_1 : List UInt8 := [182, 1, 20, 167, 255, 235, 177]
abbrev dktX13_products_1 : List UInt8 := dkwX13_products_1 ++ []
def dkwX13_products_0 : List UInt8 := [42, 27, 182, 1, 45, 42, 16, 42, 182, 1, 39, 153, 0, 18, 42, 27, 182, 1, 45, 42, 16, 6, 3]
abbrev dktX13_products_0 : List UInt8 := dkwX13_products_0 ++ dktX13_products_1
theorem dksX13_products_0 : cX13_products.data.toList.drop 0 = dktX13_products_0 := by decide +kernel
theorem dksX13_products_1 : cX13_products.data.toList.drop 23 = dktX13_products_1 := dk_seg dksX13_products_0 23 rfl rfl
theorem dX13_products_0 : decode cX13_products 0 = .ok (.aload_n 0, 1) := dk_42 (dk_at dksX13_products_0 0 rfl rfl)
theorem dX13_products_1 : decode cX13_products 1 = .ok (.iload_n 1, 1) := dk_27 (dk_at dksX13_products_0 1 rfl rfl)
theorem dX13_products_2 : decode cX13_products 2 = .ok (.invokevirtual 301, 3) := dk_182 1 45 (dk_at dksX13_products_0 2 rfl rfl)
theorem dX13_products_5 : decode cX13_products 5 = .ok (.aload_n 0, 1) := dk_42 (dk_at dksX13_products_0 5 rfl rfl)
theorem dX13_products_6 : decode cX13_products 6 = .ok (.bipush 42, 2) := dk_16 42 (dk_at dksX13_products_0 6 rfl rfl)
theorem dX13_products_8 : decode cX13_products 8 = .ok (.invokevirtual 295, 3) := dk_182 1 39 (dk_at dksX13_products_0 8 rfl rfl)
theorem dX13_products_11 : decode cX13_products 11 = .ok (.ifCond .eq 18, 3) := dk_153 0 18 (dk_at dksX13_products_0 11 rfl rfl)
theorem dX13_products_14 : decode cX13_products 14 = .ok (.aload_n 0, 1) := dk_42 (dk_at dksX13_products_0 14 rfl rfl)
theorem dX13_products_15 : decode cX13_products 15 = .ok (.iload_n 1, 1) := dk_27 (dk_at dksX13_products_0 15 rfl rfl)
theorem dX13_products_16 : decode cX13_products 16 = .ok (.invokevirtual 301, 3) := dk_182 1 45 (dk_at dksX13_products_0 16 rfl rfl)
theorem dX13_products_19 : decode cX13_products 19 = .ok (.aload_n 0, 1) := dk_42 (dk_at dksX13_products_0 19 rfl rfl)
theorem dX13_products_20 : decode cX13_products 20 = .ok (.bipush 6, 2) := dk_16 6 (dk_at dksX13_products_0 20 rfl rfl)
theorem dX13_products_22 : decode cX13_products 22 = .ok (.iconst 0, 1) := dk_3 (dk_at dksX13_products_0 22 rfl rfl)
theorem dX13_products_23 : decode cX13_products 23 = .ok (.invokevirtual 276, 3) := dk_182 1 20 (dk_at dksX13_products_1 0 rfl rfl)
theorem dX13_products_26 : decode cX13_products 26 = .ok (.goto (-21), 3) := dk_167 255 235 (dk_at dksX13_products_1 3 rfl rfl)
theorem dX13_products_29 : decode cX13_products 29 = .ok (.return_, 1) := dk_177 (dk_at dksX13_products_1 6 rfl rfl)
abbrev cX13_takePart : ByteArray := prog_24_method_40_code
def yX13_takePart : MethodName := ⟨RX13, "takePart", "(I)V"⟩
def dkwX13_takePart_7 : List UInt8 := [167, 0, 4, 29, 182, 1, 20, 42, 89, 180, 0, 200, 4, 96, 181, 0, 200, 177]
abbrev dktX13_takePart_7 : List UInt8 := dkwX13_takePart_7 ++ []
def dkwX13_takePart_6 : List UInt8 := [153, 0, 7, 4, 167, 0, 4, 5, 28, 153, 0, 16, 42, 180, 0, 30, 42, 180, 0, 200, 47, 136]
abbrev dktX13_takePart_6 : List UInt8 := dkwX13_takePart_6 ++ dktX13_takePart_7
def dkwX13_takePart_5 : List UInt8 := [182, 1, 39, 153, 0, 19, 42, 27, 4, 96, 182, 1, 17, 42, 16, 41, 182, 0, 234, 167, 0, 44, 42, 28]
abbrev dktX13_takePart_5 : List UInt8 := dkwX13_takePart_5 ++ dktX13_takePart_6
def dkwX13_takePart_4 : List UInt8 := [153, 0, 19, 42, 27, 4, 96, 182, 1, 45, 42, 6, 3, 182, 1, 20, 167, 0, 69, 42, 16, 40]
abbrev dktX13_takePart_4 : List UInt8 := dkwX13_takePart_4 ++ dktX13_takePart_5
def dkwX13_takePart_3 : List UInt8 := [8, 160, 0, 8, 42, 8, 182, 0, 209, 42, 180, 0, 203, 158, 0, 4, 177, 42, 16, 17, 182, 0, 215]
abbrev dktX13_takePart_3 : List UInt8 := dkwX13_takePart_3 ++ dktX13_takePart_4
def dkwX13_takePart_2 : List UInt8 := [182, 0, 206, 154, 0, 20, 42, 16, 17, 182, 0, 212, 154, 0, 11, 42, 4, 182, 0, 209, 167, 0, 13, 27]
abbrev dktX13_takePart_2 : List UInt8 := dkwX13_takePart_2 ++ dktX13_takePart_3
def dkwX13_takePart_1 : List UInt8 := [167, 0, 4, 3, 61, 42, 16, 20, 7, 182, 0, 218, 62, 29, 156, 0, 33, 28, 154, 0, 29, 42, 16, 40]
abbrev dktX13_takePart_1 : List UInt8 := dkwX13_takePart_1 ++ dktX13_takePart_2
def dkwX13_takePart_0 : List UInt8 := [42, 180, 0, 203, 158, 0, 4, 177, 42, 180, 0, 24, 42, 180, 0, 200, 46, 5, 160, 0, 7, 4]
abbrev dktX13_takePart_0 : List UInt8 := dkwX13_takePart_0 ++ dktX13_takePart_1
theorem dksX13_takePart_0 : cX13_takePart.data.toList.drop 0 = dktX13_takePart_0 := by decide +kernel
theorem dksX13_takePart_1 : cX13_takePart.data.toList.drop 22 = dktX13_takePart_1 := dk_seg dksX13_takePart_0 22 rfl rfl
theorem dksX13_takePart_2 : cX13_takePart.data.toList.drop 46 = dktX13_takePart_2 := dk_seg dksX13_takePart_1 24 rfl rfl
theorem dksX13_takePart_3 : cX13_takePart.data.toList.drop 70 = dktX13_takePart_3 := dk_seg dksX13_takePart_2 24 rfl rfl
theorem dksX13_takePart_4 : cX13_takePart.data.toList.drop 93 = dktX13_takePart_4 := dk_seg dksX13_takePart_3 23 rfl rfl
theorem dksX13_takePart_5 : cX13_takePart.data.toList.drop 115 = dktX13_takePart_5 := dk_seg dksX13_takePart_4 22 rfl rfl
theorem dksX13_takePart_6 : cX13_takePart.data.toList.drop 139 = dktX13_takePart_6 := dk_seg dksX13_takePart_5 24 rfl rfl
theorem dksX13_takePart_7 : cX13_takePart.data.toList.drop 161 = dktX13_takePart_7 := dk_seg dksX13_takePart_6 22 rfl rfl
theorem dX13_takePart_0 : decode cX13_takePart 0 = .ok (.aload_n 0, 1) := dk_42 (dk_at dksX13_takePart_0 0 rfl rfl)
theorem dX13_takePart_1 : decode cX13_takePart 1 = .ok (.getfield 203, 3) := dk_180 0 203 (dk_at dksX13_takePart_0 1 rfl rfl)
theorem dX13_takePart_4 : decode cX13_takePart 4 = .ok (.ifCond .le 4, 3) := dk_158 0 4 (dk_at dksX13_takePart_0 4 rfl rfl)
theorem dX13_takePart_7 : decode cX13_takePart 7 = .ok (.return_, 1) := dk_177 (dk_at dksX13_takePart_0 7 rfl rfl)
theorem dX13_takePart_8 : decode cX13_takePart 8 = .ok (.aload_n 0, 1) := dk_42 (dk_at dksX13_takePart_0 8 rfl rfl)
theorem dX13_takePart_9 : decode cX13_takePart 9 = .ok (.getfield 24, 3) := dk_180 0 24 (dk_at dksX13_takePart_0 9 rfl rfl)
theorem dX13_takePart_12 : decode cX13_takePart 12 = .ok (.aload_n 0, 1) := dk_42 (dk_at dksX13_takePart_0 12 rfl rfl)
theorem dX13_takePart_13 : decode cX13_takePart 13 = .ok (.getfield 200, 3) := dk_180 0 200 (dk_at dksX13_takePart_0 13 rfl rfl)
theorem dX13_takePart_16 : decode cX13_takePart 16 = .ok (.iaload, 1) := dk_46 (dk_at dksX13_takePart_0 16 rfl rfl)
theorem dX13_takePart_17 : decode cX13_takePart 17 = .ok (.iconst 2, 1) := dk_5 (dk_at dksX13_takePart_0 17 rfl rfl)
theorem dX13_takePart_18 : decode cX13_takePart 18 = .ok (.if_icmp .ne 7, 3) := dk_160 0 7 (dk_at dksX13_takePart_0 18 rfl rfl)
theorem dX13_takePart_21 : decode cX13_takePart 21 = .ok (.iconst 1, 1) := dk_4 (dk_at dksX13_takePart_0 21 rfl rfl)
theorem dX13_takePart_22 : decode cX13_takePart 22 = .ok (.goto 4, 3) := dk_167 0 4 (dk_at dksX13_takePart_1 0 rfl rfl)
theorem dX13_takePart_25 : decode cX13_takePart 25 = .ok (.iconst 0, 1) := dk_3 (dk_at dksX13_takePart_1 3 rfl rfl)
theorem dX13_takePart_26 : decode cX13_takePart 26 = .ok (.istore_n 2, 1) := dk_61 (dk_at dksX13_takePart_1 4 rfl rfl)
theorem dX13_takePart_27 : decode cX13_takePart 27 = .ok (.aload_n 0, 1) := dk_42 (dk_at dksX13_takePart_1 5 rfl rfl)
theorem dX13_takePart_28 : decode cX13_takePart 28 = .ok (.bipush 20, 2) := dk_16 20 (dk_at dksX13_takePart_1 6 rfl rfl)
theorem dX13_takePart_30 : decode cX13_takePart 30 = .ok (.iconst 4, 1) := dk_7 (dk_at dksX13_takePart_1 8 rfl rfl)
theorem dX13_takePart_31 : decode cX13_takePart 31 = .ok (.invokevirtual 218, 3) := dk_182 0 218 (dk_at dksX13_takePart_1 9 rfl rfl)
theorem dX13_takePart_34 : decode cX13_takePart 34 = .ok (.istore_n 3, 1) := dk_62 (dk_at dksX13_takePart_1 12 rfl rfl)
theorem dX13_takePart_35 : decode cX13_takePart 35 = .ok (.iload_n 3, 1) := dk_29 (dk_at dksX13_takePart_1 13 rfl rfl)
theorem dX13_takePart_36 : decode cX13_takePart 36 = .ok (.ifCond .ge 33, 3) := dk_156 0 33 (dk_at dksX13_takePart_1 14 rfl rfl)
theorem dX13_takePart_39 : decode cX13_takePart 39 = .ok (.iload_n 2, 1) := dk_28 (dk_at dksX13_takePart_1 17 rfl rfl)
theorem dX13_takePart_40 : decode cX13_takePart 40 = .ok (.ifCond .ne 29, 3) := dk_154 0 29 (dk_at dksX13_takePart_1 18 rfl rfl)
theorem dX13_takePart_43 : decode cX13_takePart 43 = .ok (.aload_n 0, 1) := dk_42 (dk_at dksX13_takePart_1 21 rfl rfl)
theorem dX13_takePart_44 : decode cX13_takePart 44 = .ok (.bipush 40, 2) := dk_16 40 (dk_at dksX13_takePart_1 22 rfl rfl)
theorem dX13_takePart_46 : decode cX13_takePart 46 = .ok (.invokevirtual 206, 3) := dk_182 0 206 (dk_at dksX13_takePart_2 0 rfl rfl)
theorem dX13_takePart_49 : decode cX13_takePart 49 = .ok (.ifCond .ne 20, 3) := dk_154 0 20 (dk_at dksX13_takePart_2 3 rfl rfl)
theorem dX13_takePart_52 : decode cX13_takePart 52 = .ok (.aload_n 0, 1) := dk_42 (dk_at dksX13_takePart_2 6 rfl rfl)
theorem dX13_takePart_53 : decode cX13_takePart 53 = .ok (.bipush 17, 2) := dk_16 17 (dk_at dksX13_takePart_2 7 rfl rfl)
theorem dX13_takePart_55 : decode cX13_takePart 55 = .ok (.invokevirtual 212, 3) := dk_182 0 212 (dk_at dksX13_takePart_2 9 rfl rfl)
theorem dX13_takePart_58 : decode cX13_takePart 58 = .ok (.ifCond .ne 11, 3) := dk_154 0 11 (dk_at dksX13_takePart_2 12 rfl rfl)
theorem dX13_takePart_61 : decode cX13_takePart 61 = .ok (.aload_n 0, 1) := dk_42 (dk_at dksX13_takePart_2 15 rfl rfl)
theorem dX13_takePart_62 : decode cX13_takePart 62 = .ok (.iconst 1, 1) := dk_4 (dk_at dksX13_takePart_2 16 rfl rfl)
theorem dX13_takePart_63 : decode cX13_takePart 63 = .ok (.invokevirtual 209, 3) := dk_182 0 209 (dk_at dksX13_takePart_2 17 rfl rfl)
theorem dX13_takePart_66 : decode cX13_takePart 66 = .ok (.goto 13, 3) := dk_167 0 13 (dk_at dksX13_takePart_2 20 rfl rfl)
theorem dX13_takePart_69 : decode cX13_takePart 69 = .ok (.iload_n 1, 1) := dk_27 (dk_at dksX13_takePart_2 23 rfl rfl)
theorem dX13_takePart_70 : decode cX13_takePart 70 = .ok (.iconst 5, 1) := dk_8 (dk_at dksX13_takePart_3 0 rfl rfl)
theorem dX13_takePart_71 : decode cX13_takePart 71 = .ok (.if_icmp .ne 8, 3) := dk_160 0 8 (dk_at dksX13_takePart_3 1 rfl rfl)
theorem dX13_takePart_74 : decode cX13_takePart 74 = .ok (.aload_n 0, 1) := dk_42 (dk_at dksX13_takePart_3 4 rfl rfl)
theorem dX13_takePart_75 : decode cX13_takePart 75 = .ok (.iconst 5, 1) := dk_8 (dk_at dksX13_takePart_3 5 rfl rfl)
theorem dX13_takePart_76 : decode cX13_takePart 76 = .ok (.invokevirtual 209, 3) := dk_182 0 209 (dk_at dksX13_takePart_3 6 rfl rfl)
theorem dX13_takePart_79 : decode cX13_takePart 79 = .ok (.aload_n 0, 1) := dk_42 (dk_at dksX13_takePart_3 9 rfl rfl)
theorem dX13_takePart_80 : decode cX13_takePart 80 = .ok (.getfield 203, 3) := dk_180 0 203 (dk_at dksX13_takePart_3 10 rfl rfl)
theorem dX13_takePart_83 : decode cX13_takePart 83 = .ok (.ifCond .le 4, 3) := dk_158 0 4 (dk_at dksX13_takePart_3 13 rfl rfl)
theorem dX13_takePart_86 : decode cX13_takePart 86 = .ok (.return_, 1) := dk_177 (dk_at dksX13_takePart_3 16 rfl rfl)
theorem dX13_takePart_87 : decode cX13_takePart 87 = .ok (.aload_n 0, 1) := dk_42 (dk_at dksX13_takePart_3 17 rfl rfl)
theorem dX13_takePart_88 : decode cX13_takePart 88 = .ok (.bipush 17, 2) := dk_16 17 (dk_at dksX13_takePart_3 18 rfl rfl)
theorem dX13_takePart_90 : decode cX13_takePart 90 = .ok (.invokevirtual 215, 3) := dk_182 0 215 (dk_at dksX13_takePart_3 20 rfl rfl)
theorem dX13_takePart_93 : decode cX13_takePart 93 = .ok (.ifCond .eq 19, 3) := dk_153 0 19 (dk_at dksX13_takePart_4 0 rfl rfl)
theorem dX13_takePart_96 : decode cX13_takePart 96 = .ok (.aload_n 0, 1) := dk_42 (dk_at dksX13_takePart_4 3 rfl rfl)
theorem dX13_takePart_97 : decode cX13_takePart 97 = .ok (.iload_n 1, 1) := dk_27 (dk_at dksX13_takePart_4 4 rfl rfl)
theorem dX13_takePart_98 : decode cX13_takePart 98 = .ok (.iconst 1, 1) := dk_4 (dk_at dksX13_takePart_4 5 rfl rfl)
theorem dX13_takePart_99 : decode cX13_takePart 99 = .ok (.iadd, 1) := dk_96 (dk_at dksX13_takePart_4 6 rfl rfl)
theorem dX13_takePart_100 : decode cX13_takePart 100 = .ok (.invokevirtual 301, 3) := dk_182 1 45 (dk_at dksX13_takePart_4 7 rfl rfl)
theorem dX13_takePart_103 : decode cX13_takePart 103 = .ok (.aload_n 0, 1) := dk_42 (dk_at dksX13_takePart_4 10 rfl rfl)
theorem dX13_takePart_104 : decode cX13_takePart 104 = .ok (.iconst 3, 1) := dk_6 (dk_at dksX13_takePart_4 11 rfl rfl)
theorem dX13_takePart_105 : decode cX13_takePart 105 = .ok (.iconst 0, 1) := dk_3 (dk_at dksX13_takePart_4 12 rfl rfl)
theorem dX13_takePart_106 : decode cX13_takePart 106 = .ok (.invokevirtual 276, 3) := dk_182 1 20 (dk_at dksX13_takePart_4 13 rfl rfl)
theorem dX13_takePart_109 : decode cX13_takePart 109 = .ok (.goto 69, 3) := dk_167 0 69 (dk_at dksX13_takePart_4 16 rfl rfl)
theorem dX13_takePart_112 : decode cX13_takePart 112 = .ok (.aload_n 0, 1) := dk_42 (dk_at dksX13_takePart_4 19 rfl rfl)
theorem dX13_takePart_113 : decode cX13_takePart 113 = .ok (.bipush 40, 2) := dk_16 40 (dk_at dksX13_takePart_4 20 rfl rfl)
theorem dX13_takePart_115 : decode cX13_takePart 115 = .ok (.invokevirtual 295, 3) := dk_182 1 39 (dk_at dksX13_takePart_5 0 rfl rfl)
theorem dX13_takePart_118 : decode cX13_takePart 118 = .ok (.ifCond .eq 19, 3) := dk_153 0 19 (dk_at dksX13_takePart_5 3 rfl rfl)
theorem dX13_takePart_121 : decode cX13_takePart 121 = .ok (.aload_n 0, 1) := dk_42 (dk_at dksX13_takePart_5 6 rfl rfl)
theorem dX13_takePart_122 : decode cX13_takePart 122 = .ok (.iload_n 1, 1) := dk_27 (dk_at dksX13_takePart_5 7 rfl rfl)
theorem dX13_takePart_123 : decode cX13_takePart 123 = .ok (.iconst 1, 1) := dk_4 (dk_at dksX13_takePart_5 8 rfl rfl)
theorem dX13_takePart_124 : decode cX13_takePart 124 = .ok (.iadd, 1) := dk_96 (dk_at dksX13_takePart_5 9 rfl rfl)
theorem dX13_takePart_125 : decode cX13_takePart 125 = .ok (.invokevirtual 273, 3) := dk_182 1 17 (dk_at dksX13_takePart_5 10 rfl rfl)
theorem dX13_takePart_128 : decode cX13_takePart 128 = .ok (.aload_n 0, 1) := dk_42 (dk_at dksX13_takePart_5 13 rfl rfl)
theorem dX13_takePart_129 : decode cX13_takePart 129 = .ok (.bipush 41, 2) := dk_16 41 (dk_at dksX13_takePart_5 14 rfl rfl)
theorem dX13_takePart_131 : decode cX13_takePart 131 = .ok (.invokevirtual 234, 3) := dk_182 0 234 (dk_at dksX13_takePart_5 16 rfl rfl)
theorem dX13_takePart_134 : decode cX13_takePart 134 = .ok (.goto 44, 3) := dk_167 0 44 (dk_at dksX13_takePart_5 19 rfl rfl)
theorem dX13_takePart_137 : decode cX13_takePart 137 = .ok (.aload_n 0, 1) := dk_42 (dk_at dksX13_takePart_5 22 rfl rfl)
theorem dX13_takePart_138 : decode cX13_takePart 138 = .ok (.iload_n 2, 1) := dk_28 (dk_at dksX13_takePart_5 23 rfl rfl)
theorem dX13_takePart_139 : decode cX13_takePart 139 = .ok (.ifCond .eq 7, 3) := dk_153 0 7 (dk_at dksX13_takePart_6 0 rfl rfl)
theorem dX13_takePart_142 : decode cX13_takePart 142 = .ok (.iconst 1, 1) := dk_4 (dk_at dksX13_takePart_6 3 rfl rfl)
theorem dX13_takePart_143 : decode cX13_takePart 143 = .ok (.goto 4, 3) := dk_167 0 4 (dk_at dksX13_takePart_6 4 rfl rfl)
theorem dX13_takePart_146 : decode cX13_takePart 146 = .ok (.iconst 2, 1) := dk_5 (dk_at dksX13_takePart_6 7 rfl rfl)
theorem dX13_takePart_147 : decode cX13_takePart 147 = .ok (.iload_n 2, 1) := dk_28 (dk_at dksX13_takePart_6 8 rfl rfl)
theorem dX13_takePart_148 : decode cX13_takePart 148 = .ok (.ifCond .eq 16, 3) := dk_153 0 16 (dk_at dksX13_takePart_6 9 rfl rfl)
theorem dX13_takePart_151 : decode cX13_takePart 151 = .ok (.aload_n 0, 1) := dk_42 (dk_at dksX13_takePart_6 12 rfl rfl)
theorem dX13_takePart_152 : decode cX13_takePart 152 = .ok (.getfield 30, 3) := dk_180 0 30 (dk_at dksX13_takePart_6 13 rfl rfl)
theorem dX13_takePart_155 : decode cX13_takePart 155 = .ok (.aload_n 0, 1) := dk_42 (dk_at dksX13_takePart_6 16 rfl rfl)
theorem dX13_takePart_156 : decode cX13_takePart 156 = .ok (.getfield 200, 3) := dk_180 0 200 (dk_at dksX13_takePart_6 17 rfl rfl)
theorem dX13_takePart_159 : decode cX13_takePart 159 = .ok (.laload, 1) := dk_47 (dk_at dksX13_takePart_6 20 rfl rfl)
theorem dX13_takePart_160 : decode cX13_takePart 160 = .ok (.l2i, 1) := dk_136 (dk_at dksX13_takePart_6 21 rfl rfl)
theorem dX13_takePart_161 : decode cX13_takePart 161 = .ok (.goto 4, 3) := dk_167 0 4 (dk_at dksX13_takePart_7 0 rfl rfl)
theorem dX13_takePart_164 : decode cX13_takePart 164 = .ok (.iload_n 3, 1) := dk_29 (dk_at dksX13_takePart_7 3 rfl rfl)
theorem dX13_takePart_165 : decode cX13_takePart 165 = .ok (.invokevirtual 276, 3) := dk_182 1 20 (dk_at dksX13_takePart_7 4 rfl rfl)
theorem dX13_takePart_168 : decode cX13_takePart 168 = .ok (.aload_n 0, 1) := dk_42 (dk_at dksX13_takePart_7 7 rfl rfl)
theorem dX13_takePart_169 : decode cX13_takePart 169 = .ok (.dup, 1) := dk_89 (dk_at dksX13_takePart_7 8 rfl rfl)
theorem dX13_takePart_170 : decode cX13_takePart 170 = .ok (.getfield 200, 3) := dk_180 0 200 (dk_at dksX13_takePart_7 9 rfl rfl)
theorem dX13_takePart_173 : decode cX13_takePart 173 = .ok (.iconst 1, 1) := dk_4 (dk_at dksX13_takePart_7 12 rfl rfl)
theorem dX13_takePart_174 : decode cX13_takePart 174 = .ok (.iadd, 1) := dk_96 (dk_at dksX13_takePart_7 13 rfl rfl)
theorem dX13_takePart_175 : decode cX13_takePart 175 = .ok (.putfield 200, 3) := dk_181 0 200 (dk_at dksX13_takePart_7 14 rfl rfl)
theorem dX13_takePart_178 : decode cX13_takePart 178 = .ok (.return_, 1) := dk_177 (dk_at dksX13_takePart_7 17 rfl rfl)
abbrev cX13_isSign : ByteArray := prog_24_method_11_code
def yX13_isSign : MethodName := ⟨RX13, "isSign", "(I)Z"⟩
def dkwX13_isSign_1 : List UInt8 := [42, 180, 0, 200, 47, 27, 133, 148, 154, 0, 7, 4, 167, 0, 4, 3, 172]
abbrev dktX13_isSign_1 : List UInt8 := dkwX13_isSign_1 ++ []
def dkwX13_isSign_0 : List UInt8 := [42, 180, 0, 203, 154, 0, 35, 42, 180, 0, 24, 42, 180, 0, 200, 46, 6, 160, 0, 22, 42, 180, 0, 30]
abbrev dktX13_isSign_0 : List UInt8 := dkwX13_isSign_0 ++ dktX13_isSign_1
theorem dksX13_isSign_0 : cX13_isSign.data.toList.drop 0 = dktX13_isSign_0 := by decide +kernel
theorem dksX13_isSign_1 : cX13_isSign.data.toList.drop 24 = dktX13_isSign_1 := dk_seg dksX13_isSign_0 24 rfl rfl
theorem dX13_isSign_0 : decode cX13_isSign 0 = .ok (.aload_n 0, 1) := dk_42 (dk_at dksX13_isSign_0 0 rfl rfl)
theorem dX13_isSign_1 : decode cX13_isSign 1 = .ok (.getfield 203, 3) := dk_180 0 203 (dk_at dksX13_isSign_0 1 rfl rfl)
theorem dX13_isSign_4 : decode cX13_isSign 4 = .ok (.ifCond .ne 35, 3) := dk_154 0 35 (dk_at dksX13_isSign_0 4 rfl rfl)
theorem dX13_isSign_7 : decode cX13_isSign 7 = .ok (.aload_n 0, 1) := dk_42 (dk_at dksX13_isSign_0 7 rfl rfl)
theorem dX13_isSign_8 : decode cX13_isSign 8 = .ok (.getfield 24, 3) := dk_180 0 24 (dk_at dksX13_isSign_0 8 rfl rfl)
theorem dX13_isSign_11 : decode cX13_isSign 11 = .ok (.aload_n 0, 1) := dk_42 (dk_at dksX13_isSign_0 11 rfl rfl)
theorem dX13_isSign_12 : decode cX13_isSign 12 = .ok (.getfield 200, 3) := dk_180 0 200 (dk_at dksX13_isSign_0 12 rfl rfl)
theorem dX13_isSign_15 : decode cX13_isSign 15 = .ok (.iaload, 1) := dk_46 (dk_at dksX13_isSign_0 15 rfl rfl)
theorem dX13_isSign_16 : decode cX13_isSign 16 = .ok (.iconst 3, 1) := dk_6 (dk_at dksX13_isSign_0 16 rfl rfl)
theorem dX13_isSign_17 : decode cX13_isSign 17 = .ok (.if_icmp .ne 22, 3) := dk_160 0 22 (dk_at dksX13_isSign_0 17 rfl rfl)
theorem dX13_isSign_20 : decode cX13_isSign 20 = .ok (.aload_n 0, 1) := dk_42 (dk_at dksX13_isSign_0 20 rfl rfl)
theorem dX13_isSign_21 : decode cX13_isSign 21 = .ok (.getfield 30, 3) := dk_180 0 30 (dk_at dksX13_isSign_0 21 rfl rfl)
theorem dX13_isSign_24 : decode cX13_isSign 24 = .ok (.aload_n 0, 1) := dk_42 (dk_at dksX13_isSign_1 0 rfl rfl)
theorem dX13_isSign_25 : decode cX13_isSign 25 = .ok (.getfield 200, 3) := dk_180 0 200 (dk_at dksX13_isSign_1 1 rfl rfl)
theorem dX13_isSign_28 : decode cX13_isSign 28 = .ok (.laload, 1) := dk_47 (dk_at dksX13_isSign_1 4 rfl rfl)
theorem dX13_isSign_29 : decode cX13_isSign 29 = .ok (.iload_n 1, 1) := dk_27 (dk_at dksX13_isSign_1 5 rfl rfl)
theorem dX13_isSign_30 : decode cX13_isSign 30 = .ok (.i2l, 1) := dk_133 (dk_at dksX13_isSign_1 6 rfl rfl)
theorem dX13_isSign_31 : decode cX13_isSign 31 = .ok (.lcmp, 1) := dk_148 (dk_at dksX13_isSign_1 7 rfl rfl)
theorem dX13_isSign_32 : decode cX13_isSign 32 = .ok (.ifCond .ne 7, 3) := dk_154 0 7 (dk_at dksX13_isSign_1 8 rfl rfl)
theorem dX13_isSign_35 : decode cX13_isSign 35 = .ok (.iconst 1, 1) := dk_4 (dk_at dksX13_isSign_1 11 rfl rfl)
theorem dX13_isSign_36 : decode cX13_isSign 36 = .ok (.goto 4, 3) := dk_167 0 4 (dk_at dksX13_isSign_1 12 rfl rfl)
theorem dX13_isSign_39 : decode cX13_isSign 39 = .ok (.iconst 0, 1) := dk_3 (dk_at dksX13_isSign_1 15 rfl rfl)
theorem dX13_isSign_40 : decode cX13_isSign 40 = .ok (.ireturn, 1) := dk_172 (dk_at dksX13_isSign_1 16 rfl rfl)
abbrev cX13_emit : ByteArray := prog_24_method_35_code
def yX13_emit : MethodName := ⟨RX13, "emit", "(II)V"⟩
def dkwX13_emit_1 : List UInt8 := [180, 0, 225, 96, 28, 79, 42, 89, 180, 0, 225, 4, 96, 181, 0, 225, 177]
abbrev dktX13_emit_1 : List UInt8 := dkwX13_emit_1 ++ []
def dkwX13_emit_0 : List UInt8 := [42, 180, 0, 88, 17, 4, 76, 42, 180, 0, 225, 96, 27, 79, 42, 180, 0, 91, 17, 4, 76, 42]
abbrev dktX13_emit_0 : List UInt8 := dkwX13_emit_0 ++ dktX13_emit_1
theorem dksX13_emit_0 : cX13_emit.data.toList.drop 0 = dktX13_emit_0 := by decide +kernel
theorem dksX13_emit_1 : cX13_emit.data.toList.drop 22 = dktX13_emit_1 := dk_seg dksX13_emit_0 22 rfl rfl
theorem dX13_emit_0 : decode cX13_emit 0 = .ok (.aload_n 0, 1) := dk_42 (dk_at dksX13_emit_0 0 rfl rfl)
theorem dX13_emit_1 : decode cX13_emit 1 = .ok (.getfield 88, 3) := dk_180 0 88 (dk_at dksX13_emit_0 1 rfl rfl)
theorem dX13_emit_4 : decode cX13_emit 4 = .ok (.sipush 1100, 3) := dk_17 4 76 (dk_at dksX13_emit_0 4 rfl rfl)
theorem dX13_emit_7 : decode cX13_emit 7 = .ok (.aload_n 0, 1) := dk_42 (dk_at dksX13_emit_0 7 rfl rfl)
theorem dX13_emit_8 : decode cX13_emit 8 = .ok (.getfield 225, 3) := dk_180 0 225 (dk_at dksX13_emit_0 8 rfl rfl)
theorem dX13_emit_11 : decode cX13_emit 11 = .ok (.iadd, 1) := dk_96 (dk_at dksX13_emit_0 11 rfl rfl)
theorem dX13_emit_12 : decode cX13_emit 12 = .ok (.iload_n 1, 1) := dk_27 (dk_at dksX13_emit_0 12 rfl rfl)
theorem dX13_emit_13 : decode cX13_emit 13 = .ok (.iastore, 1) := dk_79 (dk_at dksX13_emit_0 13 rfl rfl)
theorem dX13_emit_14 : decode cX13_emit 14 = .ok (.aload_n 0, 1) := dk_42 (dk_at dksX13_emit_0 14 rfl rfl)
theorem dX13_emit_15 : decode cX13_emit 15 = .ok (.getfield 91, 3) := dk_180 0 91 (dk_at dksX13_emit_0 15 rfl rfl)
theorem dX13_emit_18 : decode cX13_emit 18 = .ok (.sipush 1100, 3) := dk_17 4 76 (dk_at dksX13_emit_0 18 rfl rfl)
theorem dX13_emit_21 : decode cX13_emit 21 = .ok (.aload_n 0, 1) := dk_42 (dk_at dksX13_emit_0 21 rfl rfl)
theorem dX13_emit_22 : decode cX13_emit 22 = .ok (.getfield 225, 3) := dk_180 0 225 (dk_at dksX13_emit_1 0 rfl rfl)
theorem dX13_emit_25 : decode cX13_emit 25 = .ok (.iadd, 1) := dk_96 (dk_at dksX13_emit_1 3 rfl rfl)
theorem dX13_emit_26 : decode cX13_emit 26 = .ok (.iload_n 2, 1) := dk_28 (dk_at dksX13_emit_1 4 rfl rfl)
theorem dX13_emit_27 : decode cX13_emit 27 = .ok (.iastore, 1) := dk_79 (dk_at dksX13_emit_1 5 rfl rfl)
theorem dX13_emit_28 : decode cX13_emit 28 = .ok (.aload_n 0, 1) := dk_42 (dk_at dksX13_emit_1 6 rfl rfl)
theorem dX13_emit_29 : decode cX13_emit 29 = .ok (.dup, 1) := dk_89 (dk_at dksX13_emit_1 7 rfl rfl)
theorem dX13_emit_30 : decode cX13_emit 30 = .ok (.getfield 225, 3) := dk_180 0 225 (dk_at dksX13_emit_1 8 rfl rfl)
theorem dX13_emit_33 : decode cX13_emit 33 = .ok (.iconst 1, 1) := dk_4 (dk_at dksX13_emit_1 11 rfl rfl)
theorem dX13_emit_34 : decode cX13_emit 34 = .ok (.iadd, 1) := dk_96 (dk_at dksX13_emit_1 12 rfl rfl)
theorem dX13_emit_35 : decode cX13_emit 35 = .ok (.putfield 225, 3) := dk_181 0 225 (dk_at dksX13_emit_1 13 rfl rfl)
theorem dX13_emit_38 : decode cX13_emit 38 = .ok (.return_, 1) := dk_177 (dk_at dksX13_emit_1 16 rfl rfl)
abbrev cX13_hasSign : ByteArray := prog_24_method_14_code
def yX13_hasSign : MethodName := ⟨RX13, "hasSign", "(I)Z"⟩
def dkwX13_hasSign_1 : List UInt8 := [28, 172]
abbrev dktX13_hasSign_1 : List UInt8 := dkwX13_hasSign_1 ++ []
def dkwX13_hasSign_0 : List UInt8 := [42, 27, 182, 0, 206, 61, 42, 89, 180, 0, 200, 28, 153, 0, 7, 4, 167, 0, 4, 3, 96, 181, 0, 200]
abbrev dktX13_hasSign_0 : List UInt8 := dkwX13_hasSign_0 ++ dktX13_hasSign_1
theorem dksX13_hasSign_0 : cX13_hasSign.data.toList.drop 0 = dktX13_hasSign_0 := by decide +kernel
theorem dksX13_hasSign_1 : cX13_hasSign.data.toList.drop 24 = dktX13_hasSign_1 := dk_seg dksX13_hasSign_0 24 rfl rfl
theorem dX13_hasSign_0 : decode cX13_hasSign 0 = .ok (.aload_n 0, 1) := dk_42 (dk_at dksX13_hasSign_0 0 rfl rfl)
theorem dX13_hasSign_1 : decode cX13_hasSign 1 = .ok (.iload_n 1, 1) := dk_27 (dk_at dksX13_hasSign_0 1 rfl rfl)
theorem dX13_hasSign_2 : decode cX13_hasSign 2 = .ok (.invokevirtual 206, 3) := dk_182 0 206 (dk_at dksX13_hasSign_0 2 rfl rfl)
theorem dX13_hasSign_5 : decode cX13_hasSign 5 = .ok (.istore_n 2, 1) := dk_61 (dk_at dksX13_hasSign_0 5 rfl rfl)
theorem dX13_hasSign_6 : decode cX13_hasSign 6 = .ok (.aload_n 0, 1) := dk_42 (dk_at dksX13_hasSign_0 6 rfl rfl)
theorem dX13_hasSign_7 : decode cX13_hasSign 7 = .ok (.dup, 1) := dk_89 (dk_at dksX13_hasSign_0 7 rfl rfl)
theorem dX13_hasSign_8 : decode cX13_hasSign 8 = .ok (.getfield 200, 3) := dk_180 0 200 (dk_at dksX13_hasSign_0 8 rfl rfl)
theorem dX13_hasSign_11 : decode cX13_hasSign 11 = .ok (.iload_n 2, 1) := dk_28 (dk_at dksX13_hasSign_0 11 rfl rfl)
theorem dX13_hasSign_12 : decode cX13_hasSign 12 = .ok (.ifCond .eq 7, 3) := dk_153 0 7 (dk_at dksX13_hasSign_0 12 rfl rfl)
theorem dX13_hasSign_15 : decode cX13_hasSign 15 = .ok (.iconst 1, 1) := dk_4 (dk_at dksX13_hasSign_0 15 rfl rfl)
theorem dX13_hasSign_16 : decode cX13_hasSign 16 = .ok (.goto 4, 3) := dk_167 0 4 (dk_at dksX13_hasSign_0 16 rfl rfl)
theorem dX13_hasSign_19 : decode cX13_hasSign 19 = .ok (.iconst 0, 1) := dk_3 (dk_at dksX13_hasSign_0 19 rfl rfl)
theorem dX13_hasSign_20 : decode cX13_hasSign 20 = .ok (.iadd, 1) := dk_96 (dk_at dksX13_hasSign_0 20 rfl rfl)
theorem dX13_hasSign_21 : decode cX13_hasSign 21 = .ok (.putfield 200, 3) := dk_181 0 200 (dk_at dksX13_hasSign_0 21 rfl rfl)
theorem dX13_hasSign_24 : decode cX13_hasSign 24 = .ok (.iload_n 2, 1) := dk_28 (dk_at dksX13_hasSign_1 0 rfl rfl)
theorem dX13_hasSign_25 : decode cX13_hasSign 25 = .ok (.ireturn, 1) := dk_172 (dk_at dksX13_hasSign_1 1 rfl rfl)
abbrev cX13_takeSign : ByteArray := prog_24_method_13_code
def yX13_takeSign : MethodName := ⟨RX13, "takeSign", "(I)V"⟩
def dkwX13_takeSign_1 : List UInt8 := [182, 0, 209, 177]
abbrev dktX13_takeSign_1 : List UInt8 := dkwX13_takeSign_1 ++ []
def dkwX13_takeSign_0 : List UInt8 := [42, 27, 182, 0, 206, 153, 0, 16, 42, 89, 180, 0, 200, 4, 96, 181, 0, 200, 167, 0, 8, 42, 4]
abbrev dktX13_takeSign_0 : List UInt8 := dkwX13_takeSign_0 ++ dktX13_takeSign_1
theorem dksX13_takeSign_0 : cX13_takeSign.data.toList.drop 0 = dktX13_takeSign_0 := by decide +kernel
theorem dksX13_takeSign_1 : cX13_takeSign.data.toList.drop 23 = dktX13_takeSign_1 := dk_seg dksX13_takeSign_0 23 rfl rfl
theorem dX13_takeSign_0 : decode cX13_takeSign 0 = .ok (.aload_n 0, 1) := dk_42 (dk_at dksX13_takeSign_0 0 rfl rfl)
theorem dX13_takeSign_1 : decode cX13_takeSign 1 = .ok (.iload_n 1, 1) := dk_27 (dk_at dksX13_takeSign_0 1 rfl rfl)
theorem dX13_takeSign_2 : decode cX13_takeSign 2 = .ok (.invokevirtual 206, 3) := dk_182 0 206 (dk_at dksX13_takeSign_0 2 rfl rfl)
theorem dX13_takeSign_5 : decode cX13_takeSign 5 = .ok (.ifCond .eq 16, 3) := dk_153 0 16 (dk_at dksX13_takeSign_0 5 rfl rfl)
theorem dX13_takeSign_8 : decode cX13_takeSign 8 = .ok (.aload_n 0, 1) := dk_42 (dk_at dksX13_takeSign_0 8 rfl rfl)
theorem dX13_takeSign_9 : decode cX13_takeSign 9 = .ok (.dup, 1) := dk_89 (dk_at dksX13_takeSign_0 9 rfl rfl)
theorem dX13_takeSign_10 : decode cX13_takeSign 10 = .ok (.getfield 200, 3) := dk_180 0 200 (dk_at dksX13_takeSign_0 10 rfl rfl)
theorem dX13_takeSign_13 : decode cX13_takeSign 13 = .ok (.iconst 1, 1) := dk_4 (dk_at dksX13_takeSign_0 13 rfl rfl)
theorem dX13_takeSign_14 : decode cX13_takeSign 14 = .ok (.iadd, 1) := dk_96 (dk_at dksX13_takeSign_0 14 rfl rfl)
theorem dX13_takeSign_15 : decode cX13_takeSign 15 = .ok (.putfield 200, 3) := dk_181 0 200 (dk_at dksX13_takeSign_0 15 rfl rfl)
theorem dX13_takeSign_18 : decode cX13_takeSign 18 = .ok (.goto 8, 3) := dk_167 0 8 (dk_at dksX13_takeSign_0 18 rfl rfl)
theorem dX13_takeSign_21 : decode cX13_takeSign 21 = .ok (.aload_n 0, 1) := dk_42 (dk_at dksX13_takeSign_0 21 rfl rfl)
theorem dX13_takeSign_22 : decode cX13_takeSign 22 = .ok (.iconst 1, 1) := dk_4 (dk_at dksX13_takeSign_0 22 rfl rfl)
theorem dX13_takeSign_23 : decode cX13_takeSign 23 = .ok (.invokevirtual 209, 3) := dk_182 0 209 (dk_at dksX13_takeSign_1 0 rfl rfl)
theorem dX13_takeSign_26 : decode cX13_takeSign 26 = .ok (.return_, 1) := dk_177 (dk_at dksX13_takeSign_1 3 rfl rfl)
abbrev cX13_deal : ByteArray := prog_24_method_31_code
def yX13_deal : MethodName := ⟨RX13, "deal", "()I"⟩
def dkwX13_deal_6 : List UInt8 := [180, 0, 203, 172, 42, 182, 1, 27, 3, 172]
abbrev dktX13_deal_6 : List UInt8 := dkwX13_deal_6 ++ []
def dkwX13_deal_5 : List UInt8 := [16, 24, 182, 1, 24, 42, 16, 59, 182, 0, 234, 167, 255, 158, 42, 180, 0, 203, 158, 0, 8, 42]
abbrev dktX13_deal_5 : List UInt8 := dkwX13_deal_5 ++ dktX13_deal_6
def dkwX13_deal_4 : List UInt8 := [89, 180, 0, 228, 4, 27, 120, 128, 181, 0, 228, 42, 89, 180, 0, 200, 4, 96, 181, 0, 200, 42, 27]
abbrev dktX13_deal_4 : List UInt8 := dkwX13_deal_4 ++ dktX13_deal_5
def dkwX13_deal_3 : List UInt8 := [180, 0, 228, 27, 122, 4, 126, 4, 160, 0, 8, 42, 6, 182, 0, 209, 42, 180, 0, 203, 154, 0, 32, 42]
abbrev dktX13_deal_3 : List UInt8 := dkwX13_deal_3 ++ dktX13_deal_4
def dkwX13_deal_2 : List UInt8 := [153, 0, 85, 42, 16, 12, 5, 182, 0, 218, 60, 27, 156, 0, 11, 42, 4, 182, 0, 209, 167, 0, 20, 42]
abbrev dktX13_deal_2 : List UInt8 := dkwX13_deal_2 ++ dktX13_deal_3
def dkwX13_deal_1 : List UInt8 := [180, 0, 103, 4, 3, 79, 42, 180, 0, 203, 154, 0, 97, 42, 180, 0, 24, 42, 180, 0, 200, 46]
abbrev dktX13_deal_1 : List UInt8 := dkwX13_deal_1 ++ dktX13_deal_2
def dkwX13_deal_0 : List UInt8 := [42, 3, 181, 0, 1, 42, 182, 0, 222, 42, 3, 181, 0, 228, 42, 180, 0, 103, 3, 3, 79, 42]
abbrev dktX13_deal_0 : List UInt8 := dkwX13_deal_0 ++ dktX13_deal_1
theorem dksX13_deal_0 : cX13_deal.data.toList.drop 0 = dktX13_deal_0 := by decide +kernel
theorem dksX13_deal_1 : cX13_deal.data.toList.drop 22 = dktX13_deal_1 := dk_seg dksX13_deal_0 22 rfl rfl
theorem dksX13_deal_2 : cX13_deal.data.toList.drop 44 = dktX13_deal_2 := dk_seg dksX13_deal_1 22 rfl rfl
theorem dksX13_deal_3 : cX13_deal.data.toList.drop 68 = dktX13_deal_3 := dk_seg dksX13_deal_2 24 rfl rfl
theorem dksX13_deal_4 : cX13_deal.data.toList.drop 92 = dktX13_deal_4 := dk_seg dksX13_deal_3 24 rfl rfl
theorem dksX13_deal_5 : cX13_deal.data.toList.drop 115 = dktX13_deal_5 := dk_seg dksX13_deal_4 23 rfl rfl
theorem dksX13_deal_6 : cX13_deal.data.toList.drop 137 = dktX13_deal_6 := dk_seg dksX13_deal_5 22 rfl rfl
theorem dX13_deal_0 : decode cX13_deal 0 = .ok (.aload_n 0, 1) := dk_42 (dk_at dksX13_deal_0 0 rfl rfl)
theorem dX13_deal_1 : decode cX13_deal 1 = .ok (.iconst 0, 1) := dk_3 (dk_at dksX13_deal_0 1 rfl rfl)
theorem dX13_deal_2 : decode cX13_deal 2 = .ok (.putfield 1, 3) := dk_181 0 1 (dk_at dksX13_deal_0 2 rfl rfl)
theorem dX13_deal_5 : decode cX13_deal 5 = .ok (.aload_n 0, 1) := dk_42 (dk_at dksX13_deal_0 5 rfl rfl)
theorem dX13_deal_6 : decode cX13_deal 6 = .ok (.invokevirtual 222, 3) := dk_182 0 222 (dk_at dksX13_deal_0 6 rfl rfl)
theorem dX13_deal_9 : decode cX13_deal 9 = .ok (.aload_n 0, 1) := dk_42 (dk_at dksX13_deal_0 9 rfl rfl)
theorem dX13_deal_10 : decode cX13_deal 10 = .ok (.iconst 0, 1) := dk_3 (dk_at dksX13_deal_0 10 rfl rfl)
theorem dX13_deal_11 : decode cX13_deal 11 = .ok (.putfield 228, 3) := dk_181 0 228 (dk_at dksX13_deal_0 11 rfl rfl)
theorem dX13_deal_14 : decode cX13_deal 14 = .ok (.aload_n 0, 1) := dk_42 (dk_at dksX13_deal_0 14 rfl rfl)
theorem dX13_deal_15 : decode cX13_deal 15 = .ok (.getfield 103, 3) := dk_180 0 103 (dk_at dksX13_deal_0 15 rfl rfl)
theorem dX13_deal_18 : decode cX13_deal 18 = .ok (.iconst 0, 1) := dk_3 (dk_at dksX13_deal_0 18 rfl rfl)
theorem dX13_deal_19 : decode cX13_deal 19 = .ok (.iconst 0, 1) := dk_3 (dk_at dksX13_deal_0 19 rfl rfl)
theorem dX13_deal_20 : decode cX13_deal 20 = .ok (.iastore, 1) := dk_79 (dk_at dksX13_deal_0 20 rfl rfl)
theorem dX13_deal_21 : decode cX13_deal 21 = .ok (.aload_n 0, 1) := dk_42 (dk_at dksX13_deal_0 21 rfl rfl)
theorem dX13_deal_22 : decode cX13_deal 22 = .ok (.getfield 103, 3) := dk_180 0 103 (dk_at dksX13_deal_1 0 rfl rfl)
theorem dX13_deal_25 : decode cX13_deal 25 = .ok (.iconst 1, 1) := dk_4 (dk_at dksX13_deal_1 3 rfl rfl)
theorem dX13_deal_26 : decode cX13_deal 26 = .ok (.iconst 0, 1) := dk_3 (dk_at dksX13_deal_1 4 rfl rfl)
theorem dX13_deal_27 : decode cX13_deal 27 = .ok (.iastore, 1) := dk_79 (dk_at dksX13_deal_1 5 rfl rfl)
theorem dX13_deal_28 : decode cX13_deal 28 = .ok (.aload_n 0, 1) := dk_42 (dk_at dksX13_deal_1 6 rfl rfl)
theorem dX13_deal_29 : decode cX13_deal 29 = .ok (.getfield 203, 3) := dk_180 0 203 (dk_at dksX13_deal_1 7 rfl rfl)
theorem dX13_deal_32 : decode cX13_deal 32 = .ok (.ifCond .ne 97, 3) := dk_154 0 97 (dk_at dksX13_deal_1 10 rfl rfl)
theorem dX13_deal_35 : decode cX13_deal 35 = .ok (.aload_n 0, 1) := dk_42 (dk_at dksX13_deal_1 13 rfl rfl)
theorem dX13_deal_36 : decode cX13_deal 36 = .ok (.getfield 24, 3) := dk_180 0 24 (dk_at dksX13_deal_1 14 rfl rfl)
theorem dX13_deal_39 : decode cX13_deal 39 = .ok (.aload_n 0, 1) := dk_42 (dk_at dksX13_deal_1 17 rfl rfl)
theorem dX13_deal_40 : decode cX13_deal 40 = .ok (.getfield 200, 3) := dk_180 0 200 (dk_at dksX13_deal_1 18 rfl rfl)
theorem dX13_deal_43 : decode cX13_deal 43 = .ok (.iaload, 1) := dk_46 (dk_at dksX13_deal_1 21 rfl rfl)
theorem dX13_deal_44 : decode cX13_deal 44 = .ok (.ifCond .eq 85, 3) := dk_153 0 85 (dk_at dksX13_deal_2 0 rfl rfl)
theorem dX13_deal_47 : decode cX13_deal 47 = .ok (.aload_n 0, 1) := dk_42 (dk_at dksX13_deal_2 3 rfl rfl)
theorem dX13_deal_48 : decode cX13_deal 48 = .ok (.bipush 12, 2) := dk_16 12 (dk_at dksX13_deal_2 4 rfl rfl)
theorem dX13_deal_50 : decode cX13_deal 50 = .ok (.iconst 2, 1) := dk_5 (dk_at dksX13_deal_2 6 rfl rfl)
theorem dX13_deal_51 : decode cX13_deal 51 = .ok (.invokevirtual 218, 3) := dk_182 0 218 (dk_at dksX13_deal_2 7 rfl rfl)
theorem dX13_deal_54 : decode cX13_deal 54 = .ok (.istore_n 1, 1) := dk_60 (dk_at dksX13_deal_2 10 rfl rfl)
theorem dX13_deal_55 : decode cX13_deal 55 = .ok (.iload_n 1, 1) := dk_27 (dk_at dksX13_deal_2 11 rfl rfl)
theorem dX13_deal_56 : decode cX13_deal 56 = .ok (.ifCond .ge 11, 3) := dk_156 0 11 (dk_at dksX13_deal_2 12 rfl rfl)
theorem dX13_deal_59 : decode cX13_deal 59 = .ok (.aload_n 0, 1) := dk_42 (dk_at dksX13_deal_2 15 rfl rfl)
theorem dX13_deal_60 : decode cX13_deal 60 = .ok (.iconst 1, 1) := dk_4 (dk_at dksX13_deal_2 16 rfl rfl)
theorem dX13_deal_61 : decode cX13_deal 61 = .ok (.invokevirtual 209, 3) := dk_182 0 209 (dk_at dksX13_deal_2 17 rfl rfl)
theorem dX13_deal_64 : decode cX13_deal 64 = .ok (.goto 20, 3) := dk_167 0 20 (dk_at dksX13_deal_2 20 rfl rfl)
theorem dX13_deal_67 : decode cX13_deal 67 = .ok (.aload_n 0, 1) := dk_42 (dk_at dksX13_deal_2 23 rfl rfl)
theorem dX13_deal_68 : decode cX13_deal 68 = .ok (.getfield 228, 3) := dk_180 0 228 (dk_at dksX13_deal_3 0 rfl rfl)
theorem dX13_deal_71 : decode cX13_deal 71 = .ok (.iload_n 1, 1) := dk_27 (dk_at dksX13_deal_3 3 rfl rfl)
theorem dX13_deal_72 : decode cX13_deal 72 = .ok (.ishr, 1) := dk_122 (dk_at dksX13_deal_3 4 rfl rfl)
theorem dX13_deal_73 : decode cX13_deal 73 = .ok (.iconst 1, 1) := dk_4 (dk_at dksX13_deal_3 5 rfl rfl)
theorem dX13_deal_74 : decode cX13_deal 74 = .ok (.iand, 1) := dk_126 (dk_at dksX13_deal_3 6 rfl rfl)
theorem dX13_deal_75 : decode cX13_deal 75 = .ok (.iconst 1, 1) := dk_4 (dk_at dksX13_deal_3 7 rfl rfl)
theorem dX13_deal_76 : decode cX13_deal 76 = .ok (.if_icmp .ne 8, 3) := dk_160 0 8 (dk_at dksX13_deal_3 8 rfl rfl)
theorem dX13_deal_79 : decode cX13_deal 79 = .ok (.aload_n 0, 1) := dk_42 (dk_at dksX13_deal_3 11 rfl rfl)
theorem dX13_deal_80 : decode cX13_deal 80 = .ok (.iconst 3, 1) := dk_6 (dk_at dksX13_deal_3 12 rfl rfl)
theorem dX13_deal_81 : decode cX13_deal 81 = .ok (.invokevirtual 209, 3) := dk_182 0 209 (dk_at dksX13_deal_3 13 rfl rfl)
theorem dX13_deal_84 : decode cX13_deal 84 = .ok (.aload_n 0, 1) := dk_42 (dk_at dksX13_deal_3 16 rfl rfl)
theorem dX13_deal_85 : decode cX13_deal 85 = .ok (.getfield 203, 3) := dk_180 0 203 (dk_at dksX13_deal_3 17 rfl rfl)
theorem dX13_deal_88 : decode cX13_deal 88 = .ok (.ifCond .ne 32, 3) := dk_154 0 32 (dk_at dksX13_deal_3 20 rfl rfl)
theorem dX13_deal_91 : decode cX13_deal 91 = .ok (.aload_n 0, 1) := dk_42 (dk_at dksX13_deal_3 23 rfl rfl)
theorem dX13_deal_92 : decode cX13_deal 92 = .ok (.dup, 1) := dk_89 (dk_at dksX13_deal_4 0 rfl rfl)
theorem dX13_deal_93 : decode cX13_deal 93 = .ok (.getfield 228, 3) := dk_180 0 228 (dk_at dksX13_deal_4 1 rfl rfl)
theorem dX13_deal_96 : decode cX13_deal 96 = .ok (.iconst 1, 1) := dk_4 (dk_at dksX13_deal_4 4 rfl rfl)
theorem dX13_deal_97 : decode cX13_deal 97 = .ok (.iload_n 1, 1) := dk_27 (dk_at dksX13_deal_4 5 rfl rfl)
theorem dX13_deal_98 : decode cX13_deal 98 = .ok (.ishl, 1) := dk_120 (dk_at dksX13_deal_4 6 rfl rfl)
theorem dX13_deal_99 : decode cX13_deal 99 = .ok (.ior, 1) := dk_128 (dk_at dksX13_deal_4 7 rfl rfl)
theorem dX13_deal_100 : decode cX13_deal 100 = .ok (.putfield 228, 3) := dk_181 0 228 (dk_at dksX13_deal_4 8 rfl rfl)
theorem dX13_deal_103 : decode cX13_deal 103 = .ok (.aload_n 0, 1) := dk_42 (dk_at dksX13_deal_4 11 rfl rfl)
theorem dX13_deal_104 : decode cX13_deal 104 = .ok (.dup, 1) := dk_89 (dk_at dksX13_deal_4 12 rfl rfl)
theorem dX13_deal_105 : decode cX13_deal 105 = .ok (.getfield 200, 3) := dk_180 0 200 (dk_at dksX13_deal_4 13 rfl rfl)
theorem dX13_deal_108 : decode cX13_deal 108 = .ok (.iconst 1, 1) := dk_4 (dk_at dksX13_deal_4 16 rfl rfl)
theorem dX13_deal_109 : decode cX13_deal 109 = .ok (.iadd, 1) := dk_96 (dk_at dksX13_deal_4 17 rfl rfl)
theorem dX13_deal_110 : decode cX13_deal 110 = .ok (.putfield 200, 3) := dk_181 0 200 (dk_at dksX13_deal_4 18 rfl rfl)
theorem dX13_deal_113 : decode cX13_deal 113 = .ok (.aload_n 0, 1) := dk_42 (dk_at dksX13_deal_4 21 rfl rfl)
theorem dX13_deal_114 : decode cX13_deal 114 = .ok (.iload_n 1, 1) := dk_27 (dk_at dksX13_deal_4 22 rfl rfl)
theorem dX13_deal_115 : decode cX13_deal 115 = .ok (.bipush 24, 2) := dk_16 24 (dk_at dksX13_deal_5 0 rfl rfl)
theorem dX13_deal_117 : decode cX13_deal 117 = .ok (.invokevirtual 280, 3) := dk_182 1 24 (dk_at dksX13_deal_5 2 rfl rfl)
theorem dX13_deal_120 : decode cX13_deal 120 = .ok (.aload_n 0, 1) := dk_42 (dk_at dksX13_deal_5 5 rfl rfl)
theorem dX13_deal_121 : decode cX13_deal 121 = .ok (.bipush 59, 2) := dk_16 59 (dk_at dksX13_deal_5 6 rfl rfl)
theorem dX13_deal_123 : decode cX13_deal 123 = .ok (.invokevirtual 234, 3) := dk_182 0 234 (dk_at dksX13_deal_5 8 rfl rfl)
theorem dX13_deal_126 : decode cX13_deal 126 = .ok (.goto (-98), 3) := dk_167 255 158 (dk_at dksX13_deal_5 11 rfl rfl)
theorem dX13_deal_129 : decode cX13_deal 129 = .ok (.aload_n 0, 1) := dk_42 (dk_at dksX13_deal_5 14 rfl rfl)
theorem dX13_deal_130 : decode cX13_deal 130 = .ok (.getfield 203, 3) := dk_180 0 203 (dk_at dksX13_deal_5 15 rfl rfl)
theorem dX13_deal_133 : decode cX13_deal 133 = .ok (.ifCond .le 8, 3) := dk_158 0 8 (dk_at dksX13_deal_5 18 rfl rfl)
theorem dX13_deal_136 : decode cX13_deal 136 = .ok (.aload_n 0, 1) := dk_42 (dk_at dksX13_deal_5 21 rfl rfl)
theorem dX13_deal_137 : decode cX13_deal 137 = .ok (.getfield 203, 3) := dk_180 0 203 (dk_at dksX13_deal_6 0 rfl rfl)
theorem dX13_deal_140 : decode cX13_deal 140 = .ok (.ireturn, 1) := dk_172 (dk_at dksX13_deal_6 3 rfl rfl)
theorem dX13_deal_141 : decode cX13_deal 141 = .ok (.aload_n 0, 1) := dk_42 (dk_at dksX13_deal_6 4 rfl rfl)
theorem dX13_deal_142 : decode cX13_deal 142 = .ok (.invokevirtual 283, 3) := dk_182 1 27 (dk_at dksX13_deal_6 5 rfl rfl)
theorem dX13_deal_145 : decode cX13_deal 145 = .ok (.iconst 0, 1) := dk_3 (dk_at dksX13_deal_6 8 rfl rfl)
theorem dX13_deal_146 : decode cX13_deal 146 = .ok (.ireturn, 1) := dk_172 (dk_at dksX13_deal_6 9 rfl rfl)
abbrev cX13_readRow : ByteArray := prog_24_method_30_code
def yX13_readRow : MethodName := ⟨RX13, "readRow", "(II)V"⟩
def dkwX13_readRow_9 : List UInt8 := [167, 255, 53, 177]
abbrev dktX13_readRow_9 : List UInt8 := dkwX13_readRow_9 ++ []
def dkwX13_readRow_8 : List UInt8 := [167, 255, 212, 42, 89, 180, 0, 200, 42, 180, 0, 203, 158, 0, 7, 3, 167, 0, 4, 4, 96, 181, 0, 200]
abbrev dktX13_readRow_8 : List UInt8 := dkwX13_readRow_8 ++ dktX13_readRow_9
def dkwX13_readRow_7 : List UInt8 := [180, 0, 103, 27, 46, 96, 21, 4, 79, 42, 180, 0, 103, 27, 92, 46, 4, 96, 79, 132, 5, 1]
abbrev dktX13_readRow_7 : List UInt8 := dkwX13_readRow_7 ++ dktX13_readRow_8
def dkwX13_readRow_6 : List UInt8 := [54, 5, 21, 5, 29, 162, 0, 44, 42, 180, 0, 203, 154, 0, 37, 42, 180, 0, 100, 16, 24, 27, 104, 42]
abbrev dktX13_readRow_6 : List UInt8 := dkwX13_readRow_6 ++ dktX13_readRow_7
def dkwX13_readRow_5 : List UInt8 := [180, 0, 203, 154, 0, 20, 42, 180, 0, 103, 27, 46, 29, 96, 28, 164, 0, 8, 42, 8, 182, 0, 209, 3]
abbrev dktX13_readRow_5 : List UInt8 := dkwX13_readRow_5 ++ dktX13_readRow_6
def dkwX13_readRow_4 : List UInt8 := [42, 180, 0, 85, 3, 46, 182, 1, 1, 54, 4, 21, 4, 156, 0, 8, 42, 5, 182, 0, 209, 42]
abbrev dktX13_readRow_4 : List UInt8 := dkwX13_readRow_4 ++ dktX13_readRow_5
def dkwX13_readRow_3 : List UInt8 := [154, 0, 8, 42, 4, 182, 0, 209, 42, 180, 0, 203, 158, 0, 7, 3, 167, 0, 17, 42, 42, 180, 0, 94]
abbrev dktX13_readRow_3 : List UInt8 := dkwX13_readRow_3 ++ dktX13_readRow_4
def dkwX13_readRow_2 : List UInt8 := [4, 16, 12, 182, 1, 8, 167, 0, 4, 4, 62, 42, 180, 0, 203, 154, 0, 15, 42, 182, 0, 253]
abbrev dktX13_readRow_2 : List UInt8 := dkwX13_readRow_2 ++ dktX13_readRow_3
def dkwX13_readRow_1 : List UInt8 := [159, 0, 10, 42, 182, 0, 253, 153, 0, 182, 42, 180, 0, 24, 42, 180, 0, 200, 46, 5, 160, 0, 13, 42]
abbrev dktX13_readRow_1 : List UInt8 := dkwX13_readRow_1 ++ dktX13_readRow_2
def dkwX13_readRow_0 : List UInt8 := [42, 180, 0, 103, 27, 3, 79, 42, 180, 0, 203, 154, 0, 202, 42, 180, 0, 24, 42, 180, 0, 200, 46, 5]
abbrev dktX13_readRow_0 : List UInt8 := dkwX13_readRow_0 ++ dktX13_readRow_1
theorem dksX13_readRow_0 : cX13_readRow.data.toList.drop 0 = dktX13_readRow_0 := by decide +kernel
theorem dksX13_readRow_1 : cX13_readRow.data.toList.drop 24 = dktX13_readRow_1 := dk_seg dksX13_readRow_0 24 rfl rfl
theorem dksX13_readRow_2 : cX13_readRow.data.toList.drop 48 = dktX13_readRow_2 := dk_seg dksX13_readRow_1 24 rfl rfl
theorem dksX13_readRow_3 : cX13_readRow.data.toList.drop 70 = dktX13_readRow_3 := dk_seg dksX13_readRow_2 22 rfl rfl
theorem dksX13_readRow_4 : cX13_readRow.data.toList.drop 94 = dktX13_readRow_4 := dk_seg dksX13_readRow_3 24 rfl rfl
theorem dksX13_readRow_5 : cX13_readRow.data.toList.drop 116 = dktX13_readRow_5 := dk_seg dksX13_readRow_4 22 rfl rfl
theorem dksX13_readRow_6 : cX13_readRow.data.toList.drop 140 = dktX13_readRow_6 := dk_seg dksX13_readRow_5 24 rfl rfl
theorem dksX13_readRow_7 : cX13_readRow.data.toList.drop 164 = dktX13_readRow_7 := dk_seg dksX13_readRow_6 24 rfl rfl
theorem dksX13_readRow_8 : cX13_readRow.data.toList.drop 186 = dktX13_readRow_8 := dk_seg dksX13_readRow_7 22 rfl rfl
theorem dksX13_readRow_9 : cX13_readRow.data.toList.drop 210 = dktX13_readRow_9 := dk_seg dksX13_readRow_8 24 rfl rfl
theorem dX13_readRow_0 : decode cX13_readRow 0 = .ok (.aload_n 0, 1) := dk_42 (dk_at dksX13_readRow_0 0 rfl rfl)
theorem dX13_readRow_1 : decode cX13_readRow 1 = .ok (.getfield 103, 3) := dk_180 0 103 (dk_at dksX13_readRow_0 1 rfl rfl)
theorem dX13_readRow_4 : decode cX13_readRow 4 = .ok (.iload_n 1, 1) := dk_27 (dk_at dksX13_readRow_0 4 rfl rfl)
theorem dX13_readRow_5 : decode cX13_readRow 5 = .ok (.iconst 0, 1) := dk_3 (dk_at dksX13_readRow_0 5 rfl rfl)
theorem dX13_readRow_6 : decode cX13_readRow 6 = .ok (.iastore, 1) := dk_79 (dk_at dksX13_readRow_0 6 rfl rfl)
theorem dX13_readRow_7 : decode cX13_readRow 7 = .ok (.aload_n 0, 1) := dk_42 (dk_at dksX13_readRow_0 7 rfl rfl)
theorem dX13_readRow_8 : decode cX13_readRow 8 = .ok (.getfield 203, 3) := dk_180 0 203 (dk_at dksX13_readRow_0 8 rfl rfl)
theorem dX13_readRow_11 : decode cX13_readRow 11 = .ok (.ifCond .ne 202, 3) := dk_154 0 202 (dk_at dksX13_readRow_0 11 rfl rfl)
theorem dX13_readRow_14 : decode cX13_readRow 14 = .ok (.aload_n 0, 1) := dk_42 (dk_at dksX13_readRow_0 14 rfl rfl)
theorem dX13_readRow_15 : decode cX13_readRow 15 = .ok (.getfield 24, 3) := dk_180 0 24 (dk_at dksX13_readRow_0 15 rfl rfl)
theorem dX13_readRow_18 : decode cX13_readRow 18 = .ok (.aload_n 0, 1) := dk_42 (dk_at dksX13_readRow_0 18 rfl rfl)
theorem dX13_readRow_19 : decode cX13_readRow 19 = .ok (.getfield 200, 3) := dk_180 0 200 (dk_at dksX13_readRow_0 19 rfl rfl)
theorem dX13_readRow_22 : decode cX13_readRow 22 = .ok (.iaload, 1) := dk_46 (dk_at dksX13_readRow_0 22 rfl rfl)
theorem dX13_readRow_23 : decode cX13_readRow 23 = .ok (.iconst 2, 1) := dk_5 (dk_at dksX13_readRow_0 23 rfl rfl)
theorem dX13_readRow_24 : decode cX13_readRow 24 = .ok (.if_icmp .eq 10, 3) := dk_159 0 10 (dk_at dksX13_readRow_1 0 rfl rfl)
theorem dX13_readRow_27 : decode cX13_readRow 27 = .ok (.aload_n 0, 1) := dk_42 (dk_at dksX13_readRow_1 3 rfl rfl)
theorem dX13_readRow_28 : decode cX13_readRow 28 = .ok (.invokevirtual 253, 3) := dk_182 0 253 (dk_at dksX13_readRow_1 4 rfl rfl)
theorem dX13_readRow_31 : decode cX13_readRow 31 = .ok (.ifCond .eq 182, 3) := dk_153 0 182 (dk_at dksX13_readRow_1 7 rfl rfl)
theorem dX13_readRow_34 : decode cX13_readRow 34 = .ok (.aload_n 0, 1) := dk_42 (dk_at dksX13_readRow_1 10 rfl rfl)
theorem dX13_readRow_35 : decode cX13_readRow 35 = .ok (.getfield 24, 3) := dk_180 0 24 (dk_at dksX13_readRow_1 11 rfl rfl)
theorem dX13_readRow_38 : decode cX13_readRow 38 = .ok (.aload_n 0, 1) := dk_42 (dk_at dksX13_readRow_1 14 rfl rfl)
theorem dX13_readRow_39 : decode cX13_readRow 39 = .ok (.getfield 200, 3) := dk_180 0 200 (dk_at dksX13_readRow_1 15 rfl rfl)
theorem dX13_readRow_42 : decode cX13_readRow 42 = .ok (.iaload, 1) := dk_46 (dk_at dksX13_readRow_1 18 rfl rfl)
theorem dX13_readRow_43 : decode cX13_readRow 43 = .ok (.iconst 2, 1) := dk_5 (dk_at dksX13_readRow_1 19 rfl rfl)
theorem dX13_readRow_44 : decode cX13_readRow 44 = .ok (.if_icmp .ne 13, 3) := dk_160 0 13 (dk_at dksX13_readRow_1 20 rfl rfl)
theorem dX13_readRow_47 : decode cX13_readRow 47 = .ok (.aload_n 0, 1) := dk_42 (dk_at dksX13_readRow_1 23 rfl rfl)
theorem dX13_readRow_48 : decode cX13_readRow 48 = .ok (.iconst 1, 1) := dk_4 (dk_at dksX13_readRow_2 0 rfl rfl)
theorem dX13_readRow_49 : decode cX13_readRow 49 = .ok (.bipush 12, 2) := dk_16 12 (dk_at dksX13_readRow_2 1 rfl rfl)
theorem dX13_readRow_51 : decode cX13_readRow 51 = .ok (.invokevirtual 264, 3) := dk_182 1 8 (dk_at dksX13_readRow_2 3 rfl rfl)
theorem dX13_readRow_54 : decode cX13_readRow 54 = .ok (.goto 4, 3) := dk_167 0 4 (dk_at dksX13_readRow_2 6 rfl rfl)
theorem dX13_readRow_57 : decode cX13_readRow 57 = .ok (.iconst 1, 1) := dk_4 (dk_at dksX13_readRow_2 9 rfl rfl)
theorem dX13_readRow_58 : decode cX13_readRow 58 = .ok (.istore_n 3, 1) := dk_62 (dk_at dksX13_readRow_2 10 rfl rfl)
theorem dX13_readRow_59 : decode cX13_readRow 59 = .ok (.aload_n 0, 1) := dk_42 (dk_at dksX13_readRow_2 11 rfl rfl)
theorem dX13_readRow_60 : decode cX13_readRow 60 = .ok (.getfield 203, 3) := dk_180 0 203 (dk_at dksX13_readRow_2 12 rfl rfl)
theorem dX13_readRow_63 : decode cX13_readRow 63 = .ok (.ifCond .ne 15, 3) := dk_154 0 15 (dk_at dksX13_readRow_2 15 rfl rfl)
theorem dX13_readRow_66 : decode cX13_readRow 66 = .ok (.aload_n 0, 1) := dk_42 (dk_at dksX13_readRow_2 18 rfl rfl)
theorem dX13_readRow_67 : decode cX13_readRow 67 = .ok (.invokevirtual 253, 3) := dk_182 0 253 (dk_at dksX13_readRow_2 19 rfl rfl)
theorem dX13_readRow_70 : decode cX13_readRow 70 = .ok (.ifCond .ne 8, 3) := dk_154 0 8 (dk_at dksX13_readRow_3 0 rfl rfl)
theorem dX13_readRow_73 : decode cX13_readRow 73 = .ok (.aload_n 0, 1) := dk_42 (dk_at dksX13_readRow_3 3 rfl rfl)
theorem dX13_readRow_74 : decode cX13_readRow 74 = .ok (.iconst 1, 1) := dk_4 (dk_at dksX13_readRow_3 4 rfl rfl)
theorem dX13_readRow_75 : decode cX13_readRow 75 = .ok (.invokevirtual 209, 3) := dk_182 0 209 (dk_at dksX13_readRow_3 5 rfl rfl)
theorem dX13_readRow_78 : decode cX13_readRow 78 = .ok (.aload_n 0, 1) := dk_42 (dk_at dksX13_readRow_3 8 rfl rfl)
theorem dX13_readRow_79 : decode cX13_readRow 79 = .ok (.getfield 203, 3) := dk_180 0 203 (dk_at dksX13_readRow_3 9 rfl rfl)
theorem dX13_readRow_82 : decode cX13_readRow 82 = .ok (.ifCond .le 7, 3) := dk_158 0 7 (dk_at dksX13_readRow_3 12 rfl rfl)
theorem dX13_readRow_85 : decode cX13_readRow 85 = .ok (.iconst 0, 1) := dk_3 (dk_at dksX13_readRow_3 15 rfl rfl)
theorem dX13_readRow_86 : decode cX13_readRow 86 = .ok (.goto 17, 3) := dk_167 0 17 (dk_at dksX13_readRow_3 16 rfl rfl)
theorem dX13_readRow_89 : decode cX13_readRow 89 = .ok (.aload_n 0, 1) := dk_42 (dk_at dksX13_readRow_3 19 rfl rfl)
theorem dX13_readRow_90 : decode cX13_readRow 90 = .ok (.aload_n 0, 1) := dk_42 (dk_at dksX13_readRow_3 20 rfl rfl)
theorem dX13_readRow_91 : decode cX13_readRow 91 = .ok (.getfield 94, 3) := dk_180 0 94 (dk_at dksX13_readRow_3 21 rfl rfl)
theorem dX13_readRow_94 : decode cX13_readRow 94 = .ok (.aload_n 0, 1) := dk_42 (dk_at dksX13_readRow_4 0 rfl rfl)
theorem dX13_readRow_95 : decode cX13_readRow 95 = .ok (.getfield 85, 3) := dk_180 0 85 (dk_at dksX13_readRow_4 1 rfl rfl)
theorem dX13_readRow_98 : decode cX13_readRow 98 = .ok (.iconst 0, 1) := dk_3 (dk_at dksX13_readRow_4 4 rfl rfl)
theorem dX13_readRow_99 : decode cX13_readRow 99 = .ok (.iaload, 1) := dk_46 (dk_at dksX13_readRow_4 5 rfl rfl)
theorem dX13_readRow_100 : decode cX13_readRow 100 = .ok (.invokevirtual 257, 3) := dk_182 1 1 (dk_at dksX13_readRow_4 6 rfl rfl)
theorem dX13_readRow_103 : decode cX13_readRow 103 = .ok (.istore 4, 2) := dk_54 4 (dk_at dksX13_readRow_4 9 rfl rfl)
theorem dX13_readRow_105 : decode cX13_readRow 105 = .ok (.iload 4, 2) := dk_21 4 (dk_at dksX13_readRow_4 11 rfl rfl)
theorem dX13_readRow_107 : decode cX13_readRow 107 = .ok (.ifCond .ge 8, 3) := dk_156 0 8 (dk_at dksX13_readRow_4 13 rfl rfl)
theorem dX13_readRow_110 : decode cX13_readRow 110 = .ok (.aload_n 0, 1) := dk_42 (dk_at dksX13_readRow_4 16 rfl rfl)
theorem dX13_readRow_111 : decode cX13_readRow 111 = .ok (.iconst 2, 1) := dk_5 (dk_at dksX13_readRow_4 17 rfl rfl)
theorem dX13_readRow_112 : decode cX13_readRow 112 = .ok (.invokevirtual 209, 3) := dk_182 0 209 (dk_at dksX13_readRow_4 18 rfl rfl)
theorem dX13_readRow_115 : decode cX13_readRow 115 = .ok (.aload_n 0, 1) := dk_42 (dk_at dksX13_readRow_4 21 rfl rfl)
theorem dX13_readRow_116 : decode cX13_readRow 116 = .ok (.getfield 203, 3) := dk_180 0 203 (dk_at dksX13_readRow_5 0 rfl rfl)
theorem dX13_readRow_119 : decode cX13_readRow 119 = .ok (.ifCond .ne 20, 3) := dk_154 0 20 (dk_at dksX13_readRow_5 3 rfl rfl)
theorem dX13_readRow_122 : decode cX13_readRow 122 = .ok (.aload_n 0, 1) := dk_42 (dk_at dksX13_readRow_5 6 rfl rfl)
theorem dX13_readRow_123 : decode cX13_readRow 123 = .ok (.getfield 103, 3) := dk_180 0 103 (dk_at dksX13_readRow_5 7 rfl rfl)
theorem dX13_readRow_126 : decode cX13_readRow 126 = .ok (.iload_n 1, 1) := dk_27 (dk_at dksX13_readRow_5 10 rfl rfl)
theorem dX13_readRow_127 : decode cX13_readRow 127 = .ok (.iaload, 1) := dk_46 (dk_at dksX13_readRow_5 11 rfl rfl)
theorem dX13_readRow_128 : decode cX13_readRow 128 = .ok (.iload_n 3, 1) := dk_29 (dk_at dksX13_readRow_5 12 rfl rfl)
theorem dX13_readRow_129 : decode cX13_readRow 129 = .ok (.iadd, 1) := dk_96 (dk_at dksX13_readRow_5 13 rfl rfl)
theorem dX13_readRow_130 : decode cX13_readRow 130 = .ok (.iload_n 2, 1) := dk_28 (dk_at dksX13_readRow_5 14 rfl rfl)
theorem dX13_readRow_131 : decode cX13_readRow 131 = .ok (.if_icmp .le 8, 3) := dk_164 0 8 (dk_at dksX13_readRow_5 15 rfl rfl)
theorem dX13_readRow_134 : decode cX13_readRow 134 = .ok (.aload_n 0, 1) := dk_42 (dk_at dksX13_readRow_5 18 rfl rfl)
theorem dX13_readRow_135 : decode cX13_readRow 135 = .ok (.iconst 5, 1) := dk_8 (dk_at dksX13_readRow_5 19 rfl rfl)
theorem dX13_readRow_136 : decode cX13_readRow 136 = .ok (.invokevirtual 209, 3) := dk_182 0 209 (dk_at dksX13_readRow_5 20 rfl rfl)
theorem dX13_readRow_139 : decode cX13_readRow 139 = .ok (.iconst 0, 1) := dk_3 (dk_at dksX13_readRow_5 23 rfl rfl)
theorem dX13_readRow_140 : decode cX13_readRow 140 = .ok (.istore 5, 2) := dk_54 5 (dk_at dksX13_readRow_6 0 rfl rfl)
theorem dX13_readRow_142 : decode cX13_readRow 142 = .ok (.iload 5, 2) := dk_21 5 (dk_at dksX13_readRow_6 2 rfl rfl)
theorem dX13_readRow_144 : decode cX13_readRow 144 = .ok (.iload_n 3, 1) := dk_29 (dk_at dksX13_readRow_6 4 rfl rfl)
theorem dX13_readRow_145 : decode cX13_readRow 145 = .ok (.if_icmp .ge 44, 3) := dk_162 0 44 (dk_at dksX13_readRow_6 5 rfl rfl)
theorem dX13_readRow_148 : decode cX13_readRow 148 = .ok (.aload_n 0, 1) := dk_42 (dk_at dksX13_readRow_6 8 rfl rfl)
theorem dX13_readRow_149 : decode cX13_readRow 149 = .ok (.getfield 203, 3) := dk_180 0 203 (dk_at dksX13_readRow_6 9 rfl rfl)
theorem dX13_readRow_152 : decode cX13_readRow 152 = .ok (.ifCond .ne 37, 3) := dk_154 0 37 (dk_at dksX13_readRow_6 12 rfl rfl)
theorem dX13_readRow_155 : decode cX13_readRow 155 = .ok (.aload_n 0, 1) := dk_42 (dk_at dksX13_readRow_6 15 rfl rfl)
theorem dX13_readRow_156 : decode cX13_readRow 156 = .ok (.getfield 100, 3) := dk_180 0 100 (dk_at dksX13_readRow_6 16 rfl rfl)
theorem dX13_readRow_159 : decode cX13_readRow 159 = .ok (.bipush 24, 2) := dk_16 24 (dk_at dksX13_readRow_6 19 rfl rfl)
theorem dX13_readRow_161 : decode cX13_readRow 161 = .ok (.iload_n 1, 1) := dk_27 (dk_at dksX13_readRow_6 21 rfl rfl)
theorem dX13_readRow_162 : decode cX13_readRow 162 = .ok (.imul, 1) := dk_104 (dk_at dksX13_readRow_6 22 rfl rfl)
theorem dX13_readRow_163 : decode cX13_readRow 163 = .ok (.aload_n 0, 1) := dk_42 (dk_at dksX13_readRow_6 23 rfl rfl)
theorem dX13_readRow_164 : decode cX13_readRow 164 = .ok (.getfield 103, 3) := dk_180 0 103 (dk_at dksX13_readRow_7 0 rfl rfl)
theorem dX13_readRow_167 : decode cX13_readRow 167 = .ok (.iload_n 1, 1) := dk_27 (dk_at dksX13_readRow_7 3 rfl rfl)
theorem dX13_readRow_168 : decode cX13_readRow 168 = .ok (.iaload, 1) := dk_46 (dk_at dksX13_readRow_7 4 rfl rfl)
theorem dX13_readRow_169 : decode cX13_readRow 169 = .ok (.iadd, 1) := dk_96 (dk_at dksX13_readRow_7 5 rfl rfl)
theorem dX13_readRow_170 : decode cX13_readRow 170 = .ok (.iload 4, 2) := dk_21 4 (dk_at dksX13_readRow_7 6 rfl rfl)
theorem dX13_readRow_172 : decode cX13_readRow 172 = .ok (.iastore, 1) := dk_79 (dk_at dksX13_readRow_7 8 rfl rfl)
theorem dX13_readRow_173 : decode cX13_readRow 173 = .ok (.aload_n 0, 1) := dk_42 (dk_at dksX13_readRow_7 9 rfl rfl)
theorem dX13_readRow_174 : decode cX13_readRow 174 = .ok (.getfield 103, 3) := dk_180 0 103 (dk_at dksX13_readRow_7 10 rfl rfl)
theorem dX13_readRow_177 : decode cX13_readRow 177 = .ok (.iload_n 1, 1) := dk_27 (dk_at dksX13_readRow_7 13 rfl rfl)
theorem dX13_readRow_178 : decode cX13_readRow 178 = .ok (.dup2, 1) := dk_92 (dk_at dksX13_readRow_7 14 rfl rfl)
theorem dX13_readRow_179 : decode cX13_readRow 179 = .ok (.iaload, 1) := dk_46 (dk_at dksX13_readRow_7 15 rfl rfl)
theorem dX13_readRow_180 : decode cX13_readRow 180 = .ok (.iconst 1, 1) := dk_4 (dk_at dksX13_readRow_7 16 rfl rfl)
theorem dX13_readRow_181 : decode cX13_readRow 181 = .ok (.iadd, 1) := dk_96 (dk_at dksX13_readRow_7 17 rfl rfl)
theorem dX13_readRow_182 : decode cX13_readRow 182 = .ok (.iastore, 1) := dk_79 (dk_at dksX13_readRow_7 18 rfl rfl)
theorem dX13_readRow_183 : decode cX13_readRow 183 = .ok (.iinc 5 1, 3) := dk_132 5 1 (dk_at dksX13_readRow_7 19 rfl rfl)
theorem dX13_readRow_186 : decode cX13_readRow 186 = .ok (.goto (-44), 3) := dk_167 255 212 (dk_at dksX13_readRow_8 0 rfl rfl)
theorem dX13_readRow_189 : decode cX13_readRow 189 = .ok (.aload_n 0, 1) := dk_42 (dk_at dksX13_readRow_8 3 rfl rfl)
theorem dX13_readRow_190 : decode cX13_readRow 190 = .ok (.dup, 1) := dk_89 (dk_at dksX13_readRow_8 4 rfl rfl)
theorem dX13_readRow_191 : decode cX13_readRow 191 = .ok (.getfield 200, 3) := dk_180 0 200 (dk_at dksX13_readRow_8 5 rfl rfl)
theorem dX13_readRow_194 : decode cX13_readRow 194 = .ok (.aload_n 0, 1) := dk_42 (dk_at dksX13_readRow_8 8 rfl rfl)
theorem dX13_readRow_195 : decode cX13_readRow 195 = .ok (.getfield 203, 3) := dk_180 0 203 (dk_at dksX13_readRow_8 9 rfl rfl)
theorem dX13_readRow_198 : decode cX13_readRow 198 = .ok (.ifCond .le 7, 3) := dk_158 0 7 (dk_at dksX13_readRow_8 12 rfl rfl)
theorem dX13_readRow_201 : decode cX13_readRow 201 = .ok (.iconst 0, 1) := dk_3 (dk_at dksX13_readRow_8 15 rfl rfl)
theorem dX13_readRow_202 : decode cX13_readRow 202 = .ok (.goto 4, 3) := dk_167 0 4 (dk_at dksX13_readRow_8 16 rfl rfl)
theorem dX13_readRow_205 : decode cX13_readRow 205 = .ok (.iconst 1, 1) := dk_4 (dk_at dksX13_readRow_8 19 rfl rfl)
theorem dX13_readRow_206 : decode cX13_readRow 206 = .ok (.iadd, 1) := dk_96 (dk_at dksX13_readRow_8 20 rfl rfl)
theorem dX13_readRow_207 : decode cX13_readRow 207 = .ok (.putfield 200, 3) := dk_181 0 200 (dk_at dksX13_readRow_8 21 rfl rfl)
theorem dX13_readRow_210 : decode cX13_readRow 210 = .ok (.goto (-203), 3) := dk_167 255 53 (dk_at dksX13_readRow_9 0 rfl rfl)
theorem dX13_readRow_213 : decode cX13_readRow 213 = .ok (.return_, 1) := dk_177 (dk_at dksX13_readRow_9 3 rfl rfl)
abbrev cX13_dealsRead : ByteArray := prog_24_method_32_code
def yX13_dealsRead : MethodName := ⟨RX13, "dealsRead", "()V"⟩
def dkwX13_dealsRead_3 : List UInt8 := [132, 2, 1, 167, 255, 217, 132, 1, 1, 167, 255, 189, 42, 3, 182, 0, 174, 42, 3, 181, 0, 237, 177]
abbrev dktX13_dealsRead_3 : List UInt8 := dkwX13_dealsRead_3 ++ []
def dkwX13_dealsRead_2 : List UInt8 := [17, 0, 212, 16, 24, 27, 104, 96, 28, 96, 42, 180, 0, 100, 16, 24, 27, 104, 28, 96, 46, 79]
abbrev dktX13_dealsRead_2 : List UInt8 := dkwX13_dealsRead_2 ++ dktX13_dealsRead_3
def dkwX13_dealsRead_1 : List UInt8 := [180, 0, 103, 27, 46, 79, 3, 61, 28, 42, 180, 0, 103, 27, 46, 162, 0, 35, 42, 180, 0, 115]
abbrev dktX13_dealsRead_1 : List UInt8 := dkwX13_dealsRead_1 ++ dktX13_dealsRead_2
def dkwX13_dealsRead_0 : List UInt8 := [42, 180, 0, 115, 16, 15, 4, 79, 3, 60, 27, 5, 162, 0, 68, 42, 180, 0, 115, 16, 16, 27, 96, 42]
abbrev dktX13_dealsRead_0 : List UInt8 := dkwX13_dealsRead_0 ++ dktX13_dealsRead_1
theorem dksX13_dealsRead_0 : cX13_dealsRead.data.toList.drop 0 = dktX13_dealsRead_0 := by decide +kernel
theorem dksX13_dealsRead_1 : cX13_dealsRead.data.toList.drop 24 = dktX13_dealsRead_1 := dk_seg dksX13_dealsRead_0 24 rfl rfl
theorem dksX13_dealsRead_2 : cX13_dealsRead.data.toList.drop 46 = dktX13_dealsRead_2 := dk_seg dksX13_dealsRead_1 22 rfl rfl
theorem dksX13_dealsRead_3 : cX13_dealsRead.data.toList.drop 68 = dktX13_dealsRead_3 := dk_seg dksX13_dealsRead_2 22 rfl rfl
theorem dX13_dealsRead_0 : decode cX13_dealsRead 0 = .ok (.aload_n 0, 1) := dk_42 (dk_at dksX13_dealsRead_0 0 rfl rfl)
theorem dX13_dealsRead_1 : decode cX13_dealsRead 1 = .ok (.getfield 115, 3) := dk_180 0 115 (dk_at dksX13_dealsRead_0 1 rfl rfl)
theorem dX13_dealsRead_4 : decode cX13_dealsRead 4 = .ok (.bipush 15, 2) := dk_16 15 (dk_at dksX13_dealsRead_0 4 rfl rfl)
theorem dX13_dealsRead_6 : decode cX13_dealsRead 6 = .ok (.iconst 1, 1) := dk_4 (dk_at dksX13_dealsRead_0 6 rfl rfl)
theorem dX13_dealsRead_7 : decode cX13_dealsRead 7 = .ok (.iastore, 1) := dk_79 (dk_at dksX13_dealsRead_0 7 rfl rfl)
theorem dX13_dealsRead_8 : decode cX13_dealsRead 8 = .ok (.iconst 0, 1) := dk_3 (dk_at dksX13_dealsRead_0 8 rfl rfl)
theorem dX13_dealsRead_9 : decode cX13_dealsRead 9 = .ok (.istore_n 1, 1) := dk_60 (dk_at dksX13_dealsRead_0 9 rfl rfl)
theorem dX13_dealsRead_10 : decode cX13_dealsRead 10 = .ok (.iload_n 1, 1) := dk_27 (dk_at dksX13_dealsRead_0 10 rfl rfl)
theorem dX13_dealsRead_11 : decode cX13_dealsRead 11 = .ok (.iconst 2, 1) := dk_5 (dk_at dksX13_dealsRead_0 11 rfl rfl)
theorem dX13_dealsRead_12 : decode cX13_dealsRead 12 = .ok (.if_icmp .ge 68, 3) := dk_162 0 68 (dk_at dksX13_dealsRead_0 12 rfl rfl)
theorem dX13_dealsRead_15 : decode cX13_dealsRead 15 = .ok (.aload_n 0, 1) := dk_42 (dk_at dksX13_dealsRead_0 15 rfl rfl)
theorem dX13_dealsRead_16 : decode cX13_dealsRead 16 = .ok (.getfield 115, 3) := dk_180 0 115 (dk_at dksX13_dealsRead_0 16 rfl rfl)
theorem dX13_dealsRead_19 : decode cX13_dealsRead 19 = .ok (.bipush 16, 2) := dk_16 16 (dk_at dksX13_dealsRead_0 19 rfl rfl)
theorem dX13_dealsRead_21 : decode cX13_dealsRead 21 = .ok (.iload_n 1, 1) := dk_27 (dk_at dksX13_dealsRead_0 21 rfl rfl)
theorem dX13_dealsRead_22 : decode cX13_dealsRead 22 = .ok (.iadd, 1) := dk_96 (dk_at dksX13_dealsRead_0 22 rfl rfl)
theorem dX13_dealsRead_23 : decode cX13_dealsRead 23 = .ok (.aload_n 0, 1) := dk_42 (dk_at dksX13_dealsRead_0 23 rfl rfl)
theorem dX13_dealsRead_24 : decode cX13_dealsRead 24 = .ok (.getfield 103, 3) := dk_180 0 103 (dk_at dksX13_dealsRead_1 0 rfl rfl)
theorem dX13_dealsRead_27 : decode cX13_dealsRead 27 = .ok (.iload_n 1, 1) := dk_27 (dk_at dksX13_dealsRead_1 3 rfl rfl)
theorem dX13_dealsRead_28 : decode cX13_dealsRead 28 = .ok (.iaload, 1) := dk_46 (dk_at dksX13_dealsRead_1 4 rfl rfl)
theorem dX13_dealsRead_29 : decode cX13_dealsRead 29 = .ok (.iastore, 1) := dk_79 (dk_at dksX13_dealsRead_1 5 rfl rfl)
theorem dX13_dealsRead_30 : decode cX13_dealsRead 30 = .ok (.iconst 0, 1) := dk_3 (dk_at dksX13_dealsRead_1 6 rfl rfl)
theorem dX13_dealsRead_31 : decode cX13_dealsRead 31 = .ok (.istore_n 2, 1) := dk_61 (dk_at dksX13_dealsRead_1 7 rfl rfl)
theorem dX13_dealsRead_32 : decode cX13_dealsRead 32 = .ok (.iload_n 2, 1) := dk_28 (dk_at dksX13_dealsRead_1 8 rfl rfl)
theorem dX13_dealsRead_33 : decode cX13_dealsRead 33 = .ok (.aload_n 0, 1) := dk_42 (dk_at dksX13_dealsRead_1 9 rfl rfl)
theorem dX13_dealsRead_34 : decode cX13_dealsRead 34 = .ok (.getfield 103, 3) := dk_180 0 103 (dk_at dksX13_dealsRead_1 10 rfl rfl)
theorem dX13_dealsRead_37 : decode cX13_dealsRead 37 = .ok (.iload_n 1, 1) := dk_27 (dk_at dksX13_dealsRead_1 13 rfl rfl)
theorem dX13_dealsRead_38 : decode cX13_dealsRead 38 = .ok (.iaload, 1) := dk_46 (dk_at dksX13_dealsRead_1 14 rfl rfl)
theorem dX13_dealsRead_39 : decode cX13_dealsRead 39 = .ok (.if_icmp .ge 35, 3) := dk_162 0 35 (dk_at dksX13_dealsRead_1 15 rfl rfl)
theorem dX13_dealsRead_42 : decode cX13_dealsRead 42 = .ok (.aload_n 0, 1) := dk_42 (dk_at dksX13_dealsRead_1 18 rfl rfl)
theorem dX13_dealsRead_43 : decode cX13_dealsRead 43 = .ok (.getfield 115, 3) := dk_180 0 115 (dk_at dksX13_dealsRead_1 19 rfl rfl)
theorem dX13_dealsRead_46 : decode cX13_dealsRead 46 = .ok (.sipush 212, 3) := dk_17 0 212 (dk_at dksX13_dealsRead_2 0 rfl rfl)
theorem dX13_dealsRead_49 : decode cX13_dealsRead 49 = .ok (.bipush 24, 2) := dk_16 24 (dk_at dksX13_dealsRead_2 3 rfl rfl)
theorem dX13_dealsRead_51 : decode cX13_dealsRead 51 = .ok (.iload_n 1, 1) := dk_27 (dk_at dksX13_dealsRead_2 5 rfl rfl)
theorem dX13_dealsRead_52 : decode cX13_dealsRead 52 = .ok (.imul, 1) := dk_104 (dk_at dksX13_dealsRead_2 6 rfl rfl)
theorem dX13_dealsRead_53 : decode cX13_dealsRead 53 = .ok (.iadd, 1) := dk_96 (dk_at dksX13_dealsRead_2 7 rfl rfl)
theorem dX13_dealsRead_54 : decode cX13_dealsRead 54 = .ok (.iload_n 2, 1) := dk_28 (dk_at dksX13_dealsRead_2 8 rfl rfl)
theorem dX13_dealsRead_55 : decode cX13_dealsRead 55 = .ok (.iadd, 1) := dk_96 (dk_at dksX13_dealsRead_2 9 rfl rfl)
theorem dX13_dealsRead_56 : decode cX13_dealsRead 56 = .ok (.aload_n 0, 1) := dk_42 (dk_at dksX13_dealsRead_2 10 rfl rfl)
theorem dX13_dealsRead_57 : decode cX13_dealsRead 57 = .ok (.getfield 100, 3) := dk_180 0 100 (dk_at dksX13_dealsRead_2 11 rfl rfl)
theorem dX13_dealsRead_60 : decode cX13_dealsRead 60 = .ok (.bipush 24, 2) := dk_16 24 (dk_at dksX13_dealsRead_2 14 rfl rfl)
theorem dX13_dealsRead_62 : decode cX13_dealsRead 62 = .ok (.iload_n 1, 1) := dk_27 (dk_at dksX13_dealsRead_2 16 rfl rfl)
theorem dX13_dealsRead_63 : decode cX13_dealsRead 63 = .ok (.imul, 1) := dk_104 (dk_at dksX13_dealsRead_2 17 rfl rfl)
theorem dX13_dealsRead_64 : decode cX13_dealsRead 64 = .ok (.iload_n 2, 1) := dk_28 (dk_at dksX13_dealsRead_2 18 rfl rfl)
theorem dX13_dealsRead_65 : decode cX13_dealsRead 65 = .ok (.iadd, 1) := dk_96 (dk_at dksX13_dealsRead_2 19 rfl rfl)
theorem dX13_dealsRead_66 : decode cX13_dealsRead 66 = .ok (.iaload, 1) := dk_46 (dk_at dksX13_dealsRead_2 20 rfl rfl)
theorem dX13_dealsRead_67 : decode cX13_dealsRead 67 = .ok (.iastore, 1) := dk_79 (dk_at dksX13_dealsRead_2 21 rfl rfl)
theorem dX13_dealsRead_68 : decode cX13_dealsRead 68 = .ok (.iinc 2 1, 3) := dk_132 2 1 (dk_at dksX13_dealsRead_3 0 rfl rfl)
theorem dX13_dealsRead_71 : decode cX13_dealsRead 71 = .ok (.goto (-39), 3) := dk_167 255 217 (dk_at dksX13_dealsRead_3 3 rfl rfl)
theorem dX13_dealsRead_74 : decode cX13_dealsRead 74 = .ok (.iinc 1 1, 3) := dk_132 1 1 (dk_at dksX13_dealsRead_3 6 rfl rfl)
theorem dX13_dealsRead_77 : decode cX13_dealsRead 77 = .ok (.goto (-67), 3) := dk_167 255 189 (dk_at dksX13_dealsRead_3 9 rfl rfl)
theorem dX13_dealsRead_80 : decode cX13_dealsRead 80 = .ok (.aload_n 0, 1) := dk_42 (dk_at dksX13_dealsRead_3 12 rfl rfl)
theorem dX13_dealsRead_81 : decode cX13_dealsRead 81 = .ok (.iconst 0, 1) := dk_3 (dk_at dksX13_dealsRead_3 13 rfl rfl)
theorem dX13_dealsRead_82 : decode cX13_dealsRead 82 = .ok (.invokevirtual 174, 3) := dk_182 0 174 (dk_at dksX13_dealsRead_3 14 rfl rfl)
theorem dX13_dealsRead_85 : decode cX13_dealsRead 85 = .ok (.aload_n 0, 1) := dk_42 (dk_at dksX13_dealsRead_3 17 rfl rfl)
theorem dX13_dealsRead_86 : decode cX13_dealsRead 86 = .ok (.iconst 0, 1) := dk_3 (dk_at dksX13_dealsRead_3 18 rfl rfl)
theorem dX13_dealsRead_87 : decode cX13_dealsRead 87 = .ok (.putfield 237, 3) := dk_181 0 237 (dk_at dksX13_dealsRead_3 19 rfl rfl)
theorem dX13_dealsRead_90 : decode cX13_dealsRead 90 = .ok (.return_, 1) := dk_177 (dk_at dksX13_dealsRead_3 22 rfl rfl)
abbrev cX13_book : ByteArray := prog_24_method_33_code
def yX13_book : MethodName := ⟨RX13, "book", "()I"⟩
def dkwX13_book_6 : List UInt8 := [132, 2, 1, 167, 255, 230, 3, 172]
abbrev dktX13_book_6 : List UInt8 := dkwX13_book_6 ++ []
def dkwX13_book_5 : List UInt8 := [16, 15, 27, 104, 162, 0, 24, 42, 180, 0, 85, 16, 22, 28, 96, 42, 180, 0, 106, 28, 46, 79]
abbrev dktX13_book_5 : List UInt8 := dkwX13_book_5 ++ dktX13_book_6
def dkwX13_book_4 : List UInt8 := [42, 180, 0, 203, 158, 0, 8, 42, 180, 0, 203, 172, 42, 180, 0, 85, 16, 21, 27, 79, 3, 61, 28]
abbrev dktX13_book_4 : List UInt8 := dkwX13_book_4 ++ dktX13_book_5
def dkwX13_book_3 : List UInt8 := [96, 181, 0, 200, 42, 16, 15, 27, 104, 182, 1, 30, 132, 1, 1, 42, 16, 59, 182, 0, 234, 167, 255, 175]
abbrev dktX13_book_3 : List UInt8 := dkwX13_book_3 ++ dktX13_book_4
def dkwX13_book_2 : List UInt8 := [27, 16, 12, 160, 0, 8, 42, 8, 182, 0, 209, 42, 180, 0, 203, 154, 0, 24, 42, 89, 180, 0, 200, 4]
abbrev dktX13_book_2 : List UInt8 := dkwX13_book_2 ++ dktX13_book_3
def dkwX13_book_1 : List UInt8 := [180, 0, 200, 46, 153, 0, 68, 42, 16, 15, 182, 0, 212, 154, 0, 11, 42, 4, 182, 0, 209, 167, 0, 14]
abbrev dktX13_book_1 : List UInt8 := dkwX13_book_1 ++ dktX13_book_2
def dkwX13_book_0 : List UInt8 := [42, 3, 181, 0, 1, 42, 182, 0, 222, 3, 60, 42, 180, 0, 203, 154, 0, 80, 42, 180, 0, 24, 42]
abbrev dktX13_book_0 : List UInt8 := dkwX13_book_0 ++ dktX13_book_1
theorem dksX13_book_0 : cX13_book.data.toList.drop 0 = dktX13_book_0 := by decide +kernel
theorem dksX13_book_1 : cX13_book.data.toList.drop 23 = dktX13_book_1 := dk_seg dksX13_book_0 23 rfl rfl
theorem dksX13_book_2 : cX13_book.data.toList.drop 47 = dktX13_book_2 := dk_seg dksX13_book_1 24 rfl rfl
theorem dksX13_book_3 : cX13_book.data.toList.drop 71 = dktX13_book_3 := dk_seg dksX13_book_2 24 rfl rfl
theorem dksX13_book_4 : cX13_book.data.toList.drop 95 = dktX13_book_4 := dk_seg dksX13_book_3 24 rfl rfl
theorem dksX13_book_5 : cX13_book.data.toList.drop 118 = dktX13_book_5 := dk_seg dksX13_book_4 23 rfl rfl
theorem dksX13_book_6 : cX13_book.data.toList.drop 140 = dktX13_book_6 := dk_seg dksX13_book_5 22 rfl rfl
theorem dX13_book_0 : decode cX13_book 0 = .ok (.aload_n 0, 1) := dk_42 (dk_at dksX13_book_0 0 rfl rfl)
theorem dX13_book_1 : decode cX13_book 1 = .ok (.iconst 0, 1) := dk_3 (dk_at dksX13_book_0 1 rfl rfl)
theorem dX13_book_2 : decode cX13_book 2 = .ok (.putfield 1, 3) := dk_181 0 1 (dk_at dksX13_book_0 2 rfl rfl)
theorem dX13_book_5 : decode cX13_book 5 = .ok (.aload_n 0, 1) := dk_42 (dk_at dksX13_book_0 5 rfl rfl)
theorem dX13_book_6 : decode cX13_book 6 = .ok (.invokevirtual 222, 3) := dk_182 0 222 (dk_at dksX13_book_0 6 rfl rfl)
theorem dX13_book_9 : decode cX13_book 9 = .ok (.iconst 0, 1) := dk_3 (dk_at dksX13_book_0 9 rfl rfl)
theorem dX13_book_10 : decode cX13_book 10 = .ok (.istore_n 1, 1) := dk_60 (dk_at dksX13_book_0 10 rfl rfl)
theorem dX13_book_11 : decode cX13_book 11 = .ok (.aload_n 0, 1) := dk_42 (dk_at dksX13_book_0 11 rfl rfl)
theorem dX13_book_12 : decode cX13_book 12 = .ok (.getfield 203, 3) := dk_180 0 203 (dk_at dksX13_book_0 12 rfl rfl)
theorem dX13_book_15 : decode cX13_book 15 = .ok (.ifCond .ne 80, 3) := dk_154 0 80 (dk_at dksX13_book_0 15 rfl rfl)
theorem dX13_book_18 : decode cX13_book 18 = .ok (.aload_n 0, 1) := dk_42 (dk_at dksX13_book_0 18 rfl rfl)
theorem dX13_book_19 : decode cX13_book 19 = .ok (.getfield 24, 3) := dk_180 0 24 (dk_at dksX13_book_0 19 rfl rfl)
theorem dX13_book_22 : decode cX13_book 22 = .ok (.aload_n 0, 1) := dk_42 (dk_at dksX13_book_0 22 rfl rfl)
theorem dX13_book_23 : decode cX13_book 23 = .ok (.getfield 200, 3) := dk_180 0 200 (dk_at dksX13_book_1 0 rfl rfl)
theorem dX13_book_26 : decode cX13_book 26 = .ok (.iaload, 1) := dk_46 (dk_at dksX13_book_1 3 rfl rfl)
theorem dX13_book_27 : decode cX13_book 27 = .ok (.ifCond .eq 68, 3) := dk_153 0 68 (dk_at dksX13_book_1 4 rfl rfl)
theorem dX13_book_30 : decode cX13_book 30 = .ok (.aload_n 0, 1) := dk_42 (dk_at dksX13_book_1 7 rfl rfl)
theorem dX13_book_31 : decode cX13_book 31 = .ok (.bipush 15, 2) := dk_16 15 (dk_at dksX13_book_1 8 rfl rfl)
theorem dX13_book_33 : decode cX13_book 33 = .ok (.invokevirtual 212, 3) := dk_182 0 212 (dk_at dksX13_book_1 10 rfl rfl)
theorem dX13_book_36 : decode cX13_book 36 = .ok (.ifCond .ne 11, 3) := dk_154 0 11 (dk_at dksX13_book_1 13 rfl rfl)
theorem dX13_book_39 : decode cX13_book 39 = .ok (.aload_n 0, 1) := dk_42 (dk_at dksX13_book_1 16 rfl rfl)
theorem dX13_book_40 : decode cX13_book 40 = .ok (.iconst 1, 1) := dk_4 (dk_at dksX13_book_1 17 rfl rfl)
theorem dX13_book_41 : decode cX13_book 41 = .ok (.invokevirtual 209, 3) := dk_182 0 209 (dk_at dksX13_book_1 18 rfl rfl)
theorem dX13_book_44 : decode cX13_book 44 = .ok (.goto 14, 3) := dk_167 0 14 (dk_at dksX13_book_1 21 rfl rfl)
theorem dX13_book_47 : decode cX13_book 47 = .ok (.iload_n 1, 1) := dk_27 (dk_at dksX13_book_2 0 rfl rfl)
theorem dX13_book_48 : decode cX13_book 48 = .ok (.bipush 12, 2) := dk_16 12 (dk_at dksX13_book_2 1 rfl rfl)
theorem dX13_book_50 : decode cX13_book 50 = .ok (.if_icmp .ne 8, 3) := dk_160 0 8 (dk_at dksX13_book_2 3 rfl rfl)
theorem dX13_book_53 : decode cX13_book 53 = .ok (.aload_n 0, 1) := dk_42 (dk_at dksX13_book_2 6 rfl rfl)
theorem dX13_book_54 : decode cX13_book 54 = .ok (.iconst 5, 1) := dk_8 (dk_at dksX13_book_2 7 rfl rfl)
theorem dX13_book_55 : decode cX13_book 55 = .ok (.invokevirtual 209, 3) := dk_182 0 209 (dk_at dksX13_book_2 8 rfl rfl)
theorem dX13_book_58 : decode cX13_book 58 = .ok (.aload_n 0, 1) := dk_42 (dk_at dksX13_book_2 11 rfl rfl)
theorem dX13_book_59 : decode cX13_book 59 = .ok (.getfield 203, 3) := dk_180 0 203 (dk_at dksX13_book_2 12 rfl rfl)
theorem dX13_book_62 : decode cX13_book 62 = .ok (.ifCond .ne 24, 3) := dk_154 0 24 (dk_at dksX13_book_2 15 rfl rfl)
theorem dX13_book_65 : decode cX13_book 65 = .ok (.aload_n 0, 1) := dk_42 (dk_at dksX13_book_2 18 rfl rfl)
theorem dX13_book_66 : decode cX13_book 66 = .ok (.dup, 1) := dk_89 (dk_at dksX13_book_2 19 rfl rfl)
theorem dX13_book_67 : decode cX13_book 67 = .ok (.getfield 200, 3) := dk_180 0 200 (dk_at dksX13_book_2 20 rfl rfl)
theorem dX13_book_70 : decode cX13_book 70 = .ok (.iconst 1, 1) := dk_4 (dk_at dksX13_book_2 23 rfl rfl)
theorem dX13_book_71 : decode cX13_book 71 = .ok (.iadd, 1) := dk_96 (dk_at dksX13_book_3 0 rfl rfl)
theorem dX13_book_72 : decode cX13_book 72 = .ok (.putfield 200, 3) := dk_181 0 200 (dk_at dksX13_book_3 1 rfl rfl)
theorem dX13_book_75 : decode cX13_book 75 = .ok (.aload_n 0, 1) := dk_42 (dk_at dksX13_book_3 4 rfl rfl)
theorem dX13_book_76 : decode cX13_book 76 = .ok (.bipush 15, 2) := dk_16 15 (dk_at dksX13_book_3 5 rfl rfl)
theorem dX13_book_78 : decode cX13_book 78 = .ok (.iload_n 1, 1) := dk_27 (dk_at dksX13_book_3 7 rfl rfl)
theorem dX13_book_79 : decode cX13_book 79 = .ok (.imul, 1) := dk_104 (dk_at dksX13_book_3 8 rfl rfl)
theorem dX13_book_80 : decode cX13_book 80 = .ok (.invokevirtual 286, 3) := dk_182 1 30 (dk_at dksX13_book_3 9 rfl rfl)
theorem dX13_book_83 : decode cX13_book 83 = .ok (.iinc 1 1, 3) := dk_132 1 1 (dk_at dksX13_book_3 12 rfl rfl)
theorem dX13_book_86 : decode cX13_book 86 = .ok (.aload_n 0, 1) := dk_42 (dk_at dksX13_book_3 15 rfl rfl)
theorem dX13_book_87 : decode cX13_book 87 = .ok (.bipush 59, 2) := dk_16 59 (dk_at dksX13_book_3 16 rfl rfl)
theorem dX13_book_89 : decode cX13_book 89 = .ok (.invokevirtual 234, 3) := dk_182 0 234 (dk_at dksX13_book_3 18 rfl rfl)
theorem dX13_book_92 : decode cX13_book 92 = .ok (.goto (-81), 3) := dk_167 255 175 (dk_at dksX13_book_3 21 rfl rfl)
theorem dX13_book_95 : decode cX13_book 95 = .ok (.aload_n 0, 1) := dk_42 (dk_at dksX13_book_4 0 rfl rfl)
theorem dX13_book_96 : decode cX13_book 96 = .ok (.getfield 203, 3) := dk_180 0 203 (dk_at dksX13_book_4 1 rfl rfl)
theorem dX13_book_99 : decode cX13_book 99 = .ok (.ifCond .le 8, 3) := dk_158 0 8 (dk_at dksX13_book_4 4 rfl rfl)
theorem dX13_book_102 : decode cX13_book 102 = .ok (.aload_n 0, 1) := dk_42 (dk_at dksX13_book_4 7 rfl rfl)
theorem dX13_book_103 : decode cX13_book 103 = .ok (.getfield 203, 3) := dk_180 0 203 (dk_at dksX13_book_4 8 rfl rfl)
theorem dX13_book_106 : decode cX13_book 106 = .ok (.ireturn, 1) := dk_172 (dk_at dksX13_book_4 11 rfl rfl)
theorem dX13_book_107 : decode cX13_book 107 = .ok (.aload_n 0, 1) := dk_42 (dk_at dksX13_book_4 12 rfl rfl)
theorem dX13_book_108 : decode cX13_book 108 = .ok (.getfield 85, 3) := dk_180 0 85 (dk_at dksX13_book_4 13 rfl rfl)
theorem dX13_book_111 : decode cX13_book 111 = .ok (.bipush 21, 2) := dk_16 21 (dk_at dksX13_book_4 16 rfl rfl)
theorem dX13_book_113 : decode cX13_book 113 = .ok (.iload_n 1, 1) := dk_27 (dk_at dksX13_book_4 18 rfl rfl)
theorem dX13_book_114 : decode cX13_book 114 = .ok (.iastore, 1) := dk_79 (dk_at dksX13_book_4 19 rfl rfl)
theorem dX13_book_115 : decode cX13_book 115 = .ok (.iconst 0, 1) := dk_3 (dk_at dksX13_book_4 20 rfl rfl)
theorem dX13_book_116 : decode cX13_book 116 = .ok (.istore_n 2, 1) := dk_61 (dk_at dksX13_book_4 21 rfl rfl)
theorem dX13_book_117 : decode cX13_book 117 = .ok (.iload_n 2, 1) := dk_28 (dk_at dksX13_book_4 22 rfl rfl)
theorem dX13_book_118 : decode cX13_book 118 = .ok (.bipush 15, 2) := dk_16 15 (dk_at dksX13_book_5 0 rfl rfl)
theorem dX13_book_120 : decode cX13_book 120 = .ok (.iload_n 1, 1) := dk_27 (dk_at dksX13_book_5 2 rfl rfl)
theorem dX13_book_121 : decode cX13_book 121 = .ok (.imul, 1) := dk_104 (dk_at dksX13_book_5 3 rfl rfl)
theorem dX13_book_122 : decode cX13_book 122 = .ok (.if_icmp .ge 24, 3) := dk_162 0 24 (dk_at dksX13_book_5 4 rfl rfl)
theorem dX13_book_125 : decode cX13_book 125 = .ok (.aload_n 0, 1) := dk_42 (dk_at dksX13_book_5 7 rfl rfl)
theorem dX13_book_126 : decode cX13_book 126 = .ok (.getfield 85, 3) := dk_180 0 85 (dk_at dksX13_book_5 8 rfl rfl)
theorem dX13_book_129 : decode cX13_book 129 = .ok (.bipush 22, 2) := dk_16 22 (dk_at dksX13_book_5 11 rfl rfl)
theorem dX13_book_131 : decode cX13_book 131 = .ok (.iload_n 2, 1) := dk_28 (dk_at dksX13_book_5 13 rfl rfl)
theorem dX13_book_132 : decode cX13_book 132 = .ok (.iadd, 1) := dk_96 (dk_at dksX13_book_5 14 rfl rfl)
theorem dX13_book_133 : decode cX13_book 133 = .ok (.aload_n 0, 1) := dk_42 (dk_at dksX13_book_5 15 rfl rfl)
theorem dX13_book_134 : decode cX13_book 134 = .ok (.getfield 106, 3) := dk_180 0 106 (dk_at dksX13_book_5 16 rfl rfl)
theorem dX13_book_137 : decode cX13_book 137 = .ok (.iload_n 2, 1) := dk_28 (dk_at dksX13_book_5 19 rfl rfl)
theorem dX13_book_138 : decode cX13_book 138 = .ok (.iaload, 1) := dk_46 (dk_at dksX13_book_5 20 rfl rfl)
theorem dX13_book_139 : decode cX13_book 139 = .ok (.iastore, 1) := dk_79 (dk_at dksX13_book_5 21 rfl rfl)
theorem dX13_book_140 : decode cX13_book 140 = .ok (.iinc 2 1, 3) := dk_132 2 1 (dk_at dksX13_book_6 0 rfl rfl)
theorem dX13_book_143 : decode cX13_book 143 = .ok (.goto (-26), 3) := dk_167 255 230 (dk_at dksX13_book_6 3 rfl rfl)
theorem dX13_book_146 : decode cX13_book 146 = .ok (.iconst 0, 1) := dk_3 (dk_at dksX13_book_6 6 rfl rfl)
theorem dX13_book_147 : decode cX13_book 147 = .ok (.ireturn, 1) := dk_172 (dk_at dksX13_book_6 7 rfl rfl)
abbrev cX13_readOpening : ByteArray := prog_24_method_34_code
def yX13_readOpening : MethodName := ⟨RX13, "readOpening", "(I)V"⟩
def dkwX13_readOpening_5 : List UInt8 := [132, 3, 1, 167, 255, 176, 42, 180, 0, 106, 27, 16, 14, 96, 28, 79, 177]
abbrev dktX13_readOpening_5 : List UInt8 := dkwX13_readOpening_5 ++ []
def dkwX13_readOpening_4 : List UInt8 := [21, 4, 96, 42, 180, 0, 100, 16, 24, 29, 104, 21, 4, 96, 46, 79, 132, 4, 1, 167, 255, 214]
abbrev dktX13_readOpening_4 : List UInt8 := dkwX13_readOpening_4 ++ dktX13_readOpening_5
def dkwX13_readOpening_3 : List UInt8 := [21, 4, 42, 180, 0, 103, 29, 46, 162, 0, 37, 42, 180, 0, 106, 27, 16, 7, 29, 104, 96, 4, 96]
abbrev dktX13_readOpening_3 : List UInt8 := dkwX13_readOpening_3 ++ dktX13_readOpening_4
def dkwX13_readOpening_2 : List UInt8 := [154, 0, 74, 42, 180, 0, 106, 27, 16, 7, 29, 104, 96, 42, 180, 0, 103, 29, 46, 79, 3, 54, 4]
abbrev dktX13_readOpening_2 : List UInt8 := dkwX13_readOpening_2 ++ dktX13_readOpening_3
def dkwX13_readOpening_1 : List UInt8 := [182, 1, 5, 42, 16, 12, 6, 182, 1, 14, 61, 3, 62, 29, 5, 162, 0, 81, 42, 180, 0, 203]
abbrev dktX13_readOpening_1 : List UInt8 := dkwX13_readOpening_1 ++ dktX13_readOpening_2
def dkwX13_readOpening_0 : List UInt8 := [42, 3, 16, 6, 182, 1, 24, 42, 16, 44, 182, 0, 234, 42, 4, 16, 6, 182, 1, 24, 42, 16, 16]
abbrev dktX13_readOpening_0 : List UInt8 := dkwX13_readOpening_0 ++ dktX13_readOpening_1
theorem dksX13_readOpening_0 : cX13_readOpening.data.toList.drop 0 = dktX13_readOpening_0 := by decide +kernel
theorem dksX13_readOpening_1 : cX13_readOpening.data.toList.drop 23 = dktX13_readOpening_1 := dk_seg dksX13_readOpening_0 23 rfl rfl
theorem dksX13_readOpening_2 : cX13_readOpening.data.toList.drop 45 = dktX13_readOpening_2 := dk_seg dksX13_readOpening_1 22 rfl rfl
theorem dksX13_readOpening_3 : cX13_readOpening.data.toList.drop 68 = dktX13_readOpening_3 := dk_seg dksX13_readOpening_2 23 rfl rfl
theorem dksX13_readOpening_4 : cX13_readOpening.data.toList.drop 91 = dktX13_readOpening_4 := dk_seg dksX13_readOpening_3 23 rfl rfl
theorem dksX13_readOpening_5 : cX13_readOpening.data.toList.drop 113 = dktX13_readOpening_5 := dk_seg dksX13_readOpening_4 22 rfl rfl
theorem dX13_readOpening_0 : decode cX13_readOpening 0 = .ok (.aload_n 0, 1) := dk_42 (dk_at dksX13_readOpening_0 0 rfl rfl)
theorem dX13_readOpening_1 : decode cX13_readOpening 1 = .ok (.iconst 0, 1) := dk_3 (dk_at dksX13_readOpening_0 1 rfl rfl)
theorem dX13_readOpening_2 : decode cX13_readOpening 2 = .ok (.bipush 6, 2) := dk_16 6 (dk_at dksX13_readOpening_0 2 rfl rfl)
theorem dX13_readOpening_4 : decode cX13_readOpening 4 = .ok (.invokevirtual 280, 3) := dk_182 1 24 (dk_at dksX13_readOpening_0 4 rfl rfl)
theorem dX13_readOpening_7 : decode cX13_readOpening 7 = .ok (.aload_n 0, 1) := dk_42 (dk_at dksX13_readOpening_0 7 rfl rfl)
theorem dX13_readOpening_8 : decode cX13_readOpening 8 = .ok (.bipush 44, 2) := dk_16 44 (dk_at dksX13_readOpening_0 8 rfl rfl)
theorem dX13_readOpening_10 : decode cX13_readOpening 10 = .ok (.invokevirtual 234, 3) := dk_182 0 234 (dk_at dksX13_readOpening_0 10 rfl rfl)
theorem dX13_readOpening_13 : decode cX13_readOpening 13 = .ok (.aload_n 0, 1) := dk_42 (dk_at dksX13_readOpening_0 13 rfl rfl)
theorem dX13_readOpening_14 : decode cX13_readOpening 14 = .ok (.iconst 1, 1) := dk_4 (dk_at dksX13_readOpening_0 14 rfl rfl)
theorem dX13_readOpening_15 : decode cX13_readOpening 15 = .ok (.bipush 6, 2) := dk_16 6 (dk_at dksX13_readOpening_0 15 rfl rfl)
theorem dX13_readOpening_17 : decode cX13_readOpening 17 = .ok (.invokevirtual 280, 3) := dk_182 1 24 (dk_at dksX13_readOpening_0 17 rfl rfl)
theorem dX13_readOpening_20 : decode cX13_readOpening 20 = .ok (.aload_n 0, 1) := dk_42 (dk_at dksX13_readOpening_0 20 rfl rfl)
theorem dX13_readOpening_21 : decode cX13_readOpening 21 = .ok (.bipush 16, 2) := dk_16 16 (dk_at dksX13_readOpening_0 21 rfl rfl)
theorem dX13_readOpening_23 : decode cX13_readOpening 23 = .ok (.invokevirtual 261, 3) := dk_182 1 5 (dk_at dksX13_readOpening_1 0 rfl rfl)
theorem dX13_readOpening_26 : decode cX13_readOpening 26 = .ok (.aload_n 0, 1) := dk_42 (dk_at dksX13_readOpening_1 3 rfl rfl)
theorem dX13_readOpening_27 : decode cX13_readOpening 27 = .ok (.bipush 12, 2) := dk_16 12 (dk_at dksX13_readOpening_1 4 rfl rfl)
theorem dX13_readOpening_29 : decode cX13_readOpening 29 = .ok (.iconst 3, 1) := dk_6 (dk_at dksX13_readOpening_1 6 rfl rfl)
theorem dX13_readOpening_30 : decode cX13_readOpening 30 = .ok (.invokevirtual 270, 3) := dk_182 1 14 (dk_at dksX13_readOpening_1 7 rfl rfl)
theorem dX13_readOpening_33 : decode cX13_readOpening 33 = .ok (.istore_n 2, 1) := dk_61 (dk_at dksX13_readOpening_1 10 rfl rfl)
theorem dX13_readOpening_34 : decode cX13_readOpening 34 = .ok (.iconst 0, 1) := dk_3 (dk_at dksX13_readOpening_1 11 rfl rfl)
theorem dX13_readOpening_35 : decode cX13_readOpening 35 = .ok (.istore_n 3, 1) := dk_62 (dk_at dksX13_readOpening_1 12 rfl rfl)
theorem dX13_readOpening_36 : decode cX13_readOpening 36 = .ok (.iload_n 3, 1) := dk_29 (dk_at dksX13_readOpening_1 13 rfl rfl)
theorem dX13_readOpening_37 : decode cX13_readOpening 37 = .ok (.iconst 2, 1) := dk_5 (dk_at dksX13_readOpening_1 14 rfl rfl)
theorem dX13_readOpening_38 : decode cX13_readOpening 38 = .ok (.if_icmp .ge 81, 3) := dk_162 0 81 (dk_at dksX13_readOpening_1 15 rfl rfl)
theorem dX13_readOpening_41 : decode cX13_readOpening 41 = .ok (.aload_n 0, 1) := dk_42 (dk_at dksX13_readOpening_1 18 rfl rfl)
theorem dX13_readOpening_42 : decode cX13_readOpening 42 = .ok (.getfield 203, 3) := dk_180 0 203 (dk_at dksX13_readOpening_1 19 rfl rfl)
theorem dX13_readOpening_45 : decode cX13_readOpening 45 = .ok (.ifCond .ne 74, 3) := dk_154 0 74 (dk_at dksX13_readOpening_2 0 rfl rfl)
theorem dX13_readOpening_48 : decode cX13_readOpening 48 = .ok (.aload_n 0, 1) := dk_42 (dk_at dksX13_readOpening_2 3 rfl rfl)
theorem dX13_readOpening_49 : decode cX13_readOpening 49 = .ok (.getfield 106, 3) := dk_180 0 106 (dk_at dksX13_readOpening_2 4 rfl rfl)
theorem dX13_readOpening_52 : decode cX13_readOpening 52 = .ok (.iload_n 1, 1) := dk_27 (dk_at dksX13_readOpening_2 7 rfl rfl)
theorem dX13_readOpening_53 : decode cX13_readOpening 53 = .ok (.bipush 7, 2) := dk_16 7 (dk_at dksX13_readOpening_2 8 rfl rfl)
theorem dX13_readOpening_55 : decode cX13_readOpening 55 = .ok (.iload_n 3, 1) := dk_29 (dk_at dksX13_readOpening_2 10 rfl rfl)
theorem dX13_readOpening_56 : decode cX13_readOpening 56 = .ok (.imul, 1) := dk_104 (dk_at dksX13_readOpening_2 11 rfl rfl)
theorem dX13_readOpening_57 : decode cX13_readOpening 57 = .ok (.iadd, 1) := dk_96 (dk_at dksX13_readOpening_2 12 rfl rfl)
theorem dX13_readOpening_58 : decode cX13_readOpening 58 = .ok (.aload_n 0, 1) := dk_42 (dk_at dksX13_readOpening_2 13 rfl rfl)
theorem dX13_readOpening_59 : decode cX13_readOpening 59 = .ok (.getfield 103, 3) := dk_180 0 103 (dk_at dksX13_readOpening_2 14 rfl rfl)
theorem dX13_readOpening_62 : decode cX13_readOpening 62 = .ok (.iload_n 3, 1) := dk_29 (dk_at dksX13_readOpening_2 17 rfl rfl)
theorem dX13_readOpening_63 : decode cX13_readOpening 63 = .ok (.iaload, 1) := dk_46 (dk_at dksX13_readOpening_2 18 rfl rfl)
theorem dX13_readOpening_64 : decode cX13_readOpening 64 = .ok (.iastore, 1) := dk_79 (dk_at dksX13_readOpening_2 19 rfl rfl)
theorem dX13_readOpening_65 : decode cX13_readOpening 65 = .ok (.iconst 0, 1) := dk_3 (dk_at dksX13_readOpening_2 20 rfl rfl)
theorem dX13_readOpening_66 : decode cX13_readOpening 66 = .ok (.istore 4, 2) := dk_54 4 (dk_at dksX13_readOpening_2 21 rfl rfl)
theorem dX13_readOpening_68 : decode cX13_readOpening 68 = .ok (.iload 4, 2) := dk_21 4 (dk_at dksX13_readOpening_3 0 rfl rfl)
theorem dX13_readOpening_70 : decode cX13_readOpening 70 = .ok (.aload_n 0, 1) := dk_42 (dk_at dksX13_readOpening_3 2 rfl rfl)
theorem dX13_readOpening_71 : decode cX13_readOpening 71 = .ok (.getfield 103, 3) := dk_180 0 103 (dk_at dksX13_readOpening_3 3 rfl rfl)
theorem dX13_readOpening_74 : decode cX13_readOpening 74 = .ok (.iload_n 3, 1) := dk_29 (dk_at dksX13_readOpening_3 6 rfl rfl)
theorem dX13_readOpening_75 : decode cX13_readOpening 75 = .ok (.iaload, 1) := dk_46 (dk_at dksX13_readOpening_3 7 rfl rfl)
theorem dX13_readOpening_76 : decode cX13_readOpening 76 = .ok (.if_icmp .ge 37, 3) := dk_162 0 37 (dk_at dksX13_readOpening_3 8 rfl rfl)
theorem dX13_readOpening_79 : decode cX13_readOpening 79 = .ok (.aload_n 0, 1) := dk_42 (dk_at dksX13_readOpening_3 11 rfl rfl)
theorem dX13_readOpening_80 : decode cX13_readOpening 80 = .ok (.getfield 106, 3) := dk_180 0 106 (dk_at dksX13_readOpening_3 12 rfl rfl)
theorem dX13_readOpening_83 : decode cX13_readOpening 83 = .ok (.iload_n 1, 1) := dk_27 (dk_at dksX13_readOpening_3 15 rfl rfl)
theorem dX13_readOpening_84 : decode cX13_readOpening 84 = .ok (.bipush 7, 2) := dk_16 7 (dk_at dksX13_readOpening_3 16 rfl rfl)
theorem dX13_readOpening_86 : decode cX13_readOpening 86 = .ok (.iload_n 3, 1) := dk_29 (dk_at dksX13_readOpening_3 18 rfl rfl)
theorem dX13_readOpening_87 : decode cX13_readOpening 87 = .ok (.imul, 1) := dk_104 (dk_at dksX13_readOpening_3 19 rfl rfl)
theorem dX13_readOpening_88 : decode cX13_readOpening 88 = .ok (.iadd, 1) := dk_96 (dk_at dksX13_readOpening_3 20 rfl rfl)
theorem dX13_readOpening_89 : decode cX13_readOpening 89 = .ok (.iconst 1, 1) := dk_4 (dk_at dksX13_readOpening_3 21 rfl rfl)
theorem dX13_readOpening_90 : decode cX13_readOpening 90 = .ok (.iadd, 1) := dk_96 (dk_at dksX13_readOpening_3 22 rfl rfl)
theorem dX13_readOpening_91 : decode cX13_readOpening 91 = .ok (.iload 4, 2) := dk_21 4 (dk_at dksX13_readOpening_4 0 rfl rfl)
theorem dX13_readOpening_93 : decode cX13_readOpening 93 = .ok (.iadd, 1) := dk_96 (dk_at dksX13_readOpening_4 2 rfl rfl)
theorem dX13_readOpening_94 : decode cX13_readOpening 94 = .ok (.aload_n 0, 1) := dk_42 (dk_at dksX13_readOpening_4 3 rfl rfl)
theorem dX13_readOpening_95 : decode cX13_readOpening 95 = .ok (.getfield 100, 3) := dk_180 0 100 (dk_at dksX13_readOpening_4 4 rfl rfl)
theorem dX13_readOpening_98 : decode cX13_readOpening 98 = .ok (.bipush 24, 2) := dk_16 24 (dk_at dksX13_readOpening_4 7 rfl rfl)
theorem dX13_readOpening_100 : decode cX13_readOpening 100 = .ok (.iload_n 3, 1) := dk_29 (dk_at dksX13_readOpening_4 9 rfl rfl)
theorem dX13_readOpening_101 : decode cX13_readOpening 101 = .ok (.imul, 1) := dk_104 (dk_at dksX13_readOpening_4 10 rfl rfl)
theorem dX13_readOpening_102 : decode cX13_readOpening 102 = .ok (.iload 4, 2) := dk_21 4 (dk_at dksX13_readOpening_4 11 rfl rfl)
theorem dX13_readOpening_104 : decode cX13_readOpening 104 = .ok (.iadd, 1) := dk_96 (dk_at dksX13_readOpening_4 13 rfl rfl)
theorem dX13_readOpening_105 : decode cX13_readOpening 105 = .ok (.iaload, 1) := dk_46 (dk_at dksX13_readOpening_4 14 rfl rfl)
theorem dX13_readOpening_106 : decode cX13_readOpening 106 = .ok (.iastore, 1) := dk_79 (dk_at dksX13_readOpening_4 15 rfl rfl)
theorem dX13_readOpening_107 : decode cX13_readOpening 107 = .ok (.iinc 4 1, 3) := dk_132 4 1 (dk_at dksX13_readOpening_4 16 rfl rfl)
theorem dX13_readOpening_110 : decode cX13_readOpening 110 = .ok (.goto (-42), 3) := dk_167 255 214 (dk_at dksX13_readOpening_4 19 rfl rfl)
theorem dX13_readOpening_113 : decode cX13_readOpening 113 = .ok (.iinc 3 1, 3) := dk_132 3 1 (dk_at dksX13_readOpening_5 0 rfl rfl)
theorem dX13_readOpening_116 : decode cX13_readOpening 116 = .ok (.goto (-80), 3) := dk_167 255 176 (dk_at dksX13_readOpening_5 3 rfl rfl)
theorem dX13_readOpening_119 : decode cX13_readOpening 119 = .ok (.aload_n 0, 1) := dk_42 (dk_at dksX13_readOpening_5 6 rfl rfl)
theorem dX13_readOpening_120 : decode cX13_readOpening 120 = .ok (.getfield 106, 3) := dk_180 0 106 (dk_at dksX13_readOpening_5 7 rfl rfl)
theorem dX13_readOpening_123 : decode cX13_readOpening 123 = .ok (.iload_n 1, 1) := dk_27 (dk_at dksX13_readOpening_5 10 rfl rfl)
theorem dX13_readOpening_124 : decode cX13_readOpening 124 = .ok (.bipush 14, 2) := dk_16 14 (dk_at dksX13_readOpening_5 11 rfl rfl)
theorem dX13_readOpening_126 : decode cX13_readOpening 126 = .ok (.iadd, 1) := dk_96 (dk_at dksX13_readOpening_5 13 rfl rfl)
theorem dX13_readOpening_127 : decode cX13_readOpening 127 = .ok (.iload_n 2, 1) := dk_28 (dk_at dksX13_readOpening_5 14 rfl rfl)
theorem dX13_readOpening_128 : decode cX13_readOpening 128 = .ok (.iastore, 1) := dk_79 (dk_at dksX13_readOpening_5 15 rfl rfl)
theorem dX13_readOpening_129 : decode cX13_readOpening 129 = .ok (.return_, 1) := dk_177 (dk_at dksX13_readOpening_5 16 rfl rfl)
abbrev cX13_kind : ByteArray := prog_24_method_60_code
def yX13_kind : MethodName := ⟨RX13, "kind", "(II)I"⟩
def dkwX13_kind_3 : List UInt8 := [96, 42, 180, 0, 115, 3, 28, 96, 5, 100, 46, 27, 182, 1, 95, 172]
abbrev dktX13_kind_3 : List UInt8 := dkwX13_kind_3 ++ []
def dkwX13_kind_2 : List UInt8 := [16, 116, 42, 180, 0, 115, 5, 46, 27, 182, 1, 95, 167, 0, 27, 42, 16, 20, 16, 48, 28, 5, 100, 104]
abbrev dktX13_kind_2 : List UInt8 := dkwX13_kind_2 ++ dktX13_kind_3
def dkwX13_kind_1 : List UInt8 := [28, 5, 162, 0, 16, 42, 180, 0, 85, 8, 5, 27, 104, 96, 28, 96, 46, 172, 28, 7, 160, 0, 19, 42]
abbrev dktX13_kind_1 : List UInt8 := dkwX13_kind_1 ++ dktX13_kind_2
def dkwX13_kind_0 : List UInt8 := [42, 3, 181, 0, 1, 42, 27, 182, 1, 88, 153, 0, 12, 28, 3, 7, 184, 1, 91, 154, 0, 5, 2, 172]
abbrev dktX13_kind_0 : List UInt8 := dkwX13_kind_0 ++ dktX13_kind_1
theorem dksX13_kind_0 : cX13_kind.data.toList.drop 0 = dktX13_kind_0 := by decide +kernel
theorem dksX13_kind_1 : cX13_kind.data.toList.drop 24 = dktX13_kind_1 := dk_seg dksX13_kind_0 24 rfl rfl
theorem dksX13_kind_2 : cX13_kind.data.toList.drop 48 = dktX13_kind_2 := dk_seg dksX13_kind_1 24 rfl rfl
theorem dksX13_kind_3 : cX13_kind.data.toList.drop 72 = dktX13_kind_3 := dk_seg dksX13_kind_2 24 rfl rfl
theorem dX13_kind_0 : decode cX13_kind 0 = .ok (.aload_n 0, 1) := dk_42 (dk_at dksX13_kind_0 0 rfl rfl)
theorem dX13_kind_1 : decode cX13_kind 1 = .ok (.iconst 0, 1) := dk_3 (dk_at dksX13_kind_0 1 rfl rfl)
theorem dX13_kind_2 : decode cX13_kind 2 = .ok (.putfield 1, 3) := dk_181 0 1 (dk_at dksX13_kind_0 2 rfl rfl)
theorem dX13_kind_5 : decode cX13_kind 5 = .ok (.aload_n 0, 1) := dk_42 (dk_at dksX13_kind_0 5 rfl rfl)
theorem dX13_kind_6 : decode cX13_kind 6 = .ok (.iload_n 1, 1) := dk_27 (dk_at dksX13_kind_0 6 rfl rfl)
theorem dX13_kind_7 : decode cX13_kind 7 = .ok (.invokevirtual 344, 3) := dk_182 1 88 (dk_at dksX13_kind_0 7 rfl rfl)
theorem dX13_kind_10 : decode cX13_kind 10 = .ok (.ifCond .eq 12, 3) := dk_153 0 12 (dk_at dksX13_kind_0 10 rfl rfl)
theorem dX13_kind_13 : decode cX13_kind 13 = .ok (.iload_n 2, 1) := dk_28 (dk_at dksX13_kind_0 13 rfl rfl)
theorem dX13_kind_14 : decode cX13_kind 14 = .ok (.iconst 0, 1) := dk_3 (dk_at dksX13_kind_0 14 rfl rfl)
theorem dX13_kind_15 : decode cX13_kind 15 = .ok (.iconst 4, 1) := dk_7 (dk_at dksX13_kind_0 15 rfl rfl)
theorem dX13_kind_16 : decode cX13_kind 16 = .ok (.invokestatic 347, 3) := dk_184 1 91 (dk_at dksX13_kind_0 16 rfl rfl)
theorem dX13_kind_19 : decode cX13_kind 19 = .ok (.ifCond .ne 5, 3) := dk_154 0 5 (dk_at dksX13_kind_0 19 rfl rfl)
theorem dX13_kind_22 : decode cX13_kind 22 = .ok (.iconst (-1), 1) := dk_2 (dk_at dksX13_kind_0 22 rfl rfl)
theorem dX13_kind_23 : decode cX13_kind 23 = .ok (.ireturn, 1) := dk_172 (dk_at dksX13_kind_0 23 rfl rfl)
theorem dX13_kind_24 : decode cX13_kind 24 = .ok (.iload_n 2, 1) := dk_28 (dk_at dksX13_kind_1 0 rfl rfl)
theorem dX13_kind_25 : decode cX13_kind 25 = .ok (.iconst 2, 1) := dk_5 (dk_at dksX13_kind_1 1 rfl rfl)
theorem dX13_kind_26 : decode cX13_kind 26 = .ok (.if_icmp .ge 16, 3) := dk_162 0 16 (dk_at dksX13_kind_1 2 rfl rfl)
theorem dX13_kind_29 : decode cX13_kind 29 = .ok (.aload_n 0, 1) := dk_42 (dk_at dksX13_kind_1 5 rfl rfl)
theorem dX13_kind_30 : decode cX13_kind 30 = .ok (.getfield 85, 3) := dk_180 0 85 (dk_at dksX13_kind_1 6 rfl rfl)
theorem dX13_kind_33 : decode cX13_kind 33 = .ok (.iconst 5, 1) := dk_8 (dk_at dksX13_kind_1 9 rfl rfl)
theorem dX13_kind_34 : decode cX13_kind 34 = .ok (.iconst 2, 1) := dk_5 (dk_at dksX13_kind_1 10 rfl rfl)
theorem dX13_kind_35 : decode cX13_kind 35 = .ok (.iload_n 1, 1) := dk_27 (dk_at dksX13_kind_1 11 rfl rfl)
theorem dX13_kind_36 : decode cX13_kind 36 = .ok (.imul, 1) := dk_104 (dk_at dksX13_kind_1 12 rfl rfl)
theorem dX13_kind_37 : decode cX13_kind 37 = .ok (.iadd, 1) := dk_96 (dk_at dksX13_kind_1 13 rfl rfl)
theorem dX13_kind_38 : decode cX13_kind 38 = .ok (.iload_n 2, 1) := dk_28 (dk_at dksX13_kind_1 14 rfl rfl)
theorem dX13_kind_39 : decode cX13_kind 39 = .ok (.iadd, 1) := dk_96 (dk_at dksX13_kind_1 15 rfl rfl)
theorem dX13_kind_40 : decode cX13_kind 40 = .ok (.iaload, 1) := dk_46 (dk_at dksX13_kind_1 16 rfl rfl)
theorem dX13_kind_41 : decode cX13_kind 41 = .ok (.ireturn, 1) := dk_172 (dk_at dksX13_kind_1 17 rfl rfl)
theorem dX13_kind_42 : decode cX13_kind 42 = .ok (.iload_n 2, 1) := dk_28 (dk_at dksX13_kind_1 18 rfl rfl)
theorem dX13_kind_43 : decode cX13_kind 43 = .ok (.iconst 4, 1) := dk_7 (dk_at dksX13_kind_1 19 rfl rfl)
theorem dX13_kind_44 : decode cX13_kind 44 = .ok (.if_icmp .ne 19, 3) := dk_160 0 19 (dk_at dksX13_kind_1 20 rfl rfl)
theorem dX13_kind_47 : decode cX13_kind 47 = .ok (.aload_n 0, 1) := dk_42 (dk_at dksX13_kind_1 23 rfl rfl)
theorem dX13_kind_48 : decode cX13_kind 48 = .ok (.bipush 116, 2) := dk_16 116 (dk_at dksX13_kind_2 0 rfl rfl)
theorem dX13_kind_50 : decode cX13_kind 50 = .ok (.aload_n 0, 1) := dk_42 (dk_at dksX13_kind_2 2 rfl rfl)
theorem dX13_kind_51 : decode cX13_kind 51 = .ok (.getfield 115, 3) := dk_180 0 115 (dk_at dksX13_kind_2 3 rfl rfl)
theorem dX13_kind_54 : decode cX13_kind 54 = .ok (.iconst 2, 1) := dk_5 (dk_at dksX13_kind_2 6 rfl rfl)
theorem dX13_kind_55 : decode cX13_kind 55 = .ok (.iaload, 1) := dk_46 (dk_at dksX13_kind_2 7 rfl rfl)
theorem dX13_kind_56 : decode cX13_kind 56 = .ok (.iload_n 1, 1) := dk_27 (dk_at dksX13_kind_2 8 rfl rfl)
theorem dX13_kind_57 : decode cX13_kind 57 = .ok (.invokevirtual 351, 3) := dk_182 1 95 (dk_at dksX13_kind_2 9 rfl rfl)
theorem dX13_kind_60 : decode cX13_kind 60 = .ok (.goto 27, 3) := dk_167 0 27 (dk_at dksX13_kind_2 12 rfl rfl)
theorem dX13_kind_63 : decode cX13_kind 63 = .ok (.aload_n 0, 1) := dk_42 (dk_at dksX13_kind_2 15 rfl rfl)
theorem dX13_kind_64 : decode cX13_kind 64 = .ok (.bipush 20, 2) := dk_16 20 (dk_at dksX13_kind_2 16 rfl rfl)
theorem dX13_kind_66 : decode cX13_kind 66 = .ok (.bipush 48, 2) := dk_16 48 (dk_at dksX13_kind_2 18 rfl rfl)
theorem dX13_kind_68 : decode cX13_kind 68 = .ok (.iload_n 2, 1) := dk_28 (dk_at dksX13_kind_2 20 rfl rfl)
theorem dX13_kind_69 : decode cX13_kind 69 = .ok (.iconst 2, 1) := dk_5 (dk_at dksX13_kind_2 21 rfl rfl)
theorem dX13_kind_70 : decode cX13_kind 70 = .ok (.isub, 1) := dk_100 (dk_at dksX13_kind_2 22 rfl rfl)
theorem dX13_kind_71 : decode cX13_kind 71 = .ok (.imul, 1) := dk_104 (dk_at dksX13_kind_2 23 rfl rfl)
theorem dX13_kind_72 : decode cX13_kind 72 = .ok (.iadd, 1) := dk_96 (dk_at dksX13_kind_3 0 rfl rfl)
theorem dX13_kind_73 : decode cX13_kind 73 = .ok (.aload_n 0, 1) := dk_42 (dk_at dksX13_kind_3 1 rfl rfl)
theorem dX13_kind_74 : decode cX13_kind 74 = .ok (.getfield 115, 3) := dk_180 0 115 (dk_at dksX13_kind_3 2 rfl rfl)
theorem dX13_kind_77 : decode cX13_kind 77 = .ok (.iconst 0, 1) := dk_3 (dk_at dksX13_kind_3 5 rfl rfl)
theorem dX13_kind_78 : decode cX13_kind 78 = .ok (.iload_n 2, 1) := dk_28 (dk_at dksX13_kind_3 6 rfl rfl)
theorem dX13_kind_79 : decode cX13_kind 79 = .ok (.iadd, 1) := dk_96 (dk_at dksX13_kind_3 7 rfl rfl)
theorem dX13_kind_80 : decode cX13_kind 80 = .ok (.iconst 2, 1) := dk_5 (dk_at dksX13_kind_3 8 rfl rfl)
theorem dX13_kind_81 : decode cX13_kind 81 = .ok (.isub, 1) := dk_100 (dk_at dksX13_kind_3 9 rfl rfl)
theorem dX13_kind_82 : decode cX13_kind 82 = .ok (.iaload, 1) := dk_46 (dk_at dksX13_kind_3 10 rfl rfl)
theorem dX13_kind_83 : decode cX13_kind 83 = .ok (.iload_n 1, 1) := dk_27 (dk_at dksX13_kind_3 11 rfl rfl)
theorem dX13_kind_84 : decode cX13_kind 84 = .ok (.invokevirtual 351, 3) := dk_182 1 95 (dk_at dksX13_kind_3 12 rfl rfl)
theorem dX13_kind_87 : decode cX13_kind 87 = .ok (.ireturn, 1) := dk_172 (dk_at dksX13_kind_3 15 rfl rfl)
abbrev cX13_isKind : ByteArray := prog_24_method_47_code
def yX13_isKind : MethodName := ⟨RX13, "isKind", "(I)Z"⟩
def dkwX13_isKind_0 : List UInt8 := [27, 155, 0, 15, 27, 42, 182, 1, 56, 162, 0, 7, 4, 167, 0, 4, 3, 172]
abbrev dktX13_isKind_0 : List UInt8 := dkwX13_isKind_0 ++ []
theorem dksX13_isKind_0 : cX13_isKind.data.toList.drop 0 = dktX13_isKind_0 := by decide +kernel
theorem dX13_isKind_0 : decode cX13_isKind 0 = .ok (.iload_n 1, 1) := dk_27 (dk_at dksX13_isKind_0 0 rfl rfl)
theorem dX13_isKind_1 : decode cX13_isKind 1 = .ok (.ifCond .lt 15, 3) := dk_155 0 15 (dk_at dksX13_isKind_0 1 rfl rfl)
theorem dX13_isKind_4 : decode cX13_isKind 4 = .ok (.iload_n 1, 1) := dk_27 (dk_at dksX13_isKind_0 4 rfl rfl)
theorem dX13_isKind_5 : decode cX13_isKind 5 = .ok (.aload_n 0, 1) := dk_42 (dk_at dksX13_isKind_0 5 rfl rfl)
theorem dX13_isKind_6 : decode cX13_isKind 6 = .ok (.invokevirtual 312, 3) := dk_182 1 56 (dk_at dksX13_isKind_0 6 rfl rfl)
theorem dX13_isKind_9 : decode cX13_isKind 9 = .ok (.if_icmp .ge 7, 3) := dk_162 0 7 (dk_at dksX13_isKind_0 9 rfl rfl)
theorem dX13_isKind_12 : decode cX13_isKind 12 = .ok (.iconst 1, 1) := dk_4 (dk_at dksX13_isKind_0 12 rfl rfl)
theorem dX13_isKind_13 : decode cX13_isKind 13 = .ok (.goto 4, 3) := dk_167 0 4 (dk_at dksX13_isKind_0 13 rfl rfl)
theorem dX13_isKind_16 : decode cX13_isKind 16 = .ok (.iconst 0, 1) := dk_3 (dk_at dksX13_isKind_0 16 rfl rfl)
theorem dX13_isKind_17 : decode cX13_isKind 17 = .ok (.ireturn, 1) := dk_172 (dk_at dksX13_isKind_0 17 rfl rfl)
abbrev cX13_kinds : ByteArray := prog_24_method_46_code
def yX13_kinds : MethodName := ⟨RX13, "kinds", "()I"⟩
def dkwX13_kinds_0 : List UInt8 := [42, 180, 0, 85, 3, 46, 172]
abbrev dktX13_kinds_0 : List UInt8 := dkwX13_kinds_0 ++ []
theorem dksX13_kinds_0 : cX13_kinds.data.toList.drop 0 = dktX13_kinds_0 := by decide +kernel
theorem dX13_kinds_0 : decode cX13_kinds 0 = .ok (.aload_n 0, 1) := dk_42 (dk_at dksX13_kinds_0 0 rfl rfl)
theorem dX13_kinds_1 : decode cX13_kinds 1 = .ok (.getfield 85, 3) := dk_180 0 85 (dk_at dksX13_kinds_0 1 rfl rfl)
theorem dX13_kinds_4 : decode cX13_kinds 4 = .ok (.iconst 0, 1) := dk_3 (dk_at dksX13_kinds_0 4 rfl rfl)
theorem dX13_kinds_5 : decode cX13_kinds 5 = .ok (.iaload, 1) := dk_46 (dk_at dksX13_kinds_0 5 rfl rfl)
theorem dX13_kinds_6 : decode cX13_kinds 6 = .ok (.ireturn, 1) := dk_172 (dk_at dksX13_kinds_0 6 rfl rfl)
abbrev cX13_within : ByteArray := prog_24_method_17_code
def yX13_within : MethodName := ⟨RX13, "within", "(III)Z"⟩
def dkwX13_within_0 : List UInt8 := [26, 27, 161, 0, 12, 26, 28, 163, 0, 7, 4, 167, 0, 4, 3, 172]
abbrev dktX13_within_0 : List UInt8 := dkwX13_within_0 ++ []
theorem dksX13_within_0 : cX13_within.data.toList.drop 0 = dktX13_within_0 := by decide +kernel
theorem dX13_within_0 : decode cX13_within 0 = .ok (.iload_n 0, 1) := dk_26 (dk_at dksX13_within_0 0 rfl rfl)
theorem dX13_within_1 : decode cX13_within 1 = .ok (.iload_n 1, 1) := dk_27 (dk_at dksX13_within_0 1 rfl rfl)
theorem dX13_within_2 : decode cX13_within 2 = .ok (.if_icmp .lt 12, 3) := dk_161 0 12 (dk_at dksX13_within_0 2 rfl rfl)
theorem dX13_within_5 : decode cX13_within 5 = .ok (.iload_n 0, 1) := dk_26 (dk_at dksX13_within_0 5 rfl rfl)
theorem dX13_within_6 : decode cX13_within 6 = .ok (.iload_n 2, 1) := dk_28 (dk_at dksX13_within_0 6 rfl rfl)
theorem dX13_within_7 : decode cX13_within 7 = .ok (.if_icmp .gt 7, 3) := dk_163 0 7 (dk_at dksX13_within_0 7 rfl rfl)
theorem dX13_within_10 : decode cX13_within 10 = .ok (.iconst 1, 1) := dk_4 (dk_at dksX13_within_0 10 rfl rfl)
theorem dX13_within_11 : decode cX13_within 11 = .ok (.goto 4, 3) := dk_167 0 4 (dk_at dksX13_within_0 11 rfl rfl)
theorem dX13_within_14 : decode cX13_within 14 = .ok (.iconst 0, 1) := dk_3 (dk_at dksX13_within_0 14 rfl rfl)
theorem dX13_within_15 : decode cX13_within 15 = .ok (.ireturn, 1) := dk_172 (dk_at dksX13_within_0 15 rfl rfl)
abbrev cX13_countOf : ByteArray := prog_24_method_59_code
def yX13_countOf : MethodName := ⟨RX13, "countOf", "(III)I"⟩
def dkwX13_countOf_1 : List UInt8 := [16, 8, 112, 29, 160, 0, 7, 4, 167, 0, 4, 3, 96, 54, 4, 132, 5, 1, 167, 255, 221, 21, 4, 172]
abbrev dktX13_countOf_1 : List UInt8 := dkwX13_countOf_1 ++ []
def dkwX13_countOf_0 : List UInt8 := [3, 54, 4, 3, 54, 5, 21, 5, 28, 162, 0, 35, 21, 4, 42, 180, 0, 115, 27, 21, 5, 96, 46]
abbrev dktX13_countOf_0 : List UInt8 := dkwX13_countOf_0 ++ dktX13_countOf_1
theorem dksX13_countOf_0 : cX13_countOf.data.toList.drop 0 = dktX13_countOf_0 := by decide +kernel
theorem dksX13_countOf_1 : cX13_countOf.data.toList.drop 23 = dktX13_countOf_1 := dk_seg dksX13_countOf_0 23 rfl rfl
theorem dX13_countOf_0 : decode cX13_countOf 0 = .ok (.iconst 0, 1) := dk_3 (dk_at dksX13_countOf_0 0 rfl rfl)
theorem dX13_countOf_1 : decode cX13_countOf 1 = .ok (.istore 4, 2) := dk_54 4 (dk_at dksX13_countOf_0 1 rfl rfl)
theorem dX13_countOf_3 : decode cX13_countOf 3 = .ok (.iconst 0, 1) := dk_3 (dk_at dksX13_countOf_0 3 rfl rfl)
theorem dX13_countOf_4 : decode cX13_countOf 4 = .ok (.istore 5, 2) := dk_54 5 (dk_at dksX13_countOf_0 4 rfl rfl)
theorem dX13_countOf_6 : decode cX13_countOf 6 = .ok (.iload 5, 2) := dk_21 5 (dk_at dksX13_countOf_0 6 rfl rfl)
theorem dX13_countOf_8 : decode cX13_countOf 8 = .ok (.iload_n 2, 1) := dk_28 (dk_at dksX13_countOf_0 8 rfl rfl)
theorem dX13_countOf_9 : decode cX13_countOf 9 = .ok (.if_icmp .ge 35, 3) := dk_162 0 35 (dk_at dksX13_countOf_0 9 rfl rfl)
theorem dX13_countOf_12 : decode cX13_countOf 12 = .ok (.iload 4, 2) := dk_21 4 (dk_at dksX13_countOf_0 12 rfl rfl)
theorem dX13_countOf_14 : decode cX13_countOf 14 = .ok (.aload_n 0, 1) := dk_42 (dk_at dksX13_countOf_0 14 rfl rfl)
theorem dX13_countOf_15 : decode cX13_countOf 15 = .ok (.getfield 115, 3) := dk_180 0 115 (dk_at dksX13_countOf_0 15 rfl rfl)
theorem dX13_countOf_18 : decode cX13_countOf 18 = .ok (.iload_n 1, 1) := dk_27 (dk_at dksX13_countOf_0 18 rfl rfl)
theorem dX13_countOf_19 : decode cX13_countOf 19 = .ok (.iload 5, 2) := dk_21 5 (dk_at dksX13_countOf_0 19 rfl rfl)
theorem dX13_countOf_21 : decode cX13_countOf 21 = .ok (.iadd, 1) := dk_96 (dk_at dksX13_countOf_0 21 rfl rfl)
theorem dX13_countOf_22 : decode cX13_countOf 22 = .ok (.iaload, 1) := dk_46 (dk_at dksX13_countOf_0 22 rfl rfl)
theorem dX13_countOf_23 : decode cX13_countOf 23 = .ok (.bipush 8, 2) := dk_16 8 (dk_at dksX13_countOf_1 0 rfl rfl)
theorem dX13_countOf_25 : decode cX13_countOf 25 = .ok (.irem, 1) := dk_112 (dk_at dksX13_countOf_1 2 rfl rfl)
theorem dX13_countOf_26 : decode cX13_countOf 26 = .ok (.iload_n 3, 1) := dk_29 (dk_at dksX13_countOf_1 3 rfl rfl)
theorem dX13_countOf_27 : decode cX13_countOf 27 = .ok (.if_icmp .ne 7, 3) := dk_160 0 7 (dk_at dksX13_countOf_1 4 rfl rfl)
theorem dX13_countOf_30 : decode cX13_countOf 30 = .ok (.iconst 1, 1) := dk_4 (dk_at dksX13_countOf_1 7 rfl rfl)
theorem dX13_countOf_31 : decode cX13_countOf 31 = .ok (.goto 4, 3) := dk_167 0 4 (dk_at dksX13_countOf_1 8 rfl rfl)
theorem dX13_countOf_34 : decode cX13_countOf 34 = .ok (.iconst 0, 1) := dk_3 (dk_at dksX13_countOf_1 11 rfl rfl)
theorem dX13_countOf_35 : decode cX13_countOf 35 = .ok (.iadd, 1) := dk_96 (dk_at dksX13_countOf_1 12 rfl rfl)
theorem dX13_countOf_36 : decode cX13_countOf 36 = .ok (.istore 4, 2) := dk_54 4 (dk_at dksX13_countOf_1 13 rfl rfl)
theorem dX13_countOf_38 : decode cX13_countOf 38 = .ok (.iinc 5 1, 3) := dk_132 5 1 (dk_at dksX13_countOf_1 15 rfl rfl)
theorem dX13_countOf_41 : decode cX13_countOf 41 = .ok (.goto (-35), 3) := dk_167 255 221 (dk_at dksX13_countOf_1 18 rfl rfl)
theorem dX13_countOf_44 : decode cX13_countOf 44 = .ok (.iload 4, 2) := dk_21 4 (dk_at dksX13_countOf_1 21 rfl rfl)
theorem dX13_countOf_46 : decode cX13_countOf 46 = .ok (.ireturn, 1) := dk_172 (dk_at dksX13_countOf_1 23 rfl rfl)
abbrev cX13_card : ByteArray := prog_24_method_61_code
def yX13_card : MethodName := ⟨RX13, "card", "(II)I"⟩
def dkwX13_card_2 : List UInt8 := [2, 172]
abbrev dktX13_card_2 : List UInt8 := dkwX13_card_2 ++ []
def dkwX13_card_1 : List UInt8 := [46, 162, 0, 23, 42, 180, 0, 115, 16, 20, 16, 48, 27, 104, 96, 28, 96, 46, 16, 8, 112, 167, 0, 4]
abbrev dktX13_card_1 : List UInt8 := dkwX13_card_1 ++ dktX13_card_2
def dkwX13_card_0 : List UInt8 := [42, 3, 181, 0, 1, 27, 184, 1, 98, 153, 0, 39, 28, 155, 0, 35, 28, 42, 180, 0, 115, 3, 27, 96]
abbrev dktX13_card_0 : List UInt8 := dkwX13_card_0 ++ dktX13_card_1
theorem dksX13_card_0 : cX13_card.data.toList.drop 0 = dktX13_card_0 := by decide +kernel
theorem dksX13_card_1 : cX13_card.data.toList.drop 24 = dktX13_card_1 := dk_seg dksX13_card_0 24 rfl rfl
theorem dksX13_card_2 : cX13_card.data.toList.drop 48 = dktX13_card_2 := dk_seg dksX13_card_1 24 rfl rfl
theorem dX13_card_0 : decode cX13_card 0 = .ok (.aload_n 0, 1) := dk_42 (dk_at dksX13_card_0 0 rfl rfl)
theorem dX13_card_1 : decode cX13_card 1 = .ok (.iconst 0, 1) := dk_3 (dk_at dksX13_card_0 1 rfl rfl)
theorem dX13_card_2 : decode cX13_card 2 = .ok (.putfield 1, 3) := dk_181 0 1 (dk_at dksX13_card_0 2 rfl rfl)
theorem dX13_card_5 : decode cX13_card 5 = .ok (.iload_n 1, 1) := dk_27 (dk_at dksX13_card_0 5 rfl rfl)
theorem dX13_card_6 : decode cX13_card 6 = .ok (.invokestatic 354, 3) := dk_184 1 98 (dk_at dksX13_card_0 6 rfl rfl)
theorem dX13_card_9 : decode cX13_card 9 = .ok (.ifCond .eq 39, 3) := dk_153 0 39 (dk_at dksX13_card_0 9 rfl rfl)
theorem dX13_card_12 : decode cX13_card 12 = .ok (.iload_n 2, 1) := dk_28 (dk_at dksX13_card_0 12 rfl rfl)
theorem dX13_card_13 : decode cX13_card 13 = .ok (.ifCond .lt 35, 3) := dk_155 0 35 (dk_at dksX13_card_0 13 rfl rfl)
theorem dX13_card_16 : decode cX13_card 16 = .ok (.iload_n 2, 1) := dk_28 (dk_at dksX13_card_0 16 rfl rfl)
theorem dX13_card_17 : decode cX13_card 17 = .ok (.aload_n 0, 1) := dk_42 (dk_at dksX13_card_0 17 rfl rfl)
theorem dX13_card_18 : decode cX13_card 18 = .ok (.getfield 115, 3) := dk_180 0 115 (dk_at dksX13_card_0 18 rfl rfl)
theorem dX13_card_21 : decode cX13_card 21 = .ok (.iconst 0, 1) := dk_3 (dk_at dksX13_card_0 21 rfl rfl)
theorem dX13_card_22 : decode cX13_card 22 = .ok (.iload_n 1, 1) := dk_27 (dk_at dksX13_card_0 22 rfl rfl)
theorem dX13_card_23 : decode cX13_card 23 = .ok (.iadd, 1) := dk_96 (dk_at dksX13_card_0 23 rfl rfl)
theorem dX13_card_24 : decode cX13_card 24 = .ok (.iaload, 1) := dk_46 (dk_at dksX13_card_1 0 rfl rfl)
theorem dX13_card_25 : decode cX13_card 25 = .ok (.if_icmp .ge 23, 3) := dk_162 0 23 (dk_at dksX13_card_1 1 rfl rfl)
theorem dX13_card_28 : decode cX13_card 28 = .ok (.aload_n 0, 1) := dk_42 (dk_at dksX13_card_1 4 rfl rfl)
theorem dX13_card_29 : decode cX13_card 29 = .ok (.getfield 115, 3) := dk_180 0 115 (dk_at dksX13_card_1 5 rfl rfl)
theorem dX13_card_32 : decode cX13_card 32 = .ok (.bipush 20, 2) := dk_16 20 (dk_at dksX13_card_1 8 rfl rfl)
theorem dX13_card_34 : decode cX13_card 34 = .ok (.bipush 48, 2) := dk_16 48 (dk_at dksX13_card_1 10 rfl rfl)
theorem dX13_card_36 : decode cX13_card 36 = .ok (.iload_n 1, 1) := dk_27 (dk_at dksX13_card_1 12 rfl rfl)
theorem dX13_card_37 : decode cX13_card 37 = .ok (.imul, 1) := dk_104 (dk_at dksX13_card_1 13 rfl rfl)
theorem dX13_card_38 : decode cX13_card 38 = .ok (.iadd, 1) := dk_96 (dk_at dksX13_card_1 14 rfl rfl)
theorem dX13_card_39 : decode cX13_card 39 = .ok (.iload_n 2, 1) := dk_28 (dk_at dksX13_card_1 15 rfl rfl)
theorem dX13_card_40 : decode cX13_card 40 = .ok (.iadd, 1) := dk_96 (dk_at dksX13_card_1 16 rfl rfl)
theorem dX13_card_41 : decode cX13_card 41 = .ok (.iaload, 1) := dk_46 (dk_at dksX13_card_1 17 rfl rfl)
theorem dX13_card_42 : decode cX13_card 42 = .ok (.bipush 8, 2) := dk_16 8 (dk_at dksX13_card_1 18 rfl rfl)
theorem dX13_card_44 : decode cX13_card 44 = .ok (.irem, 1) := dk_112 (dk_at dksX13_card_1 20 rfl rfl)
theorem dX13_card_45 : decode cX13_card 45 = .ok (.goto 4, 3) := dk_167 0 4 (dk_at dksX13_card_1 21 rfl rfl)
theorem dX13_card_48 : decode cX13_card 48 = .ok (.iconst (-1), 1) := dk_2 (dk_at dksX13_card_2 0 rfl rfl)
theorem dX13_card_49 : decode cX13_card 49 = .ok (.ireturn, 1) := dk_172 (dk_at dksX13_card_2 1 rfl rfl)
abbrev cX13_isSide : ByteArray := prog_24_method_58_code
def yX13_isSide : MethodName := ⟨RX13, "isSide", "(I)Z"⟩
def dkwX13_isSide_0 : List UInt8 := [26, 153, 0, 8, 26, 4, 160, 0, 7, 4, 167, 0, 4, 3, 172]
abbrev dktX13_isSide_0 : List UInt8 := dkwX13_isSide_0 ++ []
theorem dksX13_isSide_0 : cX13_isSide.data.toList.drop 0 = dktX13_isSide_0 := by decide +kernel
theorem dX13_isSide_0 : decode cX13_isSide 0 = .ok (.iload_n 0, 1) := dk_26 (dk_at dksX13_isSide_0 0 rfl rfl)
theorem dX13_isSide_1 : decode cX13_isSide 1 = .ok (.ifCond .eq 8, 3) := dk_153 0 8 (dk_at dksX13_isSide_0 1 rfl rfl)
theorem dX13_isSide_4 : decode cX13_isSide 4 = .ok (.iload_n 0, 1) := dk_26 (dk_at dksX13_isSide_0 4 rfl rfl)
theorem dX13_isSide_5 : decode cX13_isSide 5 = .ok (.iconst 1, 1) := dk_4 (dk_at dksX13_isSide_0 5 rfl rfl)
theorem dX13_isSide_6 : decode cX13_isSide 6 = .ok (.if_icmp .ne 7, 3) := dk_160 0 7 (dk_at dksX13_isSide_0 6 rfl rfl)
theorem dX13_isSide_9 : decode cX13_isSide 9 = .ok (.iconst 1, 1) := dk_4 (dk_at dksX13_isSide_0 9 rfl rfl)
theorem dX13_isSide_10 : decode cX13_isSide 10 = .ok (.goto 4, 3) := dk_167 0 4 (dk_at dksX13_isSide_0 10 rfl rfl)
theorem dX13_isSide_13 : decode cX13_isSide 13 = .ok (.iconst 0, 1) := dk_3 (dk_at dksX13_isSide_0 13 rfl rfl)
theorem dX13_isSide_14 : decode cX13_isSide 14 = .ok (.ireturn, 1) := dk_172 (dk_at dksX13_isSide_0 14 rfl rfl)
abbrev cX13_heap : ByteArray := prog_24_method_62_code
def yX13_heap : MethodName := ⟨RX13, "heap", "(I)I"⟩
def dkwX13_heap_1 : List UInt8 := [16, 116, 27, 96, 46, 167, 0, 4, 2, 172]
abbrev dktX13_heap_1 : List UInt8 := dkwX13_heap_1 ++ []
def dkwX13_heap_0 : List UInt8 := [42, 3, 181, 0, 1, 27, 155, 0, 25, 27, 42, 180, 0, 115, 5, 46, 162, 0, 15, 42, 180, 0, 115]
abbrev dktX13_heap_0 : List UInt8 := dkwX13_heap_0 ++ dktX13_heap_1
theorem dksX13_heap_0 : cX13_heap.data.toList.drop 0 = dktX13_heap_0 := by decide +kernel
theorem dksX13_heap_1 : cX13_heap.data.toList.drop 23 = dktX13_heap_1 := dk_seg dksX13_heap_0 23 rfl rfl
theorem dX13_heap_0 : decode cX13_heap 0 = .ok (.aload_n 0, 1) := dk_42 (dk_at dksX13_heap_0 0 rfl rfl)
theorem dX13_heap_1 : decode cX13_heap 1 = .ok (.iconst 0, 1) := dk_3 (dk_at dksX13_heap_0 1 rfl rfl)
theorem dX13_heap_2 : decode cX13_heap 2 = .ok (.putfield 1, 3) := dk_181 0 1 (dk_at dksX13_heap_0 2 rfl rfl)
theorem dX13_heap_5 : decode cX13_heap 5 = .ok (.iload_n 1, 1) := dk_27 (dk_at dksX13_heap_0 5 rfl rfl)
theorem dX13_heap_6 : decode cX13_heap 6 = .ok (.ifCond .lt 25, 3) := dk_155 0 25 (dk_at dksX13_heap_0 6 rfl rfl)
theorem dX13_heap_9 : decode cX13_heap 9 = .ok (.iload_n 1, 1) := dk_27 (dk_at dksX13_heap_0 9 rfl rfl)
theorem dX13_heap_10 : decode cX13_heap 10 = .ok (.aload_n 0, 1) := dk_42 (dk_at dksX13_heap_0 10 rfl rfl)
theorem dX13_heap_11 : decode cX13_heap 11 = .ok (.getfield 115, 3) := dk_180 0 115 (dk_at dksX13_heap_0 11 rfl rfl)
theorem dX13_heap_14 : decode cX13_heap 14 = .ok (.iconst 2, 1) := dk_5 (dk_at dksX13_heap_0 14 rfl rfl)
theorem dX13_heap_15 : decode cX13_heap 15 = .ok (.iaload, 1) := dk_46 (dk_at dksX13_heap_0 15 rfl rfl)
theorem dX13_heap_16 : decode cX13_heap 16 = .ok (.if_icmp .ge 15, 3) := dk_162 0 15 (dk_at dksX13_heap_0 16 rfl rfl)
theorem dX13_heap_19 : decode cX13_heap 19 = .ok (.aload_n 0, 1) := dk_42 (dk_at dksX13_heap_0 19 rfl rfl)
theorem dX13_heap_20 : decode cX13_heap 20 = .ok (.getfield 115, 3) := dk_180 0 115 (dk_at dksX13_heap_0 20 rfl rfl)
theorem dX13_heap_23 : decode cX13_heap 23 = .ok (.bipush 116, 2) := dk_16 116 (dk_at dksX13_heap_1 0 rfl rfl)
theorem dX13_heap_25 : decode cX13_heap 25 = .ok (.iload_n 1, 1) := dk_27 (dk_at dksX13_heap_1 2 rfl rfl)
theorem dX13_heap_26 : decode cX13_heap 26 = .ok (.iadd, 1) := dk_96 (dk_at dksX13_heap_1 3 rfl rfl)
theorem dX13_heap_27 : decode cX13_heap 27 = .ok (.iaload, 1) := dk_46 (dk_at dksX13_heap_1 4 rfl rfl)
theorem dX13_heap_28 : decode cX13_heap 28 = .ok (.goto 4, 3) := dk_167 0 4 (dk_at dksX13_heap_1 5 rfl rfl)
theorem dX13_heap_31 : decode cX13_heap 31 = .ok (.iconst (-1), 1) := dk_2 (dk_at dksX13_heap_1 8 rfl rfl)
theorem dX13_heap_32 : decode cX13_heap 32 = .ok (.ireturn, 1) := dk_172 (dk_at dksX13_heap_1 9 rfl rfl)
abbrev cX13_taken : ByteArray := prog_24_method_63_code
def yX13_taken : MethodName := ⟨RX13, "taken", "(II)I"⟩
def dkwX13_taken_2 : List UInt8 := [172]
abbrev dktX13_taken_2 : List UInt8 := dkwX13_taken_2 ++ []
def dkwX13_taken_1 : List UInt8 := [184, 1, 91, 153, 0, 20, 42, 180, 0, 115, 17, 1, 4, 7, 27, 104, 96, 28, 96, 46, 167, 0, 4, 2]
abbrev dktX13_taken_1 : List UInt8 := dkwX13_taken_1 ++ dktX13_taken_2
def dkwX13_taken_0 : List UInt8 := [42, 3, 181, 0, 1, 27, 155, 0, 40, 27, 42, 180, 0, 115, 16, 12, 46, 162, 0, 29, 28, 3, 6]
abbrev dktX13_taken_0 : List UInt8 := dkwX13_taken_0 ++ dktX13_taken_1
theorem dksX13_taken_0 : cX13_taken.data.toList.drop 0 = dktX13_taken_0 := by decide +kernel
theorem dksX13_taken_1 : cX13_taken.data.toList.drop 23 = dktX13_taken_1 := dk_seg dksX13_taken_0 23 rfl rfl
theorem dksX13_taken_2 : cX13_taken.data.toList.drop 47 = dktX13_taken_2 := dk_seg dksX13_taken_1 24 rfl rfl
theorem dX13_taken_0 : decode cX13_taken 0 = .ok (.aload_n 0, 1) := dk_42 (dk_at dksX13_taken_0 0 rfl rfl)
theorem dX13_taken_1 : decode cX13_taken 1 = .ok (.iconst 0, 1) := dk_3 (dk_at dksX13_taken_0 1 rfl rfl)
theorem dX13_taken_2 : decode cX13_taken 2 = .ok (.putfield 1, 3) := dk_181 0 1 (dk_at dksX13_taken_0 2 rfl rfl)
theorem dX13_taken_5 : decode cX13_taken 5 = .ok (.iload_n 1, 1) := dk_27 (dk_at dksX13_taken_0 5 rfl rfl)
theorem dX13_taken_6 : decode cX13_taken 6 = .ok (.ifCond .lt 40, 3) := dk_155 0 40 (dk_at dksX13_taken_0 6 rfl rfl)
theorem dX13_taken_9 : decode cX13_taken 9 = .ok (.iload_n 1, 1) := dk_27 (dk_at dksX13_taken_0 9 rfl rfl)
theorem dX13_taken_10 : decode cX13_taken 10 = .ok (.aload_n 0, 1) := dk_42 (dk_at dksX13_taken_0 10 rfl rfl)
theorem dX13_taken_11 : decode cX13_taken 11 = .ok (.getfield 115, 3) := dk_180 0 115 (dk_at dksX13_taken_0 11 rfl rfl)
theorem dX13_taken_14 : decode cX13_taken 14 = .ok (.bipush 12, 2) := dk_16 12 (dk_at dksX13_taken_0 14 rfl rfl)
theorem dX13_taken_16 : decode cX13_taken 16 = .ok (.iaload, 1) := dk_46 (dk_at dksX13_taken_0 16 rfl rfl)
theorem dX13_taken_17 : decode cX13_taken 17 = .ok (.if_icmp .ge 29, 3) := dk_162 0 29 (dk_at dksX13_taken_0 17 rfl rfl)
theorem dX13_taken_20 : decode cX13_taken 20 = .ok (.iload_n 2, 1) := dk_28 (dk_at dksX13_taken_0 20 rfl rfl)
theorem dX13_taken_21 : decode cX13_taken 21 = .ok (.iconst 0, 1) := dk_3 (dk_at dksX13_taken_0 21 rfl rfl)
theorem dX13_taken_22 : decode cX13_taken 22 = .ok (.iconst 3, 1) := dk_6 (dk_at dksX13_taken_0 22 rfl rfl)
theorem dX13_taken_23 : decode cX13_taken 23 = .ok (.invokestatic 347, 3) := dk_184 1 91 (dk_at dksX13_taken_1 0 rfl rfl)
theorem dX13_taken_26 : decode cX13_taken 26 = .ok (.ifCond .eq 20, 3) := dk_153 0 20 (dk_at dksX13_taken_1 3 rfl rfl)
theorem dX13_taken_29 : decode cX13_taken 29 = .ok (.aload_n 0, 1) := dk_42 (dk_at dksX13_taken_1 6 rfl rfl)
theorem dX13_taken_30 : decode cX13_taken 30 = .ok (.getfield 115, 3) := dk_180 0 115 (dk_at dksX13_taken_1 7 rfl rfl)
theorem dX13_taken_33 : decode cX13_taken 33 = .ok (.sipush 260, 3) := dk_17 1 4 (dk_at dksX13_taken_1 10 rfl rfl)
theorem dX13_taken_36 : decode cX13_taken 36 = .ok (.iconst 4, 1) := dk_7 (dk_at dksX13_taken_1 13 rfl rfl)
theorem dX13_taken_37 : decode cX13_taken 37 = .ok (.iload_n 1, 1) := dk_27 (dk_at dksX13_taken_1 14 rfl rfl)
theorem dX13_taken_38 : decode cX13_taken 38 = .ok (.imul, 1) := dk_104 (dk_at dksX13_taken_1 15 rfl rfl)
theorem dX13_taken_39 : decode cX13_taken 39 = .ok (.iadd, 1) := dk_96 (dk_at dksX13_taken_1 16 rfl rfl)
theorem dX13_taken_40 : decode cX13_taken 40 = .ok (.iload_n 2, 1) := dk_28 (dk_at dksX13_taken_1 17 rfl rfl)
theorem dX13_taken_41 : decode cX13_taken 41 = .ok (.iadd, 1) := dk_96 (dk_at dksX13_taken_1 18 rfl rfl)
theorem dX13_taken_42 : decode cX13_taken 42 = .ok (.iaload, 1) := dk_46 (dk_at dksX13_taken_1 19 rfl rfl)
theorem dX13_taken_43 : decode cX13_taken 43 = .ok (.goto 4, 3) := dk_167 0 4 (dk_at dksX13_taken_1 20 rfl rfl)
theorem dX13_taken_46 : decode cX13_taken 46 = .ok (.iconst (-1), 1) := dk_2 (dk_at dksX13_taken_1 23 rfl rfl)
theorem dX13_taken_47 : decode cX13_taken 47 = .ok (.ireturn, 1) := dk_172 (dk_at dksX13_taken_2 0 rfl rfl)
abbrev cX13_turn : ByteArray := prog_24_method_64_code
def yX13_turn : MethodName := ⟨RX13, "turn", "(I)I"⟩
def dkwX13_turn_2 : List UInt8 := [154, 0, 14, 42, 3, 182, 1, 107, 132, 2, 1, 167, 255, 235, 28, 172]
abbrev dktX13_turn_2 : List UInt8 := dkwX13_turn_2 ++ []
def dkwX13_turn_1 : List UInt8 := [46, 155, 0, 5, 3, 172, 42, 182, 1, 101, 3, 61, 28, 27, 162, 0, 22, 42, 3, 182, 1, 104]
abbrev dktX13_turn_1 : List UInt8 := dkwX13_turn_1 ++ dktX13_turn_2
def dkwX13_turn_0 : List UInt8 := [42, 3, 181, 0, 1, 27, 4, 17, 3, 232, 184, 1, 91, 154, 0, 5, 2, 172, 42, 180, 0, 115, 16, 8]
abbrev dktX13_turn_0 : List UInt8 := dkwX13_turn_0 ++ dktX13_turn_1
theorem dksX13_turn_0 : cX13_turn.data.toList.drop 0 = dktX13_turn_0 := by decide +kernel
theorem dksX13_turn_1 : cX13_turn.data.toList.drop 24 = dktX13_turn_1 := dk_seg dksX13_turn_0 24 rfl rfl
theorem dksX13_turn_2 : cX13_turn.data.toList.drop 46 = dktX13_turn_2 := dk_seg dksX13_turn_1 22 rfl rfl
theorem dX13_turn_0 : decode cX13_turn 0 = .ok (.aload_n 0, 1) := dk_42 (dk_at dksX13_turn_0 0 rfl rfl)
theorem dX13_turn_1 : decode cX13_turn 1 = .ok (.iconst 0, 1) := dk_3 (dk_at dksX13_turn_0 1 rfl rfl)
theorem dX13_turn_2 : decode cX13_turn 2 = .ok (.putfield 1, 3) := dk_181 0 1 (dk_at dksX13_turn_0 2 rfl rfl)
theorem dX13_turn_5 : decode cX13_turn 5 = .ok (.iload_n 1, 1) := dk_27 (dk_at dksX13_turn_0 5 rfl rfl)
theorem dX13_turn_6 : decode cX13_turn 6 = .ok (.iconst 1, 1) := dk_4 (dk_at dksX13_turn_0 6 rfl rfl)
theorem dX13_turn_7 : decode cX13_turn 7 = .ok (.sipush 1000, 3) := dk_17 3 232 (dk_at dksX13_turn_0 7 rfl rfl)
theorem dX13_turn_10 : decode cX13_turn 10 = .ok (.invokestatic 347, 3) := dk_184 1 91 (dk_at dksX13_turn_0 10 rfl rfl)
theorem dX13_turn_13 : decode cX13_turn 13 = .ok (.ifCond .ne 5, 3) := dk_154 0 5 (dk_at dksX13_turn_0 13 rfl rfl)
theorem dX13_turn_16 : decode cX13_turn 16 = .ok (.iconst (-1), 1) := dk_2 (dk_at dksX13_turn_0 16 rfl rfl)
theorem dX13_turn_17 : decode cX13_turn 17 = .ok (.ireturn, 1) := dk_172 (dk_at dksX13_turn_0 17 rfl rfl)
theorem dX13_turn_18 : decode cX13_turn 18 = .ok (.aload_n 0, 1) := dk_42 (dk_at dksX13_turn_0 18 rfl rfl)
theorem dX13_turn_19 : decode cX13_turn 19 = .ok (.getfield 115, 3) := dk_180 0 115 (dk_at dksX13_turn_0 19 rfl rfl)
theorem dX13_turn_22 : decode cX13_turn 22 = .ok (.bipush 8, 2) := dk_16 8 (dk_at dksX13_turn_0 22 rfl rfl)
theorem dX13_turn_24 : decode cX13_turn 24 = .ok (.iaload, 1) := dk_46 (dk_at dksX13_turn_1 0 rfl rfl)
theorem dX13_turn_25 : decode cX13_turn 25 = .ok (.ifCond .lt 5, 3) := dk_155 0 5 (dk_at dksX13_turn_1 1 rfl rfl)
theorem dX13_turn_28 : decode cX13_turn 28 = .ok (.iconst 0, 1) := dk_3 (dk_at dksX13_turn_1 4 rfl rfl)
theorem dX13_turn_29 : decode cX13_turn 29 = .ok (.ireturn, 1) := dk_172 (dk_at dksX13_turn_1 5 rfl rfl)
theorem dX13_turn_30 : decode cX13_turn 30 = .ok (.aload_n 0, 1) := dk_42 (dk_at dksX13_turn_1 6 rfl rfl)
theorem dX13_turn_31 : decode cX13_turn 31 = .ok (.invokevirtual 357, 3) := dk_182 1 101 (dk_at dksX13_turn_1 7 rfl rfl)
theorem dX13_turn_34 : decode cX13_turn 34 = .ok (.iconst 0, 1) := dk_3 (dk_at dksX13_turn_1 10 rfl rfl)
theorem dX13_turn_35 : decode cX13_turn 35 = .ok (.istore_n 2, 1) := dk_61 (dk_at dksX13_turn_1 11 rfl rfl)
theorem dX13_turn_36 : decode cX13_turn 36 = .ok (.iload_n 2, 1) := dk_28 (dk_at dksX13_turn_1 12 rfl rfl)
theorem dX13_turn_37 : decode cX13_turn 37 = .ok (.iload_n 1, 1) := dk_27 (dk_at dksX13_turn_1 13 rfl rfl)
theorem dX13_turn_38 : decode cX13_turn 38 = .ok (.if_icmp .ge 22, 3) := dk_162 0 22 (dk_at dksX13_turn_1 14 rfl rfl)
theorem dX13_turn_41 : decode cX13_turn 41 = .ok (.aload_n 0, 1) := dk_42 (dk_at dksX13_turn_1 17 rfl rfl)
theorem dX13_turn_42 : decode cX13_turn 42 = .ok (.iconst 0, 1) := dk_3 (dk_at dksX13_turn_1 18 rfl rfl)
theorem dX13_turn_43 : decode cX13_turn 43 = .ok (.invokevirtual 360, 3) := dk_182 1 104 (dk_at dksX13_turn_1 19 rfl rfl)
theorem dX13_turn_46 : decode cX13_turn 46 = .ok (.ifCond .ne 14, 3) := dk_154 0 14 (dk_at dksX13_turn_2 0 rfl rfl)
theorem dX13_turn_49 : decode cX13_turn 49 = .ok (.aload_n 0, 1) := dk_42 (dk_at dksX13_turn_2 3 rfl rfl)
theorem dX13_turn_50 : decode cX13_turn 50 = .ok (.iconst 0, 1) := dk_3 (dk_at dksX13_turn_2 4 rfl rfl)
theorem dX13_turn_51 : decode cX13_turn 51 = .ok (.invokevirtual 363, 3) := dk_182 1 107 (dk_at dksX13_turn_2 5 rfl rfl)
theorem dX13_turn_54 : decode cX13_turn 54 = .ok (.iinc 2 1, 3) := dk_132 2 1 (dk_at dksX13_turn_2 8 rfl rfl)
theorem dX13_turn_57 : decode cX13_turn 57 = .ok (.goto (-21), 3) := dk_167 255 235 (dk_at dksX13_turn_2 11 rfl rfl)
theorem dX13_turn_60 : decode cX13_turn 60 = .ok (.iload_n 2, 1) := dk_28 (dk_at dksX13_turn_2 14 rfl rfl)
theorem dX13_turn_61 : decode cX13_turn 61 = .ok (.ireturn, 1) := dk_172 (dk_at dksX13_turn_2 15 rfl rfl)
abbrev cX13_keeps : ByteArray := prog_24_method_44_code
def yX13_keeps : MethodName := ⟨RX13, "keeps", "()V"⟩
def dkwX13_keeps_3 : List UInt8 := [182, 1, 52, 42, 89, 180, 0, 237, 4, 96, 181, 0, 237, 177]
abbrev dktX13_keeps_3 : List UInt8 := dkwX13_keeps_3 ++ []
def dkwX13_keeps_2 : List UInt8 := [180, 0, 237, 4, 100, 181, 0, 237, 42, 3, 17, 1, 204, 8, 42, 180, 0, 237, 96, 104, 17, 1, 204]
abbrev dktX13_keeps_2 : List UInt8 := dkwX13_keeps_2 ++ dktX13_keeps_3
def dkwX13_keeps_1 : List UInt8 := [104, 17, 1, 204, 8, 27, 96, 4, 100, 104, 17, 1, 204, 182, 1, 52, 132, 1, 1, 167, 255, 224, 42, 89]
abbrev dktX13_keeps_1 : List UInt8 := dkwX13_keeps_1 ++ dktX13_keeps_2
def dkwX13_keeps_0 : List UInt8 := [42, 180, 0, 237, 16, 16, 160, 0, 50, 4, 60, 27, 16, 16, 162, 0, 32, 42, 17, 1, 204, 8, 27, 96]
abbrev dktX13_keeps_0 : List UInt8 := dkwX13_keeps_0 ++ dktX13_keeps_1
theorem dksX13_keeps_0 : cX13_keeps.data.toList.drop 0 = dktX13_keeps_0 := by decide +kernel
theorem dksX13_keeps_1 : cX13_keeps.data.toList.drop 24 = dktX13_keeps_1 := dk_seg dksX13_keeps_0 24 rfl rfl
theorem dksX13_keeps_2 : cX13_keeps.data.toList.drop 48 = dktX13_keeps_2 := dk_seg dksX13_keeps_1 24 rfl rfl
theorem dksX13_keeps_3 : cX13_keeps.data.toList.drop 71 = dktX13_keeps_3 := dk_seg dksX13_keeps_2 23 rfl rfl
theorem dX13_keeps_0 : decode cX13_keeps 0 = .ok (.aload_n 0, 1) := dk_42 (dk_at dksX13_keeps_0 0 rfl rfl)
theorem dX13_keeps_1 : decode cX13_keeps 1 = .ok (.getfield 237, 3) := dk_180 0 237 (dk_at dksX13_keeps_0 1 rfl rfl)
theorem dX13_keeps_4 : decode cX13_keeps 4 = .ok (.bipush 16, 2) := dk_16 16 (dk_at dksX13_keeps_0 4 rfl rfl)
theorem dX13_keeps_6 : decode cX13_keeps 6 = .ok (.if_icmp .ne 50, 3) := dk_160 0 50 (dk_at dksX13_keeps_0 6 rfl rfl)
theorem dX13_keeps_9 : decode cX13_keeps 9 = .ok (.iconst 1, 1) := dk_4 (dk_at dksX13_keeps_0 9 rfl rfl)
theorem dX13_keeps_10 : decode cX13_keeps 10 = .ok (.istore_n 1, 1) := dk_60 (dk_at dksX13_keeps_0 10 rfl rfl)
theorem dX13_keeps_11 : decode cX13_keeps 11 = .ok (.iload_n 1, 1) := dk_27 (dk_at dksX13_keeps_0 11 rfl rfl)
theorem dX13_keeps_12 : decode cX13_keeps 12 = .ok (.bipush 16, 2) := dk_16 16 (dk_at dksX13_keeps_0 12 rfl rfl)
theorem dX13_keeps_14 : decode cX13_keeps 14 = .ok (.if_icmp .ge 32, 3) := dk_162 0 32 (dk_at dksX13_keeps_0 14 rfl rfl)
theorem dX13_keeps_17 : decode cX13_keeps 17 = .ok (.aload_n 0, 1) := dk_42 (dk_at dksX13_keeps_0 17 rfl rfl)
theorem dX13_keeps_18 : decode cX13_keeps 18 = .ok (.sipush 460, 3) := dk_17 1 204 (dk_at dksX13_keeps_0 18 rfl rfl)
theorem dX13_keeps_21 : decode cX13_keeps 21 = .ok (.iconst 5, 1) := dk_8 (dk_at dksX13_keeps_0 21 rfl rfl)
theorem dX13_keeps_22 : decode cX13_keeps 22 = .ok (.iload_n 1, 1) := dk_27 (dk_at dksX13_keeps_0 22 rfl rfl)
theorem dX13_keeps_23 : decode cX13_keeps 23 = .ok (.iadd, 1) := dk_96 (dk_at dksX13_keeps_0 23 rfl rfl)
theorem dX13_keeps_24 : decode cX13_keeps 24 = .ok (.imul, 1) := dk_104 (dk_at dksX13_keeps_1 0 rfl rfl)
theorem dX13_keeps_25 : decode cX13_keeps 25 = .ok (.sipush 460, 3) := dk_17 1 204 (dk_at dksX13_keeps_1 1 rfl rfl)
theorem dX13_keeps_28 : decode cX13_keeps 28 = .ok (.iconst 5, 1) := dk_8 (dk_at dksX13_keeps_1 4 rfl rfl)
theorem dX13_keeps_29 : decode cX13_keeps 29 = .ok (.iload_n 1, 1) := dk_27 (dk_at dksX13_keeps_1 5 rfl rfl)
theorem dX13_keeps_30 : decode cX13_keeps 30 = .ok (.iadd, 1) := dk_96 (dk_at dksX13_keeps_1 6 rfl rfl)
theorem dX13_keeps_31 : decode cX13_keeps 31 = .ok (.iconst 1, 1) := dk_4 (dk_at dksX13_keeps_1 7 rfl rfl)
theorem dX13_keeps_32 : decode cX13_keeps 32 = .ok (.isub, 1) := dk_100 (dk_at dksX13_keeps_1 8 rfl rfl)
theorem dX13_keeps_33 : decode cX13_keeps 33 = .ok (.imul, 1) := dk_104 (dk_at dksX13_keeps_1 9 rfl rfl)
theorem dX13_keeps_34 : decode cX13_keeps 34 = .ok (.sipush 460, 3) := dk_17 1 204 (dk_at dksX13_keeps_1 10 rfl rfl)
theorem dX13_keeps_37 : decode cX13_keeps 37 = .ok (.invokevirtual 308, 3) := dk_182 1 52 (dk_at dksX13_keeps_1 13 rfl rfl)
theorem dX13_keeps_40 : decode cX13_keeps 40 = .ok (.iinc 1 1, 3) := dk_132 1 1 (dk_at dksX13_keeps_1 16 rfl rfl)
theorem dX13_keeps_43 : decode cX13_keeps 43 = .ok (.goto (-32), 3) := dk_167 255 224 (dk_at dksX13_keeps_1 19 rfl rfl)
theorem dX13_keeps_46 : decode cX13_keeps 46 = .ok (.aload_n 0, 1) := dk_42 (dk_at dksX13_keeps_1 22 rfl rfl)
theorem dX13_keeps_47 : decode cX13_keeps 47 = .ok (.dup, 1) := dk_89 (dk_at dksX13_keeps_1 23 rfl rfl)
theorem dX13_keeps_48 : decode cX13_keeps 48 = .ok (.getfield 237, 3) := dk_180 0 237 (dk_at dksX13_keeps_2 0 rfl rfl)
theorem dX13_keeps_51 : decode cX13_keeps 51 = .ok (.iconst 1, 1) := dk_4 (dk_at dksX13_keeps_2 3 rfl rfl)
theorem dX13_keeps_52 : decode cX13_keeps 52 = .ok (.isub, 1) := dk_100 (dk_at dksX13_keeps_2 4 rfl rfl)
theorem dX13_keeps_53 : decode cX13_keeps 53 = .ok (.putfield 237, 3) := dk_181 0 237 (dk_at dksX13_keeps_2 5 rfl rfl)
theorem dX13_keeps_56 : decode cX13_keeps 56 = .ok (.aload_n 0, 1) := dk_42 (dk_at dksX13_keeps_2 8 rfl rfl)
theorem dX13_keeps_57 : decode cX13_keeps 57 = .ok (.iconst 0, 1) := dk_3 (dk_at dksX13_keeps_2 9 rfl rfl)
theorem dX13_keeps_58 : decode cX13_keeps 58 = .ok (.sipush 460, 3) := dk_17 1 204 (dk_at dksX13_keeps_2 10 rfl rfl)
theorem dX13_keeps_61 : decode cX13_keeps 61 = .ok (.iconst 5, 1) := dk_8 (dk_at dksX13_keeps_2 13 rfl rfl)
theorem dX13_keeps_62 : decode cX13_keeps 62 = .ok (.aload_n 0, 1) := dk_42 (dk_at dksX13_keeps_2 14 rfl rfl)
theorem dX13_keeps_63 : decode cX13_keeps 63 = .ok (.getfield 237, 3) := dk_180 0 237 (dk_at dksX13_keeps_2 15 rfl rfl)
theorem dX13_keeps_66 : decode cX13_keeps 66 = .ok (.iadd, 1) := dk_96 (dk_at dksX13_keeps_2 18 rfl rfl)
theorem dX13_keeps_67 : decode cX13_keeps 67 = .ok (.imul, 1) := dk_104 (dk_at dksX13_keeps_2 19 rfl rfl)
theorem dX13_keeps_68 : decode cX13_keeps 68 = .ok (.sipush 460, 3) := dk_17 1 204 (dk_at dksX13_keeps_2 20 rfl rfl)
theorem dX13_keeps_71 : decode cX13_keeps 71 = .ok (.invokevirtual 308, 3) := dk_182 1 52 (dk_at dksX13_keeps_3 0 rfl rfl)
theorem dX13_keeps_74 : decode cX13_keeps 74 = .ok (.aload_n 0, 1) := dk_42 (dk_at dksX13_keeps_3 3 rfl rfl)
theorem dX13_keeps_75 : decode cX13_keeps 75 = .ok (.dup, 1) := dk_89 (dk_at dksX13_keeps_3 4 rfl rfl)
theorem dX13_keeps_76 : decode cX13_keeps 76 = .ok (.getfield 237, 3) := dk_180 0 237 (dk_at dksX13_keeps_3 5 rfl rfl)
theorem dX13_keeps_79 : decode cX13_keeps 79 = .ok (.iconst 1, 1) := dk_4 (dk_at dksX13_keeps_3 8 rfl rfl)
theorem dX13_keeps_80 : decode cX13_keeps 80 = .ok (.iadd, 1) := dk_96 (dk_at dksX13_keeps_3 9 rfl rfl)
theorem dX13_keeps_81 : decode cX13_keeps 81 = .ok (.putfield 237, 3) := dk_181 0 237 (dk_at dksX13_keeps_3 10 rfl rfl)
theorem dX13_keeps_84 : decode cX13_keeps 84 = .ok (.return_, 1) := dk_177 (dk_at dksX13_keeps_3 13 rfl rfl)
abbrev cX13_copies : ByteArray := prog_24_method_43_code
def yX13_copies : MethodName := ⟨RX13, "copies", "(III)V"⟩
def dkwX13_copies_1 : List UInt8 := [96, 46, 79, 132, 4, 1, 167, 255, 229, 177]
abbrev dktX13_copies_1 : List UInt8 := dkwX13_copies_1 ++ []
def dkwX13_copies_0 : List UInt8 := [3, 54, 4, 21, 4, 29, 162, 0, 27, 42, 180, 0, 115, 28, 21, 4, 96, 42, 180, 0, 115, 27, 21, 4]
abbrev dktX13_copies_0 : List UInt8 := dkwX13_copies_0 ++ dktX13_copies_1
theorem dksX13_copies_0 : cX13_copies.data.toList.drop 0 = dktX13_copies_0 := by decide +kernel
theorem dksX13_copies_1 : cX13_copies.data.toList.drop 24 = dktX13_copies_1 := dk_seg dksX13_copies_0 24 rfl rfl
theorem dX13_copies_0 : decode cX13_copies 0 = .ok (.iconst 0, 1) := dk_3 (dk_at dksX13_copies_0 0 rfl rfl)
theorem dX13_copies_1 : decode cX13_copies 1 = .ok (.istore 4, 2) := dk_54 4 (dk_at dksX13_copies_0 1 rfl rfl)
theorem dX13_copies_3 : decode cX13_copies 3 = .ok (.iload 4, 2) := dk_21 4 (dk_at dksX13_copies_0 3 rfl rfl)
theorem dX13_copies_5 : decode cX13_copies 5 = .ok (.iload_n 3, 1) := dk_29 (dk_at dksX13_copies_0 5 rfl rfl)
theorem dX13_copies_6 : decode cX13_copies 6 = .ok (.if_icmp .ge 27, 3) := dk_162 0 27 (dk_at dksX13_copies_0 6 rfl rfl)
theorem dX13_copies_9 : decode cX13_copies 9 = .ok (.aload_n 0, 1) := dk_42 (dk_at dksX13_copies_0 9 rfl rfl)
theorem dX13_copies_10 : decode cX13_copies 10 = .ok (.getfield 115, 3) := dk_180 0 115 (dk_at dksX13_copies_0 10 rfl rfl)
theorem dX13_copies_13 : decode cX13_copies 13 = .ok (.iload_n 2, 1) := dk_28 (dk_at dksX13_copies_0 13 rfl rfl)
theorem dX13_copies_14 : decode cX13_copies 14 = .ok (.iload 4, 2) := dk_21 4 (dk_at dksX13_copies_0 14 rfl rfl)
theorem dX13_copies_16 : decode cX13_copies 16 = .ok (.iadd, 1) := dk_96 (dk_at dksX13_copies_0 16 rfl rfl)
theorem dX13_copies_17 : decode cX13_copies 17 = .ok (.aload_n 0, 1) := dk_42 (dk_at dksX13_copies_0 17 rfl rfl)
theorem dX13_copies_18 : decode cX13_copies 18 = .ok (.getfield 115, 3) := dk_180 0 115 (dk_at dksX13_copies_0 18 rfl rfl)
theorem dX13_copies_21 : decode cX13_copies 21 = .ok (.iload_n 1, 1) := dk_27 (dk_at dksX13_copies_0 21 rfl rfl)
theorem dX13_copies_22 : decode cX13_copies 22 = .ok (.iload 4, 2) := dk_21 4 (dk_at dksX13_copies_0 22 rfl rfl)
theorem dX13_copies_24 : decode cX13_copies 24 = .ok (.iadd, 1) := dk_96 (dk_at dksX13_copies_1 0 rfl rfl)
theorem dX13_copies_25 : decode cX13_copies 25 = .ok (.iaload, 1) := dk_46 (dk_at dksX13_copies_1 1 rfl rfl)
theorem dX13_copies_26 : decode cX13_copies 26 = .ok (.iastore, 1) := dk_79 (dk_at dksX13_copies_1 2 rfl rfl)
theorem dX13_copies_27 : decode cX13_copies 27 = .ok (.iinc 4 1, 3) := dk_132 4 1 (dk_at dksX13_copies_1 3 rfl rfl)
theorem dX13_copies_30 : decode cX13_copies 30 = .ok (.goto (-27), 3) := dk_167 255 229 (dk_at dksX13_copies_1 6 rfl rfl)
theorem dX13_copies_33 : decode cX13_copies 33 = .ok (.return_, 1) := dk_177 (dk_at dksX13_copies_1 9 rfl rfl)
abbrev cX13_isWon : ByteArray := prog_24_method_56_code
def yX13_isWon : MethodName := ⟨RX13, "isWon", "(I)Z"⟩
def dkwX13_isWon_6 : List UInt8 := [167, 255, 168, 42, 180, 0, 115, 27, 16, 8, 96, 46, 155, 0, 7, 4, 167, 0, 4, 3, 172]
abbrev dktX13_isWon_6 : List UInt8 := dkwX13_isWon_6 ++ []
def dkwX13_isWon_5 : List UInt8 := [180, 0, 115, 21, 4, 5, 96, 46, 104, 16, 10, 108, 96, 167, 0, 4, 3, 96, 79, 132, 3, 1]
abbrev dktX13_isWon_5 : List UInt8 := dkwX13_isWon_5 ++ dktX13_isWon_6
def dkwX13_isWon_4 : List UInt8 := [160, 0, 38, 42, 180, 0, 115, 21, 4, 4, 96, 46, 42, 180, 0, 115, 21, 4, 4, 96, 46, 42]
abbrev dktX13_isWon_4 : List UInt8 := dkwX13_isWon_4 ++ dktX13_isWon_5
def dkwX13_isWon_3 : List UInt8 := [104, 96, 54, 4, 42, 180, 0, 115, 16, 9, 92, 46, 42, 180, 0, 115, 21, 4, 46, 4, 28, 100]
abbrev dktX13_isWon_3 : List UInt8 := dkwX13_isWon_3 ++ dktX13_isWon_4
def dkwX13_isWon_2 : List UInt8 := [3, 62, 29, 42, 180, 0, 115, 27, 16, 10, 96, 46, 162, 0, 81, 27, 154, 0, 77, 17, 1, 164, 6, 29]
abbrev dktX13_isWon_2 : List UInt8 := dkwX13_isWon_2 ++ dktX13_isWon_3
def dkwX13_isWon_1 : List UInt8 := [180, 0, 115, 27, 3, 96, 28, 96, 46, 154, 0, 108, 42, 180, 0, 115, 27, 16, 8, 96, 4, 28, 100, 79]
abbrev dktX13_isWon_1 : List UInt8 := dkwX13_isWon_1 ++ dktX13_isWon_2
def dkwX13_isWon_0 : List UInt8 := [42, 180, 0, 115, 27, 6, 96, 46, 61, 42, 180, 0, 115, 27, 16, 8, 96, 46, 156, 0, 121, 42]
abbrev dktX13_isWon_0 : List UInt8 := dkwX13_isWon_0 ++ dktX13_isWon_1
theorem dksX13_isWon_0 : cX13_isWon.data.toList.drop 0 = dktX13_isWon_0 := by decide +kernel
theorem dksX13_isWon_1 : cX13_isWon.data.toList.drop 22 = dktX13_isWon_1 := dk_seg dksX13_isWon_0 22 rfl rfl
theorem dksX13_isWon_2 : cX13_isWon.data.toList.drop 46 = dktX13_isWon_2 := dk_seg dksX13_isWon_1 24 rfl rfl
theorem dksX13_isWon_3 : cX13_isWon.data.toList.drop 70 = dktX13_isWon_3 := dk_seg dksX13_isWon_2 24 rfl rfl
theorem dksX13_isWon_4 : cX13_isWon.data.toList.drop 92 = dktX13_isWon_4 := dk_seg dksX13_isWon_3 22 rfl rfl
theorem dksX13_isWon_5 : cX13_isWon.data.toList.drop 114 = dktX13_isWon_5 := dk_seg dksX13_isWon_4 22 rfl rfl
theorem dksX13_isWon_6 : cX13_isWon.data.toList.drop 136 = dktX13_isWon_6 := dk_seg dksX13_isWon_5 22 rfl rfl
theorem dX13_isWon_0 : decode cX13_isWon 0 = .ok (.aload_n 0, 1) := dk_42 (dk_at dksX13_isWon_0 0 rfl rfl)
theorem dX13_isWon_1 : decode cX13_isWon 1 = .ok (.getfield 115, 3) := dk_180 0 115 (dk_at dksX13_isWon_0 1 rfl rfl)
theorem dX13_isWon_4 : decode cX13_isWon 4 = .ok (.iload_n 1, 1) := dk_27 (dk_at dksX13_isWon_0 4 rfl rfl)
theorem dX13_isWon_5 : decode cX13_isWon 5 = .ok (.iconst 3, 1) := dk_6 (dk_at dksX13_isWon_0 5 rfl rfl)
theorem dX13_isWon_6 : decode cX13_isWon 6 = .ok (.iadd, 1) := dk_96 (dk_at dksX13_isWon_0 6 rfl rfl)
theorem dX13_isWon_7 : decode cX13_isWon 7 = .ok (.iaload, 1) := dk_46 (dk_at dksX13_isWon_0 7 rfl rfl)
theorem dX13_isWon_8 : decode cX13_isWon 8 = .ok (.istore_n 2, 1) := dk_61 (dk_at dksX13_isWon_0 8 rfl rfl)
theorem dX13_isWon_9 : decode cX13_isWon 9 = .ok (.aload_n 0, 1) := dk_42 (dk_at dksX13_isWon_0 9 rfl rfl)
theorem dX13_isWon_10 : decode cX13_isWon 10 = .ok (.getfield 115, 3) := dk_180 0 115 (dk_at dksX13_isWon_0 10 rfl rfl)
theorem dX13_isWon_13 : decode cX13_isWon 13 = .ok (.iload_n 1, 1) := dk_27 (dk_at dksX13_isWon_0 13 rfl rfl)
theorem dX13_isWon_14 : decode cX13_isWon 14 = .ok (.bipush 8, 2) := dk_16 8 (dk_at dksX13_isWon_0 14 rfl rfl)
theorem dX13_isWon_16 : decode cX13_isWon 16 = .ok (.iadd, 1) := dk_96 (dk_at dksX13_isWon_0 16 rfl rfl)
theorem dX13_isWon_17 : decode cX13_isWon 17 = .ok (.iaload, 1) := dk_46 (dk_at dksX13_isWon_0 17 rfl rfl)
theorem dX13_isWon_18 : decode cX13_isWon 18 = .ok (.ifCond .ge 121, 3) := dk_156 0 121 (dk_at dksX13_isWon_0 18 rfl rfl)
theorem dX13_isWon_21 : decode cX13_isWon 21 = .ok (.aload_n 0, 1) := dk_42 (dk_at dksX13_isWon_0 21 rfl rfl)
theorem dX13_isWon_22 : decode cX13_isWon 22 = .ok (.getfield 115, 3) := dk_180 0 115 (dk_at dksX13_isWon_1 0 rfl rfl)
theorem dX13_isWon_25 : decode cX13_isWon 25 = .ok (.iload_n 1, 1) := dk_27 (dk_at dksX13_isWon_1 3 rfl rfl)
theorem dX13_isWon_26 : decode cX13_isWon 26 = .ok (.iconst 0, 1) := dk_3 (dk_at dksX13_isWon_1 4 rfl rfl)
theorem dX13_isWon_27 : decode cX13_isWon 27 = .ok (.iadd, 1) := dk_96 (dk_at dksX13_isWon_1 5 rfl rfl)
theorem dX13_isWon_28 : decode cX13_isWon 28 = .ok (.iload_n 2, 1) := dk_28 (dk_at dksX13_isWon_1 6 rfl rfl)
theorem dX13_isWon_29 : decode cX13_isWon 29 = .ok (.iadd, 1) := dk_96 (dk_at dksX13_isWon_1 7 rfl rfl)
theorem dX13_isWon_30 : decode cX13_isWon 30 = .ok (.iaload, 1) := dk_46 (dk_at dksX13_isWon_1 8 rfl rfl)
theorem dX13_isWon_31 : decode cX13_isWon 31 = .ok (.ifCond .ne 108, 3) := dk_154 0 108 (dk_at dksX13_isWon_1 9 rfl rfl)
theorem dX13_isWon_34 : decode cX13_isWon 34 = .ok (.aload_n 0, 1) := dk_42 (dk_at dksX13_isWon_1 12 rfl rfl)
theorem dX13_isWon_35 : decode cX13_isWon 35 = .ok (.getfield 115, 3) := dk_180 0 115 (dk_at dksX13_isWon_1 13 rfl rfl)
theorem dX13_isWon_38 : decode cX13_isWon 38 = .ok (.iload_n 1, 1) := dk_27 (dk_at dksX13_isWon_1 16 rfl rfl)
theorem dX13_isWon_39 : decode cX13_isWon 39 = .ok (.bipush 8, 2) := dk_16 8 (dk_at dksX13_isWon_1 17 rfl rfl)
theorem dX13_isWon_41 : decode cX13_isWon 41 = .ok (.iadd, 1) := dk_96 (dk_at dksX13_isWon_1 19 rfl rfl)
theorem dX13_isWon_42 : decode cX13_isWon 42 = .ok (.iconst 1, 1) := dk_4 (dk_at dksX13_isWon_1 20 rfl rfl)
theorem dX13_isWon_43 : decode cX13_isWon 43 = .ok (.iload_n 2, 1) := dk_28 (dk_at dksX13_isWon_1 21 rfl rfl)
theorem dX13_isWon_44 : decode cX13_isWon 44 = .ok (.isub, 1) := dk_100 (dk_at dksX13_isWon_1 22 rfl rfl)
theorem dX13_isWon_45 : decode cX13_isWon 45 = .ok (.iastore, 1) := dk_79 (dk_at dksX13_isWon_1 23 rfl rfl)
theorem dX13_isWon_46 : decode cX13_isWon 46 = .ok (.iconst 0, 1) := dk_3 (dk_at dksX13_isWon_2 0 rfl rfl)
theorem dX13_isWon_47 : decode cX13_isWon 47 = .ok (.istore_n 3, 1) := dk_62 (dk_at dksX13_isWon_2 1 rfl rfl)
theorem dX13_isWon_48 : decode cX13_isWon 48 = .ok (.iload_n 3, 1) := dk_29 (dk_at dksX13_isWon_2 2 rfl rfl)
theorem dX13_isWon_49 : decode cX13_isWon 49 = .ok (.aload_n 0, 1) := dk_42 (dk_at dksX13_isWon_2 3 rfl rfl)
theorem dX13_isWon_50 : decode cX13_isWon 50 = .ok (.getfield 115, 3) := dk_180 0 115 (dk_at dksX13_isWon_2 4 rfl rfl)
theorem dX13_isWon_53 : decode cX13_isWon 53 = .ok (.iload_n 1, 1) := dk_27 (dk_at dksX13_isWon_2 7 rfl rfl)
theorem dX13_isWon_54 : decode cX13_isWon 54 = .ok (.bipush 10, 2) := dk_16 10 (dk_at dksX13_isWon_2 8 rfl rfl)
theorem dX13_isWon_56 : decode cX13_isWon 56 = .ok (.iadd, 1) := dk_96 (dk_at dksX13_isWon_2 10 rfl rfl)
theorem dX13_isWon_57 : decode cX13_isWon 57 = .ok (.iaload, 1) := dk_46 (dk_at dksX13_isWon_2 11 rfl rfl)
theorem dX13_isWon_58 : decode cX13_isWon 58 = .ok (.if_icmp .ge 81, 3) := dk_162 0 81 (dk_at dksX13_isWon_2 12 rfl rfl)
theorem dX13_isWon_61 : decode cX13_isWon 61 = .ok (.iload_n 1, 1) := dk_27 (dk_at dksX13_isWon_2 15 rfl rfl)
theorem dX13_isWon_62 : decode cX13_isWon 62 = .ok (.ifCond .ne 77, 3) := dk_154 0 77 (dk_at dksX13_isWon_2 16 rfl rfl)
theorem dX13_isWon_65 : decode cX13_isWon 65 = .ok (.sipush 420, 3) := dk_17 1 164 (dk_at dksX13_isWon_2 19 rfl rfl)
theorem dX13_isWon_68 : decode cX13_isWon 68 = .ok (.iconst 3, 1) := dk_6 (dk_at dksX13_isWon_2 22 rfl rfl)
theorem dX13_isWon_69 : decode cX13_isWon 69 = .ok (.iload_n 3, 1) := dk_29 (dk_at dksX13_isWon_2 23 rfl rfl)
theorem dX13_isWon_70 : decode cX13_isWon 70 = .ok (.imul, 1) := dk_104 (dk_at dksX13_isWon_3 0 rfl rfl)
theorem dX13_isWon_71 : decode cX13_isWon 71 = .ok (.iadd, 1) := dk_96 (dk_at dksX13_isWon_3 1 rfl rfl)
theorem dX13_isWon_72 : decode cX13_isWon 72 = .ok (.istore 4, 2) := dk_54 4 (dk_at dksX13_isWon_3 2 rfl rfl)
theorem dX13_isWon_74 : decode cX13_isWon 74 = .ok (.aload_n 0, 1) := dk_42 (dk_at dksX13_isWon_3 4 rfl rfl)
theorem dX13_isWon_75 : decode cX13_isWon 75 = .ok (.getfield 115, 3) := dk_180 0 115 (dk_at dksX13_isWon_3 5 rfl rfl)
theorem dX13_isWon_78 : decode cX13_isWon 78 = .ok (.bipush 9, 2) := dk_16 9 (dk_at dksX13_isWon_3 8 rfl rfl)
theorem dX13_isWon_80 : decode cX13_isWon 80 = .ok (.dup2, 1) := dk_92 (dk_at dksX13_isWon_3 10 rfl rfl)
theorem dX13_isWon_81 : decode cX13_isWon 81 = .ok (.iaload, 1) := dk_46 (dk_at dksX13_isWon_3 11 rfl rfl)
theorem dX13_isWon_82 : decode cX13_isWon 82 = .ok (.aload_n 0, 1) := dk_42 (dk_at dksX13_isWon_3 12 rfl rfl)
theorem dX13_isWon_83 : decode cX13_isWon 83 = .ok (.getfield 115, 3) := dk_180 0 115 (dk_at dksX13_isWon_3 13 rfl rfl)
theorem dX13_isWon_86 : decode cX13_isWon 86 = .ok (.iload 4, 2) := dk_21 4 (dk_at dksX13_isWon_3 16 rfl rfl)
theorem dX13_isWon_88 : decode cX13_isWon 88 = .ok (.iaload, 1) := dk_46 (dk_at dksX13_isWon_3 18 rfl rfl)
theorem dX13_isWon_89 : decode cX13_isWon 89 = .ok (.iconst 1, 1) := dk_4 (dk_at dksX13_isWon_3 19 rfl rfl)
theorem dX13_isWon_90 : decode cX13_isWon 90 = .ok (.iload_n 2, 1) := dk_28 (dk_at dksX13_isWon_3 20 rfl rfl)
theorem dX13_isWon_91 : decode cX13_isWon 91 = .ok (.isub, 1) := dk_100 (dk_at dksX13_isWon_3 21 rfl rfl)
theorem dX13_isWon_92 : decode cX13_isWon 92 = .ok (.if_icmp .ne 38, 3) := dk_160 0 38 (dk_at dksX13_isWon_4 0 rfl rfl)
theorem dX13_isWon_95 : decode cX13_isWon 95 = .ok (.aload_n 0, 1) := dk_42 (dk_at dksX13_isWon_4 3 rfl rfl)
theorem dX13_isWon_96 : decode cX13_isWon 96 = .ok (.getfield 115, 3) := dk_180 0 115 (dk_at dksX13_isWon_4 4 rfl rfl)
theorem dX13_isWon_99 : decode cX13_isWon 99 = .ok (.iload 4, 2) := dk_21 4 (dk_at dksX13_isWon_4 7 rfl rfl)
theorem dX13_isWon_101 : decode cX13_isWon 101 = .ok (.iconst 1, 1) := dk_4 (dk_at dksX13_isWon_4 9 rfl rfl)
theorem dX13_isWon_102 : decode cX13_isWon 102 = .ok (.iadd, 1) := dk_96 (dk_at dksX13_isWon_4 10 rfl rfl)
theorem dX13_isWon_103 : decode cX13_isWon 103 = .ok (.iaload, 1) := dk_46 (dk_at dksX13_isWon_4 11 rfl rfl)
theorem dX13_isWon_104 : decode cX13_isWon 104 = .ok (.aload_n 0, 1) := dk_42 (dk_at dksX13_isWon_4 12 rfl rfl)
theorem dX13_isWon_105 : decode cX13_isWon 105 = .ok (.getfield 115, 3) := dk_180 0 115 (dk_at dksX13_isWon_4 13 rfl rfl)
theorem dX13_isWon_108 : decode cX13_isWon 108 = .ok (.iload 4, 2) := dk_21 4 (dk_at dksX13_isWon_4 16 rfl rfl)
theorem dX13_isWon_110 : decode cX13_isWon 110 = .ok (.iconst 1, 1) := dk_4 (dk_at dksX13_isWon_4 18 rfl rfl)
theorem dX13_isWon_111 : decode cX13_isWon 111 = .ok (.iadd, 1) := dk_96 (dk_at dksX13_isWon_4 19 rfl rfl)
theorem dX13_isWon_112 : decode cX13_isWon 112 = .ok (.iaload, 1) := dk_46 (dk_at dksX13_isWon_4 20 rfl rfl)
theorem dX13_isWon_113 : decode cX13_isWon 113 = .ok (.aload_n 0, 1) := dk_42 (dk_at dksX13_isWon_4 21 rfl rfl)
theorem dX13_isWon_114 : decode cX13_isWon 114 = .ok (.getfield 115, 3) := dk_180 0 115 (dk_at dksX13_isWon_5 0 rfl rfl)
theorem dX13_isWon_117 : decode cX13_isWon 117 = .ok (.iload 4, 2) := dk_21 4 (dk_at dksX13_isWon_5 3 rfl rfl)
theorem dX13_isWon_119 : decode cX13_isWon 119 = .ok (.iconst 2, 1) := dk_5 (dk_at dksX13_isWon_5 5 rfl rfl)
theorem dX13_isWon_120 : decode cX13_isWon 120 = .ok (.iadd, 1) := dk_96 (dk_at dksX13_isWon_5 6 rfl rfl)
theorem dX13_isWon_121 : decode cX13_isWon 121 = .ok (.iaload, 1) := dk_46 (dk_at dksX13_isWon_5 7 rfl rfl)
theorem dX13_isWon_122 : decode cX13_isWon 122 = .ok (.imul, 1) := dk_104 (dk_at dksX13_isWon_5 8 rfl rfl)
theorem dX13_isWon_123 : decode cX13_isWon 123 = .ok (.bipush 10, 2) := dk_16 10 (dk_at dksX13_isWon_5 9 rfl rfl)
theorem dX13_isWon_125 : decode cX13_isWon 125 = .ok (.idiv, 1) := dk_108 (dk_at dksX13_isWon_5 11 rfl rfl)
theorem dX13_isWon_126 : decode cX13_isWon 126 = .ok (.iadd, 1) := dk_96 (dk_at dksX13_isWon_5 12 rfl rfl)
theorem dX13_isWon_127 : decode cX13_isWon 127 = .ok (.goto 4, 3) := dk_167 0 4 (dk_at dksX13_isWon_5 13 rfl rfl)
theorem dX13_isWon_130 : decode cX13_isWon 130 = .ok (.iconst 0, 1) := dk_3 (dk_at dksX13_isWon_5 16 rfl rfl)
theorem dX13_isWon_131 : decode cX13_isWon 131 = .ok (.iadd, 1) := dk_96 (dk_at dksX13_isWon_5 17 rfl rfl)
theorem dX13_isWon_132 : decode cX13_isWon 132 = .ok (.iastore, 1) := dk_79 (dk_at dksX13_isWon_5 18 rfl rfl)
theorem dX13_isWon_133 : decode cX13_isWon 133 = .ok (.iinc 3 1, 3) := dk_132 3 1 (dk_at dksX13_isWon_5 19 rfl rfl)
theorem dX13_isWon_136 : decode cX13_isWon 136 = .ok (.goto (-88), 3) := dk_167 255 168 (dk_at dksX13_isWon_6 0 rfl rfl)
theorem dX13_isWon_139 : decode cX13_isWon 139 = .ok (.aload_n 0, 1) := dk_42 (dk_at dksX13_isWon_6 3 rfl rfl)
theorem dX13_isWon_140 : decode cX13_isWon 140 = .ok (.getfield 115, 3) := dk_180 0 115 (dk_at dksX13_isWon_6 4 rfl rfl)
theorem dX13_isWon_143 : decode cX13_isWon 143 = .ok (.iload_n 1, 1) := dk_27 (dk_at dksX13_isWon_6 7 rfl rfl)
theorem dX13_isWon_144 : decode cX13_isWon 144 = .ok (.bipush 8, 2) := dk_16 8 (dk_at dksX13_isWon_6 8 rfl rfl)
theorem dX13_isWon_146 : decode cX13_isWon 146 = .ok (.iadd, 1) := dk_96 (dk_at dksX13_isWon_6 10 rfl rfl)
theorem dX13_isWon_147 : decode cX13_isWon 147 = .ok (.iaload, 1) := dk_46 (dk_at dksX13_isWon_6 11 rfl rfl)
theorem dX13_isWon_148 : decode cX13_isWon 148 = .ok (.ifCond .lt 7, 3) := dk_155 0 7 (dk_at dksX13_isWon_6 12 rfl rfl)
theorem dX13_isWon_151 : decode cX13_isWon 151 = .ok (.iconst 1, 1) := dk_4 (dk_at dksX13_isWon_6 15 rfl rfl)
theorem dX13_isWon_152 : decode cX13_isWon 152 = .ok (.goto 4, 3) := dk_167 0 4 (dk_at dksX13_isWon_6 16 rfl rfl)
theorem dX13_isWon_155 : decode cX13_isWon 155 = .ok (.iconst 0, 1) := dk_3 (dk_at dksX13_isWon_6 19 rfl rfl)
theorem dX13_isWon_156 : decode cX13_isWon 156 = .ok (.ireturn, 1) := dk_172 (dk_at dksX13_isWon_6 20 rfl rfl)
abbrev cX13_plays : ByteArray := prog_24_method_57_code
def yX13_plays : MethodName := ⟨RX13, "plays", "(I)V"⟩
def dkwX13_plays_0 : List UInt8 := [42, 27, 182, 1, 79, 153, 0, 13, 42, 27, 42, 27, 182, 1, 82, 182, 1, 85, 177]
abbrev dktX13_plays_0 : List UInt8 := dkwX13_plays_0 ++ []
theorem dksX13_plays_0 : cX13_plays.data.toList.drop 0 = dktX13_plays_0 := by decide +kernel
theorem dX13_plays_0 : decode cX13_plays 0 = .ok (.aload_n 0, 1) := dk_42 (dk_at dksX13_plays_0 0 rfl rfl)
theorem dX13_plays_1 : decode cX13_plays 1 = .ok (.iload_n 1, 1) := dk_27 (dk_at dksX13_plays_0 1 rfl rfl)
theorem dX13_plays_2 : decode cX13_plays 2 = .ok (.invokevirtual 335, 3) := dk_182 1 79 (dk_at dksX13_plays_0 2 rfl rfl)
theorem dX13_plays_5 : decode cX13_plays 5 = .ok (.ifCond .eq 13, 3) := dk_153 0 13 (dk_at dksX13_plays_0 5 rfl rfl)
theorem dX13_plays_8 : decode cX13_plays 8 = .ok (.aload_n 0, 1) := dk_42 (dk_at dksX13_plays_0 8 rfl rfl)
theorem dX13_plays_9 : decode cX13_plays 9 = .ok (.iload_n 1, 1) := dk_27 (dk_at dksX13_plays_0 9 rfl rfl)
theorem dX13_plays_10 : decode cX13_plays 10 = .ok (.aload_n 0, 1) := dk_42 (dk_at dksX13_plays_0 10 rfl rfl)
theorem dX13_plays_11 : decode cX13_plays 11 = .ok (.iload_n 1, 1) := dk_27 (dk_at dksX13_plays_0 11 rfl rfl)
theorem dX13_plays_12 : decode cX13_plays 12 = .ok (.invokevirtual 338, 3) := dk_182 1 82 (dk_at dksX13_plays_0 12 rfl rfl)
theorem dX13_plays_15 : decode cX13_plays 15 = .ok (.invokevirtual 341, 3) := dk_182 1 85 (dk_at dksX13_plays_0 15 rfl rfl)
theorem dX13_plays_18 : decode cX13_plays 18 = .ok (.return_, 1) := dk_177 (dk_at dksX13_plays_0 18 rfl rfl)
abbrev cX13_goes : ByteArray := prog_24_method_52_code
def yX13_goes : MethodName := ⟨RX13, "goes", "(I)Z"⟩
def dkwX13_goes_5 : List UInt8 := [42, 180, 0, 115, 27, 7, 96, 46, 154, 0, 7, 4, 167, 0, 4, 3, 172]
abbrev dktX13_goes_5 : List UInt8 := dkwX13_goes_5 ++ []
def dkwX13_goes_4 : List UInt8 := [180, 0, 115, 27, 6, 96, 4, 28, 100, 79, 3, 172, 42, 180, 0, 115, 27, 7, 96, 92, 46, 4, 100, 79]
abbrev dktX13_goes_4 : List UInt8 := dkwX13_goes_4 ++ dktX13_goes_5
def dkwX13_goes_3 : List UInt8 := [180, 0, 115, 27, 6, 96, 4, 28, 100, 79, 3, 172, 42, 180, 0, 115, 27, 7, 96, 46, 154, 0, 16, 42]
abbrev dktX13_goes_3 : List UInt8 := dkwX13_goes_3 ++ dktX13_goes_4
def dkwX13_goes_2 : List UInt8 := [3, 96, 79, 42, 180, 0, 115, 27, 7, 96, 29, 79, 42, 180, 0, 115, 27, 8, 96, 28, 79, 42]
abbrev dktX13_goes_2 : List UInt8 := dkwX13_goes_2 ++ dktX13_goes_3
def dkwX13_goes_1 : List UInt8 := [180, 0, 115, 27, 16, 18, 96, 92, 46, 42, 180, 0, 115, 27, 7, 96, 46, 158, 0, 7, 4, 167, 0, 4]
abbrev dktX13_goes_1 : List UInt8 := dkwX13_goes_1 ++ dktX13_goes_2
def dkwX13_goes_0 : List UInt8 := [42, 180, 0, 115, 27, 6, 96, 46, 61, 42, 42, 27, 182, 1, 70, 182, 1, 67, 62, 29, 158, 0, 62, 42]
abbrev dktX13_goes_0 : List UInt8 := dkwX13_goes_0 ++ dktX13_goes_1
theorem dksX13_goes_0 : cX13_goes.data.toList.drop 0 = dktX13_goes_0 := by decide +kernel
theorem dksX13_goes_1 : cX13_goes.data.toList.drop 24 = dktX13_goes_1 := dk_seg dksX13_goes_0 24 rfl rfl
theorem dksX13_goes_2 : cX13_goes.data.toList.drop 48 = dktX13_goes_2 := dk_seg dksX13_goes_1 24 rfl rfl
theorem dksX13_goes_3 : cX13_goes.data.toList.drop 70 = dktX13_goes_3 := dk_seg dksX13_goes_2 22 rfl rfl
theorem dksX13_goes_4 : cX13_goes.data.toList.drop 94 = dktX13_goes_4 := dk_seg dksX13_goes_3 24 rfl rfl
theorem dksX13_goes_5 : cX13_goes.data.toList.drop 118 = dktX13_goes_5 := dk_seg dksX13_goes_4 24 rfl rfl
theorem dX13_goes_0 : decode cX13_goes 0 = .ok (.aload_n 0, 1) := dk_42 (dk_at dksX13_goes_0 0 rfl rfl)
theorem dX13_goes_1 : decode cX13_goes 1 = .ok (.getfield 115, 3) := dk_180 0 115 (dk_at dksX13_goes_0 1 rfl rfl)
theorem dX13_goes_4 : decode cX13_goes 4 = .ok (.iload_n 1, 1) := dk_27 (dk_at dksX13_goes_0 4 rfl rfl)
theorem dX13_goes_5 : decode cX13_goes 5 = .ok (.iconst 3, 1) := dk_6 (dk_at dksX13_goes_0 5 rfl rfl)
theorem dX13_goes_6 : decode cX13_goes 6 = .ok (.iadd, 1) := dk_96 (dk_at dksX13_goes_0 6 rfl rfl)
theorem dX13_goes_7 : decode cX13_goes 7 = .ok (.iaload, 1) := dk_46 (dk_at dksX13_goes_0 7 rfl rfl)
theorem dX13_goes_8 : decode cX13_goes 8 = .ok (.istore_n 2, 1) := dk_61 (dk_at dksX13_goes_0 8 rfl rfl)
theorem dX13_goes_9 : decode cX13_goes 9 = .ok (.aload_n 0, 1) := dk_42 (dk_at dksX13_goes_0 9 rfl rfl)
theorem dX13_goes_10 : decode cX13_goes 10 = .ok (.aload_n 0, 1) := dk_42 (dk_at dksX13_goes_0 10 rfl rfl)
theorem dX13_goes_11 : decode cX13_goes 11 = .ok (.iload_n 1, 1) := dk_27 (dk_at dksX13_goes_0 11 rfl rfl)
theorem dX13_goes_12 : decode cX13_goes 12 = .ok (.invokevirtual 326, 3) := dk_182 1 70 (dk_at dksX13_goes_0 12 rfl rfl)
theorem dX13_goes_15 : decode cX13_goes 15 = .ok (.invokevirtual 323, 3) := dk_182 1 67 (dk_at dksX13_goes_0 15 rfl rfl)
theorem dX13_goes_18 : decode cX13_goes 18 = .ok (.istore_n 3, 1) := dk_62 (dk_at dksX13_goes_0 18 rfl rfl)
theorem dX13_goes_19 : decode cX13_goes 19 = .ok (.iload_n 3, 1) := dk_29 (dk_at dksX13_goes_0 19 rfl rfl)
theorem dX13_goes_20 : decode cX13_goes 20 = .ok (.ifCond .le 62, 3) := dk_158 0 62 (dk_at dksX13_goes_0 20 rfl rfl)
theorem dX13_goes_23 : decode cX13_goes 23 = .ok (.aload_n 0, 1) := dk_42 (dk_at dksX13_goes_0 23 rfl rfl)
theorem dX13_goes_24 : decode cX13_goes 24 = .ok (.getfield 115, 3) := dk_180 0 115 (dk_at dksX13_goes_1 0 rfl rfl)
theorem dX13_goes_27 : decode cX13_goes 27 = .ok (.iload_n 1, 1) := dk_27 (dk_at dksX13_goes_1 3 rfl rfl)
theorem dX13_goes_28 : decode cX13_goes 28 = .ok (.bipush 18, 2) := dk_16 18 (dk_at dksX13_goes_1 4 rfl rfl)
theorem dX13_goes_30 : decode cX13_goes 30 = .ok (.iadd, 1) := dk_96 (dk_at dksX13_goes_1 6 rfl rfl)
theorem dX13_goes_31 : decode cX13_goes 31 = .ok (.dup2, 1) := dk_92 (dk_at dksX13_goes_1 7 rfl rfl)
theorem dX13_goes_32 : decode cX13_goes 32 = .ok (.iaload, 1) := dk_46 (dk_at dksX13_goes_1 8 rfl rfl)
theorem dX13_goes_33 : decode cX13_goes 33 = .ok (.aload_n 0, 1) := dk_42 (dk_at dksX13_goes_1 9 rfl rfl)
theorem dX13_goes_34 : decode cX13_goes 34 = .ok (.getfield 115, 3) := dk_180 0 115 (dk_at dksX13_goes_1 10 rfl rfl)
theorem dX13_goes_37 : decode cX13_goes 37 = .ok (.iload_n 1, 1) := dk_27 (dk_at dksX13_goes_1 13 rfl rfl)
theorem dX13_goes_38 : decode cX13_goes 38 = .ok (.iconst 4, 1) := dk_7 (dk_at dksX13_goes_1 14 rfl rfl)
theorem dX13_goes_39 : decode cX13_goes 39 = .ok (.iadd, 1) := dk_96 (dk_at dksX13_goes_1 15 rfl rfl)
theorem dX13_goes_40 : decode cX13_goes 40 = .ok (.iaload, 1) := dk_46 (dk_at dksX13_goes_1 16 rfl rfl)
theorem dX13_goes_41 : decode cX13_goes 41 = .ok (.ifCond .le 7, 3) := dk_158 0 7 (dk_at dksX13_goes_1 17 rfl rfl)
theorem dX13_goes_44 : decode cX13_goes 44 = .ok (.iconst 1, 1) := dk_4 (dk_at dksX13_goes_1 20 rfl rfl)
theorem dX13_goes_45 : decode cX13_goes 45 = .ok (.goto 4, 3) := dk_167 0 4 (dk_at dksX13_goes_1 21 rfl rfl)
theorem dX13_goes_48 : decode cX13_goes 48 = .ok (.iconst 0, 1) := dk_3 (dk_at dksX13_goes_2 0 rfl rfl)
theorem dX13_goes_49 : decode cX13_goes 49 = .ok (.iadd, 1) := dk_96 (dk_at dksX13_goes_2 1 rfl rfl)
theorem dX13_goes_50 : decode cX13_goes 50 = .ok (.iastore, 1) := dk_79 (dk_at dksX13_goes_2 2 rfl rfl)
theorem dX13_goes_51 : decode cX13_goes 51 = .ok (.aload_n 0, 1) := dk_42 (dk_at dksX13_goes_2 3 rfl rfl)
theorem dX13_goes_52 : decode cX13_goes 52 = .ok (.getfield 115, 3) := dk_180 0 115 (dk_at dksX13_goes_2 4 rfl rfl)
theorem dX13_goes_55 : decode cX13_goes 55 = .ok (.iload_n 1, 1) := dk_27 (dk_at dksX13_goes_2 7 rfl rfl)
theorem dX13_goes_56 : decode cX13_goes 56 = .ok (.iconst 4, 1) := dk_7 (dk_at dksX13_goes_2 8 rfl rfl)
theorem dX13_goes_57 : decode cX13_goes 57 = .ok (.iadd, 1) := dk_96 (dk_at dksX13_goes_2 9 rfl rfl)
theorem dX13_goes_58 : decode cX13_goes 58 = .ok (.iload_n 3, 1) := dk_29 (dk_at dksX13_goes_2 10 rfl rfl)
theorem dX13_goes_59 : decode cX13_goes 59 = .ok (.iastore, 1) := dk_79 (dk_at dksX13_goes_2 11 rfl rfl)
theorem dX13_goes_60 : decode cX13_goes 60 = .ok (.aload_n 0, 1) := dk_42 (dk_at dksX13_goes_2 12 rfl rfl)
theorem dX13_goes_61 : decode cX13_goes 61 = .ok (.getfield 115, 3) := dk_180 0 115 (dk_at dksX13_goes_2 13 rfl rfl)
theorem dX13_goes_64 : decode cX13_goes 64 = .ok (.iload_n 1, 1) := dk_27 (dk_at dksX13_goes_2 16 rfl rfl)
theorem dX13_goes_65 : decode cX13_goes 65 = .ok (.iconst 5, 1) := dk_8 (dk_at dksX13_goes_2 17 rfl rfl)
theorem dX13_goes_66 : decode cX13_goes 66 = .ok (.iadd, 1) := dk_96 (dk_at dksX13_goes_2 18 rfl rfl)
theorem dX13_goes_67 : decode cX13_goes 67 = .ok (.iload_n 2, 1) := dk_28 (dk_at dksX13_goes_2 19 rfl rfl)
theorem dX13_goes_68 : decode cX13_goes 68 = .ok (.iastore, 1) := dk_79 (dk_at dksX13_goes_2 20 rfl rfl)
theorem dX13_goes_69 : decode cX13_goes 69 = .ok (.aload_n 0, 1) := dk_42 (dk_at dksX13_goes_2 21 rfl rfl)
theorem dX13_goes_70 : decode cX13_goes 70 = .ok (.getfield 115, 3) := dk_180 0 115 (dk_at dksX13_goes_3 0 rfl rfl)
theorem dX13_goes_73 : decode cX13_goes 73 = .ok (.iload_n 1, 1) := dk_27 (dk_at dksX13_goes_3 3 rfl rfl)
theorem dX13_goes_74 : decode cX13_goes 74 = .ok (.iconst 3, 1) := dk_6 (dk_at dksX13_goes_3 4 rfl rfl)
theorem dX13_goes_75 : decode cX13_goes 75 = .ok (.iadd, 1) := dk_96 (dk_at dksX13_goes_3 5 rfl rfl)
theorem dX13_goes_76 : decode cX13_goes 76 = .ok (.iconst 1, 1) := dk_4 (dk_at dksX13_goes_3 6 rfl rfl)
theorem dX13_goes_77 : decode cX13_goes 77 = .ok (.iload_n 2, 1) := dk_28 (dk_at dksX13_goes_3 7 rfl rfl)
theorem dX13_goes_78 : decode cX13_goes 78 = .ok (.isub, 1) := dk_100 (dk_at dksX13_goes_3 8 rfl rfl)
theorem dX13_goes_79 : decode cX13_goes 79 = .ok (.iastore, 1) := dk_79 (dk_at dksX13_goes_3 9 rfl rfl)
theorem dX13_goes_80 : decode cX13_goes 80 = .ok (.iconst 0, 1) := dk_3 (dk_at dksX13_goes_3 10 rfl rfl)
theorem dX13_goes_81 : decode cX13_goes 81 = .ok (.ireturn, 1) := dk_172 (dk_at dksX13_goes_3 11 rfl rfl)
theorem dX13_goes_82 : decode cX13_goes 82 = .ok (.aload_n 0, 1) := dk_42 (dk_at dksX13_goes_3 12 rfl rfl)
theorem dX13_goes_83 : decode cX13_goes 83 = .ok (.getfield 115, 3) := dk_180 0 115 (dk_at dksX13_goes_3 13 rfl rfl)
theorem dX13_goes_86 : decode cX13_goes 86 = .ok (.iload_n 1, 1) := dk_27 (dk_at dksX13_goes_3 16 rfl rfl)
theorem dX13_goes_87 : decode cX13_goes 87 = .ok (.iconst 4, 1) := dk_7 (dk_at dksX13_goes_3 17 rfl rfl)
theorem dX13_goes_88 : decode cX13_goes 88 = .ok (.iadd, 1) := dk_96 (dk_at dksX13_goes_3 18 rfl rfl)
theorem dX13_goes_89 : decode cX13_goes 89 = .ok (.iaload, 1) := dk_46 (dk_at dksX13_goes_3 19 rfl rfl)
theorem dX13_goes_90 : decode cX13_goes 90 = .ok (.ifCond .ne 16, 3) := dk_154 0 16 (dk_at dksX13_goes_3 20 rfl rfl)
theorem dX13_goes_93 : decode cX13_goes 93 = .ok (.aload_n 0, 1) := dk_42 (dk_at dksX13_goes_3 23 rfl rfl)
theorem dX13_goes_94 : decode cX13_goes 94 = .ok (.getfield 115, 3) := dk_180 0 115 (dk_at dksX13_goes_4 0 rfl rfl)
theorem dX13_goes_97 : decode cX13_goes 97 = .ok (.iload_n 1, 1) := dk_27 (dk_at dksX13_goes_4 3 rfl rfl)
theorem dX13_goes_98 : decode cX13_goes 98 = .ok (.iconst 3, 1) := dk_6 (dk_at dksX13_goes_4 4 rfl rfl)
theorem dX13_goes_99 : decode cX13_goes 99 = .ok (.iadd, 1) := dk_96 (dk_at dksX13_goes_4 5 rfl rfl)
theorem dX13_goes_100 : decode cX13_goes 100 = .ok (.iconst 1, 1) := dk_4 (dk_at dksX13_goes_4 6 rfl rfl)
theorem dX13_goes_101 : decode cX13_goes 101 = .ok (.iload_n 2, 1) := dk_28 (dk_at dksX13_goes_4 7 rfl rfl)
theorem dX13_goes_102 : decode cX13_goes 102 = .ok (.isub, 1) := dk_100 (dk_at dksX13_goes_4 8 rfl rfl)
theorem dX13_goes_103 : decode cX13_goes 103 = .ok (.iastore, 1) := dk_79 (dk_at dksX13_goes_4 9 rfl rfl)
theorem dX13_goes_104 : decode cX13_goes 104 = .ok (.iconst 0, 1) := dk_3 (dk_at dksX13_goes_4 10 rfl rfl)
theorem dX13_goes_105 : decode cX13_goes 105 = .ok (.ireturn, 1) := dk_172 (dk_at dksX13_goes_4 11 rfl rfl)
theorem dX13_goes_106 : decode cX13_goes 106 = .ok (.aload_n 0, 1) := dk_42 (dk_at dksX13_goes_4 12 rfl rfl)
theorem dX13_goes_107 : decode cX13_goes 107 = .ok (.getfield 115, 3) := dk_180 0 115 (dk_at dksX13_goes_4 13 rfl rfl)
theorem dX13_goes_110 : decode cX13_goes 110 = .ok (.iload_n 1, 1) := dk_27 (dk_at dksX13_goes_4 16 rfl rfl)
theorem dX13_goes_111 : decode cX13_goes 111 = .ok (.iconst 4, 1) := dk_7 (dk_at dksX13_goes_4 17 rfl rfl)
theorem dX13_goes_112 : decode cX13_goes 112 = .ok (.iadd, 1) := dk_96 (dk_at dksX13_goes_4 18 rfl rfl)
theorem dX13_goes_113 : decode cX13_goes 113 = .ok (.dup2, 1) := dk_92 (dk_at dksX13_goes_4 19 rfl rfl)
theorem dX13_goes_114 : decode cX13_goes 114 = .ok (.iaload, 1) := dk_46 (dk_at dksX13_goes_4 20 rfl rfl)
theorem dX13_goes_115 : decode cX13_goes 115 = .ok (.iconst 1, 1) := dk_4 (dk_at dksX13_goes_4 21 rfl rfl)
theorem dX13_goes_116 : decode cX13_goes 116 = .ok (.isub, 1) := dk_100 (dk_at dksX13_goes_4 22 rfl rfl)
theorem dX13_goes_117 : decode cX13_goes 117 = .ok (.iastore, 1) := dk_79 (dk_at dksX13_goes_4 23 rfl rfl)
theorem dX13_goes_118 : decode cX13_goes 118 = .ok (.aload_n 0, 1) := dk_42 (dk_at dksX13_goes_5 0 rfl rfl)
theorem dX13_goes_119 : decode cX13_goes 119 = .ok (.getfield 115, 3) := dk_180 0 115 (dk_at dksX13_goes_5 1 rfl rfl)
theorem dX13_goes_122 : decode cX13_goes 122 = .ok (.iload_n 1, 1) := dk_27 (dk_at dksX13_goes_5 4 rfl rfl)
theorem dX13_goes_123 : decode cX13_goes 123 = .ok (.iconst 4, 1) := dk_7 (dk_at dksX13_goes_5 5 rfl rfl)
theorem dX13_goes_124 : decode cX13_goes 124 = .ok (.iadd, 1) := dk_96 (dk_at dksX13_goes_5 6 rfl rfl)
theorem dX13_goes_125 : decode cX13_goes 125 = .ok (.iaload, 1) := dk_46 (dk_at dksX13_goes_5 7 rfl rfl)
theorem dX13_goes_126 : decode cX13_goes 126 = .ok (.ifCond .ne 7, 3) := dk_154 0 7 (dk_at dksX13_goes_5 8 rfl rfl)
theorem dX13_goes_129 : decode cX13_goes 129 = .ok (.iconst 1, 1) := dk_4 (dk_at dksX13_goes_5 11 rfl rfl)
theorem dX13_goes_130 : decode cX13_goes 130 = .ok (.goto 4, 3) := dk_167 0 4 (dk_at dksX13_goes_5 12 rfl rfl)
theorem dX13_goes_133 : decode cX13_goes 133 = .ok (.iconst 0, 1) := dk_3 (dk_at dksX13_goes_5 15 rfl rfl)
theorem dX13_goes_134 : decode cX13_goes 134 = .ok (.ireturn, 1) := dk_172 (dk_at dksX13_goes_5 16 rfl rfl)
abbrev cX13_turns : ByteArray := prog_24_method_51_code
def yX13_turns : MethodName := ⟨RX13, "turns", "(I)I"⟩
def dkwX13_turns_5 : List UInt8 := [79, 42, 180, 0, 115, 27, 16, 6, 96, 92, 46, 4, 96, 79, 21, 4, 172]
abbrev dktX13_turns_5 : List UInt8 := dkwX13_turns_5 ++ []
def dkwX13_turns_4 : List UInt8 := [96, 42, 180, 0, 115, 27, 5, 96, 46, 96, 21, 4, 79, 42, 180, 0, 115, 27, 5, 96, 92, 46, 4, 96]
abbrev dktX13_turns_4 : List UInt8 := dkwX13_turns_4 ++ dktX13_turns_5
def dkwX13_turns_3 : List UInt8 := [167, 255, 218, 42, 180, 0, 115, 27, 3, 96, 28, 96, 92, 46, 4, 100, 79, 42, 180, 0, 115, 27, 16, 116]
abbrev dktX13_turns_3 : List UInt8 := dkwX13_turns_3 ++ dktX13_turns_4
def dkwX13_turns_2 : List UInt8 := [42, 180, 0, 115, 29, 21, 5, 96, 4, 100, 42, 180, 0, 115, 29, 21, 5, 96, 46, 79, 132, 5, 1]
abbrev dktX13_turns_2 : List UInt8 := dkwX13_turns_2 ++ dktX13_turns_3
def dkwX13_turns_1 : List UInt8 := [46, 16, 8, 112, 54, 4, 4, 54, 5, 21, 5, 42, 180, 0, 115, 27, 3, 96, 28, 96, 46, 162, 0, 29]
abbrev dktX13_turns_1 : List UInt8 := dkwX13_turns_1 ++ dktX13_turns_2
def dkwX13_turns_0 : List UInt8 := [42, 180, 0, 115, 27, 6, 96, 46, 61, 27, 16, 20, 96, 16, 48, 28, 104, 96, 62, 42, 180, 0, 115, 29]
abbrev dktX13_turns_0 : List UInt8 := dkwX13_turns_0 ++ dktX13_turns_1
theorem dksX13_turns_0 : cX13_turns.data.toList.drop 0 = dktX13_turns_0 := by decide +kernel
theorem dksX13_turns_1 : cX13_turns.data.toList.drop 24 = dktX13_turns_1 := dk_seg dksX13_turns_0 24 rfl rfl
theorem dksX13_turns_2 : cX13_turns.data.toList.drop 48 = dktX13_turns_2 := dk_seg dksX13_turns_1 24 rfl rfl
theorem dksX13_turns_3 : cX13_turns.data.toList.drop 71 = dktX13_turns_3 := dk_seg dksX13_turns_2 23 rfl rfl
theorem dksX13_turns_4 : cX13_turns.data.toList.drop 95 = dktX13_turns_4 := dk_seg dksX13_turns_3 24 rfl rfl
theorem dksX13_turns_5 : cX13_turns.data.toList.drop 119 = dktX13_turns_5 := dk_seg dksX13_turns_4 24 rfl rfl
theorem dX13_turns_0 : decode cX13_turns 0 = .ok (.aload_n 0, 1) := dk_42 (dk_at dksX13_turns_0 0 rfl rfl)
theorem dX13_turns_1 : decode cX13_turns 1 = .ok (.getfield 115, 3) := dk_180 0 115 (dk_at dksX13_turns_0 1 rfl rfl)
theorem dX13_turns_4 : decode cX13_turns 4 = .ok (.iload_n 1, 1) := dk_27 (dk_at dksX13_turns_0 4 rfl rfl)
theorem dX13_turns_5 : decode cX13_turns 5 = .ok (.iconst 3, 1) := dk_6 (dk_at dksX13_turns_0 5 rfl rfl)
theorem dX13_turns_6 : decode cX13_turns 6 = .ok (.iadd, 1) := dk_96 (dk_at dksX13_turns_0 6 rfl rfl)
theorem dX13_turns_7 : decode cX13_turns 7 = .ok (.iaload, 1) := dk_46 (dk_at dksX13_turns_0 7 rfl rfl)
theorem dX13_turns_8 : decode cX13_turns 8 = .ok (.istore_n 2, 1) := dk_61 (dk_at dksX13_turns_0 8 rfl rfl)
theorem dX13_turns_9 : decode cX13_turns 9 = .ok (.iload_n 1, 1) := dk_27 (dk_at dksX13_turns_0 9 rfl rfl)
theorem dX13_turns_10 : decode cX13_turns 10 = .ok (.bipush 20, 2) := dk_16 20 (dk_at dksX13_turns_0 10 rfl rfl)
theorem dX13_turns_12 : decode cX13_turns 12 = .ok (.iadd, 1) := dk_96 (dk_at dksX13_turns_0 12 rfl rfl)
theorem dX13_turns_13 : decode cX13_turns 13 = .ok (.bipush 48, 2) := dk_16 48 (dk_at dksX13_turns_0 13 rfl rfl)
theorem dX13_turns_15 : decode cX13_turns 15 = .ok (.iload_n 2, 1) := dk_28 (dk_at dksX13_turns_0 15 rfl rfl)
theorem dX13_turns_16 : decode cX13_turns 16 = .ok (.imul, 1) := dk_104 (dk_at dksX13_turns_0 16 rfl rfl)
theorem dX13_turns_17 : decode cX13_turns 17 = .ok (.iadd, 1) := dk_96 (dk_at dksX13_turns_0 17 rfl rfl)
theorem dX13_turns_18 : decode cX13_turns 18 = .ok (.istore_n 3, 1) := dk_62 (dk_at dksX13_turns_0 18 rfl rfl)
theorem dX13_turns_19 : decode cX13_turns 19 = .ok (.aload_n 0, 1) := dk_42 (dk_at dksX13_turns_0 19 rfl rfl)
theorem dX13_turns_20 : decode cX13_turns 20 = .ok (.getfield 115, 3) := dk_180 0 115 (dk_at dksX13_turns_0 20 rfl rfl)
theorem dX13_turns_23 : decode cX13_turns 23 = .ok (.iload_n 3, 1) := dk_29 (dk_at dksX13_turns_0 23 rfl rfl)
theorem dX13_turns_24 : decode cX13_turns 24 = .ok (.iaload, 1) := dk_46 (dk_at dksX13_turns_1 0 rfl rfl)
theorem dX13_turns_25 : decode cX13_turns 25 = .ok (.bipush 8, 2) := dk_16 8 (dk_at dksX13_turns_1 1 rfl rfl)
theorem dX13_turns_27 : decode cX13_turns 27 = .ok (.irem, 1) := dk_112 (dk_at dksX13_turns_1 3 rfl rfl)
theorem dX13_turns_28 : decode cX13_turns 28 = .ok (.istore 4, 2) := dk_54 4 (dk_at dksX13_turns_1 4 rfl rfl)
theorem dX13_turns_30 : decode cX13_turns 30 = .ok (.iconst 1, 1) := dk_4 (dk_at dksX13_turns_1 6 rfl rfl)
theorem dX13_turns_31 : decode cX13_turns 31 = .ok (.istore 5, 2) := dk_54 5 (dk_at dksX13_turns_1 7 rfl rfl)
theorem dX13_turns_33 : decode cX13_turns 33 = .ok (.iload 5, 2) := dk_21 5 (dk_at dksX13_turns_1 9 rfl rfl)
theorem dX13_turns_35 : decode cX13_turns 35 = .ok (.aload_n 0, 1) := dk_42 (dk_at dksX13_turns_1 11 rfl rfl)
theorem dX13_turns_36 : decode cX13_turns 36 = .ok (.getfield 115, 3) := dk_180 0 115 (dk_at dksX13_turns_1 12 rfl rfl)
theorem dX13_turns_39 : decode cX13_turns 39 = .ok (.iload_n 1, 1) := dk_27 (dk_at dksX13_turns_1 15 rfl rfl)
theorem dX13_turns_40 : decode cX13_turns 40 = .ok (.iconst 0, 1) := dk_3 (dk_at dksX13_turns_1 16 rfl rfl)
theorem dX13_turns_41 : decode cX13_turns 41 = .ok (.iadd, 1) := dk_96 (dk_at dksX13_turns_1 17 rfl rfl)
theorem dX13_turns_42 : decode cX13_turns 42 = .ok (.iload_n 2, 1) := dk_28 (dk_at dksX13_turns_1 18 rfl rfl)
theorem dX13_turns_43 : decode cX13_turns 43 = .ok (.iadd, 1) := dk_96 (dk_at dksX13_turns_1 19 rfl rfl)
theorem dX13_turns_44 : decode cX13_turns 44 = .ok (.iaload, 1) := dk_46 (dk_at dksX13_turns_1 20 rfl rfl)
theorem dX13_turns_45 : decode cX13_turns 45 = .ok (.if_icmp .ge 29, 3) := dk_162 0 29 (dk_at dksX13_turns_1 21 rfl rfl)
theorem dX13_turns_48 : decode cX13_turns 48 = .ok (.aload_n 0, 1) := dk_42 (dk_at dksX13_turns_2 0 rfl rfl)
theorem dX13_turns_49 : decode cX13_turns 49 = .ok (.getfield 115, 3) := dk_180 0 115 (dk_at dksX13_turns_2 1 rfl rfl)
theorem dX13_turns_52 : decode cX13_turns 52 = .ok (.iload_n 3, 1) := dk_29 (dk_at dksX13_turns_2 4 rfl rfl)
theorem dX13_turns_53 : decode cX13_turns 53 = .ok (.iload 5, 2) := dk_21 5 (dk_at dksX13_turns_2 5 rfl rfl)
theorem dX13_turns_55 : decode cX13_turns 55 = .ok (.iadd, 1) := dk_96 (dk_at dksX13_turns_2 7 rfl rfl)
theorem dX13_turns_56 : decode cX13_turns 56 = .ok (.iconst 1, 1) := dk_4 (dk_at dksX13_turns_2 8 rfl rfl)
theorem dX13_turns_57 : decode cX13_turns 57 = .ok (.isub, 1) := dk_100 (dk_at dksX13_turns_2 9 rfl rfl)
theorem dX13_turns_58 : decode cX13_turns 58 = .ok (.aload_n 0, 1) := dk_42 (dk_at dksX13_turns_2 10 rfl rfl)
theorem dX13_turns_59 : decode cX13_turns 59 = .ok (.getfield 115, 3) := dk_180 0 115 (dk_at dksX13_turns_2 11 rfl rfl)
theorem dX13_turns_62 : decode cX13_turns 62 = .ok (.iload_n 3, 1) := dk_29 (dk_at dksX13_turns_2 14 rfl rfl)
theorem dX13_turns_63 : decode cX13_turns 63 = .ok (.iload 5, 2) := dk_21 5 (dk_at dksX13_turns_2 15 rfl rfl)
theorem dX13_turns_65 : decode cX13_turns 65 = .ok (.iadd, 1) := dk_96 (dk_at dksX13_turns_2 17 rfl rfl)
theorem dX13_turns_66 : decode cX13_turns 66 = .ok (.iaload, 1) := dk_46 (dk_at dksX13_turns_2 18 rfl rfl)
theorem dX13_turns_67 : decode cX13_turns 67 = .ok (.iastore, 1) := dk_79 (dk_at dksX13_turns_2 19 rfl rfl)
theorem dX13_turns_68 : decode cX13_turns 68 = .ok (.iinc 5 1, 3) := dk_132 5 1 (dk_at dksX13_turns_2 20 rfl rfl)
theorem dX13_turns_71 : decode cX13_turns 71 = .ok (.goto (-38), 3) := dk_167 255 218 (dk_at dksX13_turns_3 0 rfl rfl)
theorem dX13_turns_74 : decode cX13_turns 74 = .ok (.aload_n 0, 1) := dk_42 (dk_at dksX13_turns_3 3 rfl rfl)
theorem dX13_turns_75 : decode cX13_turns 75 = .ok (.getfield 115, 3) := dk_180 0 115 (dk_at dksX13_turns_3 4 rfl rfl)
theorem dX13_turns_78 : decode cX13_turns 78 = .ok (.iload_n 1, 1) := dk_27 (dk_at dksX13_turns_3 7 rfl rfl)
theorem dX13_turns_79 : decode cX13_turns 79 = .ok (.iconst 0, 1) := dk_3 (dk_at dksX13_turns_3 8 rfl rfl)
theorem dX13_turns_80 : decode cX13_turns 80 = .ok (.iadd, 1) := dk_96 (dk_at dksX13_turns_3 9 rfl rfl)
theorem dX13_turns_81 : decode cX13_turns 81 = .ok (.iload_n 2, 1) := dk_28 (dk_at dksX13_turns_3 10 rfl rfl)
theorem dX13_turns_82 : decode cX13_turns 82 = .ok (.iadd, 1) := dk_96 (dk_at dksX13_turns_3 11 rfl rfl)
theorem dX13_turns_83 : decode cX13_turns 83 = .ok (.dup2, 1) := dk_92 (dk_at dksX13_turns_3 12 rfl rfl)
theorem dX13_turns_84 : decode cX13_turns 84 = .ok (.iaload, 1) := dk_46 (dk_at dksX13_turns_3 13 rfl rfl)
theorem dX13_turns_85 : decode cX13_turns 85 = .ok (.iconst 1, 1) := dk_4 (dk_at dksX13_turns_3 14 rfl rfl)
theorem dX13_turns_86 : decode cX13_turns 86 = .ok (.isub, 1) := dk_100 (dk_at dksX13_turns_3 15 rfl rfl)
theorem dX13_turns_87 : decode cX13_turns 87 = .ok (.iastore, 1) := dk_79 (dk_at dksX13_turns_3 16 rfl rfl)
theorem dX13_turns_88 : decode cX13_turns 88 = .ok (.aload_n 0, 1) := dk_42 (dk_at dksX13_turns_3 17 rfl rfl)
theorem dX13_turns_89 : decode cX13_turns 89 = .ok (.getfield 115, 3) := dk_180 0 115 (dk_at dksX13_turns_3 18 rfl rfl)
theorem dX13_turns_92 : decode cX13_turns 92 = .ok (.iload_n 1, 1) := dk_27 (dk_at dksX13_turns_3 21 rfl rfl)
theorem dX13_turns_93 : decode cX13_turns 93 = .ok (.bipush 116, 2) := dk_16 116 (dk_at dksX13_turns_3 22 rfl rfl)
theorem dX13_turns_95 : decode cX13_turns 95 = .ok (.iadd, 1) := dk_96 (dk_at dksX13_turns_4 0 rfl rfl)
theorem dX13_turns_96 : decode cX13_turns 96 = .ok (.aload_n 0, 1) := dk_42 (dk_at dksX13_turns_4 1 rfl rfl)
theorem dX13_turns_97 : decode cX13_turns 97 = .ok (.getfield 115, 3) := dk_180 0 115 (dk_at dksX13_turns_4 2 rfl rfl)
theorem dX13_turns_100 : decode cX13_turns 100 = .ok (.iload_n 1, 1) := dk_27 (dk_at dksX13_turns_4 5 rfl rfl)
theorem dX13_turns_101 : decode cX13_turns 101 = .ok (.iconst 2, 1) := dk_5 (dk_at dksX13_turns_4 6 rfl rfl)
theorem dX13_turns_102 : decode cX13_turns 102 = .ok (.iadd, 1) := dk_96 (dk_at dksX13_turns_4 7 rfl rfl)
theorem dX13_turns_103 : decode cX13_turns 103 = .ok (.iaload, 1) := dk_46 (dk_at dksX13_turns_4 8 rfl rfl)
theorem dX13_turns_104 : decode cX13_turns 104 = .ok (.iadd, 1) := dk_96 (dk_at dksX13_turns_4 9 rfl rfl)
theorem dX13_turns_105 : decode cX13_turns 105 = .ok (.iload 4, 2) := dk_21 4 (dk_at dksX13_turns_4 10 rfl rfl)
theorem dX13_turns_107 : decode cX13_turns 107 = .ok (.iastore, 1) := dk_79 (dk_at dksX13_turns_4 12 rfl rfl)
theorem dX13_turns_108 : decode cX13_turns 108 = .ok (.aload_n 0, 1) := dk_42 (dk_at dksX13_turns_4 13 rfl rfl)
theorem dX13_turns_109 : decode cX13_turns 109 = .ok (.getfield 115, 3) := dk_180 0 115 (dk_at dksX13_turns_4 14 rfl rfl)
theorem dX13_turns_112 : decode cX13_turns 112 = .ok (.iload_n 1, 1) := dk_27 (dk_at dksX13_turns_4 17 rfl rfl)
theorem dX13_turns_113 : decode cX13_turns 113 = .ok (.iconst 2, 1) := dk_5 (dk_at dksX13_turns_4 18 rfl rfl)
theorem dX13_turns_114 : decode cX13_turns 114 = .ok (.iadd, 1) := dk_96 (dk_at dksX13_turns_4 19 rfl rfl)
theorem dX13_turns_115 : decode cX13_turns 115 = .ok (.dup2, 1) := dk_92 (dk_at dksX13_turns_4 20 rfl rfl)
theorem dX13_turns_116 : decode cX13_turns 116 = .ok (.iaload, 1) := dk_46 (dk_at dksX13_turns_4 21 rfl rfl)
theorem dX13_turns_117 : decode cX13_turns 117 = .ok (.iconst 1, 1) := dk_4 (dk_at dksX13_turns_4 22 rfl rfl)
theorem dX13_turns_118 : decode cX13_turns 118 = .ok (.iadd, 1) := dk_96 (dk_at dksX13_turns_4 23 rfl rfl)
theorem dX13_turns_119 : decode cX13_turns 119 = .ok (.iastore, 1) := dk_79 (dk_at dksX13_turns_5 0 rfl rfl)
theorem dX13_turns_120 : decode cX13_turns 120 = .ok (.aload_n 0, 1) := dk_42 (dk_at dksX13_turns_5 1 rfl rfl)
theorem dX13_turns_121 : decode cX13_turns 121 = .ok (.getfield 115, 3) := dk_180 0 115 (dk_at dksX13_turns_5 2 rfl rfl)
theorem dX13_turns_124 : decode cX13_turns 124 = .ok (.iload_n 1, 1) := dk_27 (dk_at dksX13_turns_5 5 rfl rfl)
theorem dX13_turns_125 : decode cX13_turns 125 = .ok (.bipush 6, 2) := dk_16 6 (dk_at dksX13_turns_5 6 rfl rfl)
theorem dX13_turns_127 : decode cX13_turns 127 = .ok (.iadd, 1) := dk_96 (dk_at dksX13_turns_5 8 rfl rfl)
theorem dX13_turns_128 : decode cX13_turns 128 = .ok (.dup2, 1) := dk_92 (dk_at dksX13_turns_5 9 rfl rfl)
theorem dX13_turns_129 : decode cX13_turns 129 = .ok (.iaload, 1) := dk_46 (dk_at dksX13_turns_5 10 rfl rfl)
theorem dX13_turns_130 : decode cX13_turns 130 = .ok (.iconst 1, 1) := dk_4 (dk_at dksX13_turns_5 11 rfl rfl)
theorem dX13_turns_131 : decode cX13_turns 131 = .ok (.iadd, 1) := dk_96 (dk_at dksX13_turns_5 12 rfl rfl)
theorem dX13_turns_132 : decode cX13_turns 132 = .ok (.iastore, 1) := dk_79 (dk_at dksX13_turns_5 13 rfl rfl)
theorem dX13_turns_133 : decode cX13_turns 133 = .ok (.iload 4, 2) := dk_21 4 (dk_at dksX13_turns_5 14 rfl rfl)
theorem dX13_turns_135 : decode cX13_turns 135 = .ok (.ireturn, 1) := dk_172 (dk_at dksX13_turns_5 16 rfl rfl)
abbrev cX13_paysOf : ByteArray := prog_24_method_48_code
def yX13_paysOf : MethodName := ⟨RX13, "paysOf", "(I)I"⟩
def dkwX13_paysOf_1 : List UInt8 := [8, 5, 28, 104, 96, 46, 172]
abbrev dktX13_paysOf_1 : List UInt8 := dkwX13_paysOf_1 ++ []
def dkwX13_paysOf_0 : List UInt8 := [27, 16, 8, 112, 61, 28, 42, 180, 0, 122, 160, 0, 10, 42, 180, 1, 60, 167, 0, 13, 42, 180, 0, 85]
abbrev dktX13_paysOf_0 : List UInt8 := dkwX13_paysOf_0 ++ dktX13_paysOf_1
theorem dksX13_paysOf_0 : cX13_paysOf.data.toList.drop 0 = dktX13_paysOf_0 := by decide +kernel
theorem dksX13_paysOf_1 : cX13_paysOf.data.toList.drop 24 = dktX13_paysOf_1 := dk_seg dksX13_paysOf_0 24 rfl rfl
theorem dX13_paysOf_0 : decode cX13_paysOf 0 = .ok (.iload_n 1, 1) := dk_27 (dk_at dksX13_paysOf_0 0 rfl rfl)
theorem dX13_paysOf_1 : decode cX13_paysOf 1 = .ok (.bipush 8, 2) := dk_16 8 (dk_at dksX13_paysOf_0 1 rfl rfl)
theorem dX13_paysOf_3 : decode cX13_paysOf 3 = .ok (.irem, 1) := dk_112 (dk_at dksX13_paysOf_0 3 rfl rfl)
theorem dX13_paysOf_4 : decode cX13_paysOf 4 = .ok (.istore_n 2, 1) := dk_61 (dk_at dksX13_paysOf_0 4 rfl rfl)
theorem dX13_paysOf_5 : decode cX13_paysOf 5 = .ok (.iload_n 2, 1) := dk_28 (dk_at dksX13_paysOf_0 5 rfl rfl)
theorem dX13_paysOf_6 : decode cX13_paysOf 6 = .ok (.aload_n 0, 1) := dk_42 (dk_at dksX13_paysOf_0 6 rfl rfl)
theorem dX13_paysOf_7 : decode cX13_paysOf 7 = .ok (.getfield 122, 3) := dk_180 0 122 (dk_at dksX13_paysOf_0 7 rfl rfl)
theorem dX13_paysOf_10 : decode cX13_paysOf 10 = .ok (.if_icmp .ne 10, 3) := dk_160 0 10 (dk_at dksX13_paysOf_0 10 rfl rfl)
theorem dX13_paysOf_13 : decode cX13_paysOf 13 = .ok (.aload_n 0, 1) := dk_42 (dk_at dksX13_paysOf_0 13 rfl rfl)
theorem dX13_paysOf_14 : decode cX13_paysOf 14 = .ok (.getfield 316, 3) := dk_180 1 60 (dk_at dksX13_paysOf_0 14 rfl rfl)
theorem dX13_paysOf_17 : decode cX13_paysOf 17 = .ok (.goto 13, 3) := dk_167 0 13 (dk_at dksX13_paysOf_0 17 rfl rfl)
theorem dX13_paysOf_20 : decode cX13_paysOf 20 = .ok (.aload_n 0, 1) := dk_42 (dk_at dksX13_paysOf_0 20 rfl rfl)
theorem dX13_paysOf_21 : decode cX13_paysOf 21 = .ok (.getfield 85, 3) := dk_180 0 85 (dk_at dksX13_paysOf_0 21 rfl rfl)
theorem dX13_paysOf_24 : decode cX13_paysOf 24 = .ok (.iconst 5, 1) := dk_8 (dk_at dksX13_paysOf_1 0 rfl rfl)
theorem dX13_paysOf_25 : decode cX13_paysOf 25 = .ok (.iconst 2, 1) := dk_5 (dk_at dksX13_paysOf_1 1 rfl rfl)
theorem dX13_paysOf_26 : decode cX13_paysOf 26 = .ok (.iload_n 2, 1) := dk_28 (dk_at dksX13_paysOf_1 2 rfl rfl)
theorem dX13_paysOf_27 : decode cX13_paysOf 27 = .ok (.imul, 1) := dk_104 (dk_at dksX13_paysOf_1 3 rfl rfl)
theorem dX13_paysOf_28 : decode cX13_paysOf 28 = .ok (.iadd, 1) := dk_96 (dk_at dksX13_paysOf_1 4 rfl rfl)
theorem dX13_paysOf_29 : decode cX13_paysOf 29 = .ok (.iaload, 1) := dk_46 (dk_at dksX13_paysOf_1 5 rfl rfl)
theorem dX13_paysOf_30 : decode cX13_paysOf 30 = .ok (.ireturn, 1) := dk_172 (dk_at dksX13_paysOf_1 6 rfl rfl)
abbrev cX13_orderNow : ByteArray := prog_24_method_55_code
def yX13_orderNow : MethodName := ⟨RX13, "orderNow", "(I)I"⟩
def dkwX13_orderNow_1 : List UInt8 := [16, 11, 96, 3, 79, 28, 153, 0, 7, 4, 167, 0, 9, 42, 180, 0, 85, 4, 46, 172]
abbrev dktX13_orderNow_1 : List UInt8 := dkwX13_orderNow_1 ++ []
def dkwX13_orderNow_0 : List UInt8 := [42, 180, 0, 115, 27, 16, 11, 96, 46, 4, 160, 0, 7, 4, 167, 0, 4, 3, 61, 42, 180, 0, 115, 27]
abbrev dktX13_orderNow_0 : List UInt8 := dkwX13_orderNow_0 ++ dktX13_orderNow_1
theorem dksX13_orderNow_0 : cX13_orderNow.data.toList.drop 0 = dktX13_orderNow_0 := by decide +kernel
theorem dksX13_orderNow_1 : cX13_orderNow.data.toList.drop 24 = dktX13_orderNow_1 := dk_seg dksX13_orderNow_0 24 rfl rfl
theorem dX13_orderNow_0 : decode cX13_orderNow 0 = .ok (.aload_n 0, 1) := dk_42 (dk_at dksX13_orderNow_0 0 rfl rfl)
theorem dX13_orderNow_1 : decode cX13_orderNow 1 = .ok (.getfield 115, 3) := dk_180 0 115 (dk_at dksX13_orderNow_0 1 rfl rfl)
theorem dX13_orderNow_4 : decode cX13_orderNow 4 = .ok (.iload_n 1, 1) := dk_27 (dk_at dksX13_orderNow_0 4 rfl rfl)
theorem dX13_orderNow_5 : decode cX13_orderNow 5 = .ok (.bipush 11, 2) := dk_16 11 (dk_at dksX13_orderNow_0 5 rfl rfl)
theorem dX13_orderNow_7 : decode cX13_orderNow 7 = .ok (.iadd, 1) := dk_96 (dk_at dksX13_orderNow_0 7 rfl rfl)
theorem dX13_orderNow_8 : decode cX13_orderNow 8 = .ok (.iaload, 1) := dk_46 (dk_at dksX13_orderNow_0 8 rfl rfl)
theorem dX13_orderNow_9 : decode cX13_orderNow 9 = .ok (.iconst 1, 1) := dk_4 (dk_at dksX13_orderNow_0 9 rfl rfl)
theorem dX13_orderNow_10 : decode cX13_orderNow 10 = .ok (.if_icmp .ne 7, 3) := dk_160 0 7 (dk_at dksX13_orderNow_0 10 rfl rfl)
theorem dX13_orderNow_13 : decode cX13_orderNow 13 = .ok (.iconst 1, 1) := dk_4 (dk_at dksX13_orderNow_0 13 rfl rfl)
theorem dX13_orderNow_14 : decode cX13_orderNow 14 = .ok (.goto 4, 3) := dk_167 0 4 (dk_at dksX13_orderNow_0 14 rfl rfl)
theorem dX13_orderNow_17 : decode cX13_orderNow 17 = .ok (.iconst 0, 1) := dk_3 (dk_at dksX13_orderNow_0 17 rfl rfl)
theorem dX13_orderNow_18 : decode cX13_orderNow 18 = .ok (.istore_n 2, 1) := dk_61 (dk_at dksX13_orderNow_0 18 rfl rfl)
theorem dX13_orderNow_19 : decode cX13_orderNow 19 = .ok (.aload_n 0, 1) := dk_42 (dk_at dksX13_orderNow_0 19 rfl rfl)
theorem dX13_orderNow_20 : decode cX13_orderNow 20 = .ok (.getfield 115, 3) := dk_180 0 115 (dk_at dksX13_orderNow_0 20 rfl rfl)
theorem dX13_orderNow_23 : decode cX13_orderNow 23 = .ok (.iload_n 1, 1) := dk_27 (dk_at dksX13_orderNow_0 23 rfl rfl)
theorem dX13_orderNow_24 : decode cX13_orderNow 24 = .ok (.bipush 11, 2) := dk_16 11 (dk_at dksX13_orderNow_1 0 rfl rfl)
theorem dX13_orderNow_26 : decode cX13_orderNow 26 = .ok (.iadd, 1) := dk_96 (dk_at dksX13_orderNow_1 2 rfl rfl)
theorem dX13_orderNow_27 : decode cX13_orderNow 27 = .ok (.iconst 0, 1) := dk_3 (dk_at dksX13_orderNow_1 3 rfl rfl)
theorem dX13_orderNow_28 : decode cX13_orderNow 28 = .ok (.iastore, 1) := dk_79 (dk_at dksX13_orderNow_1 4 rfl rfl)
theorem dX13_orderNow_29 : decode cX13_orderNow 29 = .ok (.iload_n 2, 1) := dk_28 (dk_at dksX13_orderNow_1 5 rfl rfl)
theorem dX13_orderNow_30 : decode cX13_orderNow 30 = .ok (.ifCond .eq 7, 3) := dk_153 0 7 (dk_at dksX13_orderNow_1 6 rfl rfl)
theorem dX13_orderNow_33 : decode cX13_orderNow 33 = .ok (.iconst 1, 1) := dk_4 (dk_at dksX13_orderNow_1 9 rfl rfl)
theorem dX13_orderNow_34 : decode cX13_orderNow 34 = .ok (.goto 9, 3) := dk_167 0 9 (dk_at dksX13_orderNow_1 10 rfl rfl)
theorem dX13_orderNow_37 : decode cX13_orderNow 37 = .ok (.aload_n 0, 1) := dk_42 (dk_at dksX13_orderNow_1 13 rfl rfl)
theorem dX13_orderNow_38 : decode cX13_orderNow 38 = .ok (.getfield 85, 3) := dk_180 0 85 (dk_at dksX13_orderNow_1 14 rfl rfl)
theorem dX13_orderNow_41 : decode cX13_orderNow 41 = .ok (.iconst 1, 1) := dk_4 (dk_at dksX13_orderNow_1 17 rfl rfl)
theorem dX13_orderNow_42 : decode cX13_orderNow 42 = .ok (.iaload, 1) := dk_46 (dk_at dksX13_orderNow_1 18 rfl rfl)
theorem dX13_orderNow_43 : decode cX13_orderNow 43 = .ok (.ireturn, 1) := dk_172 (dk_at dksX13_orderNow_1 19 rfl rfl)
abbrev cX13_takes : ByteArray := prog_24_method_53_code
def yX13_takes : MethodName := ⟨RX13, "takes", "(II)V"⟩
def dkwX13_takes_6 : List UInt8 := [96, 2, 79, 42, 180, 0, 115, 27, 16, 18, 96, 3, 79, 177]
abbrev dktX13_takes_6 : List UInt8 := dkwX13_takes_6 ++ []
def dkwX13_takes_5 : List UInt8 := [27, 16, 7, 96, 92, 46, 4, 96, 79, 42, 180, 0, 115, 27, 6, 96, 29, 79, 42, 180, 0, 115, 27, 8]
abbrev dktX13_takes_5 : List UInt8 := dkwX13_takes_5 ++ dktX13_takes_6
def dkwX13_takes_4 : List UInt8 := [27, 154, 0, 10, 42, 29, 21, 4, 182, 1, 76, 42, 180, 0, 115, 27, 5, 96, 3, 79, 42, 180, 0, 115]
abbrev dktX13_takes_4 : List UInt8 := dkwX13_takes_4 ++ dktX13_takes_5
def dkwX13_takes_3 : List UInt8 := [21, 6, 46, 79, 42, 180, 0, 115, 27, 3, 96, 29, 96, 92, 46, 4, 96, 79, 132, 6, 1, 167, 255, 207]
abbrev dktX13_takes_3 : List UInt8 := dkwX13_takes_3 ++ dktX13_takes_4
def dkwX13_takes_2 : List UInt8 := [162, 0, 48, 42, 180, 0, 115, 21, 5, 42, 180, 0, 115, 27, 3, 96, 29, 96, 46, 96, 42, 180, 0, 125]
abbrev dktX13_takes_2 : List UInt8 := dkwX13_takes_2 ++ dktX13_takes_3
def dkwX13_takes_1 : List UInt8 := [21, 4, 28, 182, 1, 73, 27, 16, 20, 96, 16, 48, 29, 104, 96, 54, 5, 3, 54, 6, 21, 6, 21, 4]
abbrev dktX13_takes_1 : List UInt8 := dkwX13_takes_1 ++ dktX13_takes_2
def dkwX13_takes_0 : List UInt8 := [42, 180, 0, 115, 27, 8, 96, 46, 62, 42, 180, 0, 115, 27, 5, 96, 46, 54, 4, 42, 27, 16, 116, 96]
abbrev dktX13_takes_0 : List UInt8 := dkwX13_takes_0 ++ dktX13_takes_1
theorem dksX13_takes_0 : cX13_takes.data.toList.drop 0 = dktX13_takes_0 := by decide +kernel
theorem dksX13_takes_1 : cX13_takes.data.toList.drop 24 = dktX13_takes_1 := dk_seg dksX13_takes_0 24 rfl rfl
theorem dksX13_takes_2 : cX13_takes.data.toList.drop 48 = dktX13_takes_2 := dk_seg dksX13_takes_1 24 rfl rfl
theorem dksX13_takes_3 : cX13_takes.data.toList.drop 72 = dktX13_takes_3 := dk_seg dksX13_takes_2 24 rfl rfl
theorem dksX13_takes_4 : cX13_takes.data.toList.drop 96 = dktX13_takes_4 := dk_seg dksX13_takes_3 24 rfl rfl
theorem dksX13_takes_5 : cX13_takes.data.toList.drop 120 = dktX13_takes_5 := dk_seg dksX13_takes_4 24 rfl rfl
theorem dksX13_takes_6 : cX13_takes.data.toList.drop 144 = dktX13_takes_6 := dk_seg dksX13_takes_5 24 rfl rfl
theorem dX13_takes_0 : decode cX13_takes 0 = .ok (.aload_n 0, 1) := dk_42 (dk_at dksX13_takes_0 0 rfl rfl)
theorem dX13_takes_1 : decode cX13_takes 1 = .ok (.getfield 115, 3) := dk_180 0 115 (dk_at dksX13_takes_0 1 rfl rfl)
theorem dX13_takes_4 : decode cX13_takes 4 = .ok (.iload_n 1, 1) := dk_27 (dk_at dksX13_takes_0 4 rfl rfl)
theorem dX13_takes_5 : decode cX13_takes 5 = .ok (.iconst 5, 1) := dk_8 (dk_at dksX13_takes_0 5 rfl rfl)
theorem dX13_takes_6 : decode cX13_takes 6 = .ok (.iadd, 1) := dk_96 (dk_at dksX13_takes_0 6 rfl rfl)
theorem dX13_takes_7 : decode cX13_takes 7 = .ok (.iaload, 1) := dk_46 (dk_at dksX13_takes_0 7 rfl rfl)
theorem dX13_takes_8 : decode cX13_takes 8 = .ok (.istore_n 3, 1) := dk_62 (dk_at dksX13_takes_0 8 rfl rfl)
theorem dX13_takes_9 : decode cX13_takes 9 = .ok (.aload_n 0, 1) := dk_42 (dk_at dksX13_takes_0 9 rfl rfl)
theorem dX13_takes_10 : decode cX13_takes 10 = .ok (.getfield 115, 3) := dk_180 0 115 (dk_at dksX13_takes_0 10 rfl rfl)
theorem dX13_takes_13 : decode cX13_takes 13 = .ok (.iload_n 1, 1) := dk_27 (dk_at dksX13_takes_0 13 rfl rfl)
theorem dX13_takes_14 : decode cX13_takes 14 = .ok (.iconst 2, 1) := dk_5 (dk_at dksX13_takes_0 14 rfl rfl)
theorem dX13_takes_15 : decode cX13_takes 15 = .ok (.iadd, 1) := dk_96 (dk_at dksX13_takes_0 15 rfl rfl)
theorem dX13_takes_16 : decode cX13_takes 16 = .ok (.iaload, 1) := dk_46 (dk_at dksX13_takes_0 16 rfl rfl)
theorem dX13_takes_17 : decode cX13_takes 17 = .ok (.istore 4, 2) := dk_54 4 (dk_at dksX13_takes_0 17 rfl rfl)
theorem dX13_takes_19 : decode cX13_takes 19 = .ok (.aload_n 0, 1) := dk_42 (dk_at dksX13_takes_0 19 rfl rfl)
theorem dX13_takes_20 : decode cX13_takes 20 = .ok (.iload_n 1, 1) := dk_27 (dk_at dksX13_takes_0 20 rfl rfl)
theorem dX13_takes_21 : decode cX13_takes 21 = .ok (.bipush 116, 2) := dk_16 116 (dk_at dksX13_takes_0 21 rfl rfl)
theorem dX13_takes_23 : decode cX13_takes 23 = .ok (.iadd, 1) := dk_96 (dk_at dksX13_takes_0 23 rfl rfl)
theorem dX13_takes_24 : decode cX13_takes 24 = .ok (.iload 4, 2) := dk_21 4 (dk_at dksX13_takes_1 0 rfl rfl)
theorem dX13_takes_26 : decode cX13_takes 26 = .ok (.iload_n 2, 1) := dk_28 (dk_at dksX13_takes_1 2 rfl rfl)
theorem dX13_takes_27 : decode cX13_takes 27 = .ok (.invokevirtual 329, 3) := dk_182 1 73 (dk_at dksX13_takes_1 3 rfl rfl)
theorem dX13_takes_30 : decode cX13_takes 30 = .ok (.iload_n 1, 1) := dk_27 (dk_at dksX13_takes_1 6 rfl rfl)
theorem dX13_takes_31 : decode cX13_takes 31 = .ok (.bipush 20, 2) := dk_16 20 (dk_at dksX13_takes_1 7 rfl rfl)
theorem dX13_takes_33 : decode cX13_takes 33 = .ok (.iadd, 1) := dk_96 (dk_at dksX13_takes_1 9 rfl rfl)
theorem dX13_takes_34 : decode cX13_takes 34 = .ok (.bipush 48, 2) := dk_16 48 (dk_at dksX13_takes_1 10 rfl rfl)
theorem dX13_takes_36 : decode cX13_takes 36 = .ok (.iload_n 3, 1) := dk_29 (dk_at dksX13_takes_1 12 rfl rfl)
theorem dX13_takes_37 : decode cX13_takes 37 = .ok (.imul, 1) := dk_104 (dk_at dksX13_takes_1 13 rfl rfl)
theorem dX13_takes_38 : decode cX13_takes 38 = .ok (.iadd, 1) := dk_96 (dk_at dksX13_takes_1 14 rfl rfl)
theorem dX13_takes_39 : decode cX13_takes 39 = .ok (.istore 5, 2) := dk_54 5 (dk_at dksX13_takes_1 15 rfl rfl)
theorem dX13_takes_41 : decode cX13_takes 41 = .ok (.iconst 0, 1) := dk_3 (dk_at dksX13_takes_1 17 rfl rfl)
theorem dX13_takes_42 : decode cX13_takes 42 = .ok (.istore 6, 2) := dk_54 6 (dk_at dksX13_takes_1 18 rfl rfl)
theorem dX13_takes_44 : decode cX13_takes 44 = .ok (.iload 6, 2) := dk_21 6 (dk_at dksX13_takes_1 20 rfl rfl)
theorem dX13_takes_46 : decode cX13_takes 46 = .ok (.iload 4, 2) := dk_21 4 (dk_at dksX13_takes_1 22 rfl rfl)
theorem dX13_takes_48 : decode cX13_takes 48 = .ok (.if_icmp .ge 48, 3) := dk_162 0 48 (dk_at dksX13_takes_2 0 rfl rfl)
theorem dX13_takes_51 : decode cX13_takes 51 = .ok (.aload_n 0, 1) := dk_42 (dk_at dksX13_takes_2 3 rfl rfl)
theorem dX13_takes_52 : decode cX13_takes 52 = .ok (.getfield 115, 3) := dk_180 0 115 (dk_at dksX13_takes_2 4 rfl rfl)
theorem dX13_takes_55 : decode cX13_takes 55 = .ok (.iload 5, 2) := dk_21 5 (dk_at dksX13_takes_2 7 rfl rfl)
theorem dX13_takes_57 : decode cX13_takes 57 = .ok (.aload_n 0, 1) := dk_42 (dk_at dksX13_takes_2 9 rfl rfl)
theorem dX13_takes_58 : decode cX13_takes 58 = .ok (.getfield 115, 3) := dk_180 0 115 (dk_at dksX13_takes_2 10 rfl rfl)
theorem dX13_takes_61 : decode cX13_takes 61 = .ok (.iload_n 1, 1) := dk_27 (dk_at dksX13_takes_2 13 rfl rfl)
theorem dX13_takes_62 : decode cX13_takes 62 = .ok (.iconst 0, 1) := dk_3 (dk_at dksX13_takes_2 14 rfl rfl)
theorem dX13_takes_63 : decode cX13_takes 63 = .ok (.iadd, 1) := dk_96 (dk_at dksX13_takes_2 15 rfl rfl)
theorem dX13_takes_64 : decode cX13_takes 64 = .ok (.iload_n 3, 1) := dk_29 (dk_at dksX13_takes_2 16 rfl rfl)
theorem dX13_takes_65 : decode cX13_takes 65 = .ok (.iadd, 1) := dk_96 (dk_at dksX13_takes_2 17 rfl rfl)
theorem dX13_takes_66 : decode cX13_takes 66 = .ok (.iaload, 1) := dk_46 (dk_at dksX13_takes_2 18 rfl rfl)
theorem dX13_takes_67 : decode cX13_takes 67 = .ok (.iadd, 1) := dk_96 (dk_at dksX13_takes_2 19 rfl rfl)
theorem dX13_takes_68 : decode cX13_takes 68 = .ok (.aload_n 0, 1) := dk_42 (dk_at dksX13_takes_2 20 rfl rfl)
theorem dX13_takes_69 : decode cX13_takes 69 = .ok (.getfield 125, 3) := dk_180 0 125 (dk_at dksX13_takes_2 21 rfl rfl)
theorem dX13_takes_72 : decode cX13_takes 72 = .ok (.iload 6, 2) := dk_21 6 (dk_at dksX13_takes_3 0 rfl rfl)
theorem dX13_takes_74 : decode cX13_takes 74 = .ok (.iaload, 1) := dk_46 (dk_at dksX13_takes_3 2 rfl rfl)
theorem dX13_takes_75 : decode cX13_takes 75 = .ok (.iastore, 1) := dk_79 (dk_at dksX13_takes_3 3 rfl rfl)
theorem dX13_takes_76 : decode cX13_takes 76 = .ok (.aload_n 0, 1) := dk_42 (dk_at dksX13_takes_3 4 rfl rfl)
theorem dX13_takes_77 : decode cX13_takes 77 = .ok (.getfield 115, 3) := dk_180 0 115 (dk_at dksX13_takes_3 5 rfl rfl)
theorem dX13_takes_80 : decode cX13_takes 80 = .ok (.iload_n 1, 1) := dk_27 (dk_at dksX13_takes_3 8 rfl rfl)
theorem dX13_takes_81 : decode cX13_takes 81 = .ok (.iconst 0, 1) := dk_3 (dk_at dksX13_takes_3 9 rfl rfl)
theorem dX13_takes_82 : decode cX13_takes 82 = .ok (.iadd, 1) := dk_96 (dk_at dksX13_takes_3 10 rfl rfl)
theorem dX13_takes_83 : decode cX13_takes 83 = .ok (.iload_n 3, 1) := dk_29 (dk_at dksX13_takes_3 11 rfl rfl)
theorem dX13_takes_84 : decode cX13_takes 84 = .ok (.iadd, 1) := dk_96 (dk_at dksX13_takes_3 12 rfl rfl)
theorem dX13_takes_85 : decode cX13_takes 85 = .ok (.dup2, 1) := dk_92 (dk_at dksX13_takes_3 13 rfl rfl)
theorem dX13_takes_86 : decode cX13_takes 86 = .ok (.iaload, 1) := dk_46 (dk_at dksX13_takes_3 14 rfl rfl)
theorem dX13_takes_87 : decode cX13_takes 87 = .ok (.iconst 1, 1) := dk_4 (dk_at dksX13_takes_3 15 rfl rfl)
theorem dX13_takes_88 : decode cX13_takes 88 = .ok (.iadd, 1) := dk_96 (dk_at dksX13_takes_3 16 rfl rfl)
theorem dX13_takes_89 : decode cX13_takes 89 = .ok (.iastore, 1) := dk_79 (dk_at dksX13_takes_3 17 rfl rfl)
theorem dX13_takes_90 : decode cX13_takes 90 = .ok (.iinc 6 1, 3) := dk_132 6 1 (dk_at dksX13_takes_3 18 rfl rfl)
theorem dX13_takes_93 : decode cX13_takes 93 = .ok (.goto (-49), 3) := dk_167 255 207 (dk_at dksX13_takes_3 21 rfl rfl)
theorem dX13_takes_96 : decode cX13_takes 96 = .ok (.iload_n 1, 1) := dk_27 (dk_at dksX13_takes_4 0 rfl rfl)
theorem dX13_takes_97 : decode cX13_takes 97 = .ok (.ifCond .ne 10, 3) := dk_154 0 10 (dk_at dksX13_takes_4 1 rfl rfl)
theorem dX13_takes_100 : decode cX13_takes 100 = .ok (.aload_n 0, 1) := dk_42 (dk_at dksX13_takes_4 4 rfl rfl)
theorem dX13_takes_101 : decode cX13_takes 101 = .ok (.iload_n 3, 1) := dk_29 (dk_at dksX13_takes_4 5 rfl rfl)
theorem dX13_takes_102 : decode cX13_takes 102 = .ok (.iload 4, 2) := dk_21 4 (dk_at dksX13_takes_4 6 rfl rfl)
theorem dX13_takes_104 : decode cX13_takes 104 = .ok (.invokevirtual 332, 3) := dk_182 1 76 (dk_at dksX13_takes_4 8 rfl rfl)
theorem dX13_takes_107 : decode cX13_takes 107 = .ok (.aload_n 0, 1) := dk_42 (dk_at dksX13_takes_4 11 rfl rfl)
theorem dX13_takes_108 : decode cX13_takes 108 = .ok (.getfield 115, 3) := dk_180 0 115 (dk_at dksX13_takes_4 12 rfl rfl)
theorem dX13_takes_111 : decode cX13_takes 111 = .ok (.iload_n 1, 1) := dk_27 (dk_at dksX13_takes_4 15 rfl rfl)
theorem dX13_takes_112 : decode cX13_takes 112 = .ok (.iconst 2, 1) := dk_5 (dk_at dksX13_takes_4 16 rfl rfl)
theorem dX13_takes_113 : decode cX13_takes 113 = .ok (.iadd, 1) := dk_96 (dk_at dksX13_takes_4 17 rfl rfl)
theorem dX13_takes_114 : decode cX13_takes 114 = .ok (.iconst 0, 1) := dk_3 (dk_at dksX13_takes_4 18 rfl rfl)
theorem dX13_takes_115 : decode cX13_takes 115 = .ok (.iastore, 1) := dk_79 (dk_at dksX13_takes_4 19 rfl rfl)
theorem dX13_takes_116 : decode cX13_takes 116 = .ok (.aload_n 0, 1) := dk_42 (dk_at dksX13_takes_4 20 rfl rfl)
theorem dX13_takes_117 : decode cX13_takes 117 = .ok (.getfield 115, 3) := dk_180 0 115 (dk_at dksX13_takes_4 21 rfl rfl)
theorem dX13_takes_120 : decode cX13_takes 120 = .ok (.iload_n 1, 1) := dk_27 (dk_at dksX13_takes_5 0 rfl rfl)
theorem dX13_takes_121 : decode cX13_takes 121 = .ok (.bipush 7, 2) := dk_16 7 (dk_at dksX13_takes_5 1 rfl rfl)
theorem dX13_takes_123 : decode cX13_takes 123 = .ok (.iadd, 1) := dk_96 (dk_at dksX13_takes_5 3 rfl rfl)
theorem dX13_takes_124 : decode cX13_takes 124 = .ok (.dup2, 1) := dk_92 (dk_at dksX13_takes_5 4 rfl rfl)
theorem dX13_takes_125 : decode cX13_takes 125 = .ok (.iaload, 1) := dk_46 (dk_at dksX13_takes_5 5 rfl rfl)
theorem dX13_takes_126 : decode cX13_takes 126 = .ok (.iconst 1, 1) := dk_4 (dk_at dksX13_takes_5 6 rfl rfl)
theorem dX13_takes_127 : decode cX13_takes 127 = .ok (.iadd, 1) := dk_96 (dk_at dksX13_takes_5 7 rfl rfl)
theorem dX13_takes_128 : decode cX13_takes 128 = .ok (.iastore, 1) := dk_79 (dk_at dksX13_takes_5 8 rfl rfl)
theorem dX13_takes_129 : decode cX13_takes 129 = .ok (.aload_n 0, 1) := dk_42 (dk_at dksX13_takes_5 9 rfl rfl)
theorem dX13_takes_130 : decode cX13_takes 130 = .ok (.getfield 115, 3) := dk_180 0 115 (dk_at dksX13_takes_5 10 rfl rfl)
theorem dX13_takes_133 : decode cX13_takes 133 = .ok (.iload_n 1, 1) := dk_27 (dk_at dksX13_takes_5 13 rfl rfl)
theorem dX13_takes_134 : decode cX13_takes 134 = .ok (.iconst 3, 1) := dk_6 (dk_at dksX13_takes_5 14 rfl rfl)
theorem dX13_takes_135 : decode cX13_takes 135 = .ok (.iadd, 1) := dk_96 (dk_at dksX13_takes_5 15 rfl rfl)
theorem dX13_takes_136 : decode cX13_takes 136 = .ok (.iload_n 3, 1) := dk_29 (dk_at dksX13_takes_5 16 rfl rfl)
theorem dX13_takes_137 : decode cX13_takes 137 = .ok (.iastore, 1) := dk_79 (dk_at dksX13_takes_5 17 rfl rfl)
theorem dX13_takes_138 : decode cX13_takes 138 = .ok (.aload_n 0, 1) := dk_42 (dk_at dksX13_takes_5 18 rfl rfl)
theorem dX13_takes_139 : decode cX13_takes 139 = .ok (.getfield 115, 3) := dk_180 0 115 (dk_at dksX13_takes_5 19 rfl rfl)
theorem dX13_takes_142 : decode cX13_takes 142 = .ok (.iload_n 1, 1) := dk_27 (dk_at dksX13_takes_5 22 rfl rfl)
theorem dX13_takes_143 : decode cX13_takes 143 = .ok (.iconst 5, 1) := dk_8 (dk_at dksX13_takes_5 23 rfl rfl)
theorem dX13_takes_144 : decode cX13_takes 144 = .ok (.iadd, 1) := dk_96 (dk_at dksX13_takes_6 0 rfl rfl)
theorem dX13_takes_145 : decode cX13_takes 145 = .ok (.iconst (-1), 1) := dk_2 (dk_at dksX13_takes_6 1 rfl rfl)
theorem dX13_takes_146 : decode cX13_takes 146 = .ok (.iastore, 1) := dk_79 (dk_at dksX13_takes_6 2 rfl rfl)
theorem dX13_takes_147 : decode cX13_takes 147 = .ok (.aload_n 0, 1) := dk_42 (dk_at dksX13_takes_6 3 rfl rfl)
theorem dX13_takes_148 : decode cX13_takes 148 = .ok (.getfield 115, 3) := dk_180 0 115 (dk_at dksX13_takes_6 4 rfl rfl)
theorem dX13_takes_151 : decode cX13_takes 151 = .ok (.iload_n 1, 1) := dk_27 (dk_at dksX13_takes_6 7 rfl rfl)
theorem dX13_takes_152 : decode cX13_takes 152 = .ok (.bipush 18, 2) := dk_16 18 (dk_at dksX13_takes_6 8 rfl rfl)
theorem dX13_takes_154 : decode cX13_takes 154 = .ok (.iadd, 1) := dk_96 (dk_at dksX13_takes_6 10 rfl rfl)
theorem dX13_takes_155 : decode cX13_takes 155 = .ok (.iconst 0, 1) := dk_3 (dk_at dksX13_takes_6 11 rfl rfl)
theorem dX13_takes_156 : decode cX13_takes 156 = .ok (.iastore, 1) := dk_79 (dk_at dksX13_takes_6 12 rfl rfl)
theorem dX13_takes_157 : decode cX13_takes 157 = .ok (.return_, 1) := dk_177 (dk_at dksX13_takes_6 13 rfl rfl)
abbrev cX13_lays : ByteArray := prog_24_method_49_code
def yX13_lays : MethodName := ⟨RX13, "lays", "(III)V"⟩
def dkwX13_lays_8 : List UInt8 := [182, 1, 63, 87, 177]
abbrev dktX13_lays_8 : List UInt8 := dkwX13_lays_8 ++ []
def dkwX13_lays_7 : List UInt8 := [160, 0, 27, 42, 27, 28, 3, 3, 21, 4, 182, 1, 63, 54, 4, 42, 27, 28, 4, 16, 6, 21, 4]
abbrev dktX13_lays_7 : List UInt8 := dkwX13_lays_7 ++ dktX13_lays_8
def dkwX13_lays_6 : List UInt8 := [42, 27, 28, 21, 5, 21, 5, 21, 4, 182, 1, 63, 54, 4, 132, 5, 255, 167, 255, 229, 29, 6]
abbrev dktX13_lays_6 : List UInt8 := dkwX13_lays_6 ++ dktX13_lays_7
def dkwX13_lays_5 : List UInt8 := [79, 132, 6, 1, 167, 255, 209, 167, 0, 66, 16, 6, 54, 5, 21, 5, 155, 0, 28, 29, 5, 160, 0, 23]
abbrev dktX13_lays_5 : List UInt8 := dkwX13_lays_5 ++ dktX13_lays_6
def dkwX13_lays_4 : List UInt8 := [28, 21, 5, 100, 162, 0, 11, 21, 5, 21, 6, 96, 167, 0, 10, 21, 6, 28, 21, 5, 100, 100, 96, 46]
abbrev dktX13_lays_4 : List UInt8 := dkwX13_lays_4 ++ dktX13_lays_5
def dkwX13_lays_3 : List UInt8 := [54, 5, 3, 54, 6, 21, 6, 28, 162, 0, 47, 42, 180, 0, 125, 21, 6, 42, 180, 0, 115, 27, 21, 6]
abbrev dktX13_lays_3 : List UInt8 := dkwX13_lays_3 ++ dktX13_lays_4
def dkwX13_lays_2 : List UInt8 := [21, 5, 96, 46, 79, 132, 5, 1, 167, 255, 217, 167, 0, 134, 29, 7, 160, 0, 66, 28, 4, 96, 5, 108]
abbrev dktX13_lays_2 : List UInt8 := dkwX13_lays_2 ++ dktX13_lays_3
def dkwX13_lays_1 : List UInt8 := [180, 0, 125, 21, 5, 42, 180, 0, 115, 27, 29, 4, 160, 0, 12, 28, 4, 100, 21, 5, 100, 167, 0, 5]
abbrev dktX13_lays_1 : List UInt8 := dkwX13_lays_1 ++ dktX13_lays_2
def dkwX13_lays_0 : List UInt8 := [3, 54, 4, 29, 153, 0, 8, 29, 4, 160, 0, 51, 3, 54, 5, 21, 5, 28, 162, 0, 39, 42]
abbrev dktX13_lays_0 : List UInt8 := dkwX13_lays_0 ++ dktX13_lays_1
theorem dksX13_lays_0 : cX13_lays.data.toList.drop 0 = dktX13_lays_0 := by decide +kernel
theorem dksX13_lays_1 : cX13_lays.data.toList.drop 22 = dktX13_lays_1 := dk_seg dksX13_lays_0 22 rfl rfl
theorem dksX13_lays_2 : cX13_lays.data.toList.drop 46 = dktX13_lays_2 := dk_seg dksX13_lays_1 24 rfl rfl
theorem dksX13_lays_3 : cX13_lays.data.toList.drop 70 = dktX13_lays_3 := dk_seg dksX13_lays_2 24 rfl rfl
theorem dksX13_lays_4 : cX13_lays.data.toList.drop 94 = dktX13_lays_4 := dk_seg dksX13_lays_3 24 rfl rfl
theorem dksX13_lays_5 : cX13_lays.data.toList.drop 118 = dktX13_lays_5 := dk_seg dksX13_lays_4 24 rfl rfl
theorem dksX13_lays_6 : cX13_lays.data.toList.drop 142 = dktX13_lays_6 := dk_seg dksX13_lays_5 24 rfl rfl
theorem dksX13_lays_7 : cX13_lays.data.toList.drop 164 = dktX13_lays_7 := dk_seg dksX13_lays_6 22 rfl rfl
theorem dksX13_lays_8 : cX13_lays.data.toList.drop 187 = dktX13_lays_8 := dk_seg dksX13_lays_7 23 rfl rfl
theorem dX13_lays_0 : decode cX13_lays 0 = .ok (.iconst 0, 1) := dk_3 (dk_at dksX13_lays_0 0 rfl rfl)
theorem dX13_lays_1 : decode cX13_lays 1 = .ok (.istore 4, 2) := dk_54 4 (dk_at dksX13_lays_0 1 rfl rfl)
theorem dX13_lays_3 : decode cX13_lays 3 = .ok (.iload_n 3, 1) := dk_29 (dk_at dksX13_lays_0 3 rfl rfl)
theorem dX13_lays_4 : decode cX13_lays 4 = .ok (.ifCond .eq 8, 3) := dk_153 0 8 (dk_at dksX13_lays_0 4 rfl rfl)
theorem dX13_lays_7 : decode cX13_lays 7 = .ok (.iload_n 3, 1) := dk_29 (dk_at dksX13_lays_0 7 rfl rfl)
theorem dX13_lays_8 : decode cX13_lays 8 = .ok (.iconst 1, 1) := dk_4 (dk_at dksX13_lays_0 8 rfl rfl)
theorem dX13_lays_9 : decode cX13_lays 9 = .ok (.if_icmp .ne 51, 3) := dk_160 0 51 (dk_at dksX13_lays_0 9 rfl rfl)
theorem dX13_lays_12 : decode cX13_lays 12 = .ok (.iconst 0, 1) := dk_3 (dk_at dksX13_lays_0 12 rfl rfl)
theorem dX13_lays_13 : decode cX13_lays 13 = .ok (.istore 5, 2) := dk_54 5 (dk_at dksX13_lays_0 13 rfl rfl)
theorem dX13_lays_15 : decode cX13_lays 15 = .ok (.iload 5, 2) := dk_21 5 (dk_at dksX13_lays_0 15 rfl rfl)
theorem dX13_lays_17 : decode cX13_lays 17 = .ok (.iload_n 2, 1) := dk_28 (dk_at dksX13_lays_0 17 rfl rfl)
theorem dX13_lays_18 : decode cX13_lays 18 = .ok (.if_icmp .ge 39, 3) := dk_162 0 39 (dk_at dksX13_lays_0 18 rfl rfl)
theorem dX13_lays_21 : decode cX13_lays 21 = .ok (.aload_n 0, 1) := dk_42 (dk_at dksX13_lays_0 21 rfl rfl)
theorem dX13_lays_22 : decode cX13_lays 22 = .ok (.getfield 125, 3) := dk_180 0 125 (dk_at dksX13_lays_1 0 rfl rfl)
theorem dX13_lays_25 : decode cX13_lays 25 = .ok (.iload 5, 2) := dk_21 5 (dk_at dksX13_lays_1 3 rfl rfl)
theorem dX13_lays_27 : decode cX13_lays 27 = .ok (.aload_n 0, 1) := dk_42 (dk_at dksX13_lays_1 5 rfl rfl)
theorem dX13_lays_28 : decode cX13_lays 28 = .ok (.getfield 115, 3) := dk_180 0 115 (dk_at dksX13_lays_1 6 rfl rfl)
theorem dX13_lays_31 : decode cX13_lays 31 = .ok (.iload_n 1, 1) := dk_27 (dk_at dksX13_lays_1 9 rfl rfl)
theorem dX13_lays_32 : decode cX13_lays 32 = .ok (.iload_n 3, 1) := dk_29 (dk_at dksX13_lays_1 10 rfl rfl)
theorem dX13_lays_33 : decode cX13_lays 33 = .ok (.iconst 1, 1) := dk_4 (dk_at dksX13_lays_1 11 rfl rfl)
theorem dX13_lays_34 : decode cX13_lays 34 = .ok (.if_icmp .ne 12, 3) := dk_160 0 12 (dk_at dksX13_lays_1 12 rfl rfl)
theorem dX13_lays_37 : decode cX13_lays 37 = .ok (.iload_n 2, 1) := dk_28 (dk_at dksX13_lays_1 15 rfl rfl)
theorem dX13_lays_38 : decode cX13_lays 38 = .ok (.iconst 1, 1) := dk_4 (dk_at dksX13_lays_1 16 rfl rfl)
theorem dX13_lays_39 : decode cX13_lays 39 = .ok (.isub, 1) := dk_100 (dk_at dksX13_lays_1 17 rfl rfl)
theorem dX13_lays_40 : decode cX13_lays 40 = .ok (.iload 5, 2) := dk_21 5 (dk_at dksX13_lays_1 18 rfl rfl)
theorem dX13_lays_42 : decode cX13_lays 42 = .ok (.isub, 1) := dk_100 (dk_at dksX13_lays_1 20 rfl rfl)
theorem dX13_lays_43 : decode cX13_lays 43 = .ok (.goto 5, 3) := dk_167 0 5 (dk_at dksX13_lays_1 21 rfl rfl)
theorem dX13_lays_46 : decode cX13_lays 46 = .ok (.iload 5, 2) := dk_21 5 (dk_at dksX13_lays_2 0 rfl rfl)
theorem dX13_lays_48 : decode cX13_lays 48 = .ok (.iadd, 1) := dk_96 (dk_at dksX13_lays_2 2 rfl rfl)
theorem dX13_lays_49 : decode cX13_lays 49 = .ok (.iaload, 1) := dk_46 (dk_at dksX13_lays_2 3 rfl rfl)
theorem dX13_lays_50 : decode cX13_lays 50 = .ok (.iastore, 1) := dk_79 (dk_at dksX13_lays_2 4 rfl rfl)
theorem dX13_lays_51 : decode cX13_lays 51 = .ok (.iinc 5 1, 3) := dk_132 5 1 (dk_at dksX13_lays_2 5 rfl rfl)
theorem dX13_lays_54 : decode cX13_lays 54 = .ok (.goto (-39), 3) := dk_167 255 217 (dk_at dksX13_lays_2 8 rfl rfl)
theorem dX13_lays_57 : decode cX13_lays 57 = .ok (.goto 134, 3) := dk_167 0 134 (dk_at dksX13_lays_2 11 rfl rfl)
theorem dX13_lays_60 : decode cX13_lays 60 = .ok (.iload_n 3, 1) := dk_29 (dk_at dksX13_lays_2 14 rfl rfl)
theorem dX13_lays_61 : decode cX13_lays 61 = .ok (.iconst 4, 1) := dk_7 (dk_at dksX13_lays_2 15 rfl rfl)
theorem dX13_lays_62 : decode cX13_lays 62 = .ok (.if_icmp .ne 66, 3) := dk_160 0 66 (dk_at dksX13_lays_2 16 rfl rfl)
theorem dX13_lays_65 : decode cX13_lays 65 = .ok (.iload_n 2, 1) := dk_28 (dk_at dksX13_lays_2 19 rfl rfl)
theorem dX13_lays_66 : decode cX13_lays 66 = .ok (.iconst 1, 1) := dk_4 (dk_at dksX13_lays_2 20 rfl rfl)
theorem dX13_lays_67 : decode cX13_lays 67 = .ok (.iadd, 1) := dk_96 (dk_at dksX13_lays_2 21 rfl rfl)
theorem dX13_lays_68 : decode cX13_lays 68 = .ok (.iconst 2, 1) := dk_5 (dk_at dksX13_lays_2 22 rfl rfl)
theorem dX13_lays_69 : decode cX13_lays 69 = .ok (.idiv, 1) := dk_108 (dk_at dksX13_lays_2 23 rfl rfl)
theorem dX13_lays_70 : decode cX13_lays 70 = .ok (.istore 5, 2) := dk_54 5 (dk_at dksX13_lays_3 0 rfl rfl)
theorem dX13_lays_72 : decode cX13_lays 72 = .ok (.iconst 0, 1) := dk_3 (dk_at dksX13_lays_3 2 rfl rfl)
theorem dX13_lays_73 : decode cX13_lays 73 = .ok (.istore 6, 2) := dk_54 6 (dk_at dksX13_lays_3 3 rfl rfl)
theorem dX13_lays_75 : decode cX13_lays 75 = .ok (.iload 6, 2) := dk_21 6 (dk_at dksX13_lays_3 5 rfl rfl)
theorem dX13_lays_77 : decode cX13_lays 77 = .ok (.iload_n 2, 1) := dk_28 (dk_at dksX13_lays_3 7 rfl rfl)
theorem dX13_lays_78 : decode cX13_lays 78 = .ok (.if_icmp .ge 47, 3) := dk_162 0 47 (dk_at dksX13_lays_3 8 rfl rfl)
theorem dX13_lays_81 : decode cX13_lays 81 = .ok (.aload_n 0, 1) := dk_42 (dk_at dksX13_lays_3 11 rfl rfl)
theorem dX13_lays_82 : decode cX13_lays 82 = .ok (.getfield 125, 3) := dk_180 0 125 (dk_at dksX13_lays_3 12 rfl rfl)
theorem dX13_lays_85 : decode cX13_lays 85 = .ok (.iload 6, 2) := dk_21 6 (dk_at dksX13_lays_3 15 rfl rfl)
theorem dX13_lays_87 : decode cX13_lays 87 = .ok (.aload_n 0, 1) := dk_42 (dk_at dksX13_lays_3 17 rfl rfl)
theorem dX13_lays_88 : decode cX13_lays 88 = .ok (.getfield 115, 3) := dk_180 0 115 (dk_at dksX13_lays_3 18 rfl rfl)
theorem dX13_lays_91 : decode cX13_lays 91 = .ok (.iload_n 1, 1) := dk_27 (dk_at dksX13_lays_3 21 rfl rfl)
theorem dX13_lays_92 : decode cX13_lays 92 = .ok (.iload 6, 2) := dk_21 6 (dk_at dksX13_lays_3 22 rfl rfl)
theorem dX13_lays_94 : decode cX13_lays 94 = .ok (.iload_n 2, 1) := dk_28 (dk_at dksX13_lays_4 0 rfl rfl)
theorem dX13_lays_95 : decode cX13_lays 95 = .ok (.iload 5, 2) := dk_21 5 (dk_at dksX13_lays_4 1 rfl rfl)
theorem dX13_lays_97 : decode cX13_lays 97 = .ok (.isub, 1) := dk_100 (dk_at dksX13_lays_4 3 rfl rfl)
theorem dX13_lays_98 : decode cX13_lays 98 = .ok (.if_icmp .ge 11, 3) := dk_162 0 11 (dk_at dksX13_lays_4 4 rfl rfl)
theorem dX13_lays_101 : decode cX13_lays 101 = .ok (.iload 5, 2) := dk_21 5 (dk_at dksX13_lays_4 7 rfl rfl)
theorem dX13_lays_103 : decode cX13_lays 103 = .ok (.iload 6, 2) := dk_21 6 (dk_at dksX13_lays_4 9 rfl rfl)
theorem dX13_lays_105 : decode cX13_lays 105 = .ok (.iadd, 1) := dk_96 (dk_at dksX13_lays_4 11 rfl rfl)
theorem dX13_lays_106 : decode cX13_lays 106 = .ok (.goto 10, 3) := dk_167 0 10 (dk_at dksX13_lays_4 12 rfl rfl)
theorem dX13_lays_109 : decode cX13_lays 109 = .ok (.iload 6, 2) := dk_21 6 (dk_at dksX13_lays_4 15 rfl rfl)
theorem dX13_lays_111 : decode cX13_lays 111 = .ok (.iload_n 2, 1) := dk_28 (dk_at dksX13_lays_4 17 rfl rfl)
theorem dX13_lays_112 : decode cX13_lays 112 = .ok (.iload 5, 2) := dk_21 5 (dk_at dksX13_lays_4 18 rfl rfl)
theorem dX13_lays_114 : decode cX13_lays 114 = .ok (.isub, 1) := dk_100 (dk_at dksX13_lays_4 20 rfl rfl)
theorem dX13_lays_115 : decode cX13_lays 115 = .ok (.isub, 1) := dk_100 (dk_at dksX13_lays_4 21 rfl rfl)
theorem dX13_lays_116 : decode cX13_lays 116 = .ok (.iadd, 1) := dk_96 (dk_at dksX13_lays_4 22 rfl rfl)
theorem dX13_lays_117 : decode cX13_lays 117 = .ok (.iaload, 1) := dk_46 (dk_at dksX13_lays_4 23 rfl rfl)
theorem dX13_lays_118 : decode cX13_lays 118 = .ok (.iastore, 1) := dk_79 (dk_at dksX13_lays_5 0 rfl rfl)
theorem dX13_lays_119 : decode cX13_lays 119 = .ok (.iinc 6 1, 3) := dk_132 6 1 (dk_at dksX13_lays_5 1 rfl rfl)
theorem dX13_lays_122 : decode cX13_lays 122 = .ok (.goto (-47), 3) := dk_167 255 209 (dk_at dksX13_lays_5 4 rfl rfl)
theorem dX13_lays_125 : decode cX13_lays 125 = .ok (.goto 66, 3) := dk_167 0 66 (dk_at dksX13_lays_5 7 rfl rfl)
theorem dX13_lays_128 : decode cX13_lays 128 = .ok (.bipush 6, 2) := dk_16 6 (dk_at dksX13_lays_5 10 rfl rfl)
theorem dX13_lays_130 : decode cX13_lays 130 = .ok (.istore 5, 2) := dk_54 5 (dk_at dksX13_lays_5 12 rfl rfl)
theorem dX13_lays_132 : decode cX13_lays 132 = .ok (.iload 5, 2) := dk_21 5 (dk_at dksX13_lays_5 14 rfl rfl)
theorem dX13_lays_134 : decode cX13_lays 134 = .ok (.ifCond .lt 28, 3) := dk_155 0 28 (dk_at dksX13_lays_5 16 rfl rfl)
theorem dX13_lays_137 : decode cX13_lays 137 = .ok (.iload_n 3, 1) := dk_29 (dk_at dksX13_lays_5 19 rfl rfl)
theorem dX13_lays_138 : decode cX13_lays 138 = .ok (.iconst 2, 1) := dk_5 (dk_at dksX13_lays_5 20 rfl rfl)
theorem dX13_lays_139 : decode cX13_lays 139 = .ok (.if_icmp .ne 23, 3) := dk_160 0 23 (dk_at dksX13_lays_5 21 rfl rfl)
theorem dX13_lays_142 : decode cX13_lays 142 = .ok (.aload_n 0, 1) := dk_42 (dk_at dksX13_lays_6 0 rfl rfl)
theorem dX13_lays_143 : decode cX13_lays 143 = .ok (.iload_n 1, 1) := dk_27 (dk_at dksX13_lays_6 1 rfl rfl)
theorem dX13_lays_144 : decode cX13_lays 144 = .ok (.iload_n 2, 1) := dk_28 (dk_at dksX13_lays_6 2 rfl rfl)
theorem dX13_lays_145 : decode cX13_lays 145 = .ok (.iload 5, 2) := dk_21 5 (dk_at dksX13_lays_6 3 rfl rfl)
theorem dX13_lays_147 : decode cX13_lays 147 = .ok (.iload 5, 2) := dk_21 5 (dk_at dksX13_lays_6 5 rfl rfl)
theorem dX13_lays_149 : decode cX13_lays 149 = .ok (.iload 4, 2) := dk_21 4 (dk_at dksX13_lays_6 7 rfl rfl)
theorem dX13_lays_151 : decode cX13_lays 151 = .ok (.invokevirtual 319, 3) := dk_182 1 63 (dk_at dksX13_lays_6 9 rfl rfl)
theorem dX13_lays_154 : decode cX13_lays 154 = .ok (.istore 4, 2) := dk_54 4 (dk_at dksX13_lays_6 12 rfl rfl)
theorem dX13_lays_156 : decode cX13_lays 156 = .ok (.iinc 5 (-1), 3) := dk_132 5 255 (dk_at dksX13_lays_6 14 rfl rfl)
theorem dX13_lays_159 : decode cX13_lays 159 = .ok (.goto (-27), 3) := dk_167 255 229 (dk_at dksX13_lays_6 17 rfl rfl)
theorem dX13_lays_162 : decode cX13_lays 162 = .ok (.iload_n 3, 1) := dk_29 (dk_at dksX13_lays_6 20 rfl rfl)
theorem dX13_lays_163 : decode cX13_lays 163 = .ok (.iconst 3, 1) := dk_6 (dk_at dksX13_lays_6 21 rfl rfl)
theorem dX13_lays_164 : decode cX13_lays 164 = .ok (.if_icmp .ne 27, 3) := dk_160 0 27 (dk_at dksX13_lays_7 0 rfl rfl)
theorem dX13_lays_167 : decode cX13_lays 167 = .ok (.aload_n 0, 1) := dk_42 (dk_at dksX13_lays_7 3 rfl rfl)
theorem dX13_lays_168 : decode cX13_lays 168 = .ok (.iload_n 1, 1) := dk_27 (dk_at dksX13_lays_7 4 rfl rfl)
theorem dX13_lays_169 : decode cX13_lays 169 = .ok (.iload_n 2, 1) := dk_28 (dk_at dksX13_lays_7 5 rfl rfl)
theorem dX13_lays_170 : decode cX13_lays 170 = .ok (.iconst 0, 1) := dk_3 (dk_at dksX13_lays_7 6 rfl rfl)
theorem dX13_lays_171 : decode cX13_lays 171 = .ok (.iconst 0, 1) := dk_3 (dk_at dksX13_lays_7 7 rfl rfl)
theorem dX13_lays_172 : decode cX13_lays 172 = .ok (.iload 4, 2) := dk_21 4 (dk_at dksX13_lays_7 8 rfl rfl)
theorem dX13_lays_174 : decode cX13_lays 174 = .ok (.invokevirtual 319, 3) := dk_182 1 63 (dk_at dksX13_lays_7 10 rfl rfl)
theorem dX13_lays_177 : decode cX13_lays 177 = .ok (.istore 4, 2) := dk_54 4 (dk_at dksX13_lays_7 13 rfl rfl)
theorem dX13_lays_179 : decode cX13_lays 179 = .ok (.aload_n 0, 1) := dk_42 (dk_at dksX13_lays_7 15 rfl rfl)
theorem dX13_lays_180 : decode cX13_lays 180 = .ok (.iload_n 1, 1) := dk_27 (dk_at dksX13_lays_7 16 rfl rfl)
theorem dX13_lays_181 : decode cX13_lays 181 = .ok (.iload_n 2, 1) := dk_28 (dk_at dksX13_lays_7 17 rfl rfl)
theorem dX13_lays_182 : decode cX13_lays 182 = .ok (.iconst 1, 1) := dk_4 (dk_at dksX13_lays_7 18 rfl rfl)
theorem dX13_lays_183 : decode cX13_lays 183 = .ok (.bipush 6, 2) := dk_16 6 (dk_at dksX13_lays_7 19 rfl rfl)
theorem dX13_lays_185 : decode cX13_lays 185 = .ok (.iload 4, 2) := dk_21 4 (dk_at dksX13_lays_7 21 rfl rfl)
theorem dX13_lays_187 : decode cX13_lays 187 = .ok (.invokevirtual 319, 3) := dk_182 1 63 (dk_at dksX13_lays_8 0 rfl rfl)
theorem dX13_lays_190 : decode cX13_lays 190 = .ok (.pop, 1) := dk_87 (dk_at dksX13_lays_8 3 rfl rfl)
theorem dX13_lays_191 : decode cX13_lays 191 = .ok (.return_, 1) := dk_177 (dk_at dksX13_lays_8 4 rfl rfl)
abbrev cX13_laysSuch : ByteArray := prog_24_method_50_code
def yX13_laysSuch : MethodName := ⟨RX13, "laysSuch", "(IIIII)I"⟩
def dkwX13_laysSuch_2 : List UInt8 := [42, 180, 0, 115, 27, 21, 7, 96, 46, 79, 132, 6, 1, 132, 7, 1, 167, 255, 200, 21, 6, 172]
abbrev dktX13_laysSuch_2 : List UInt8 := dkwX13_laysSuch_2 ++ []
def dkwX13_laysSuch_1 : List UInt8 := [182, 1, 67, 54, 8, 21, 8, 29, 161, 0, 29, 21, 8, 21, 4, 163, 0, 22, 42, 180, 0, 125, 21, 6]
abbrev dktX13_laysSuch_1 : List UInt8 := dkwX13_laysSuch_1 ++ dktX13_laysSuch_2
def dkwX13_laysSuch_0 : List UInt8 := [21, 5, 54, 6, 3, 54, 7, 21, 7, 28, 162, 0, 56, 42, 42, 180, 0, 115, 27, 21, 7, 96, 46]
abbrev dktX13_laysSuch_0 : List UInt8 := dkwX13_laysSuch_0 ++ dktX13_laysSuch_1
theorem dksX13_laysSuch_0 : cX13_laysSuch.data.toList.drop 0 = dktX13_laysSuch_0 := by decide +kernel
theorem dksX13_laysSuch_1 : cX13_laysSuch.data.toList.drop 23 = dktX13_laysSuch_1 := dk_seg dksX13_laysSuch_0 23 rfl rfl
theorem dksX13_laysSuch_2 : cX13_laysSuch.data.toList.drop 47 = dktX13_laysSuch_2 := dk_seg dksX13_laysSuch_1 24 rfl rfl
theorem dX13_laysSuch_0 : decode cX13_laysSuch 0 = .ok (.iload 5, 2) := dk_21 5 (dk_at dksX13_laysSuch_0 0 rfl rfl)
theorem dX13_laysSuch_2 : decode cX13_laysSuch 2 = .ok (.istore 6, 2) := dk_54 6 (dk_at dksX13_laysSuch_0 2 rfl rfl)
theorem dX13_laysSuch_4 : decode cX13_laysSuch 4 = .ok (.iconst 0, 1) := dk_3 (dk_at dksX13_laysSuch_0 4 rfl rfl)
theorem dX13_laysSuch_5 : decode cX13_laysSuch 5 = .ok (.istore 7, 2) := dk_54 7 (dk_at dksX13_laysSuch_0 5 rfl rfl)
theorem dX13_laysSuch_7 : decode cX13_laysSuch 7 = .ok (.iload 7, 2) := dk_21 7 (dk_at dksX13_laysSuch_0 7 rfl rfl)
theorem dX13_laysSuch_9 : decode cX13_laysSuch 9 = .ok (.iload_n 2, 1) := dk_28 (dk_at dksX13_laysSuch_0 9 rfl rfl)
theorem dX13_laysSuch_10 : decode cX13_laysSuch 10 = .ok (.if_icmp .ge 56, 3) := dk_162 0 56 (dk_at dksX13_laysSuch_0 10 rfl rfl)
theorem dX13_laysSuch_13 : decode cX13_laysSuch 13 = .ok (.aload_n 0, 1) := dk_42 (dk_at dksX13_laysSuch_0 13 rfl rfl)
theorem dX13_laysSuch_14 : decode cX13_laysSuch 14 = .ok (.aload_n 0, 1) := dk_42 (dk_at dksX13_laysSuch_0 14 rfl rfl)
theorem dX13_laysSuch_15 : decode cX13_laysSuch 15 = .ok (.getfield 115, 3) := dk_180 0 115 (dk_at dksX13_laysSuch_0 15 rfl rfl)
theorem dX13_laysSuch_18 : decode cX13_laysSuch 18 = .ok (.iload_n 1, 1) := dk_27 (dk_at dksX13_laysSuch_0 18 rfl rfl)
theorem dX13_laysSuch_19 : decode cX13_laysSuch 19 = .ok (.iload 7, 2) := dk_21 7 (dk_at dksX13_laysSuch_0 19 rfl rfl)
theorem dX13_laysSuch_21 : decode cX13_laysSuch 21 = .ok (.iadd, 1) := dk_96 (dk_at dksX13_laysSuch_0 21 rfl rfl)
theorem dX13_laysSuch_22 : decode cX13_laysSuch 22 = .ok (.iaload, 1) := dk_46 (dk_at dksX13_laysSuch_0 22 rfl rfl)
theorem dX13_laysSuch_23 : decode cX13_laysSuch 23 = .ok (.invokevirtual 323, 3) := dk_182 1 67 (dk_at dksX13_laysSuch_1 0 rfl rfl)
theorem dX13_laysSuch_26 : decode cX13_laysSuch 26 = .ok (.istore 8, 2) := dk_54 8 (dk_at dksX13_laysSuch_1 3 rfl rfl)
theorem dX13_laysSuch_28 : decode cX13_laysSuch 28 = .ok (.iload 8, 2) := dk_21 8 (dk_at dksX13_laysSuch_1 5 rfl rfl)
theorem dX13_laysSuch_30 : decode cX13_laysSuch 30 = .ok (.iload_n 3, 1) := dk_29 (dk_at dksX13_laysSuch_1 7 rfl rfl)
theorem dX13_laysSuch_31 : decode cX13_laysSuch 31 = .ok (.if_icmp .lt 29, 3) := dk_161 0 29 (dk_at dksX13_laysSuch_1 8 rfl rfl)
theorem dX13_laysSuch_34 : decode cX13_laysSuch 34 = .ok (.iload 8, 2) := dk_21 8 (dk_at dksX13_laysSuch_1 11 rfl rfl)
theorem dX13_laysSuch_36 : decode cX13_laysSuch 36 = .ok (.iload 4, 2) := dk_21 4 (dk_at dksX13_laysSuch_1 13 rfl rfl)
theorem dX13_laysSuch_38 : decode cX13_laysSuch 38 = .ok (.if_icmp .gt 22, 3) := dk_163 0 22 (dk_at dksX13_laysSuch_1 15 rfl rfl)
theorem dX13_laysSuch_41 : decode cX13_laysSuch 41 = .ok (.aload_n 0, 1) := dk_42 (dk_at dksX13_laysSuch_1 18 rfl rfl)
theorem dX13_laysSuch_42 : decode cX13_laysSuch 42 = .ok (.getfield 125, 3) := dk_180 0 125 (dk_at dksX13_laysSuch_1 19 rfl rfl)
theorem dX13_laysSuch_45 : decode cX13_laysSuch 45 = .ok (.iload 6, 2) := dk_21 6 (dk_at dksX13_laysSuch_1 22 rfl rfl)
theorem dX13_laysSuch_47 : decode cX13_laysSuch 47 = .ok (.aload_n 0, 1) := dk_42 (dk_at dksX13_laysSuch_2 0 rfl rfl)
theorem dX13_laysSuch_48 : decode cX13_laysSuch 48 = .ok (.getfield 115, 3) := dk_180 0 115 (dk_at dksX13_laysSuch_2 1 rfl rfl)
theorem dX13_laysSuch_51 : decode cX13_laysSuch 51 = .ok (.iload_n 1, 1) := dk_27 (dk_at dksX13_laysSuch_2 4 rfl rfl)
theorem dX13_laysSuch_52 : decode cX13_laysSuch 52 = .ok (.iload 7, 2) := dk_21 7 (dk_at dksX13_laysSuch_2 5 rfl rfl)
theorem dX13_laysSuch_54 : decode cX13_laysSuch 54 = .ok (.iadd, 1) := dk_96 (dk_at dksX13_laysSuch_2 7 rfl rfl)
theorem dX13_laysSuch_55 : decode cX13_laysSuch 55 = .ok (.iaload, 1) := dk_46 (dk_at dksX13_laysSuch_2 8 rfl rfl)
theorem dX13_laysSuch_56 : decode cX13_laysSuch 56 = .ok (.iastore, 1) := dk_79 (dk_at dksX13_laysSuch_2 9 rfl rfl)
theorem dX13_laysSuch_57 : decode cX13_laysSuch 57 = .ok (.iinc 6 1, 3) := dk_132 6 1 (dk_at dksX13_laysSuch_2 10 rfl rfl)
theorem dX13_laysSuch_60 : decode cX13_laysSuch 60 = .ok (.iinc 7 1, 3) := dk_132 7 1 (dk_at dksX13_laysSuch_2 13 rfl rfl)
theorem dX13_laysSuch_63 : decode cX13_laysSuch 63 = .ok (.goto (-56), 3) := dk_167 255 200 (dk_at dksX13_laysSuch_2 16 rfl rfl)
theorem dX13_laysSuch_66 : decode cX13_laysSuch 66 = .ok (.iload 6, 2) := dk_21 6 (dk_at dksX13_laysSuch_2 19 rfl rfl)
theorem dX13_laysSuch_68 : decode cX13_laysSuch 68 = .ok (.ireturn, 1) := dk_172 (dk_at dksX13_laysSuch_2 21 rfl rfl)
abbrev cX13_remembers : ByteArray := prog_24_method_54_code
def yX13_remembers : MethodName := ⟨RX13, "remembers", "(II)V"⟩
def dkwX13_remembers_9 : List UInt8 := [3, 96, 79, 177]
abbrev dktX13_remembers_9 : List UInt8 := dkwX13_remembers_9 ++ []
def dkwX13_remembers_8 : List UInt8 := [42, 180, 0, 115, 16, 12, 92, 46, 42, 180, 0, 115, 16, 12, 46, 16, 40, 162, 0, 7, 4, 167, 0, 4]
abbrev dktX13_remembers_8 : List UInt8 := dkwX13_remembers_8 ++ dktX13_remembers_9
def dkwX13_remembers_7 : List UInt8 := [42, 180, 0, 115, 17, 1, 6, 29, 79, 42, 180, 0, 115, 17, 1, 7, 42, 180, 0, 115, 16, 18, 46, 79]
abbrev dktX13_remembers_7 : List UInt8 := dkwX13_remembers_7 ++ dktX13_remembers_8
def dkwX13_remembers_6 : List UInt8 := [132, 4, 255, 167, 255, 199, 42, 180, 0, 115, 17, 1, 4, 27, 79, 42, 180, 0, 115, 17, 1, 5, 28, 79]
abbrev dktX13_remembers_6 : List UInt8 := dkwX13_remembers_6 ++ dktX13_remembers_7
def dkwX13_remembers_5 : List UInt8 := [180, 0, 115, 17, 1, 4, 7, 21, 4, 104, 96, 7, 100, 21, 5, 96, 46, 79, 132, 5, 1, 167, 255, 213]
abbrev dktX13_remembers_5 : List UInt8 := dkwX13_remembers_5 ++ dktX13_remembers_6
def dkwX13_remembers_4 : List UInt8 := [21, 5, 7, 162, 0, 43, 42, 180, 0, 115, 17, 1, 4, 7, 21, 4, 104, 96, 21, 5, 96, 42]
abbrev dktX13_remembers_4 : List UInt8 := dkwX13_remembers_4 ++ dktX13_remembers_5
def dkwX13_remembers_3 : List UInt8 := [16, 14, 28, 79, 42, 180, 0, 115, 16, 13, 3, 79, 16, 39, 54, 4, 21, 4, 158, 0, 58, 3, 54, 5]
abbrev dktX13_remembers_3 : List UInt8 := dkwX13_remembers_3 ++ dktX13_remembers_4
def dkwX13_remembers_2 : List UInt8 := [182, 1, 67, 158, 0, 7, 4, 167, 0, 4, 3, 96, 62, 132, 4, 1, 167, 255, 201, 42, 180, 0, 115]
abbrev dktX13_remembers_2 : List UInt8 := dkwX13_remembers_2 ++ dktX13_remembers_3
def dkwX13_remembers_1 : List UInt8 := [180, 0, 115, 16, 116, 21, 4, 96, 46, 79, 29, 42, 42, 180, 0, 115, 16, 116, 21, 4, 96, 46]
abbrev dktX13_remembers_1 : List UInt8 := dkwX13_remembers_1 ++ dktX13_remembers_2
def dkwX13_remembers_0 : List UInt8 := [3, 62, 3, 54, 4, 21, 4, 28, 162, 0, 55, 42, 180, 0, 115, 17, 0, 164, 21, 4, 96, 42]
abbrev dktX13_remembers_0 : List UInt8 := dkwX13_remembers_0 ++ dktX13_remembers_1
theorem dksX13_remembers_0 : cX13_remembers.data.toList.drop 0 = dktX13_remembers_0 := by decide +kernel
theorem dksX13_remembers_1 : cX13_remembers.data.toList.drop 22 = dktX13_remembers_1 := dk_seg dksX13_remembers_0 22 rfl rfl
theorem dksX13_remembers_2 : cX13_remembers.data.toList.drop 44 = dktX13_remembers_2 := dk_seg dksX13_remembers_1 22 rfl rfl
theorem dksX13_remembers_3 : cX13_remembers.data.toList.drop 67 = dktX13_remembers_3 := dk_seg dksX13_remembers_2 23 rfl rfl
theorem dksX13_remembers_4 : cX13_remembers.data.toList.drop 91 = dktX13_remembers_4 := dk_seg dksX13_remembers_3 24 rfl rfl
theorem dksX13_remembers_5 : cX13_remembers.data.toList.drop 113 = dktX13_remembers_5 := dk_seg dksX13_remembers_4 22 rfl rfl
theorem dksX13_remembers_6 : cX13_remembers.data.toList.drop 137 = dktX13_remembers_6 := dk_seg dksX13_remembers_5 24 rfl rfl
theorem dksX13_remembers_7 : cX13_remembers.data.toList.drop 161 = dktX13_remembers_7 := dk_seg dksX13_remembers_6 24 rfl rfl
theorem dksX13_remembers_8 : cX13_remembers.data.toList.drop 185 = dktX13_remembers_8 := dk_seg dksX13_remembers_7 24 rfl rfl
theorem dksX13_remembers_9 : cX13_remembers.data.toList.drop 209 = dktX13_remembers_9 := dk_seg dksX13_remembers_8 24 rfl rfl
theorem dX13_remembers_0 : decode cX13_remembers 0 = .ok (.iconst 0, 1) := dk_3 (dk_at dksX13_remembers_0 0 rfl rfl)
theorem dX13_remembers_1 : decode cX13_remembers 1 = .ok (.istore_n 3, 1) := dk_62 (dk_at dksX13_remembers_0 1 rfl rfl)
theorem dX13_remembers_2 : decode cX13_remembers 2 = .ok (.iconst 0, 1) := dk_3 (dk_at dksX13_remembers_0 2 rfl rfl)
theorem dX13_remembers_3 : decode cX13_remembers 3 = .ok (.istore 4, 2) := dk_54 4 (dk_at dksX13_remembers_0 3 rfl rfl)
theorem dX13_remembers_5 : decode cX13_remembers 5 = .ok (.iload 4, 2) := dk_21 4 (dk_at dksX13_remembers_0 5 rfl rfl)
theorem dX13_remembers_7 : decode cX13_remembers 7 = .ok (.iload_n 2, 1) := dk_28 (dk_at dksX13_remembers_0 7 rfl rfl)
theorem dX13_remembers_8 : decode cX13_remembers 8 = .ok (.if_icmp .ge 55, 3) := dk_162 0 55 (dk_at dksX13_remembers_0 8 rfl rfl)
theorem dX13_remembers_11 : decode cX13_remembers 11 = .ok (.aload_n 0, 1) := dk_42 (dk_at dksX13_remembers_0 11 rfl rfl)
theorem dX13_remembers_12 : decode cX13_remembers 12 = .ok (.getfield 115, 3) := dk_180 0 115 (dk_at dksX13_remembers_0 12 rfl rfl)
theorem dX13_remembers_15 : decode cX13_remembers 15 = .ok (.sipush 164, 3) := dk_17 0 164 (dk_at dksX13_remembers_0 15 rfl rfl)
theorem dX13_remembers_18 : decode cX13_remembers 18 = .ok (.iload 4, 2) := dk_21 4 (dk_at dksX13_remembers_0 18 rfl rfl)
theorem dX13_remembers_20 : decode cX13_remembers 20 = .ok (.iadd, 1) := dk_96 (dk_at dksX13_remembers_0 20 rfl rfl)
theorem dX13_remembers_21 : decode cX13_remembers 21 = .ok (.aload_n 0, 1) := dk_42 (dk_at dksX13_remembers_0 21 rfl rfl)
theorem dX13_remembers_22 : decode cX13_remembers 22 = .ok (.getfield 115, 3) := dk_180 0 115 (dk_at dksX13_remembers_1 0 rfl rfl)
theorem dX13_remembers_25 : decode cX13_remembers 25 = .ok (.bipush 116, 2) := dk_16 116 (dk_at dksX13_remembers_1 3 rfl rfl)
theorem dX13_remembers_27 : decode cX13_remembers 27 = .ok (.iload 4, 2) := dk_21 4 (dk_at dksX13_remembers_1 5 rfl rfl)
theorem dX13_remembers_29 : decode cX13_remembers 29 = .ok (.iadd, 1) := dk_96 (dk_at dksX13_remembers_1 7 rfl rfl)
theorem dX13_remembers_30 : decode cX13_remembers 30 = .ok (.iaload, 1) := dk_46 (dk_at dksX13_remembers_1 8 rfl rfl)
theorem dX13_remembers_31 : decode cX13_remembers 31 = .ok (.iastore, 1) := dk_79 (dk_at dksX13_remembers_1 9 rfl rfl)
theorem dX13_remembers_32 : decode cX13_remembers 32 = .ok (.iload_n 3, 1) := dk_29 (dk_at dksX13_remembers_1 10 rfl rfl)
theorem dX13_remembers_33 : decode cX13_remembers 33 = .ok (.aload_n 0, 1) := dk_42 (dk_at dksX13_remembers_1 11 rfl rfl)
theorem dX13_remembers_34 : decode cX13_remembers 34 = .ok (.aload_n 0, 1) := dk_42 (dk_at dksX13_remembers_1 12 rfl rfl)
theorem dX13_remembers_35 : decode cX13_remembers 35 = .ok (.getfield 115, 3) := dk_180 0 115 (dk_at dksX13_remembers_1 13 rfl rfl)
theorem dX13_remembers_38 : decode cX13_remembers 38 = .ok (.bipush 116, 2) := dk_16 116 (dk_at dksX13_remembers_1 16 rfl rfl)
theorem dX13_remembers_40 : decode cX13_remembers 40 = .ok (.iload 4, 2) := dk_21 4 (dk_at dksX13_remembers_1 18 rfl rfl)
theorem dX13_remembers_42 : decode cX13_remembers 42 = .ok (.iadd, 1) := dk_96 (dk_at dksX13_remembers_1 20 rfl rfl)
theorem dX13_remembers_43 : decode cX13_remembers 43 = .ok (.iaload, 1) := dk_46 (dk_at dksX13_remembers_1 21 rfl rfl)
theorem dX13_remembers_44 : decode cX13_remembers 44 = .ok (.invokevirtual 323, 3) := dk_182 1 67 (dk_at dksX13_remembers_2 0 rfl rfl)
theorem dX13_remembers_47 : decode cX13_remembers 47 = .ok (.ifCond .le 7, 3) := dk_158 0 7 (dk_at dksX13_remembers_2 3 rfl rfl)
theorem dX13_remembers_50 : decode cX13_remembers 50 = .ok (.iconst 1, 1) := dk_4 (dk_at dksX13_remembers_2 6 rfl rfl)
theorem dX13_remembers_51 : decode cX13_remembers 51 = .ok (.goto 4, 3) := dk_167 0 4 (dk_at dksX13_remembers_2 7 rfl rfl)
theorem dX13_remembers_54 : decode cX13_remembers 54 = .ok (.iconst 0, 1) := dk_3 (dk_at dksX13_remembers_2 10 rfl rfl)
theorem dX13_remembers_55 : decode cX13_remembers 55 = .ok (.iadd, 1) := dk_96 (dk_at dksX13_remembers_2 11 rfl rfl)
theorem dX13_remembers_56 : decode cX13_remembers 56 = .ok (.istore_n 3, 1) := dk_62 (dk_at dksX13_remembers_2 12 rfl rfl)
theorem dX13_remembers_57 : decode cX13_remembers 57 = .ok (.iinc 4 1, 3) := dk_132 4 1 (dk_at dksX13_remembers_2 13 rfl rfl)
theorem dX13_remembers_60 : decode cX13_remembers 60 = .ok (.goto (-55), 3) := dk_167 255 201 (dk_at dksX13_remembers_2 16 rfl rfl)
theorem dX13_remembers_63 : decode cX13_remembers 63 = .ok (.aload_n 0, 1) := dk_42 (dk_at dksX13_remembers_2 19 rfl rfl)
theorem dX13_remembers_64 : decode cX13_remembers 64 = .ok (.getfield 115, 3) := dk_180 0 115 (dk_at dksX13_remembers_2 20 rfl rfl)
theorem dX13_remembers_67 : decode cX13_remembers 67 = .ok (.bipush 14, 2) := dk_16 14 (dk_at dksX13_remembers_3 0 rfl rfl)
theorem dX13_remembers_69 : decode cX13_remembers 69 = .ok (.iload_n 2, 1) := dk_28 (dk_at dksX13_remembers_3 2 rfl rfl)
theorem dX13_remembers_70 : decode cX13_remembers 70 = .ok (.iastore, 1) := dk_79 (dk_at dksX13_remembers_3 3 rfl rfl)
theorem dX13_remembers_71 : decode cX13_remembers 71 = .ok (.aload_n 0, 1) := dk_42 (dk_at dksX13_remembers_3 4 rfl rfl)
theorem dX13_remembers_72 : decode cX13_remembers 72 = .ok (.getfield 115, 3) := dk_180 0 115 (dk_at dksX13_remembers_3 5 rfl rfl)
theorem dX13_remembers_75 : decode cX13_remembers 75 = .ok (.bipush 13, 2) := dk_16 13 (dk_at dksX13_remembers_3 8 rfl rfl)
theorem dX13_remembers_77 : decode cX13_remembers 77 = .ok (.iconst 0, 1) := dk_3 (dk_at dksX13_remembers_3 10 rfl rfl)
theorem dX13_remembers_78 : decode cX13_remembers 78 = .ok (.iastore, 1) := dk_79 (dk_at dksX13_remembers_3 11 rfl rfl)
theorem dX13_remembers_79 : decode cX13_remembers 79 = .ok (.bipush 39, 2) := dk_16 39 (dk_at dksX13_remembers_3 12 rfl rfl)
theorem dX13_remembers_81 : decode cX13_remembers 81 = .ok (.istore 4, 2) := dk_54 4 (dk_at dksX13_remembers_3 14 rfl rfl)
theorem dX13_remembers_83 : decode cX13_remembers 83 = .ok (.iload 4, 2) := dk_21 4 (dk_at dksX13_remembers_3 16 rfl rfl)
theorem dX13_remembers_85 : decode cX13_remembers 85 = .ok (.ifCond .le 58, 3) := dk_158 0 58 (dk_at dksX13_remembers_3 18 rfl rfl)
theorem dX13_remembers_88 : decode cX13_remembers 88 = .ok (.iconst 0, 1) := dk_3 (dk_at dksX13_remembers_3 21 rfl rfl)
theorem dX13_remembers_89 : decode cX13_remembers 89 = .ok (.istore 5, 2) := dk_54 5 (dk_at dksX13_remembers_3 22 rfl rfl)
theorem dX13_remembers_91 : decode cX13_remembers 91 = .ok (.iload 5, 2) := dk_21 5 (dk_at dksX13_remembers_4 0 rfl rfl)
theorem dX13_remembers_93 : decode cX13_remembers 93 = .ok (.iconst 4, 1) := dk_7 (dk_at dksX13_remembers_4 2 rfl rfl)
theorem dX13_remembers_94 : decode cX13_remembers 94 = .ok (.if_icmp .ge 43, 3) := dk_162 0 43 (dk_at dksX13_remembers_4 3 rfl rfl)
theorem dX13_remembers_97 : decode cX13_remembers 97 = .ok (.aload_n 0, 1) := dk_42 (dk_at dksX13_remembers_4 6 rfl rfl)
theorem dX13_remembers_98 : decode cX13_remembers 98 = .ok (.getfield 115, 3) := dk_180 0 115 (dk_at dksX13_remembers_4 7 rfl rfl)
theorem dX13_remembers_101 : decode cX13_remembers 101 = .ok (.sipush 260, 3) := dk_17 1 4 (dk_at dksX13_remembers_4 10 rfl rfl)
theorem dX13_remembers_104 : decode cX13_remembers 104 = .ok (.iconst 4, 1) := dk_7 (dk_at dksX13_remembers_4 13 rfl rfl)
theorem dX13_remembers_105 : decode cX13_remembers 105 = .ok (.iload 4, 2) := dk_21 4 (dk_at dksX13_remembers_4 14 rfl rfl)
theorem dX13_remembers_107 : decode cX13_remembers 107 = .ok (.imul, 1) := dk_104 (dk_at dksX13_remembers_4 16 rfl rfl)
theorem dX13_remembers_108 : decode cX13_remembers 108 = .ok (.iadd, 1) := dk_96 (dk_at dksX13_remembers_4 17 rfl rfl)
theorem dX13_remembers_109 : decode cX13_remembers 109 = .ok (.iload 5, 2) := dk_21 5 (dk_at dksX13_remembers_4 18 rfl rfl)
theorem dX13_remembers_111 : decode cX13_remembers 111 = .ok (.iadd, 1) := dk_96 (dk_at dksX13_remembers_4 20 rfl rfl)
theorem dX13_remembers_112 : decode cX13_remembers 112 = .ok (.aload_n 0, 1) := dk_42 (dk_at dksX13_remembers_4 21 rfl rfl)
theorem dX13_remembers_113 : decode cX13_remembers 113 = .ok (.getfield 115, 3) := dk_180 0 115 (dk_at dksX13_remembers_5 0 rfl rfl)
theorem dX13_remembers_116 : decode cX13_remembers 116 = .ok (.sipush 260, 3) := dk_17 1 4 (dk_at dksX13_remembers_5 3 rfl rfl)
theorem dX13_remembers_119 : decode cX13_remembers 119 = .ok (.iconst 4, 1) := dk_7 (dk_at dksX13_remembers_5 6 rfl rfl)
theorem dX13_remembers_120 : decode cX13_remembers 120 = .ok (.iload 4, 2) := dk_21 4 (dk_at dksX13_remembers_5 7 rfl rfl)
theorem dX13_remembers_122 : decode cX13_remembers 122 = .ok (.imul, 1) := dk_104 (dk_at dksX13_remembers_5 9 rfl rfl)
theorem dX13_remembers_123 : decode cX13_remembers 123 = .ok (.iadd, 1) := dk_96 (dk_at dksX13_remembers_5 10 rfl rfl)
theorem dX13_remembers_124 : decode cX13_remembers 124 = .ok (.iconst 4, 1) := dk_7 (dk_at dksX13_remembers_5 11 rfl rfl)
theorem dX13_remembers_125 : decode cX13_remembers 125 = .ok (.isub, 1) := dk_100 (dk_at dksX13_remembers_5 12 rfl rfl)
theorem dX13_remembers_126 : decode cX13_remembers 126 = .ok (.iload 5, 2) := dk_21 5 (dk_at dksX13_remembers_5 13 rfl rfl)
theorem dX13_remembers_128 : decode cX13_remembers 128 = .ok (.iadd, 1) := dk_96 (dk_at dksX13_remembers_5 15 rfl rfl)
theorem dX13_remembers_129 : decode cX13_remembers 129 = .ok (.iaload, 1) := dk_46 (dk_at dksX13_remembers_5 16 rfl rfl)
theorem dX13_remembers_130 : decode cX13_remembers 130 = .ok (.iastore, 1) := dk_79 (dk_at dksX13_remembers_5 17 rfl rfl)
theorem dX13_remembers_131 : decode cX13_remembers 131 = .ok (.iinc 5 1, 3) := dk_132 5 1 (dk_at dksX13_remembers_5 18 rfl rfl)
theorem dX13_remembers_134 : decode cX13_remembers 134 = .ok (.goto (-43), 3) := dk_167 255 213 (dk_at dksX13_remembers_5 21 rfl rfl)
theorem dX13_remembers_137 : decode cX13_remembers 137 = .ok (.iinc 4 (-1), 3) := dk_132 4 255 (dk_at dksX13_remembers_6 0 rfl rfl)
theorem dX13_remembers_140 : decode cX13_remembers 140 = .ok (.goto (-57), 3) := dk_167 255 199 (dk_at dksX13_remembers_6 3 rfl rfl)
theorem dX13_remembers_143 : decode cX13_remembers 143 = .ok (.aload_n 0, 1) := dk_42 (dk_at dksX13_remembers_6 6 rfl rfl)
theorem dX13_remembers_144 : decode cX13_remembers 144 = .ok (.getfield 115, 3) := dk_180 0 115 (dk_at dksX13_remembers_6 7 rfl rfl)
theorem dX13_remembers_147 : decode cX13_remembers 147 = .ok (.sipush 260, 3) := dk_17 1 4 (dk_at dksX13_remembers_6 10 rfl rfl)
theorem dX13_remembers_150 : decode cX13_remembers 150 = .ok (.iload_n 1, 1) := dk_27 (dk_at dksX13_remembers_6 13 rfl rfl)
theorem dX13_remembers_151 : decode cX13_remembers 151 = .ok (.iastore, 1) := dk_79 (dk_at dksX13_remembers_6 14 rfl rfl)
theorem dX13_remembers_152 : decode cX13_remembers 152 = .ok (.aload_n 0, 1) := dk_42 (dk_at dksX13_remembers_6 15 rfl rfl)
theorem dX13_remembers_153 : decode cX13_remembers 153 = .ok (.getfield 115, 3) := dk_180 0 115 (dk_at dksX13_remembers_6 16 rfl rfl)
theorem dX13_remembers_156 : decode cX13_remembers 156 = .ok (.sipush 261, 3) := dk_17 1 5 (dk_at dksX13_remembers_6 19 rfl rfl)
theorem dX13_remembers_159 : decode cX13_remembers 159 = .ok (.iload_n 2, 1) := dk_28 (dk_at dksX13_remembers_6 22 rfl rfl)
theorem dX13_remembers_160 : decode cX13_remembers 160 = .ok (.iastore, 1) := dk_79 (dk_at dksX13_remembers_6 23 rfl rfl)
theorem dX13_remembers_161 : decode cX13_remembers 161 = .ok (.aload_n 0, 1) := dk_42 (dk_at dksX13_remembers_7 0 rfl rfl)
theorem dX13_remembers_162 : decode cX13_remembers 162 = .ok (.getfield 115, 3) := dk_180 0 115 (dk_at dksX13_remembers_7 1 rfl rfl)
theorem dX13_remembers_165 : decode cX13_remembers 165 = .ok (.sipush 262, 3) := dk_17 1 6 (dk_at dksX13_remembers_7 4 rfl rfl)
theorem dX13_remembers_168 : decode cX13_remembers 168 = .ok (.iload_n 3, 1) := dk_29 (dk_at dksX13_remembers_7 7 rfl rfl)
theorem dX13_remembers_169 : decode cX13_remembers 169 = .ok (.iastore, 1) := dk_79 (dk_at dksX13_remembers_7 8 rfl rfl)
theorem dX13_remembers_170 : decode cX13_remembers 170 = .ok (.aload_n 0, 1) := dk_42 (dk_at dksX13_remembers_7 9 rfl rfl)
theorem dX13_remembers_171 : decode cX13_remembers 171 = .ok (.getfield 115, 3) := dk_180 0 115 (dk_at dksX13_remembers_7 10 rfl rfl)
theorem dX13_remembers_174 : decode cX13_remembers 174 = .ok (.sipush 263, 3) := dk_17 1 7 (dk_at dksX13_remembers_7 13 rfl rfl)
theorem dX13_remembers_177 : decode cX13_remembers 177 = .ok (.aload_n 0, 1) := dk_42 (dk_at dksX13_remembers_7 16 rfl rfl)
theorem dX13_remembers_178 : decode cX13_remembers 178 = .ok (.getfield 115, 3) := dk_180 0 115 (dk_at dksX13_remembers_7 17 rfl rfl)
theorem dX13_remembers_181 : decode cX13_remembers 181 = .ok (.bipush 18, 2) := dk_16 18 (dk_at dksX13_remembers_7 20 rfl rfl)
theorem dX13_remembers_183 : decode cX13_remembers 183 = .ok (.iaload, 1) := dk_46 (dk_at dksX13_remembers_7 22 rfl rfl)
theorem dX13_remembers_184 : decode cX13_remembers 184 = .ok (.iastore, 1) := dk_79 (dk_at dksX13_remembers_7 23 rfl rfl)
theorem dX13_remembers_185 : decode cX13_remembers 185 = .ok (.aload_n 0, 1) := dk_42 (dk_at dksX13_remembers_8 0 rfl rfl)
theorem dX13_remembers_186 : decode cX13_remembers 186 = .ok (.getfield 115, 3) := dk_180 0 115 (dk_at dksX13_remembers_8 1 rfl rfl)
theorem dX13_remembers_189 : decode cX13_remembers 189 = .ok (.bipush 12, 2) := dk_16 12 (dk_at dksX13_remembers_8 4 rfl rfl)
theorem dX13_remembers_191 : decode cX13_remembers 191 = .ok (.dup2, 1) := dk_92 (dk_at dksX13_remembers_8 6 rfl rfl)
theorem dX13_remembers_192 : decode cX13_remembers 192 = .ok (.iaload, 1) := dk_46 (dk_at dksX13_remembers_8 7 rfl rfl)
theorem dX13_remembers_193 : decode cX13_remembers 193 = .ok (.aload_n 0, 1) := dk_42 (dk_at dksX13_remembers_8 8 rfl rfl)
theorem dX13_remembers_194 : decode cX13_remembers 194 = .ok (.getfield 115, 3) := dk_180 0 115 (dk_at dksX13_remembers_8 9 rfl rfl)
theorem dX13_remembers_197 : decode cX13_remembers 197 = .ok (.bipush 12, 2) := dk_16 12 (dk_at dksX13_remembers_8 12 rfl rfl)
theorem dX13_remembers_199 : decode cX13_remembers 199 = .ok (.iaload, 1) := dk_46 (dk_at dksX13_remembers_8 14 rfl rfl)
theorem dX13_remembers_200 : decode cX13_remembers 200 = .ok (.bipush 40, 2) := dk_16 40 (dk_at dksX13_remembers_8 15 rfl rfl)
theorem dX13_remembers_202 : decode cX13_remembers 202 = .ok (.if_icmp .ge 7, 3) := dk_162 0 7 (dk_at dksX13_remembers_8 17 rfl rfl)
theorem dX13_remembers_205 : decode cX13_remembers 205 = .ok (.iconst 1, 1) := dk_4 (dk_at dksX13_remembers_8 20 rfl rfl)
theorem dX13_remembers_206 : decode cX13_remembers 206 = .ok (.goto 4, 3) := dk_167 0 4 (dk_at dksX13_remembers_8 21 rfl rfl)
theorem dX13_remembers_209 : decode cX13_remembers 209 = .ok (.iconst 0, 1) := dk_3 (dk_at dksX13_remembers_9 0 rfl rfl)
theorem dX13_remembers_210 : decode cX13_remembers 210 = .ok (.iadd, 1) := dk_96 (dk_at dksX13_remembers_9 1 rfl rfl)
theorem dX13_remembers_211 : decode cX13_remembers 211 = .ok (.iastore, 1) := dk_79 (dk_at dksX13_remembers_9 2 rfl rfl)
theorem dX13_remembers_212 : decode cX13_remembers 212 = .ok (.return_, 1) := dk_177 (dk_at dksX13_remembers_9 3 rfl rfl)
abbrev cX13_slip : ByteArray := prog_24_method_65_code
def yX13_slip : MethodName := ⟨RX13, "slip", "(I)Z"⟩
def dkwX13_slip_7 : List UInt8 := [167, 255, 220, 42, 180, 0, 115, 29, 42, 180, 0, 115, 3, 28, 96, 46, 96, 4, 100, 21, 4, 79, 4, 172]
abbrev dktX13_slip_7 : List UInt8 := dkwX13_slip_7 ++ []
def dkwX13_slip_6 : List UInt8 := [180, 0, 115, 29, 21, 5, 96, 4, 100, 42, 180, 0, 115, 29, 21, 5, 96, 46, 79, 132, 5, 1]
abbrev dktX13_slip_6 : List UInt8 := dkwX13_slip_6 ++ dktX13_slip_7
def dkwX13_slip_5 : List UInt8 := [180, 0, 115, 29, 46, 54, 4, 4, 54, 5, 21, 5, 42, 180, 0, 115, 3, 28, 96, 46, 162, 0, 29, 42]
abbrev dktX13_slip_5 : List UInt8 := dkwX13_slip_5 ++ dktX13_slip_6
def dkwX13_slip_4 : List UInt8 := [160, 0, 14, 42, 180, 0, 115, 16, 11, 4, 79, 167, 0, 80, 16, 20, 16, 48, 28, 104, 96, 62, 42]
abbrev dktX13_slip_4 : List UInt8 := dkwX13_slip_4 ++ dktX13_slip_5
def dkwX13_slip_3 : List UInt8 := [182, 1, 101, 27, 154, 0, 17, 42, 3, 182, 1, 70, 87, 42, 3, 182, 1, 107, 167, 0, 96, 27, 4]
abbrev dktX13_slip_3 : List UInt8 := dkwX13_slip_3 ++ dktX13_slip_4
def dkwX13_slip_2 : List UInt8 := [159, 0, 20, 27, 4, 159, 0, 17, 42, 180, 0, 115, 3, 28, 96, 46, 5, 162, 0, 5, 3, 172, 42]
abbrev dktX13_slip_2 : List UInt8 := dkwX13_slip_2 ++ dktX13_slip_3
def dkwX13_slip_1 : List UInt8 := [180, 0, 115, 16, 8, 46, 156, 0, 36, 27, 4, 160, 0, 14, 42, 180, 0, 115, 16, 11, 46, 4]
abbrev dktX13_slip_1 : List UInt8 := dkwX13_slip_1 ++ dktX13_slip_2
def dkwX13_slip_0 : List UInt8 := [42, 3, 181, 0, 1, 42, 180, 0, 115, 6, 46, 61, 27, 3, 5, 184, 1, 91, 153, 0, 46, 42]
abbrev dktX13_slip_0 : List UInt8 := dkwX13_slip_0 ++ dktX13_slip_1
theorem dksX13_slip_0 : cX13_slip.data.toList.drop 0 = dktX13_slip_0 := by decide +kernel
theorem dksX13_slip_1 : cX13_slip.data.toList.drop 22 = dktX13_slip_1 := dk_seg dksX13_slip_0 22 rfl rfl
theorem dksX13_slip_2 : cX13_slip.data.toList.drop 44 = dktX13_slip_2 := dk_seg dksX13_slip_1 22 rfl rfl
theorem dksX13_slip_3 : cX13_slip.data.toList.drop 67 = dktX13_slip_3 := dk_seg dksX13_slip_2 23 rfl rfl
theorem dksX13_slip_4 : cX13_slip.data.toList.drop 90 = dktX13_slip_4 := dk_seg dksX13_slip_3 23 rfl rfl
theorem dksX13_slip_5 : cX13_slip.data.toList.drop 113 = dktX13_slip_5 := dk_seg dksX13_slip_4 23 rfl rfl
theorem dksX13_slip_6 : cX13_slip.data.toList.drop 137 = dktX13_slip_6 := dk_seg dksX13_slip_5 24 rfl rfl
theorem dksX13_slip_7 : cX13_slip.data.toList.drop 159 = dktX13_slip_7 := dk_seg dksX13_slip_6 22 rfl rfl
theorem dX13_slip_0 : decode cX13_slip 0 = .ok (.aload_n 0, 1) := dk_42 (dk_at dksX13_slip_0 0 rfl rfl)
theorem dX13_slip_1 : decode cX13_slip 1 = .ok (.iconst 0, 1) := dk_3 (dk_at dksX13_slip_0 1 rfl rfl)
theorem dX13_slip_2 : decode cX13_slip 2 = .ok (.putfield 1, 3) := dk_181 0 1 (dk_at dksX13_slip_0 2 rfl rfl)
theorem dX13_slip_5 : decode cX13_slip 5 = .ok (.aload_n 0, 1) := dk_42 (dk_at dksX13_slip_0 5 rfl rfl)
theorem dX13_slip_6 : decode cX13_slip 6 = .ok (.getfield 115, 3) := dk_180 0 115 (dk_at dksX13_slip_0 6 rfl rfl)
theorem dX13_slip_9 : decode cX13_slip 9 = .ok (.iconst 3, 1) := dk_6 (dk_at dksX13_slip_0 9 rfl rfl)
theorem dX13_slip_10 : decode cX13_slip 10 = .ok (.iaload, 1) := dk_46 (dk_at dksX13_slip_0 10 rfl rfl)
theorem dX13_slip_11 : decode cX13_slip 11 = .ok (.istore_n 2, 1) := dk_61 (dk_at dksX13_slip_0 11 rfl rfl)
theorem dX13_slip_12 : decode cX13_slip 12 = .ok (.iload_n 1, 1) := dk_27 (dk_at dksX13_slip_0 12 rfl rfl)
theorem dX13_slip_13 : decode cX13_slip 13 = .ok (.iconst 0, 1) := dk_3 (dk_at dksX13_slip_0 13 rfl rfl)
theorem dX13_slip_14 : decode cX13_slip 14 = .ok (.iconst 2, 1) := dk_5 (dk_at dksX13_slip_0 14 rfl rfl)
theorem dX13_slip_15 : decode cX13_slip 15 = .ok (.invokestatic 347, 3) := dk_184 1 91 (dk_at dksX13_slip_0 15 rfl rfl)
theorem dX13_slip_18 : decode cX13_slip 18 = .ok (.ifCond .eq 46, 3) := dk_153 0 46 (dk_at dksX13_slip_0 18 rfl rfl)
theorem dX13_slip_21 : decode cX13_slip 21 = .ok (.aload_n 0, 1) := dk_42 (dk_at dksX13_slip_0 21 rfl rfl)
theorem dX13_slip_22 : decode cX13_slip 22 = .ok (.getfield 115, 3) := dk_180 0 115 (dk_at dksX13_slip_1 0 rfl rfl)
theorem dX13_slip_25 : decode cX13_slip 25 = .ok (.bipush 8, 2) := dk_16 8 (dk_at dksX13_slip_1 3 rfl rfl)
theorem dX13_slip_27 : decode cX13_slip 27 = .ok (.iaload, 1) := dk_46 (dk_at dksX13_slip_1 5 rfl rfl)
theorem dX13_slip_28 : decode cX13_slip 28 = .ok (.ifCond .ge 36, 3) := dk_156 0 36 (dk_at dksX13_slip_1 6 rfl rfl)
theorem dX13_slip_31 : decode cX13_slip 31 = .ok (.iload_n 1, 1) := dk_27 (dk_at dksX13_slip_1 9 rfl rfl)
theorem dX13_slip_32 : decode cX13_slip 32 = .ok (.iconst 1, 1) := dk_4 (dk_at dksX13_slip_1 10 rfl rfl)
theorem dX13_slip_33 : decode cX13_slip 33 = .ok (.if_icmp .ne 14, 3) := dk_160 0 14 (dk_at dksX13_slip_1 11 rfl rfl)
theorem dX13_slip_36 : decode cX13_slip 36 = .ok (.aload_n 0, 1) := dk_42 (dk_at dksX13_slip_1 14 rfl rfl)
theorem dX13_slip_37 : decode cX13_slip 37 = .ok (.getfield 115, 3) := dk_180 0 115 (dk_at dksX13_slip_1 15 rfl rfl)
theorem dX13_slip_40 : decode cX13_slip 40 = .ok (.bipush 11, 2) := dk_16 11 (dk_at dksX13_slip_1 18 rfl rfl)
theorem dX13_slip_42 : decode cX13_slip 42 = .ok (.iaload, 1) := dk_46 (dk_at dksX13_slip_1 20 rfl rfl)
theorem dX13_slip_43 : decode cX13_slip 43 = .ok (.iconst 1, 1) := dk_4 (dk_at dksX13_slip_1 21 rfl rfl)
theorem dX13_slip_44 : decode cX13_slip 44 = .ok (.if_icmp .eq 20, 3) := dk_159 0 20 (dk_at dksX13_slip_2 0 rfl rfl)
theorem dX13_slip_47 : decode cX13_slip 47 = .ok (.iload_n 1, 1) := dk_27 (dk_at dksX13_slip_2 3 rfl rfl)
theorem dX13_slip_48 : decode cX13_slip 48 = .ok (.iconst 1, 1) := dk_4 (dk_at dksX13_slip_2 4 rfl rfl)
theorem dX13_slip_49 : decode cX13_slip 49 = .ok (.if_icmp .eq 17, 3) := dk_159 0 17 (dk_at dksX13_slip_2 5 rfl rfl)
theorem dX13_slip_52 : decode cX13_slip 52 = .ok (.aload_n 0, 1) := dk_42 (dk_at dksX13_slip_2 8 rfl rfl)
theorem dX13_slip_53 : decode cX13_slip 53 = .ok (.getfield 115, 3) := dk_180 0 115 (dk_at dksX13_slip_2 9 rfl rfl)
theorem dX13_slip_56 : decode cX13_slip 56 = .ok (.iconst 0, 1) := dk_3 (dk_at dksX13_slip_2 12 rfl rfl)
theorem dX13_slip_57 : decode cX13_slip 57 = .ok (.iload_n 2, 1) := dk_28 (dk_at dksX13_slip_2 13 rfl rfl)
theorem dX13_slip_58 : decode cX13_slip 58 = .ok (.iadd, 1) := dk_96 (dk_at dksX13_slip_2 14 rfl rfl)
theorem dX13_slip_59 : decode cX13_slip 59 = .ok (.iaload, 1) := dk_46 (dk_at dksX13_slip_2 15 rfl rfl)
theorem dX13_slip_60 : decode cX13_slip 60 = .ok (.iconst 2, 1) := dk_5 (dk_at dksX13_slip_2 16 rfl rfl)
theorem dX13_slip_61 : decode cX13_slip 61 = .ok (.if_icmp .ge 5, 3) := dk_162 0 5 (dk_at dksX13_slip_2 17 rfl rfl)
theorem dX13_slip_64 : decode cX13_slip 64 = .ok (.iconst 0, 1) := dk_3 (dk_at dksX13_slip_2 20 rfl rfl)
theorem dX13_slip_65 : decode cX13_slip 65 = .ok (.ireturn, 1) := dk_172 (dk_at dksX13_slip_2 21 rfl rfl)
theorem dX13_slip_66 : decode cX13_slip 66 = .ok (.aload_n 0, 1) := dk_42 (dk_at dksX13_slip_2 22 rfl rfl)
theorem dX13_slip_67 : decode cX13_slip 67 = .ok (.invokevirtual 357, 3) := dk_182 1 101 (dk_at dksX13_slip_3 0 rfl rfl)
theorem dX13_slip_70 : decode cX13_slip 70 = .ok (.iload_n 1, 1) := dk_27 (dk_at dksX13_slip_3 3 rfl rfl)
theorem dX13_slip_71 : decode cX13_slip 71 = .ok (.ifCond .ne 17, 3) := dk_154 0 17 (dk_at dksX13_slip_3 4 rfl rfl)
theorem dX13_slip_74 : decode cX13_slip 74 = .ok (.aload_n 0, 1) := dk_42 (dk_at dksX13_slip_3 7 rfl rfl)
theorem dX13_slip_75 : decode cX13_slip 75 = .ok (.iconst 0, 1) := dk_3 (dk_at dksX13_slip_3 8 rfl rfl)
theorem dX13_slip_76 : decode cX13_slip 76 = .ok (.invokevirtual 326, 3) := dk_182 1 70 (dk_at dksX13_slip_3 9 rfl rfl)
theorem dX13_slip_79 : decode cX13_slip 79 = .ok (.pop, 1) := dk_87 (dk_at dksX13_slip_3 12 rfl rfl)
theorem dX13_slip_80 : decode cX13_slip 80 = .ok (.aload_n 0, 1) := dk_42 (dk_at dksX13_slip_3 13 rfl rfl)
theorem dX13_slip_81 : decode cX13_slip 81 = .ok (.iconst 0, 1) := dk_3 (dk_at dksX13_slip_3 14 rfl rfl)
theorem dX13_slip_82 : decode cX13_slip 82 = .ok (.invokevirtual 363, 3) := dk_182 1 107 (dk_at dksX13_slip_3 15 rfl rfl)
theorem dX13_slip_85 : decode cX13_slip 85 = .ok (.goto 96, 3) := dk_167 0 96 (dk_at dksX13_slip_3 18 rfl rfl)
theorem dX13_slip_88 : decode cX13_slip 88 = .ok (.iload_n 1, 1) := dk_27 (dk_at dksX13_slip_3 21 rfl rfl)
theorem dX13_slip_89 : decode cX13_slip 89 = .ok (.iconst 1, 1) := dk_4 (dk_at dksX13_slip_3 22 rfl rfl)
theorem dX13_slip_90 : decode cX13_slip 90 = .ok (.if_icmp .ne 14, 3) := dk_160 0 14 (dk_at dksX13_slip_4 0 rfl rfl)
theorem dX13_slip_93 : decode cX13_slip 93 = .ok (.aload_n 0, 1) := dk_42 (dk_at dksX13_slip_4 3 rfl rfl)
theorem dX13_slip_94 : decode cX13_slip 94 = .ok (.getfield 115, 3) := dk_180 0 115 (dk_at dksX13_slip_4 4 rfl rfl)
theorem dX13_slip_97 : decode cX13_slip 97 = .ok (.bipush 11, 2) := dk_16 11 (dk_at dksX13_slip_4 7 rfl rfl)
theorem dX13_slip_99 : decode cX13_slip 99 = .ok (.iconst 1, 1) := dk_4 (dk_at dksX13_slip_4 9 rfl rfl)
theorem dX13_slip_100 : decode cX13_slip 100 = .ok (.iastore, 1) := dk_79 (dk_at dksX13_slip_4 10 rfl rfl)
theorem dX13_slip_101 : decode cX13_slip 101 = .ok (.goto 80, 3) := dk_167 0 80 (dk_at dksX13_slip_4 11 rfl rfl)
theorem dX13_slip_104 : decode cX13_slip 104 = .ok (.bipush 20, 2) := dk_16 20 (dk_at dksX13_slip_4 14 rfl rfl)
theorem dX13_slip_106 : decode cX13_slip 106 = .ok (.bipush 48, 2) := dk_16 48 (dk_at dksX13_slip_4 16 rfl rfl)
theorem dX13_slip_108 : decode cX13_slip 108 = .ok (.iload_n 2, 1) := dk_28 (dk_at dksX13_slip_4 18 rfl rfl)
theorem dX13_slip_109 : decode cX13_slip 109 = .ok (.imul, 1) := dk_104 (dk_at dksX13_slip_4 19 rfl rfl)
theorem dX13_slip_110 : decode cX13_slip 110 = .ok (.iadd, 1) := dk_96 (dk_at dksX13_slip_4 20 rfl rfl)
theorem dX13_slip_111 : decode cX13_slip 111 = .ok (.istore_n 3, 1) := dk_62 (dk_at dksX13_slip_4 21 rfl rfl)
theorem dX13_slip_112 : decode cX13_slip 112 = .ok (.aload_n 0, 1) := dk_42 (dk_at dksX13_slip_4 22 rfl rfl)
theorem dX13_slip_113 : decode cX13_slip 113 = .ok (.getfield 115, 3) := dk_180 0 115 (dk_at dksX13_slip_5 0 rfl rfl)
theorem dX13_slip_116 : decode cX13_slip 116 = .ok (.iload_n 3, 1) := dk_29 (dk_at dksX13_slip_5 3 rfl rfl)
theorem dX13_slip_117 : decode cX13_slip 117 = .ok (.iaload, 1) := dk_46 (dk_at dksX13_slip_5 4 rfl rfl)
theorem dX13_slip_118 : decode cX13_slip 118 = .ok (.istore 4, 2) := dk_54 4 (dk_at dksX13_slip_5 5 rfl rfl)
theorem dX13_slip_120 : decode cX13_slip 120 = .ok (.iconst 1, 1) := dk_4 (dk_at dksX13_slip_5 7 rfl rfl)
theorem dX13_slip_121 : decode cX13_slip 121 = .ok (.istore 5, 2) := dk_54 5 (dk_at dksX13_slip_5 8 rfl rfl)
theorem dX13_slip_123 : decode cX13_slip 123 = .ok (.iload 5, 2) := dk_21 5 (dk_at dksX13_slip_5 10 rfl rfl)
theorem dX13_slip_125 : decode cX13_slip 125 = .ok (.aload_n 0, 1) := dk_42 (dk_at dksX13_slip_5 12 rfl rfl)
theorem dX13_slip_126 : decode cX13_slip 126 = .ok (.getfield 115, 3) := dk_180 0 115 (dk_at dksX13_slip_5 13 rfl rfl)
theorem dX13_slip_129 : decode cX13_slip 129 = .ok (.iconst 0, 1) := dk_3 (dk_at dksX13_slip_5 16 rfl rfl)
theorem dX13_slip_130 : decode cX13_slip 130 = .ok (.iload_n 2, 1) := dk_28 (dk_at dksX13_slip_5 17 rfl rfl)
theorem dX13_slip_131 : decode cX13_slip 131 = .ok (.iadd, 1) := dk_96 (dk_at dksX13_slip_5 18 rfl rfl)
theorem dX13_slip_132 : decode cX13_slip 132 = .ok (.iaload, 1) := dk_46 (dk_at dksX13_slip_5 19 rfl rfl)
theorem dX13_slip_133 : decode cX13_slip 133 = .ok (.if_icmp .ge 29, 3) := dk_162 0 29 (dk_at dksX13_slip_5 20 rfl rfl)
theorem dX13_slip_136 : decode cX13_slip 136 = .ok (.aload_n 0, 1) := dk_42 (dk_at dksX13_slip_5 23 rfl rfl)
theorem dX13_slip_137 : decode cX13_slip 137 = .ok (.getfield 115, 3) := dk_180 0 115 (dk_at dksX13_slip_6 0 rfl rfl)
theorem dX13_slip_140 : decode cX13_slip 140 = .ok (.iload_n 3, 1) := dk_29 (dk_at dksX13_slip_6 3 rfl rfl)
theorem dX13_slip_141 : decode cX13_slip 141 = .ok (.iload 5, 2) := dk_21 5 (dk_at dksX13_slip_6 4 rfl rfl)
theorem dX13_slip_143 : decode cX13_slip 143 = .ok (.iadd, 1) := dk_96 (dk_at dksX13_slip_6 6 rfl rfl)
theorem dX13_slip_144 : decode cX13_slip 144 = .ok (.iconst 1, 1) := dk_4 (dk_at dksX13_slip_6 7 rfl rfl)
theorem dX13_slip_145 : decode cX13_slip 145 = .ok (.isub, 1) := dk_100 (dk_at dksX13_slip_6 8 rfl rfl)
theorem dX13_slip_146 : decode cX13_slip 146 = .ok (.aload_n 0, 1) := dk_42 (dk_at dksX13_slip_6 9 rfl rfl)
theorem dX13_slip_147 : decode cX13_slip 147 = .ok (.getfield 115, 3) := dk_180 0 115 (dk_at dksX13_slip_6 10 rfl rfl)
theorem dX13_slip_150 : decode cX13_slip 150 = .ok (.iload_n 3, 1) := dk_29 (dk_at dksX13_slip_6 13 rfl rfl)
theorem dX13_slip_151 : decode cX13_slip 151 = .ok (.iload 5, 2) := dk_21 5 (dk_at dksX13_slip_6 14 rfl rfl)
theorem dX13_slip_153 : decode cX13_slip 153 = .ok (.iadd, 1) := dk_96 (dk_at dksX13_slip_6 16 rfl rfl)
theorem dX13_slip_154 : decode cX13_slip 154 = .ok (.iaload, 1) := dk_46 (dk_at dksX13_slip_6 17 rfl rfl)
theorem dX13_slip_155 : decode cX13_slip 155 = .ok (.iastore, 1) := dk_79 (dk_at dksX13_slip_6 18 rfl rfl)
theorem dX13_slip_156 : decode cX13_slip 156 = .ok (.iinc 5 1, 3) := dk_132 5 1 (dk_at dksX13_slip_6 19 rfl rfl)
theorem dX13_slip_159 : decode cX13_slip 159 = .ok (.goto (-36), 3) := dk_167 255 220 (dk_at dksX13_slip_7 0 rfl rfl)
theorem dX13_slip_162 : decode cX13_slip 162 = .ok (.aload_n 0, 1) := dk_42 (dk_at dksX13_slip_7 3 rfl rfl)
theorem dX13_slip_163 : decode cX13_slip 163 = .ok (.getfield 115, 3) := dk_180 0 115 (dk_at dksX13_slip_7 4 rfl rfl)
theorem dX13_slip_166 : decode cX13_slip 166 = .ok (.iload_n 3, 1) := dk_29 (dk_at dksX13_slip_7 7 rfl rfl)
theorem dX13_slip_167 : decode cX13_slip 167 = .ok (.aload_n 0, 1) := dk_42 (dk_at dksX13_slip_7 8 rfl rfl)
theorem dX13_slip_168 : decode cX13_slip 168 = .ok (.getfield 115, 3) := dk_180 0 115 (dk_at dksX13_slip_7 9 rfl rfl)
theorem dX13_slip_171 : decode cX13_slip 171 = .ok (.iconst 0, 1) := dk_3 (dk_at dksX13_slip_7 12 rfl rfl)
theorem dX13_slip_172 : decode cX13_slip 172 = .ok (.iload_n 2, 1) := dk_28 (dk_at dksX13_slip_7 13 rfl rfl)
theorem dX13_slip_173 : decode cX13_slip 173 = .ok (.iadd, 1) := dk_96 (dk_at dksX13_slip_7 14 rfl rfl)
theorem dX13_slip_174 : decode cX13_slip 174 = .ok (.iaload, 1) := dk_46 (dk_at dksX13_slip_7 15 rfl rfl)
theorem dX13_slip_175 : decode cX13_slip 175 = .ok (.iadd, 1) := dk_96 (dk_at dksX13_slip_7 16 rfl rfl)
theorem dX13_slip_176 : decode cX13_slip 176 = .ok (.iconst 1, 1) := dk_4 (dk_at dksX13_slip_7 17 rfl rfl)
theorem dX13_slip_177 : decode cX13_slip 177 = .ok (.isub, 1) := dk_100 (dk_at dksX13_slip_7 18 rfl rfl)
theorem dX13_slip_178 : decode cX13_slip 178 = .ok (.iload 4, 2) := dk_21 4 (dk_at dksX13_slip_7 19 rfl rfl)
theorem dX13_slip_180 : decode cX13_slip 180 = .ok (.iastore, 1) := dk_79 (dk_at dksX13_slip_7 21 rfl rfl)
theorem dX13_slip_181 : decode cX13_slip 181 = .ok (.iconst 1, 1) := dk_4 (dk_at dksX13_slip_7 22 rfl rfl)
theorem dX13_slip_182 : decode cX13_slip 182 = .ok (.ireturn, 1) := dk_172 (dk_at dksX13_slip_7 23 rfl rfl)
abbrev cX13_undo : ByteArray := prog_24_method_66_code
def yX13_undo : MethodName := ⟨RX13, "undo", "()Z"⟩
def dkwX13_undo_1 : List UInt8 := [42, 17, 1, 204, 8, 42, 180, 0, 237, 96, 104, 3, 17, 1, 204, 182, 1, 52, 4, 172]
abbrev dktX13_undo_1 : List UInt8 := dkwX13_undo_1 ++ []
def dkwX13_undo_0 : List UInt8 := [42, 3, 181, 0, 1, 42, 180, 0, 237, 154, 0, 5, 3, 172, 42, 89, 180, 0, 237, 4, 100, 181, 0, 237]
abbrev dktX13_undo_0 : List UInt8 := dkwX13_undo_0 ++ dktX13_undo_1
theorem dksX13_undo_0 : cX13_undo.data.toList.drop 0 = dktX13_undo_0 := by decide +kernel
theorem dksX13_undo_1 : cX13_undo.data.toList.drop 24 = dktX13_undo_1 := dk_seg dksX13_undo_0 24 rfl rfl
theorem dX13_undo_0 : decode cX13_undo 0 = .ok (.aload_n 0, 1) := dk_42 (dk_at dksX13_undo_0 0 rfl rfl)
theorem dX13_undo_1 : decode cX13_undo 1 = .ok (.iconst 0, 1) := dk_3 (dk_at dksX13_undo_0 1 rfl rfl)
theorem dX13_undo_2 : decode cX13_undo 2 = .ok (.putfield 1, 3) := dk_181 0 1 (dk_at dksX13_undo_0 2 rfl rfl)
theorem dX13_undo_5 : decode cX13_undo 5 = .ok (.aload_n 0, 1) := dk_42 (dk_at dksX13_undo_0 5 rfl rfl)
theorem dX13_undo_6 : decode cX13_undo 6 = .ok (.getfield 237, 3) := dk_180 0 237 (dk_at dksX13_undo_0 6 rfl rfl)
theorem dX13_undo_9 : decode cX13_undo 9 = .ok (.ifCond .ne 5, 3) := dk_154 0 5 (dk_at dksX13_undo_0 9 rfl rfl)
theorem dX13_undo_12 : decode cX13_undo 12 = .ok (.iconst 0, 1) := dk_3 (dk_at dksX13_undo_0 12 rfl rfl)
theorem dX13_undo_13 : decode cX13_undo 13 = .ok (.ireturn, 1) := dk_172 (dk_at dksX13_undo_0 13 rfl rfl)
theorem dX13_undo_14 : decode cX13_undo 14 = .ok (.aload_n 0, 1) := dk_42 (dk_at dksX13_undo_0 14 rfl rfl)
theorem dX13_undo_15 : decode cX13_undo 15 = .ok (.dup, 1) := dk_89 (dk_at dksX13_undo_0 15 rfl rfl)
theorem dX13_undo_16 : decode cX13_undo 16 = .ok (.getfield 237, 3) := dk_180 0 237 (dk_at dksX13_undo_0 16 rfl rfl)
theorem dX13_undo_19 : decode cX13_undo 19 = .ok (.iconst 1, 1) := dk_4 (dk_at dksX13_undo_0 19 rfl rfl)
theorem dX13_undo_20 : decode cX13_undo 20 = .ok (.isub, 1) := dk_100 (dk_at dksX13_undo_0 20 rfl rfl)
theorem dX13_undo_21 : decode cX13_undo 21 = .ok (.putfield 237, 3) := dk_181 0 237 (dk_at dksX13_undo_0 21 rfl rfl)
theorem dX13_undo_24 : decode cX13_undo 24 = .ok (.aload_n 0, 1) := dk_42 (dk_at dksX13_undo_1 0 rfl rfl)
theorem dX13_undo_25 : decode cX13_undo 25 = .ok (.sipush 460, 3) := dk_17 1 204 (dk_at dksX13_undo_1 1 rfl rfl)
theorem dX13_undo_28 : decode cX13_undo 28 = .ok (.iconst 5, 1) := dk_8 (dk_at dksX13_undo_1 4 rfl rfl)
theorem dX13_undo_29 : decode cX13_undo 29 = .ok (.aload_n 0, 1) := dk_42 (dk_at dksX13_undo_1 5 rfl rfl)
theorem dX13_undo_30 : decode cX13_undo 30 = .ok (.getfield 237, 3) := dk_180 0 237 (dk_at dksX13_undo_1 6 rfl rfl)
theorem dX13_undo_33 : decode cX13_undo 33 = .ok (.iadd, 1) := dk_96 (dk_at dksX13_undo_1 9 rfl rfl)
theorem dX13_undo_34 : decode cX13_undo 34 = .ok (.imul, 1) := dk_104 (dk_at dksX13_undo_1 10 rfl rfl)
theorem dX13_undo_35 : decode cX13_undo 35 = .ok (.iconst 0, 1) := dk_3 (dk_at dksX13_undo_1 11 rfl rfl)
theorem dX13_undo_36 : decode cX13_undo 36 = .ok (.sipush 460, 3) := dk_17 1 204 (dk_at dksX13_undo_1 12 rfl rfl)
theorem dX13_undo_39 : decode cX13_undo 39 = .ok (.invokevirtual 308, 3) := dk_182 1 52 (dk_at dksX13_undo_1 15 rfl rfl)
theorem dX13_undo_42 : decode cX13_undo 42 = .ok (.iconst 1, 1) := dk_4 (dk_at dksX13_undo_1 18 rfl rfl)
theorem dX13_undo_43 : decode cX13_undo 43 = .ok (.ireturn, 1) := dk_172 (dk_at dksX13_undo_1 19 rfl rfl)
abbrev cX13_again : ByteArray := prog_24_method_67_code
def yX13_again : MethodName := ⟨RX13, "again", "()Z"⟩
def dkwX13_again_1 : List UInt8 := [181, 0, 237, 4, 172]
abbrev dktX13_again_1 : List UInt8 := dkwX13_again_1 ++ []
def dkwX13_again_0 : List UInt8 := [42, 3, 181, 0, 1, 42, 180, 0, 115, 16, 15, 46, 154, 0, 5, 3, 172, 42, 3, 182, 0, 174, 42, 3]
abbrev dktX13_again_0 : List UInt8 := dkwX13_again_0 ++ dktX13_again_1
theorem dksX13_again_0 : cX13_again.data.toList.drop 0 = dktX13_again_0 := by decide +kernel
theorem dksX13_again_1 : cX13_again.data.toList.drop 24 = dktX13_again_1 := dk_seg dksX13_again_0 24 rfl rfl
theorem dX13_again_0 : decode cX13_again 0 = .ok (.aload_n 0, 1) := dk_42 (dk_at dksX13_again_0 0 rfl rfl)
theorem dX13_again_1 : decode cX13_again 1 = .ok (.iconst 0, 1) := dk_3 (dk_at dksX13_again_0 1 rfl rfl)
theorem dX13_again_2 : decode cX13_again 2 = .ok (.putfield 1, 3) := dk_181 0 1 (dk_at dksX13_again_0 2 rfl rfl)
theorem dX13_again_5 : decode cX13_again 5 = .ok (.aload_n 0, 1) := dk_42 (dk_at dksX13_again_0 5 rfl rfl)
theorem dX13_again_6 : decode cX13_again 6 = .ok (.getfield 115, 3) := dk_180 0 115 (dk_at dksX13_again_0 6 rfl rfl)
theorem dX13_again_9 : decode cX13_again 9 = .ok (.bipush 15, 2) := dk_16 15 (dk_at dksX13_again_0 9 rfl rfl)
theorem dX13_again_11 : decode cX13_again 11 = .ok (.iaload, 1) := dk_46 (dk_at dksX13_again_0 11 rfl rfl)
theorem dX13_again_12 : decode cX13_again 12 = .ok (.ifCond .ne 5, 3) := dk_154 0 5 (dk_at dksX13_again_0 12 rfl rfl)
theorem dX13_again_15 : decode cX13_again 15 = .ok (.iconst 0, 1) := dk_3 (dk_at dksX13_again_0 15 rfl rfl)
theorem dX13_again_16 : decode cX13_again 16 = .ok (.ireturn, 1) := dk_172 (dk_at dksX13_again_0 16 rfl rfl)
theorem dX13_again_17 : decode cX13_again 17 = .ok (.aload_n 0, 1) := dk_42 (dk_at dksX13_again_0 17 rfl rfl)
theorem dX13_again_18 : decode cX13_again 18 = .ok (.iconst 0, 1) := dk_3 (dk_at dksX13_again_0 18 rfl rfl)
theorem dX13_again_19 : decode cX13_again 19 = .ok (.invokevirtual 174, 3) := dk_182 0 174 (dk_at dksX13_again_0 19 rfl rfl)
theorem dX13_again_22 : decode cX13_again 22 = .ok (.aload_n 0, 1) := dk_42 (dk_at dksX13_again_0 22 rfl rfl)
theorem dX13_again_23 : decode cX13_again 23 = .ok (.iconst 0, 1) := dk_3 (dk_at dksX13_again_0 23 rfl rfl)
theorem dX13_again_24 : decode cX13_again 24 = .ok (.putfield 237, 3) := dk_181 0 237 (dk_at dksX13_again_1 0 rfl rfl)
theorem dX13_again_27 : decode cX13_again 27 = .ok (.iconst 1, 1) := dk_4 (dk_at dksX13_again_1 3 rfl rfl)
theorem dX13_again_28 : decode cX13_again 28 = .ok (.ireturn, 1) := dk_172 (dk_at dksX13_again_1 4 rfl rfl)
abbrev cX13_ends : ByteArray := prog_24_method_72_code
def yX13_ends : MethodName := ⟨RX13, "ends", "(I)I"⟩
def dkwX13_ends_2 : List UInt8 := [42, 180, 1, 135, 167, 0, 7, 42, 180, 1, 129, 172]
abbrev dktX13_ends_2 : List UInt8 := dkwX13_ends_2 ++ []
def dkwX13_ends_1 : List UInt8 := [42, 180, 1, 138, 167, 0, 31, 27, 4, 160, 0, 10, 42, 180, 1, 132, 167, 0, 19, 27, 5, 160, 0, 10]
abbrev dktX13_ends_1 : List UInt8 := dkwX13_ends_1 ++ dktX13_ends_2
def dkwX13_ends_0 : List UInt8 := [42, 3, 181, 0, 1, 27, 3, 6, 184, 1, 91, 154, 0, 5, 2, 172, 42, 182, 1, 147, 27, 154, 0, 10]
abbrev dktX13_ends_0 : List UInt8 := dkwX13_ends_0 ++ dktX13_ends_1
theorem dksX13_ends_0 : cX13_ends.data.toList.drop 0 = dktX13_ends_0 := by decide +kernel
theorem dksX13_ends_1 : cX13_ends.data.toList.drop 24 = dktX13_ends_1 := dk_seg dksX13_ends_0 24 rfl rfl
theorem dksX13_ends_2 : cX13_ends.data.toList.drop 48 = dktX13_ends_2 := dk_seg dksX13_ends_1 24 rfl rfl
theorem dX13_ends_0 : decode cX13_ends 0 = .ok (.aload_n 0, 1) := dk_42 (dk_at dksX13_ends_0 0 rfl rfl)
theorem dX13_ends_1 : decode cX13_ends 1 = .ok (.iconst 0, 1) := dk_3 (dk_at dksX13_ends_0 1 rfl rfl)
theorem dX13_ends_2 : decode cX13_ends 2 = .ok (.putfield 1, 3) := dk_181 0 1 (dk_at dksX13_ends_0 2 rfl rfl)
theorem dX13_ends_5 : decode cX13_ends 5 = .ok (.iload_n 1, 1) := dk_27 (dk_at dksX13_ends_0 5 rfl rfl)
theorem dX13_ends_6 : decode cX13_ends 6 = .ok (.iconst 0, 1) := dk_3 (dk_at dksX13_ends_0 6 rfl rfl)
theorem dX13_ends_7 : decode cX13_ends 7 = .ok (.iconst 3, 1) := dk_6 (dk_at dksX13_ends_0 7 rfl rfl)
theorem dX13_ends_8 : decode cX13_ends 8 = .ok (.invokestatic 347, 3) := dk_184 1 91 (dk_at dksX13_ends_0 8 rfl rfl)
theorem dX13_ends_11 : decode cX13_ends 11 = .ok (.ifCond .ne 5, 3) := dk_154 0 5 (dk_at dksX13_ends_0 11 rfl rfl)
theorem dX13_ends_14 : decode cX13_ends 14 = .ok (.iconst (-1), 1) := dk_2 (dk_at dksX13_ends_0 14 rfl rfl)
theorem dX13_ends_15 : decode cX13_ends 15 = .ok (.ireturn, 1) := dk_172 (dk_at dksX13_ends_0 15 rfl rfl)
theorem dX13_ends_16 : decode cX13_ends 16 = .ok (.aload_n 0, 1) := dk_42 (dk_at dksX13_ends_0 16 rfl rfl)
theorem dX13_ends_17 : decode cX13_ends 17 = .ok (.invokevirtual 403, 3) := dk_182 1 147 (dk_at dksX13_ends_0 17 rfl rfl)
theorem dX13_ends_20 : decode cX13_ends 20 = .ok (.iload_n 1, 1) := dk_27 (dk_at dksX13_ends_0 20 rfl rfl)
theorem dX13_ends_21 : decode cX13_ends 21 = .ok (.ifCond .ne 10, 3) := dk_154 0 10 (dk_at dksX13_ends_0 21 rfl rfl)
theorem dX13_ends_24 : decode cX13_ends 24 = .ok (.aload_n 0, 1) := dk_42 (dk_at dksX13_ends_1 0 rfl rfl)
theorem dX13_ends_25 : decode cX13_ends 25 = .ok (.getfield 394, 3) := dk_180 1 138 (dk_at dksX13_ends_1 1 rfl rfl)
theorem dX13_ends_28 : decode cX13_ends 28 = .ok (.goto 31, 3) := dk_167 0 31 (dk_at dksX13_ends_1 4 rfl rfl)
theorem dX13_ends_31 : decode cX13_ends 31 = .ok (.iload_n 1, 1) := dk_27 (dk_at dksX13_ends_1 7 rfl rfl)
theorem dX13_ends_32 : decode cX13_ends 32 = .ok (.iconst 1, 1) := dk_4 (dk_at dksX13_ends_1 8 rfl rfl)
theorem dX13_ends_33 : decode cX13_ends 33 = .ok (.if_icmp .ne 10, 3) := dk_160 0 10 (dk_at dksX13_ends_1 9 rfl rfl)
theorem dX13_ends_36 : decode cX13_ends 36 = .ok (.aload_n 0, 1) := dk_42 (dk_at dksX13_ends_1 12 rfl rfl)
theorem dX13_ends_37 : decode cX13_ends 37 = .ok (.getfield 388, 3) := dk_180 1 132 (dk_at dksX13_ends_1 13 rfl rfl)
theorem dX13_ends_40 : decode cX13_ends 40 = .ok (.goto 19, 3) := dk_167 0 19 (dk_at dksX13_ends_1 16 rfl rfl)
theorem dX13_ends_43 : decode cX13_ends 43 = .ok (.iload_n 1, 1) := dk_27 (dk_at dksX13_ends_1 19 rfl rfl)
theorem dX13_ends_44 : decode cX13_ends 44 = .ok (.iconst 2, 1) := dk_5 (dk_at dksX13_ends_1 20 rfl rfl)
theorem dX13_ends_45 : decode cX13_ends 45 = .ok (.if_icmp .ne 10, 3) := dk_160 0 10 (dk_at dksX13_ends_1 21 rfl rfl)
theorem dX13_ends_48 : decode cX13_ends 48 = .ok (.aload_n 0, 1) := dk_42 (dk_at dksX13_ends_2 0 rfl rfl)
theorem dX13_ends_49 : decode cX13_ends 49 = .ok (.getfield 391, 3) := dk_180 1 135 (dk_at dksX13_ends_2 1 rfl rfl)
theorem dX13_ends_52 : decode cX13_ends 52 = .ok (.goto 7, 3) := dk_167 0 7 (dk_at dksX13_ends_2 4 rfl rfl)
theorem dX13_ends_55 : decode cX13_ends 55 = .ok (.aload_n 0, 1) := dk_42 (dk_at dksX13_ends_2 7 rfl rfl)
theorem dX13_ends_56 : decode cX13_ends 56 = .ok (.getfield 385, 3) := dk_180 1 129 (dk_at dksX13_ends_2 8 rfl rfl)
theorem dX13_ends_59 : decode cX13_ends 59 = .ok (.ireturn, 1) := dk_172 (dk_at dksX13_ends_2 11 rfl rfl)
abbrev cX13_runsNow : ByteArray := prog_24_method_71_code
def yX13_runsNow : MethodName := ⟨RX13, "runsNow", "()V"⟩
def dkwX13_runsNow_0 : List UInt8 := [42, 3, 17, 37, 188, 17, 0, 164, 182, 1, 52, 42, 17, 37, 188, 2, 182, 1, 144, 177]
abbrev dktX13_runsNow_0 : List UInt8 := dkwX13_runsNow_0 ++ []
theorem dksX13_runsNow_0 : cX13_runsNow.data.toList.drop 0 = dktX13_runsNow_0 := by decide +kernel
theorem dX13_runsNow_0 : decode cX13_runsNow 0 = .ok (.aload_n 0, 1) := dk_42 (dk_at dksX13_runsNow_0 0 rfl rfl)
theorem dX13_runsNow_1 : decode cX13_runsNow 1 = .ok (.iconst 0, 1) := dk_3 (dk_at dksX13_runsNow_0 1 rfl rfl)
theorem dX13_runsNow_2 : decode cX13_runsNow 2 = .ok (.sipush 9660, 3) := dk_17 37 188 (dk_at dksX13_runsNow_0 2 rfl rfl)
theorem dX13_runsNow_5 : decode cX13_runsNow 5 = .ok (.sipush 164, 3) := dk_17 0 164 (dk_at dksX13_runsNow_0 5 rfl rfl)
theorem dX13_runsNow_8 : decode cX13_runsNow 8 = .ok (.invokevirtual 308, 3) := dk_182 1 52 (dk_at dksX13_runsNow_0 8 rfl rfl)
theorem dX13_runsNow_11 : decode cX13_runsNow 11 = .ok (.aload_n 0, 1) := dk_42 (dk_at dksX13_runsNow_0 11 rfl rfl)
theorem dX13_runsNow_12 : decode cX13_runsNow 12 = .ok (.sipush 9660, 3) := dk_17 37 188 (dk_at dksX13_runsNow_0 12 rfl rfl)
theorem dX13_runsNow_15 : decode cX13_runsNow 15 = .ok (.iconst (-1), 1) := dk_2 (dk_at dksX13_runsNow_0 15 rfl rfl)
theorem dX13_runsNow_16 : decode cX13_runsNow 16 = .ok (.invokevirtual 400, 3) := dk_182 1 144 (dk_at dksX13_runsNow_0 16 rfl rfl)
theorem dX13_runsNow_19 : decode cX13_runsNow 19 = .ok (.return_, 1) := dk_177 (dk_at dksX13_runsNow_0 19 rfl rfl)
abbrev cX13_runs : ByteArray := prog_24_method_70_code
def yX13_runs : MethodName := ⟨RX13, "runs", "(II)V"⟩
def dkwX13_runs_9 : List UInt8 := [181, 1, 138, 177, 42, 27, 182, 1, 107, 132, 4, 1, 167, 255, 77]
abbrev dktX13_runs_9 : List UInt8 := dkwX13_runs_9 ++ []
def dkwX13_runs_8 : List UInt8 := [100, 181, 1, 129, 177, 21, 4, 42, 180, 0, 85, 6, 46, 159, 0, 9, 21, 5, 28, 160, 0, 9, 42, 6]
abbrev dktX13_runs_8 : List UInt8 := dkwX13_runs_8 ++ dktX13_runs_9
def dkwX13_runs_7 : List UInt8 := [181, 1, 132, 42, 42, 180, 0, 140, 21, 7, 46, 181, 1, 135, 42, 21, 4, 42, 180, 0, 137, 21, 7, 46]
abbrev dktX13_runs_7 : List UInt8 := dkwX13_runs_7 ++ dktX13_runs_8
def dkwX13_runs_6 : List UInt8 := [167, 0, 4, 2, 54, 7, 21, 7, 155, 0, 45, 42, 5, 181, 1, 138, 42, 42, 180, 0, 137, 21, 7, 46]
abbrev dktX13_runs_6 : List UInt8 := dkwX13_runs_6 ++ dktX13_runs_7
def dkwX13_runs_5 : List UInt8 := [154, 0, 7, 4, 167, 0, 4, 3, 54, 6, 21, 6, 153, 0, 15, 42, 27, 21, 4, 21, 5, 182, 1, 141]
abbrev dktX13_runs_5 : List UInt8 := dkwX13_runs_5 ++ dktX13_runs_6
def dkwX13_runs_4 : List UInt8 := [156, 0, 30, 42, 180, 0, 115, 27, 5, 96, 46, 154, 0, 19, 42, 180, 0, 115, 27, 16, 11, 96, 46]
abbrev dktX13_runs_4 : List UInt8 := dkwX13_runs_4 ++ dktX13_runs_5
def dkwX13_runs_3 : List UInt8 := [42, 27, 182, 1, 104, 153, 0, 17, 42, 42, 180, 0, 115, 27, 16, 8, 96, 46, 181, 1, 138, 177, 28]
abbrev dktX13_runs_3 : List UInt8 := dkwX13_runs_3 ++ dktX13_runs_4
def dkwX13_runs_2 : List UInt8 := [180, 0, 115, 27, 16, 7, 96, 46, 29, 100, 54, 5, 42, 21, 4, 181, 1, 132, 42, 21, 5, 181, 1, 135]
abbrev dktX13_runs_2 : List UInt8 := dkwX13_runs_2 ++ dktX13_runs_3
def dkwX13_runs_1 : List UInt8 := [181, 1, 126, 42, 180, 0, 115, 27, 16, 7, 96, 46, 62, 42, 3, 181, 1, 129, 3, 54, 4, 42]
abbrev dktX13_runs_1 : List UInt8 := dkwX13_runs_1 ++ dktX13_runs_2
def dkwX13_runs_0 : List UInt8 := [3, 62, 29, 17, 4, 0, 162, 0, 16, 42, 180, 0, 146, 29, 2, 79, 132, 3, 1, 167, 255, 239, 42, 3]
abbrev dktX13_runs_0 : List UInt8 := dkwX13_runs_0 ++ dktX13_runs_1
theorem dksX13_runs_0 : cX13_runs.data.toList.drop 0 = dktX13_runs_0 := by decide +kernel
theorem dksX13_runs_1 : cX13_runs.data.toList.drop 24 = dktX13_runs_1 := dk_seg dksX13_runs_0 24 rfl rfl
theorem dksX13_runs_2 : cX13_runs.data.toList.drop 46 = dktX13_runs_2 := dk_seg dksX13_runs_1 22 rfl rfl
theorem dksX13_runs_3 : cX13_runs.data.toList.drop 70 = dktX13_runs_3 := dk_seg dksX13_runs_2 24 rfl rfl
theorem dksX13_runs_4 : cX13_runs.data.toList.drop 93 = dktX13_runs_4 := dk_seg dksX13_runs_3 23 rfl rfl
theorem dksX13_runs_5 : cX13_runs.data.toList.drop 116 = dktX13_runs_5 := dk_seg dksX13_runs_4 23 rfl rfl
theorem dksX13_runs_6 : cX13_runs.data.toList.drop 140 = dktX13_runs_6 := dk_seg dksX13_runs_5 24 rfl rfl
theorem dksX13_runs_7 : cX13_runs.data.toList.drop 164 = dktX13_runs_7 := dk_seg dksX13_runs_6 24 rfl rfl
theorem dksX13_runs_8 : cX13_runs.data.toList.drop 188 = dktX13_runs_8 := dk_seg dksX13_runs_7 24 rfl rfl
theorem dksX13_runs_9 : cX13_runs.data.toList.drop 212 = dktX13_runs_9 := dk_seg dksX13_runs_8 24 rfl rfl
theorem dX13_runs_0 : decode cX13_runs 0 = .ok (.iconst 0, 1) := dk_3 (dk_at dksX13_runs_0 0 rfl rfl)
theorem dX13_runs_1 : decode cX13_runs 1 = .ok (.istore_n 3, 1) := dk_62 (dk_at dksX13_runs_0 1 rfl rfl)
theorem dX13_runs_2 : decode cX13_runs 2 = .ok (.iload_n 3, 1) := dk_29 (dk_at dksX13_runs_0 2 rfl rfl)
theorem dX13_runs_3 : decode cX13_runs 3 = .ok (.sipush 1024, 3) := dk_17 4 0 (dk_at dksX13_runs_0 3 rfl rfl)
theorem dX13_runs_6 : decode cX13_runs 6 = .ok (.if_icmp .ge 16, 3) := dk_162 0 16 (dk_at dksX13_runs_0 6 rfl rfl)
theorem dX13_runs_9 : decode cX13_runs 9 = .ok (.aload_n 0, 1) := dk_42 (dk_at dksX13_runs_0 9 rfl rfl)
theorem dX13_runs_10 : decode cX13_runs 10 = .ok (.getfield 146, 3) := dk_180 0 146 (dk_at dksX13_runs_0 10 rfl rfl)
theorem dX13_runs_13 : decode cX13_runs 13 = .ok (.iload_n 3, 1) := dk_29 (dk_at dksX13_runs_0 13 rfl rfl)
theorem dX13_runs_14 : decode cX13_runs 14 = .ok (.iconst (-1), 1) := dk_2 (dk_at dksX13_runs_0 14 rfl rfl)
theorem dX13_runs_15 : decode cX13_runs 15 = .ok (.iastore, 1) := dk_79 (dk_at dksX13_runs_0 15 rfl rfl)
theorem dX13_runs_16 : decode cX13_runs 16 = .ok (.iinc 3 1, 3) := dk_132 3 1 (dk_at dksX13_runs_0 16 rfl rfl)
theorem dX13_runs_19 : decode cX13_runs 19 = .ok (.goto (-17), 3) := dk_167 255 239 (dk_at dksX13_runs_0 19 rfl rfl)
theorem dX13_runs_22 : decode cX13_runs 22 = .ok (.aload_n 0, 1) := dk_42 (dk_at dksX13_runs_0 22 rfl rfl)
theorem dX13_runs_23 : decode cX13_runs 23 = .ok (.iconst 0, 1) := dk_3 (dk_at dksX13_runs_0 23 rfl rfl)
theorem dX13_runs_24 : decode cX13_runs 24 = .ok (.putfield 382, 3) := dk_181 1 126 (dk_at dksX13_runs_1 0 rfl rfl)
theorem dX13_runs_27 : decode cX13_runs 27 = .ok (.aload_n 0, 1) := dk_42 (dk_at dksX13_runs_1 3 rfl rfl)
theorem dX13_runs_28 : decode cX13_runs 28 = .ok (.getfield 115, 3) := dk_180 0 115 (dk_at dksX13_runs_1 4 rfl rfl)
theorem dX13_runs_31 : decode cX13_runs 31 = .ok (.iload_n 1, 1) := dk_27 (dk_at dksX13_runs_1 7 rfl rfl)
theorem dX13_runs_32 : decode cX13_runs 32 = .ok (.bipush 7, 2) := dk_16 7 (dk_at dksX13_runs_1 8 rfl rfl)
theorem dX13_runs_34 : decode cX13_runs 34 = .ok (.iadd, 1) := dk_96 (dk_at dksX13_runs_1 10 rfl rfl)
theorem dX13_runs_35 : decode cX13_runs 35 = .ok (.iaload, 1) := dk_46 (dk_at dksX13_runs_1 11 rfl rfl)
theorem dX13_runs_36 : decode cX13_runs 36 = .ok (.istore_n 3, 1) := dk_62 (dk_at dksX13_runs_1 12 rfl rfl)
theorem dX13_runs_37 : decode cX13_runs 37 = .ok (.aload_n 0, 1) := dk_42 (dk_at dksX13_runs_1 13 rfl rfl)
theorem dX13_runs_38 : decode cX13_runs 38 = .ok (.iconst 0, 1) := dk_3 (dk_at dksX13_runs_1 14 rfl rfl)
theorem dX13_runs_39 : decode cX13_runs 39 = .ok (.putfield 385, 3) := dk_181 1 129 (dk_at dksX13_runs_1 15 rfl rfl)
theorem dX13_runs_42 : decode cX13_runs 42 = .ok (.iconst 0, 1) := dk_3 (dk_at dksX13_runs_1 18 rfl rfl)
theorem dX13_runs_43 : decode cX13_runs 43 = .ok (.istore 4, 2) := dk_54 4 (dk_at dksX13_runs_1 19 rfl rfl)
theorem dX13_runs_45 : decode cX13_runs 45 = .ok (.aload_n 0, 1) := dk_42 (dk_at dksX13_runs_1 21 rfl rfl)
theorem dX13_runs_46 : decode cX13_runs 46 = .ok (.getfield 115, 3) := dk_180 0 115 (dk_at dksX13_runs_2 0 rfl rfl)
theorem dX13_runs_49 : decode cX13_runs 49 = .ok (.iload_n 1, 1) := dk_27 (dk_at dksX13_runs_2 3 rfl rfl)
theorem dX13_runs_50 : decode cX13_runs 50 = .ok (.bipush 7, 2) := dk_16 7 (dk_at dksX13_runs_2 4 rfl rfl)
theorem dX13_runs_52 : decode cX13_runs 52 = .ok (.iadd, 1) := dk_96 (dk_at dksX13_runs_2 6 rfl rfl)
theorem dX13_runs_53 : decode cX13_runs 53 = .ok (.iaload, 1) := dk_46 (dk_at dksX13_runs_2 7 rfl rfl)
theorem dX13_runs_54 : decode cX13_runs 54 = .ok (.iload_n 3, 1) := dk_29 (dk_at dksX13_runs_2 8 rfl rfl)
theorem dX13_runs_55 : decode cX13_runs 55 = .ok (.isub, 1) := dk_100 (dk_at dksX13_runs_2 9 rfl rfl)
theorem dX13_runs_56 : decode cX13_runs 56 = .ok (.istore 5, 2) := dk_54 5 (dk_at dksX13_runs_2 10 rfl rfl)
theorem dX13_runs_58 : decode cX13_runs 58 = .ok (.aload_n 0, 1) := dk_42 (dk_at dksX13_runs_2 12 rfl rfl)
theorem dX13_runs_59 : decode cX13_runs 59 = .ok (.iload 4, 2) := dk_21 4 (dk_at dksX13_runs_2 13 rfl rfl)
theorem dX13_runs_61 : decode cX13_runs 61 = .ok (.putfield 388, 3) := dk_181 1 132 (dk_at dksX13_runs_2 15 rfl rfl)
theorem dX13_runs_64 : decode cX13_runs 64 = .ok (.aload_n 0, 1) := dk_42 (dk_at dksX13_runs_2 18 rfl rfl)
theorem dX13_runs_65 : decode cX13_runs 65 = .ok (.iload 5, 2) := dk_21 5 (dk_at dksX13_runs_2 19 rfl rfl)
theorem dX13_runs_67 : decode cX13_runs 67 = .ok (.putfield 391, 3) := dk_181 1 135 (dk_at dksX13_runs_2 21 rfl rfl)
theorem dX13_runs_70 : decode cX13_runs 70 = .ok (.aload_n 0, 1) := dk_42 (dk_at dksX13_runs_3 0 rfl rfl)
theorem dX13_runs_71 : decode cX13_runs 71 = .ok (.iload_n 1, 1) := dk_27 (dk_at dksX13_runs_3 1 rfl rfl)
theorem dX13_runs_72 : decode cX13_runs 72 = .ok (.invokevirtual 360, 3) := dk_182 1 104 (dk_at dksX13_runs_3 2 rfl rfl)
theorem dX13_runs_75 : decode cX13_runs 75 = .ok (.ifCond .eq 17, 3) := dk_153 0 17 (dk_at dksX13_runs_3 5 rfl rfl)
theorem dX13_runs_78 : decode cX13_runs 78 = .ok (.aload_n 0, 1) := dk_42 (dk_at dksX13_runs_3 8 rfl rfl)
theorem dX13_runs_79 : decode cX13_runs 79 = .ok (.aload_n 0, 1) := dk_42 (dk_at dksX13_runs_3 9 rfl rfl)
theorem dX13_runs_80 : decode cX13_runs 80 = .ok (.getfield 115, 3) := dk_180 0 115 (dk_at dksX13_runs_3 10 rfl rfl)
theorem dX13_runs_83 : decode cX13_runs 83 = .ok (.iload_n 1, 1) := dk_27 (dk_at dksX13_runs_3 13 rfl rfl)
theorem dX13_runs_84 : decode cX13_runs 84 = .ok (.bipush 8, 2) := dk_16 8 (dk_at dksX13_runs_3 14 rfl rfl)
theorem dX13_runs_86 : decode cX13_runs 86 = .ok (.iadd, 1) := dk_96 (dk_at dksX13_runs_3 16 rfl rfl)
theorem dX13_runs_87 : decode cX13_runs 87 = .ok (.iaload, 1) := dk_46 (dk_at dksX13_runs_3 17 rfl rfl)
theorem dX13_runs_88 : decode cX13_runs 88 = .ok (.putfield 394, 3) := dk_181 1 138 (dk_at dksX13_runs_3 18 rfl rfl)
theorem dX13_runs_91 : decode cX13_runs 91 = .ok (.return_, 1) := dk_177 (dk_at dksX13_runs_3 21 rfl rfl)
theorem dX13_runs_92 : decode cX13_runs 92 = .ok (.iload_n 2, 1) := dk_28 (dk_at dksX13_runs_3 22 rfl rfl)
theorem dX13_runs_93 : decode cX13_runs 93 = .ok (.ifCond .ge 30, 3) := dk_156 0 30 (dk_at dksX13_runs_4 0 rfl rfl)
theorem dX13_runs_96 : decode cX13_runs 96 = .ok (.aload_n 0, 1) := dk_42 (dk_at dksX13_runs_4 3 rfl rfl)
theorem dX13_runs_97 : decode cX13_runs 97 = .ok (.getfield 115, 3) := dk_180 0 115 (dk_at dksX13_runs_4 4 rfl rfl)
theorem dX13_runs_100 : decode cX13_runs 100 = .ok (.iload_n 1, 1) := dk_27 (dk_at dksX13_runs_4 7 rfl rfl)
theorem dX13_runs_101 : decode cX13_runs 101 = .ok (.iconst 2, 1) := dk_5 (dk_at dksX13_runs_4 8 rfl rfl)
theorem dX13_runs_102 : decode cX13_runs 102 = .ok (.iadd, 1) := dk_96 (dk_at dksX13_runs_4 9 rfl rfl)
theorem dX13_runs_103 : decode cX13_runs 103 = .ok (.iaload, 1) := dk_46 (dk_at dksX13_runs_4 10 rfl rfl)
theorem dX13_runs_104 : decode cX13_runs 104 = .ok (.ifCond .ne 19, 3) := dk_154 0 19 (dk_at dksX13_runs_4 11 rfl rfl)
theorem dX13_runs_107 : decode cX13_runs 107 = .ok (.aload_n 0, 1) := dk_42 (dk_at dksX13_runs_4 14 rfl rfl)
theorem dX13_runs_108 : decode cX13_runs 108 = .ok (.getfield 115, 3) := dk_180 0 115 (dk_at dksX13_runs_4 15 rfl rfl)
theorem dX13_runs_111 : decode cX13_runs 111 = .ok (.iload_n 1, 1) := dk_27 (dk_at dksX13_runs_4 18 rfl rfl)
theorem dX13_runs_112 : decode cX13_runs 112 = .ok (.bipush 11, 2) := dk_16 11 (dk_at dksX13_runs_4 19 rfl rfl)
theorem dX13_runs_114 : decode cX13_runs 114 = .ok (.iadd, 1) := dk_96 (dk_at dksX13_runs_4 21 rfl rfl)
theorem dX13_runs_115 : decode cX13_runs 115 = .ok (.iaload, 1) := dk_46 (dk_at dksX13_runs_4 22 rfl rfl)
theorem dX13_runs_116 : decode cX13_runs 116 = .ok (.ifCond .ne 7, 3) := dk_154 0 7 (dk_at dksX13_runs_5 0 rfl rfl)
theorem dX13_runs_119 : decode cX13_runs 119 = .ok (.iconst 1, 1) := dk_4 (dk_at dksX13_runs_5 3 rfl rfl)
theorem dX13_runs_120 : decode cX13_runs 120 = .ok (.goto 4, 3) := dk_167 0 4 (dk_at dksX13_runs_5 4 rfl rfl)
theorem dX13_runs_123 : decode cX13_runs 123 = .ok (.iconst 0, 1) := dk_3 (dk_at dksX13_runs_5 7 rfl rfl)
theorem dX13_runs_124 : decode cX13_runs 124 = .ok (.istore 6, 2) := dk_54 6 (dk_at dksX13_runs_5 8 rfl rfl)
theorem dX13_runs_126 : decode cX13_runs 126 = .ok (.iload 6, 2) := dk_21 6 (dk_at dksX13_runs_5 10 rfl rfl)
theorem dX13_runs_128 : decode cX13_runs 128 = .ok (.ifCond .eq 15, 3) := dk_153 0 15 (dk_at dksX13_runs_5 12 rfl rfl)
theorem dX13_runs_131 : decode cX13_runs 131 = .ok (.aload_n 0, 1) := dk_42 (dk_at dksX13_runs_5 15 rfl rfl)
theorem dX13_runs_132 : decode cX13_runs 132 = .ok (.iload_n 1, 1) := dk_27 (dk_at dksX13_runs_5 16 rfl rfl)
theorem dX13_runs_133 : decode cX13_runs 133 = .ok (.iload 4, 2) := dk_21 4 (dk_at dksX13_runs_5 17 rfl rfl)
theorem dX13_runs_135 : decode cX13_runs 135 = .ok (.iload 5, 2) := dk_21 5 (dk_at dksX13_runs_5 19 rfl rfl)
theorem dX13_runs_137 : decode cX13_runs 137 = .ok (.invokevirtual 397, 3) := dk_182 1 141 (dk_at dksX13_runs_5 21 rfl rfl)
theorem dX13_runs_140 : decode cX13_runs 140 = .ok (.goto 4, 3) := dk_167 0 4 (dk_at dksX13_runs_6 0 rfl rfl)
theorem dX13_runs_143 : decode cX13_runs 143 = .ok (.iconst (-1), 1) := dk_2 (dk_at dksX13_runs_6 3 rfl rfl)
theorem dX13_runs_144 : decode cX13_runs 144 = .ok (.istore 7, 2) := dk_54 7 (dk_at dksX13_runs_6 4 rfl rfl)
theorem dX13_runs_146 : decode cX13_runs 146 = .ok (.iload 7, 2) := dk_21 7 (dk_at dksX13_runs_6 6 rfl rfl)
theorem dX13_runs_148 : decode cX13_runs 148 = .ok (.ifCond .lt 45, 3) := dk_155 0 45 (dk_at dksX13_runs_6 8 rfl rfl)
theorem dX13_runs_151 : decode cX13_runs 151 = .ok (.aload_n 0, 1) := dk_42 (dk_at dksX13_runs_6 11 rfl rfl)
theorem dX13_runs_152 : decode cX13_runs 152 = .ok (.iconst 2, 1) := dk_5 (dk_at dksX13_runs_6 12 rfl rfl)
theorem dX13_runs_153 : decode cX13_runs 153 = .ok (.putfield 394, 3) := dk_181 1 138 (dk_at dksX13_runs_6 13 rfl rfl)
theorem dX13_runs_156 : decode cX13_runs 156 = .ok (.aload_n 0, 1) := dk_42 (dk_at dksX13_runs_6 16 rfl rfl)
theorem dX13_runs_157 : decode cX13_runs 157 = .ok (.aload_n 0, 1) := dk_42 (dk_at dksX13_runs_6 17 rfl rfl)
theorem dX13_runs_158 : decode cX13_runs 158 = .ok (.getfield 137, 3) := dk_180 0 137 (dk_at dksX13_runs_6 18 rfl rfl)
theorem dX13_runs_161 : decode cX13_runs 161 = .ok (.iload 7, 2) := dk_21 7 (dk_at dksX13_runs_6 21 rfl rfl)
theorem dX13_runs_163 : decode cX13_runs 163 = .ok (.iaload, 1) := dk_46 (dk_at dksX13_runs_6 23 rfl rfl)
theorem dX13_runs_164 : decode cX13_runs 164 = .ok (.putfield 388, 3) := dk_181 1 132 (dk_at dksX13_runs_7 0 rfl rfl)
theorem dX13_runs_167 : decode cX13_runs 167 = .ok (.aload_n 0, 1) := dk_42 (dk_at dksX13_runs_7 3 rfl rfl)
theorem dX13_runs_168 : decode cX13_runs 168 = .ok (.aload_n 0, 1) := dk_42 (dk_at dksX13_runs_7 4 rfl rfl)
theorem dX13_runs_169 : decode cX13_runs 169 = .ok (.getfield 140, 3) := dk_180 0 140 (dk_at dksX13_runs_7 5 rfl rfl)
theorem dX13_runs_172 : decode cX13_runs 172 = .ok (.iload 7, 2) := dk_21 7 (dk_at dksX13_runs_7 8 rfl rfl)
theorem dX13_runs_174 : decode cX13_runs 174 = .ok (.iaload, 1) := dk_46 (dk_at dksX13_runs_7 10 rfl rfl)
theorem dX13_runs_175 : decode cX13_runs 175 = .ok (.putfield 391, 3) := dk_181 1 135 (dk_at dksX13_runs_7 11 rfl rfl)
theorem dX13_runs_178 : decode cX13_runs 178 = .ok (.aload_n 0, 1) := dk_42 (dk_at dksX13_runs_7 14 rfl rfl)
theorem dX13_runs_179 : decode cX13_runs 179 = .ok (.iload 4, 2) := dk_21 4 (dk_at dksX13_runs_7 15 rfl rfl)
theorem dX13_runs_181 : decode cX13_runs 181 = .ok (.aload_n 0, 1) := dk_42 (dk_at dksX13_runs_7 17 rfl rfl)
theorem dX13_runs_182 : decode cX13_runs 182 = .ok (.getfield 137, 3) := dk_180 0 137 (dk_at dksX13_runs_7 18 rfl rfl)
theorem dX13_runs_185 : decode cX13_runs 185 = .ok (.iload 7, 2) := dk_21 7 (dk_at dksX13_runs_7 21 rfl rfl)
theorem dX13_runs_187 : decode cX13_runs 187 = .ok (.iaload, 1) := dk_46 (dk_at dksX13_runs_7 23 rfl rfl)
theorem dX13_runs_188 : decode cX13_runs 188 = .ok (.isub, 1) := dk_100 (dk_at dksX13_runs_8 0 rfl rfl)
theorem dX13_runs_189 : decode cX13_runs 189 = .ok (.putfield 385, 3) := dk_181 1 129 (dk_at dksX13_runs_8 1 rfl rfl)
theorem dX13_runs_192 : decode cX13_runs 192 = .ok (.return_, 1) := dk_177 (dk_at dksX13_runs_8 4 rfl rfl)
theorem dX13_runs_193 : decode cX13_runs 193 = .ok (.iload 4, 2) := dk_21 4 (dk_at dksX13_runs_8 5 rfl rfl)
theorem dX13_runs_195 : decode cX13_runs 195 = .ok (.aload_n 0, 1) := dk_42 (dk_at dksX13_runs_8 7 rfl rfl)
theorem dX13_runs_196 : decode cX13_runs 196 = .ok (.getfield 85, 3) := dk_180 0 85 (dk_at dksX13_runs_8 8 rfl rfl)
theorem dX13_runs_199 : decode cX13_runs 199 = .ok (.iconst 3, 1) := dk_6 (dk_at dksX13_runs_8 11 rfl rfl)
theorem dX13_runs_200 : decode cX13_runs 200 = .ok (.iaload, 1) := dk_46 (dk_at dksX13_runs_8 12 rfl rfl)
theorem dX13_runs_201 : decode cX13_runs 201 = .ok (.if_icmp .eq 9, 3) := dk_159 0 9 (dk_at dksX13_runs_8 13 rfl rfl)
theorem dX13_runs_204 : decode cX13_runs 204 = .ok (.iload 5, 2) := dk_21 5 (dk_at dksX13_runs_8 16 rfl rfl)
theorem dX13_runs_206 : decode cX13_runs 206 = .ok (.iload_n 2, 1) := dk_28 (dk_at dksX13_runs_8 18 rfl rfl)
theorem dX13_runs_207 : decode cX13_runs 207 = .ok (.if_icmp .ne 9, 3) := dk_160 0 9 (dk_at dksX13_runs_8 19 rfl rfl)
theorem dX13_runs_210 : decode cX13_runs 210 = .ok (.aload_n 0, 1) := dk_42 (dk_at dksX13_runs_8 22 rfl rfl)
theorem dX13_runs_211 : decode cX13_runs 211 = .ok (.iconst 3, 1) := dk_6 (dk_at dksX13_runs_8 23 rfl rfl)
theorem dX13_runs_212 : decode cX13_runs 212 = .ok (.putfield 394, 3) := dk_181 1 138 (dk_at dksX13_runs_9 0 rfl rfl)
theorem dX13_runs_215 : decode cX13_runs 215 = .ok (.return_, 1) := dk_177 (dk_at dksX13_runs_9 3 rfl rfl)
theorem dX13_runs_216 : decode cX13_runs 216 = .ok (.aload_n 0, 1) := dk_42 (dk_at dksX13_runs_9 4 rfl rfl)
theorem dX13_runs_217 : decode cX13_runs 217 = .ok (.iload_n 1, 1) := dk_27 (dk_at dksX13_runs_9 5 rfl rfl)
theorem dX13_runs_218 : decode cX13_runs 218 = .ok (.invokevirtual 363, 3) := dk_182 1 107 (dk_at dksX13_runs_9 6 rfl rfl)
theorem dX13_runs_221 : decode cX13_runs 221 = .ok (.iinc 4 1, 3) := dk_132 4 1 (dk_at dksX13_runs_9 9 rfl rfl)
theorem dX13_runs_224 : decode cX13_runs 224 = .ok (.goto (-179), 3) := dk_167 255 77 (dk_at dksX13_runs_9 12 rfl rfl)
abbrev cX13_findKey : ByteArray := prog_24_method_69_code
def yX13_findKey : MethodName := ⟨RX13, "findKey", "(III)I"⟩
def dkwX13_findKey_10 : List UInt8 := [180, 1, 126, 4, 96, 181, 1, 126, 2, 172]
abbrev dktX13_findKey_10 : List UInt8 := dkwX13_findKey_10 ++ []
def dkwX13_findKey_9 : List UInt8 := [180, 1, 126, 42, 180, 0, 146, 21, 10, 46, 79, 42, 180, 0, 146, 21, 10, 42, 180, 1, 126, 79, 42, 89]
abbrev dktX13_findKey_9 : List UInt8 := dkwX13_findKey_9 ++ dktX13_findKey_10
def dkwX13_findKey_8 : List UInt8 := [180, 0, 137, 42, 180, 1, 126, 28, 79, 42, 180, 0, 140, 42, 180, 1, 126, 29, 79, 42, 180, 0, 143, 42]
abbrev dktX13_findKey_8 : List UInt8 := dkwX13_findKey_8 ++ dktX13_findKey_9
def dkwX13_findKey_7 : List UInt8 := [42, 180, 0, 131, 42, 180, 1, 126, 22, 6, 80, 42, 180, 0, 134, 42, 180, 1, 126, 22, 8, 80, 42]
abbrev dktX13_findKey_7 : List UInt8 := dkwX13_findKey_7 ++ dktX13_findKey_8
def dkwX13_findKey_6 : List UInt8 := [172, 42, 180, 0, 143, 21, 11, 46, 54, 11, 167, 255, 200, 42, 180, 0, 128, 42, 180, 1, 126, 22, 4, 80]
abbrev dktX13_findKey_6 : List UInt8 := dkwX13_findKey_6 ++ dktX13_findKey_7
def dkwX13_findKey_5 : List UInt8 := [21, 11, 47, 22, 6, 148, 154, 0, 19, 42, 180, 0, 134, 21, 11, 47, 22, 8, 148, 154, 0, 6, 21, 11]
abbrev dktX13_findKey_5 : List UInt8 := dkwX13_findKey_5 ++ dktX13_findKey_6
def dkwX13_findKey_4 : List UInt8 := [54, 11, 21, 11, 155, 0, 57, 42, 180, 0, 128, 21, 11, 47, 22, 4, 148, 154, 0, 32, 42, 180, 0, 131]
abbrev dktX13_findKey_4 : List UInt8 := dkwX13_findKey_4 ++ dktX13_findKey_5
def dkwX13_findKey_3 : List UInt8 := [16, 30, 123, 97, 22, 8, 16, 20, 123, 97, 20, 1, 124, 127, 136, 54, 10, 42, 180, 0, 146, 21, 10, 46]
abbrev dktX13_findKey_3 : List UInt8 := dkwX13_findKey_3 ++ dktX13_findKey_4
def dkwX13_findKey_2 : List UInt8 := [55, 8, 22, 4, 20, 1, 118, 105, 22, 6, 20, 1, 120, 105, 97, 22, 8, 20, 1, 122, 105, 97, 22, 4]
abbrev dktX13_findKey_2 : List UInt8 := dkwX13_findKey_2 ++ dktX13_findKey_3
def dkwX13_findKey_1 : List UInt8 := [16, 21, 164, 0, 12, 42, 27, 4, 182, 1, 114, 167, 0, 4, 9, 55, 6, 42, 27, 5, 182, 1, 114]
abbrev dktX13_findKey_1 : List UInt8 := dkwX13_findKey_1 ++ dktX13_findKey_2
def dkwX13_findKey_0 : List UInt8 := [42, 27, 3, 182, 1, 114, 55, 4, 42, 180, 0, 115, 27, 46, 42, 180, 0, 115, 27, 4, 96, 46, 96]
abbrev dktX13_findKey_0 : List UInt8 := dkwX13_findKey_0 ++ dktX13_findKey_1
theorem dksX13_findKey_0 : cX13_findKey.data.toList.drop 0 = dktX13_findKey_0 := by decide +kernel
theorem dksX13_findKey_1 : cX13_findKey.data.toList.drop 23 = dktX13_findKey_1 := dk_seg dksX13_findKey_0 23 rfl rfl
theorem dksX13_findKey_2 : cX13_findKey.data.toList.drop 46 = dktX13_findKey_2 := dk_seg dksX13_findKey_1 23 rfl rfl
theorem dksX13_findKey_3 : cX13_findKey.data.toList.drop 70 = dktX13_findKey_3 := dk_seg dksX13_findKey_2 24 rfl rfl
theorem dksX13_findKey_4 : cX13_findKey.data.toList.drop 94 = dktX13_findKey_4 := dk_seg dksX13_findKey_3 24 rfl rfl
theorem dksX13_findKey_5 : cX13_findKey.data.toList.drop 118 = dktX13_findKey_5 := dk_seg dksX13_findKey_4 24 rfl rfl
theorem dksX13_findKey_6 : cX13_findKey.data.toList.drop 142 = dktX13_findKey_6 := dk_seg dksX13_findKey_5 24 rfl rfl
theorem dksX13_findKey_7 : cX13_findKey.data.toList.drop 166 = dktX13_findKey_7 := dk_seg dksX13_findKey_6 24 rfl rfl
theorem dksX13_findKey_8 : cX13_findKey.data.toList.drop 189 = dktX13_findKey_8 := dk_seg dksX13_findKey_7 23 rfl rfl
theorem dksX13_findKey_9 : cX13_findKey.data.toList.drop 213 = dktX13_findKey_9 := dk_seg dksX13_findKey_8 24 rfl rfl
theorem dksX13_findKey_10 : cX13_findKey.data.toList.drop 237 = dktX13_findKey_10 := dk_seg dksX13_findKey_9 24 rfl rfl
theorem dX13_findKey_0 : decode cX13_findKey 0 = .ok (.aload_n 0, 1) := dk_42 (dk_at dksX13_findKey_0 0 rfl rfl)
theorem dX13_findKey_1 : decode cX13_findKey 1 = .ok (.iload_n 1, 1) := dk_27 (dk_at dksX13_findKey_0 1 rfl rfl)
theorem dX13_findKey_2 : decode cX13_findKey 2 = .ok (.iconst 0, 1) := dk_3 (dk_at dksX13_findKey_0 2 rfl rfl)
theorem dX13_findKey_3 : decode cX13_findKey 3 = .ok (.invokevirtual 370, 3) := dk_182 1 114 (dk_at dksX13_findKey_0 3 rfl rfl)
theorem dX13_findKey_6 : decode cX13_findKey 6 = .ok (.lstore 4, 2) := dk_55 4 (dk_at dksX13_findKey_0 6 rfl rfl)
theorem dX13_findKey_8 : decode cX13_findKey 8 = .ok (.aload_n 0, 1) := dk_42 (dk_at dksX13_findKey_0 8 rfl rfl)
theorem dX13_findKey_9 : decode cX13_findKey 9 = .ok (.getfield 115, 3) := dk_180 0 115 (dk_at dksX13_findKey_0 9 rfl rfl)
theorem dX13_findKey_12 : decode cX13_findKey 12 = .ok (.iload_n 1, 1) := dk_27 (dk_at dksX13_findKey_0 12 rfl rfl)
theorem dX13_findKey_13 : decode cX13_findKey 13 = .ok (.iaload, 1) := dk_46 (dk_at dksX13_findKey_0 13 rfl rfl)
theorem dX13_findKey_14 : decode cX13_findKey 14 = .ok (.aload_n 0, 1) := dk_42 (dk_at dksX13_findKey_0 14 rfl rfl)
theorem dX13_findKey_15 : decode cX13_findKey 15 = .ok (.getfield 115, 3) := dk_180 0 115 (dk_at dksX13_findKey_0 15 rfl rfl)
theorem dX13_findKey_18 : decode cX13_findKey 18 = .ok (.iload_n 1, 1) := dk_27 (dk_at dksX13_findKey_0 18 rfl rfl)
theorem dX13_findKey_19 : decode cX13_findKey 19 = .ok (.iconst 1, 1) := dk_4 (dk_at dksX13_findKey_0 19 rfl rfl)
theorem dX13_findKey_20 : decode cX13_findKey 20 = .ok (.iadd, 1) := dk_96 (dk_at dksX13_findKey_0 20 rfl rfl)
theorem dX13_findKey_21 : decode cX13_findKey 21 = .ok (.iaload, 1) := dk_46 (dk_at dksX13_findKey_0 21 rfl rfl)
theorem dX13_findKey_22 : decode cX13_findKey 22 = .ok (.iadd, 1) := dk_96 (dk_at dksX13_findKey_0 22 rfl rfl)
theorem dX13_findKey_23 : decode cX13_findKey 23 = .ok (.bipush 21, 2) := dk_16 21 (dk_at dksX13_findKey_1 0 rfl rfl)
theorem dX13_findKey_25 : decode cX13_findKey 25 = .ok (.if_icmp .le 12, 3) := dk_164 0 12 (dk_at dksX13_findKey_1 2 rfl rfl)
theorem dX13_findKey_28 : decode cX13_findKey 28 = .ok (.aload_n 0, 1) := dk_42 (dk_at dksX13_findKey_1 5 rfl rfl)
theorem dX13_findKey_29 : decode cX13_findKey 29 = .ok (.iload_n 1, 1) := dk_27 (dk_at dksX13_findKey_1 6 rfl rfl)
theorem dX13_findKey_30 : decode cX13_findKey 30 = .ok (.iconst 1, 1) := dk_4 (dk_at dksX13_findKey_1 7 rfl rfl)
theorem dX13_findKey_31 : decode cX13_findKey 31 = .ok (.invokevirtual 370, 3) := dk_182 1 114 (dk_at dksX13_findKey_1 8 rfl rfl)
theorem dX13_findKey_34 : decode cX13_findKey 34 = .ok (.goto 4, 3) := dk_167 0 4 (dk_at dksX13_findKey_1 11 rfl rfl)
theorem dX13_findKey_37 : decode cX13_findKey 37 = .ok (.lconst 0, 1) := dk_9 (dk_at dksX13_findKey_1 14 rfl rfl)
theorem dX13_findKey_38 : decode cX13_findKey 38 = .ok (.lstore 6, 2) := dk_55 6 (dk_at dksX13_findKey_1 15 rfl rfl)
theorem dX13_findKey_40 : decode cX13_findKey 40 = .ok (.aload_n 0, 1) := dk_42 (dk_at dksX13_findKey_1 17 rfl rfl)
theorem dX13_findKey_41 : decode cX13_findKey 41 = .ok (.iload_n 1, 1) := dk_27 (dk_at dksX13_findKey_1 18 rfl rfl)
theorem dX13_findKey_42 : decode cX13_findKey 42 = .ok (.iconst 2, 1) := dk_5 (dk_at dksX13_findKey_1 19 rfl rfl)
theorem dX13_findKey_43 : decode cX13_findKey 43 = .ok (.invokevirtual 370, 3) := dk_182 1 114 (dk_at dksX13_findKey_1 20 rfl rfl)
theorem dX13_findKey_46 : decode cX13_findKey 46 = .ok (.lstore 8, 2) := dk_55 8 (dk_at dksX13_findKey_2 0 rfl rfl)
theorem dX13_findKey_48 : decode cX13_findKey 48 = .ok (.lload 4, 2) := dk_22 4 (dk_at dksX13_findKey_2 2 rfl rfl)
theorem dX13_findKey_50 : decode cX13_findKey 50 = .ok (.ldc2_w 374, 3) := dk_20 1 118 (dk_at dksX13_findKey_2 4 rfl rfl)
theorem dX13_findKey_53 : decode cX13_findKey 53 = .ok (.lmul, 1) := dk_105 (dk_at dksX13_findKey_2 7 rfl rfl)
theorem dX13_findKey_54 : decode cX13_findKey 54 = .ok (.lload 6, 2) := dk_22 6 (dk_at dksX13_findKey_2 8 rfl rfl)
theorem dX13_findKey_56 : decode cX13_findKey 56 = .ok (.ldc2_w 376, 3) := dk_20 1 120 (dk_at dksX13_findKey_2 10 rfl rfl)
theorem dX13_findKey_59 : decode cX13_findKey 59 = .ok (.lmul, 1) := dk_105 (dk_at dksX13_findKey_2 13 rfl rfl)
theorem dX13_findKey_60 : decode cX13_findKey 60 = .ok (.ladd, 1) := dk_97 (dk_at dksX13_findKey_2 14 rfl rfl)
theorem dX13_findKey_61 : decode cX13_findKey 61 = .ok (.lload 8, 2) := dk_22 8 (dk_at dksX13_findKey_2 15 rfl rfl)
theorem dX13_findKey_63 : decode cX13_findKey 63 = .ok (.ldc2_w 378, 3) := dk_20 1 122 (dk_at dksX13_findKey_2 17 rfl rfl)
theorem dX13_findKey_66 : decode cX13_findKey 66 = .ok (.lmul, 1) := dk_105 (dk_at dksX13_findKey_2 20 rfl rfl)
theorem dX13_findKey_67 : decode cX13_findKey 67 = .ok (.ladd, 1) := dk_97 (dk_at dksX13_findKey_2 21 rfl rfl)
theorem dX13_findKey_68 : decode cX13_findKey 68 = .ok (.lload 4, 2) := dk_22 4 (dk_at dksX13_findKey_2 22 rfl rfl)
theorem dX13_findKey_70 : decode cX13_findKey 70 = .ok (.bipush 30, 2) := dk_16 30 (dk_at dksX13_findKey_3 0 rfl rfl)
theorem dX13_findKey_72 : decode cX13_findKey 72 = .ok (.lshr, 1) := dk_123 (dk_at dksX13_findKey_3 2 rfl rfl)
theorem dX13_findKey_73 : decode cX13_findKey 73 = .ok (.ladd, 1) := dk_97 (dk_at dksX13_findKey_3 3 rfl rfl)
theorem dX13_findKey_74 : decode cX13_findKey 74 = .ok (.lload 8, 2) := dk_22 8 (dk_at dksX13_findKey_3 4 rfl rfl)
theorem dX13_findKey_76 : decode cX13_findKey 76 = .ok (.bipush 20, 2) := dk_16 20 (dk_at dksX13_findKey_3 6 rfl rfl)
theorem dX13_findKey_78 : decode cX13_findKey 78 = .ok (.lshr, 1) := dk_123 (dk_at dksX13_findKey_3 8 rfl rfl)
theorem dX13_findKey_79 : decode cX13_findKey 79 = .ok (.ladd, 1) := dk_97 (dk_at dksX13_findKey_3 9 rfl rfl)
theorem dX13_findKey_80 : decode cX13_findKey 80 = .ok (.ldc2_w 380, 3) := dk_20 1 124 (dk_at dksX13_findKey_3 10 rfl rfl)
theorem dX13_findKey_83 : decode cX13_findKey 83 = .ok (.land, 1) := dk_127 (dk_at dksX13_findKey_3 13 rfl rfl)
theorem dX13_findKey_84 : decode cX13_findKey 84 = .ok (.l2i, 1) := dk_136 (dk_at dksX13_findKey_3 14 rfl rfl)
theorem dX13_findKey_85 : decode cX13_findKey 85 = .ok (.istore 10, 2) := dk_54 10 (dk_at dksX13_findKey_3 15 rfl rfl)
theorem dX13_findKey_87 : decode cX13_findKey 87 = .ok (.aload_n 0, 1) := dk_42 (dk_at dksX13_findKey_3 17 rfl rfl)
theorem dX13_findKey_88 : decode cX13_findKey 88 = .ok (.getfield 146, 3) := dk_180 0 146 (dk_at dksX13_findKey_3 18 rfl rfl)
theorem dX13_findKey_91 : decode cX13_findKey 91 = .ok (.iload 10, 2) := dk_21 10 (dk_at dksX13_findKey_3 21 rfl rfl)
theorem dX13_findKey_93 : decode cX13_findKey 93 = .ok (.iaload, 1) := dk_46 (dk_at dksX13_findKey_3 23 rfl rfl)
theorem dX13_findKey_94 : decode cX13_findKey 94 = .ok (.istore 11, 2) := dk_54 11 (dk_at dksX13_findKey_4 0 rfl rfl)
theorem dX13_findKey_96 : decode cX13_findKey 96 = .ok (.iload 11, 2) := dk_21 11 (dk_at dksX13_findKey_4 2 rfl rfl)
theorem dX13_findKey_98 : decode cX13_findKey 98 = .ok (.ifCond .lt 57, 3) := dk_155 0 57 (dk_at dksX13_findKey_4 4 rfl rfl)
theorem dX13_findKey_101 : decode cX13_findKey 101 = .ok (.aload_n 0, 1) := dk_42 (dk_at dksX13_findKey_4 7 rfl rfl)
theorem dX13_findKey_102 : decode cX13_findKey 102 = .ok (.getfield 128, 3) := dk_180 0 128 (dk_at dksX13_findKey_4 8 rfl rfl)
theorem dX13_findKey_105 : decode cX13_findKey 105 = .ok (.iload 11, 2) := dk_21 11 (dk_at dksX13_findKey_4 11 rfl rfl)
theorem dX13_findKey_107 : decode cX13_findKey 107 = .ok (.laload, 1) := dk_47 (dk_at dksX13_findKey_4 13 rfl rfl)
theorem dX13_findKey_108 : decode cX13_findKey 108 = .ok (.lload 4, 2) := dk_22 4 (dk_at dksX13_findKey_4 14 rfl rfl)
theorem dX13_findKey_110 : decode cX13_findKey 110 = .ok (.lcmp, 1) := dk_148 (dk_at dksX13_findKey_4 16 rfl rfl)
theorem dX13_findKey_111 : decode cX13_findKey 111 = .ok (.ifCond .ne 32, 3) := dk_154 0 32 (dk_at dksX13_findKey_4 17 rfl rfl)
theorem dX13_findKey_114 : decode cX13_findKey 114 = .ok (.aload_n 0, 1) := dk_42 (dk_at dksX13_findKey_4 20 rfl rfl)
theorem dX13_findKey_115 : decode cX13_findKey 115 = .ok (.getfield 131, 3) := dk_180 0 131 (dk_at dksX13_findKey_4 21 rfl rfl)
theorem dX13_findKey_118 : decode cX13_findKey 118 = .ok (.iload 11, 2) := dk_21 11 (dk_at dksX13_findKey_5 0 rfl rfl)
theorem dX13_findKey_120 : decode cX13_findKey 120 = .ok (.laload, 1) := dk_47 (dk_at dksX13_findKey_5 2 rfl rfl)
theorem dX13_findKey_121 : decode cX13_findKey 121 = .ok (.lload 6, 2) := dk_22 6 (dk_at dksX13_findKey_5 3 rfl rfl)
theorem dX13_findKey_123 : decode cX13_findKey 123 = .ok (.lcmp, 1) := dk_148 (dk_at dksX13_findKey_5 5 rfl rfl)
theorem dX13_findKey_124 : decode cX13_findKey 124 = .ok (.ifCond .ne 19, 3) := dk_154 0 19 (dk_at dksX13_findKey_5 6 rfl rfl)
theorem dX13_findKey_127 : decode cX13_findKey 127 = .ok (.aload_n 0, 1) := dk_42 (dk_at dksX13_findKey_5 9 rfl rfl)
theorem dX13_findKey_128 : decode cX13_findKey 128 = .ok (.getfield 134, 3) := dk_180 0 134 (dk_at dksX13_findKey_5 10 rfl rfl)
theorem dX13_findKey_131 : decode cX13_findKey 131 = .ok (.iload 11, 2) := dk_21 11 (dk_at dksX13_findKey_5 13 rfl rfl)
theorem dX13_findKey_133 : decode cX13_findKey 133 = .ok (.laload, 1) := dk_47 (dk_at dksX13_findKey_5 15 rfl rfl)
theorem dX13_findKey_134 : decode cX13_findKey 134 = .ok (.lload 8, 2) := dk_22 8 (dk_at dksX13_findKey_5 16 rfl rfl)
theorem dX13_findKey_136 : decode cX13_findKey 136 = .ok (.lcmp, 1) := dk_148 (dk_at dksX13_findKey_5 18 rfl rfl)
theorem dX13_findKey_137 : decode cX13_findKey 137 = .ok (.ifCond .ne 6, 3) := dk_154 0 6 (dk_at dksX13_findKey_5 19 rfl rfl)
theorem dX13_findKey_140 : decode cX13_findKey 140 = .ok (.iload 11, 2) := dk_21 11 (dk_at dksX13_findKey_5 22 rfl rfl)
theorem dX13_findKey_142 : decode cX13_findKey 142 = .ok (.ireturn, 1) := dk_172 (dk_at dksX13_findKey_6 0 rfl rfl)
theorem dX13_findKey_143 : decode cX13_findKey 143 = .ok (.aload_n 0, 1) := dk_42 (dk_at dksX13_findKey_6 1 rfl rfl)
theorem dX13_findKey_144 : decode cX13_findKey 144 = .ok (.getfield 143, 3) := dk_180 0 143 (dk_at dksX13_findKey_6 2 rfl rfl)
theorem dX13_findKey_147 : decode cX13_findKey 147 = .ok (.iload 11, 2) := dk_21 11 (dk_at dksX13_findKey_6 5 rfl rfl)
theorem dX13_findKey_149 : decode cX13_findKey 149 = .ok (.iaload, 1) := dk_46 (dk_at dksX13_findKey_6 7 rfl rfl)
theorem dX13_findKey_150 : decode cX13_findKey 150 = .ok (.istore 11, 2) := dk_54 11 (dk_at dksX13_findKey_6 8 rfl rfl)
theorem dX13_findKey_152 : decode cX13_findKey 152 = .ok (.goto (-56), 3) := dk_167 255 200 (dk_at dksX13_findKey_6 10 rfl rfl)
theorem dX13_findKey_155 : decode cX13_findKey 155 = .ok (.aload_n 0, 1) := dk_42 (dk_at dksX13_findKey_6 13 rfl rfl)
theorem dX13_findKey_156 : decode cX13_findKey 156 = .ok (.getfield 128, 3) := dk_180 0 128 (dk_at dksX13_findKey_6 14 rfl rfl)
theorem dX13_findKey_159 : decode cX13_findKey 159 = .ok (.aload_n 0, 1) := dk_42 (dk_at dksX13_findKey_6 17 rfl rfl)
theorem dX13_findKey_160 : decode cX13_findKey 160 = .ok (.getfield 382, 3) := dk_180 1 126 (dk_at dksX13_findKey_6 18 rfl rfl)
theorem dX13_findKey_163 : decode cX13_findKey 163 = .ok (.lload 4, 2) := dk_22 4 (dk_at dksX13_findKey_6 21 rfl rfl)
theorem dX13_findKey_165 : decode cX13_findKey 165 = .ok (.lastore, 1) := dk_80 (dk_at dksX13_findKey_6 23 rfl rfl)
theorem dX13_findKey_166 : decode cX13_findKey 166 = .ok (.aload_n 0, 1) := dk_42 (dk_at dksX13_findKey_7 0 rfl rfl)
theorem dX13_findKey_167 : decode cX13_findKey 167 = .ok (.getfield 131, 3) := dk_180 0 131 (dk_at dksX13_findKey_7 1 rfl rfl)
theorem dX13_findKey_170 : decode cX13_findKey 170 = .ok (.aload_n 0, 1) := dk_42 (dk_at dksX13_findKey_7 4 rfl rfl)
theorem dX13_findKey_171 : decode cX13_findKey 171 = .ok (.getfield 382, 3) := dk_180 1 126 (dk_at dksX13_findKey_7 5 rfl rfl)
theorem dX13_findKey_174 : decode cX13_findKey 174 = .ok (.lload 6, 2) := dk_22 6 (dk_at dksX13_findKey_7 8 rfl rfl)
theorem dX13_findKey_176 : decode cX13_findKey 176 = .ok (.lastore, 1) := dk_80 (dk_at dksX13_findKey_7 10 rfl rfl)
theorem dX13_findKey_177 : decode cX13_findKey 177 = .ok (.aload_n 0, 1) := dk_42 (dk_at dksX13_findKey_7 11 rfl rfl)
theorem dX13_findKey_178 : decode cX13_findKey 178 = .ok (.getfield 134, 3) := dk_180 0 134 (dk_at dksX13_findKey_7 12 rfl rfl)
theorem dX13_findKey_181 : decode cX13_findKey 181 = .ok (.aload_n 0, 1) := dk_42 (dk_at dksX13_findKey_7 15 rfl rfl)
theorem dX13_findKey_182 : decode cX13_findKey 182 = .ok (.getfield 382, 3) := dk_180 1 126 (dk_at dksX13_findKey_7 16 rfl rfl)
theorem dX13_findKey_185 : decode cX13_findKey 185 = .ok (.lload 8, 2) := dk_22 8 (dk_at dksX13_findKey_7 19 rfl rfl)
theorem dX13_findKey_187 : decode cX13_findKey 187 = .ok (.lastore, 1) := dk_80 (dk_at dksX13_findKey_7 21 rfl rfl)
theorem dX13_findKey_188 : decode cX13_findKey 188 = .ok (.aload_n 0, 1) := dk_42 (dk_at dksX13_findKey_7 22 rfl rfl)
theorem dX13_findKey_189 : decode cX13_findKey 189 = .ok (.getfield 137, 3) := dk_180 0 137 (dk_at dksX13_findKey_8 0 rfl rfl)
theorem dX13_findKey_192 : decode cX13_findKey 192 = .ok (.aload_n 0, 1) := dk_42 (dk_at dksX13_findKey_8 3 rfl rfl)
theorem dX13_findKey_193 : decode cX13_findKey 193 = .ok (.getfield 382, 3) := dk_180 1 126 (dk_at dksX13_findKey_8 4 rfl rfl)
theorem dX13_findKey_196 : decode cX13_findKey 196 = .ok (.iload_n 2, 1) := dk_28 (dk_at dksX13_findKey_8 7 rfl rfl)
theorem dX13_findKey_197 : decode cX13_findKey 197 = .ok (.iastore, 1) := dk_79 (dk_at dksX13_findKey_8 8 rfl rfl)
theorem dX13_findKey_198 : decode cX13_findKey 198 = .ok (.aload_n 0, 1) := dk_42 (dk_at dksX13_findKey_8 9 rfl rfl)
theorem dX13_findKey_199 : decode cX13_findKey 199 = .ok (.getfield 140, 3) := dk_180 0 140 (dk_at dksX13_findKey_8 10 rfl rfl)
theorem dX13_findKey_202 : decode cX13_findKey 202 = .ok (.aload_n 0, 1) := dk_42 (dk_at dksX13_findKey_8 13 rfl rfl)
theorem dX13_findKey_203 : decode cX13_findKey 203 = .ok (.getfield 382, 3) := dk_180 1 126 (dk_at dksX13_findKey_8 14 rfl rfl)
theorem dX13_findKey_206 : decode cX13_findKey 206 = .ok (.iload_n 3, 1) := dk_29 (dk_at dksX13_findKey_8 17 rfl rfl)
theorem dX13_findKey_207 : decode cX13_findKey 207 = .ok (.iastore, 1) := dk_79 (dk_at dksX13_findKey_8 18 rfl rfl)
theorem dX13_findKey_208 : decode cX13_findKey 208 = .ok (.aload_n 0, 1) := dk_42 (dk_at dksX13_findKey_8 19 rfl rfl)
theorem dX13_findKey_209 : decode cX13_findKey 209 = .ok (.getfield 143, 3) := dk_180 0 143 (dk_at dksX13_findKey_8 20 rfl rfl)
theorem dX13_findKey_212 : decode cX13_findKey 212 = .ok (.aload_n 0, 1) := dk_42 (dk_at dksX13_findKey_8 23 rfl rfl)
theorem dX13_findKey_213 : decode cX13_findKey 213 = .ok (.getfield 382, 3) := dk_180 1 126 (dk_at dksX13_findKey_9 0 rfl rfl)
theorem dX13_findKey_216 : decode cX13_findKey 216 = .ok (.aload_n 0, 1) := dk_42 (dk_at dksX13_findKey_9 3 rfl rfl)
theorem dX13_findKey_217 : decode cX13_findKey 217 = .ok (.getfield 146, 3) := dk_180 0 146 (dk_at dksX13_findKey_9 4 rfl rfl)
theorem dX13_findKey_220 : decode cX13_findKey 220 = .ok (.iload 10, 2) := dk_21 10 (dk_at dksX13_findKey_9 7 rfl rfl)
theorem dX13_findKey_222 : decode cX13_findKey 222 = .ok (.iaload, 1) := dk_46 (dk_at dksX13_findKey_9 9 rfl rfl)
theorem dX13_findKey_223 : decode cX13_findKey 223 = .ok (.iastore, 1) := dk_79 (dk_at dksX13_findKey_9 10 rfl rfl)
theorem dX13_findKey_224 : decode cX13_findKey 224 = .ok (.aload_n 0, 1) := dk_42 (dk_at dksX13_findKey_9 11 rfl rfl)
theorem dX13_findKey_225 : decode cX13_findKey 225 = .ok (.getfield 146, 3) := dk_180 0 146 (dk_at dksX13_findKey_9 12 rfl rfl)
theorem dX13_findKey_228 : decode cX13_findKey 228 = .ok (.iload 10, 2) := dk_21 10 (dk_at dksX13_findKey_9 15 rfl rfl)
theorem dX13_findKey_230 : decode cX13_findKey 230 = .ok (.aload_n 0, 1) := dk_42 (dk_at dksX13_findKey_9 17 rfl rfl)
theorem dX13_findKey_231 : decode cX13_findKey 231 = .ok (.getfield 382, 3) := dk_180 1 126 (dk_at dksX13_findKey_9 18 rfl rfl)
theorem dX13_findKey_234 : decode cX13_findKey 234 = .ok (.iastore, 1) := dk_79 (dk_at dksX13_findKey_9 21 rfl rfl)
theorem dX13_findKey_235 : decode cX13_findKey 235 = .ok (.aload_n 0, 1) := dk_42 (dk_at dksX13_findKey_9 22 rfl rfl)
theorem dX13_findKey_236 : decode cX13_findKey 236 = .ok (.dup, 1) := dk_89 (dk_at dksX13_findKey_9 23 rfl rfl)
theorem dX13_findKey_237 : decode cX13_findKey 237 = .ok (.getfield 382, 3) := dk_180 1 126 (dk_at dksX13_findKey_10 0 rfl rfl)
theorem dX13_findKey_240 : decode cX13_findKey 240 = .ok (.iconst 1, 1) := dk_4 (dk_at dksX13_findKey_10 3 rfl rfl)
theorem dX13_findKey_241 : decode cX13_findKey 241 = .ok (.iadd, 1) := dk_96 (dk_at dksX13_findKey_10 4 rfl rfl)
theorem dX13_findKey_242 : decode cX13_findKey 242 = .ok (.putfield 382, 3) := dk_181 1 126 (dk_at dksX13_findKey_10 5 rfl rfl)
theorem dX13_findKey_245 : decode cX13_findKey 245 = .ok (.iconst (-1), 1) := dk_2 (dk_at dksX13_findKey_10 8 rfl rfl)
theorem dX13_findKey_246 : decode cX13_findKey 246 = .ok (.ireturn, 1) := dk_172 (dk_at dksX13_findKey_10 9 rfl rfl)
abbrev cX13_keyOf : ByteArray := prog_24_method_68_code
def yX13_keyOf : MethodName := ⟨RX13, "keyOf", "(II)J"⟩
def dkwX13_keyOf_6 : List UInt8 := [27, 6, 96, 46, 133, 97, 167, 0, 4, 33, 173]
abbrev dktX13_keyOf_6 : List UInt8 := dkwX13_keyOf_6 ++ []
def dkwX13_keyOf_5 : List UInt8 := [28, 5, 160, 0, 31, 33, 20, 1, 112, 105, 5, 42, 180, 0, 115, 27, 46, 104, 133, 97, 42, 180, 0, 115]
abbrev dktX13_keyOf_5 : List UInt8 := dkwX13_keyOf_5 ++ dktX13_keyOf_6
def dkwX13_keyOf_4 : List UInt8 := [100, 96, 46, 16, 8, 112, 54, 7, 20, 1, 110, 33, 105, 21, 7, 133, 97, 66, 132, 6, 1, 167, 255, 167]
abbrev dktX13_keyOf_4 : List UInt8 := dkwX13_keyOf_4 ++ dktX13_keyOf_5
def dkwX13_keyOf_3 : List UInt8 := [180, 0, 115, 27, 46, 162, 0, 8, 21, 6, 167, 0, 15, 16, 48, 21, 6, 96, 42, 180, 0, 115, 27, 46]
abbrev dktX13_keyOf_3 : List UInt8 := dkwX13_keyOf_3 ++ dktX13_keyOf_4
def dkwX13_keyOf_2 : List UInt8 := [21, 6, 21, 5, 161, 0, 7, 3, 167, 0, 44, 42, 180, 0, 115, 27, 16, 20, 96, 21, 6, 42]
abbrev dktX13_keyOf_2 : List UInt8 := dkwX13_keyOf_2 ++ dktX13_keyOf_3
def dkwX13_keyOf_1 : List UInt8 := [54, 6, 21, 6, 28, 5, 160, 0, 8, 16, 48, 167, 0, 10, 16, 21, 28, 104, 16, 21, 96, 162, 0, 73]
abbrev dktX13_keyOf_1 : List UInt8 := dkwX13_keyOf_1 ++ dktX13_keyOf_2
def dkwX13_keyOf_0 : List UInt8 := [9, 66, 42, 180, 0, 115, 27, 46, 42, 180, 0, 115, 27, 4, 96, 46, 96, 54, 5, 16, 21, 28, 104]
abbrev dktX13_keyOf_0 : List UInt8 := dkwX13_keyOf_0 ++ dktX13_keyOf_1
theorem dksX13_keyOf_0 : cX13_keyOf.data.toList.drop 0 = dktX13_keyOf_0 := by decide +kernel
theorem dksX13_keyOf_1 : cX13_keyOf.data.toList.drop 23 = dktX13_keyOf_1 := dk_seg dksX13_keyOf_0 23 rfl rfl
theorem dksX13_keyOf_2 : cX13_keyOf.data.toList.drop 47 = dktX13_keyOf_2 := dk_seg dksX13_keyOf_1 24 rfl rfl
theorem dksX13_keyOf_3 : cX13_keyOf.data.toList.drop 69 = dktX13_keyOf_3 := dk_seg dksX13_keyOf_2 22 rfl rfl
theorem dksX13_keyOf_4 : cX13_keyOf.data.toList.drop 93 = dktX13_keyOf_4 := dk_seg dksX13_keyOf_3 24 rfl rfl
theorem dksX13_keyOf_5 : cX13_keyOf.data.toList.drop 117 = dktX13_keyOf_5 := dk_seg dksX13_keyOf_4 24 rfl rfl
theorem dksX13_keyOf_6 : cX13_keyOf.data.toList.drop 141 = dktX13_keyOf_6 := dk_seg dksX13_keyOf_5 24 rfl rfl
theorem dX13_keyOf_0 : decode cX13_keyOf 0 = .ok (.lconst 0, 1) := dk_9 (dk_at dksX13_keyOf_0 0 rfl rfl)
theorem dX13_keyOf_1 : decode cX13_keyOf 1 = .ok (.lstore_n 3, 1) := dk_66 (dk_at dksX13_keyOf_0 1 rfl rfl)
theorem dX13_keyOf_2 : decode cX13_keyOf 2 = .ok (.aload_n 0, 1) := dk_42 (dk_at dksX13_keyOf_0 2 rfl rfl)
theorem dX13_keyOf_3 : decode cX13_keyOf 3 = .ok (.getfield 115, 3) := dk_180 0 115 (dk_at dksX13_keyOf_0 3 rfl rfl)
theorem dX13_keyOf_6 : decode cX13_keyOf 6 = .ok (.iload_n 1, 1) := dk_27 (dk_at dksX13_keyOf_0 6 rfl rfl)
theorem dX13_keyOf_7 : decode cX13_keyOf 7 = .ok (.iaload, 1) := dk_46 (dk_at dksX13_keyOf_0 7 rfl rfl)
theorem dX13_keyOf_8 : decode cX13_keyOf 8 = .ok (.aload_n 0, 1) := dk_42 (dk_at dksX13_keyOf_0 8 rfl rfl)
theorem dX13_keyOf_9 : decode cX13_keyOf 9 = .ok (.getfield 115, 3) := dk_180 0 115 (dk_at dksX13_keyOf_0 9 rfl rfl)
theorem dX13_keyOf_12 : decode cX13_keyOf 12 = .ok (.iload_n 1, 1) := dk_27 (dk_at dksX13_keyOf_0 12 rfl rfl)
theorem dX13_keyOf_13 : decode cX13_keyOf 13 = .ok (.iconst 1, 1) := dk_4 (dk_at dksX13_keyOf_0 13 rfl rfl)
theorem dX13_keyOf_14 : decode cX13_keyOf 14 = .ok (.iadd, 1) := dk_96 (dk_at dksX13_keyOf_0 14 rfl rfl)
theorem dX13_keyOf_15 : decode cX13_keyOf 15 = .ok (.iaload, 1) := dk_46 (dk_at dksX13_keyOf_0 15 rfl rfl)
theorem dX13_keyOf_16 : decode cX13_keyOf 16 = .ok (.iadd, 1) := dk_96 (dk_at dksX13_keyOf_0 16 rfl rfl)
theorem dX13_keyOf_17 : decode cX13_keyOf 17 = .ok (.istore 5, 2) := dk_54 5 (dk_at dksX13_keyOf_0 17 rfl rfl)
theorem dX13_keyOf_19 : decode cX13_keyOf 19 = .ok (.bipush 21, 2) := dk_16 21 (dk_at dksX13_keyOf_0 19 rfl rfl)
theorem dX13_keyOf_21 : decode cX13_keyOf 21 = .ok (.iload_n 2, 1) := dk_28 (dk_at dksX13_keyOf_0 21 rfl rfl)
theorem dX13_keyOf_22 : decode cX13_keyOf 22 = .ok (.imul, 1) := dk_104 (dk_at dksX13_keyOf_0 22 rfl rfl)
theorem dX13_keyOf_23 : decode cX13_keyOf 23 = .ok (.istore 6, 2) := dk_54 6 (dk_at dksX13_keyOf_1 0 rfl rfl)
theorem dX13_keyOf_25 : decode cX13_keyOf 25 = .ok (.iload 6, 2) := dk_21 6 (dk_at dksX13_keyOf_1 2 rfl rfl)
theorem dX13_keyOf_27 : decode cX13_keyOf 27 = .ok (.iload_n 2, 1) := dk_28 (dk_at dksX13_keyOf_1 4 rfl rfl)
theorem dX13_keyOf_28 : decode cX13_keyOf 28 = .ok (.iconst 2, 1) := dk_5 (dk_at dksX13_keyOf_1 5 rfl rfl)
theorem dX13_keyOf_29 : decode cX13_keyOf 29 = .ok (.if_icmp .ne 8, 3) := dk_160 0 8 (dk_at dksX13_keyOf_1 6 rfl rfl)
theorem dX13_keyOf_32 : decode cX13_keyOf 32 = .ok (.bipush 48, 2) := dk_16 48 (dk_at dksX13_keyOf_1 9 rfl rfl)
theorem dX13_keyOf_34 : decode cX13_keyOf 34 = .ok (.goto 10, 3) := dk_167 0 10 (dk_at dksX13_keyOf_1 11 rfl rfl)
theorem dX13_keyOf_37 : decode cX13_keyOf 37 = .ok (.bipush 21, 2) := dk_16 21 (dk_at dksX13_keyOf_1 14 rfl rfl)
theorem dX13_keyOf_39 : decode cX13_keyOf 39 = .ok (.iload_n 2, 1) := dk_28 (dk_at dksX13_keyOf_1 16 rfl rfl)
theorem dX13_keyOf_40 : decode cX13_keyOf 40 = .ok (.imul, 1) := dk_104 (dk_at dksX13_keyOf_1 17 rfl rfl)
theorem dX13_keyOf_41 : decode cX13_keyOf 41 = .ok (.bipush 21, 2) := dk_16 21 (dk_at dksX13_keyOf_1 18 rfl rfl)
theorem dX13_keyOf_43 : decode cX13_keyOf 43 = .ok (.iadd, 1) := dk_96 (dk_at dksX13_keyOf_1 20 rfl rfl)
theorem dX13_keyOf_44 : decode cX13_keyOf 44 = .ok (.if_icmp .ge 73, 3) := dk_162 0 73 (dk_at dksX13_keyOf_1 21 rfl rfl)
theorem dX13_keyOf_47 : decode cX13_keyOf 47 = .ok (.iload 6, 2) := dk_21 6 (dk_at dksX13_keyOf_2 0 rfl rfl)
theorem dX13_keyOf_49 : decode cX13_keyOf 49 = .ok (.iload 5, 2) := dk_21 5 (dk_at dksX13_keyOf_2 2 rfl rfl)
theorem dX13_keyOf_51 : decode cX13_keyOf 51 = .ok (.if_icmp .lt 7, 3) := dk_161 0 7 (dk_at dksX13_keyOf_2 4 rfl rfl)
theorem dX13_keyOf_54 : decode cX13_keyOf 54 = .ok (.iconst 0, 1) := dk_3 (dk_at dksX13_keyOf_2 7 rfl rfl)
theorem dX13_keyOf_55 : decode cX13_keyOf 55 = .ok (.goto 44, 3) := dk_167 0 44 (dk_at dksX13_keyOf_2 8 rfl rfl)
theorem dX13_keyOf_58 : decode cX13_keyOf 58 = .ok (.aload_n 0, 1) := dk_42 (dk_at dksX13_keyOf_2 11 rfl rfl)
theorem dX13_keyOf_59 : decode cX13_keyOf 59 = .ok (.getfield 115, 3) := dk_180 0 115 (dk_at dksX13_keyOf_2 12 rfl rfl)
theorem dX13_keyOf_62 : decode cX13_keyOf 62 = .ok (.iload_n 1, 1) := dk_27 (dk_at dksX13_keyOf_2 15 rfl rfl)
theorem dX13_keyOf_63 : decode cX13_keyOf 63 = .ok (.bipush 20, 2) := dk_16 20 (dk_at dksX13_keyOf_2 16 rfl rfl)
theorem dX13_keyOf_65 : decode cX13_keyOf 65 = .ok (.iadd, 1) := dk_96 (dk_at dksX13_keyOf_2 18 rfl rfl)
theorem dX13_keyOf_66 : decode cX13_keyOf 66 = .ok (.iload 6, 2) := dk_21 6 (dk_at dksX13_keyOf_2 19 rfl rfl)
theorem dX13_keyOf_68 : decode cX13_keyOf 68 = .ok (.aload_n 0, 1) := dk_42 (dk_at dksX13_keyOf_2 21 rfl rfl)
theorem dX13_keyOf_69 : decode cX13_keyOf 69 = .ok (.getfield 115, 3) := dk_180 0 115 (dk_at dksX13_keyOf_3 0 rfl rfl)
theorem dX13_keyOf_72 : decode cX13_keyOf 72 = .ok (.iload_n 1, 1) := dk_27 (dk_at dksX13_keyOf_3 3 rfl rfl)
theorem dX13_keyOf_73 : decode cX13_keyOf 73 = .ok (.iaload, 1) := dk_46 (dk_at dksX13_keyOf_3 4 rfl rfl)
theorem dX13_keyOf_74 : decode cX13_keyOf 74 = .ok (.if_icmp .ge 8, 3) := dk_162 0 8 (dk_at dksX13_keyOf_3 5 rfl rfl)
theorem dX13_keyOf_77 : decode cX13_keyOf 77 = .ok (.iload 6, 2) := dk_21 6 (dk_at dksX13_keyOf_3 8 rfl rfl)
theorem dX13_keyOf_79 : decode cX13_keyOf 79 = .ok (.goto 15, 3) := dk_167 0 15 (dk_at dksX13_keyOf_3 10 rfl rfl)
theorem dX13_keyOf_82 : decode cX13_keyOf 82 = .ok (.bipush 48, 2) := dk_16 48 (dk_at dksX13_keyOf_3 13 rfl rfl)
theorem dX13_keyOf_84 : decode cX13_keyOf 84 = .ok (.iload 6, 2) := dk_21 6 (dk_at dksX13_keyOf_3 15 rfl rfl)
theorem dX13_keyOf_86 : decode cX13_keyOf 86 = .ok (.iadd, 1) := dk_96 (dk_at dksX13_keyOf_3 17 rfl rfl)
theorem dX13_keyOf_87 : decode cX13_keyOf 87 = .ok (.aload_n 0, 1) := dk_42 (dk_at dksX13_keyOf_3 18 rfl rfl)
theorem dX13_keyOf_88 : decode cX13_keyOf 88 = .ok (.getfield 115, 3) := dk_180 0 115 (dk_at dksX13_keyOf_3 19 rfl rfl)
theorem dX13_keyOf_91 : decode cX13_keyOf 91 = .ok (.iload_n 1, 1) := dk_27 (dk_at dksX13_keyOf_3 22 rfl rfl)
theorem dX13_keyOf_92 : decode cX13_keyOf 92 = .ok (.iaload, 1) := dk_46 (dk_at dksX13_keyOf_3 23 rfl rfl)
theorem dX13_keyOf_93 : decode cX13_keyOf 93 = .ok (.isub, 1) := dk_100 (dk_at dksX13_keyOf_4 0 rfl rfl)
theorem dX13_keyOf_94 : decode cX13_keyOf 94 = .ok (.iadd, 1) := dk_96 (dk_at dksX13_keyOf_4 1 rfl rfl)
theorem dX13_keyOf_95 : decode cX13_keyOf 95 = .ok (.iaload, 1) := dk_46 (dk_at dksX13_keyOf_4 2 rfl rfl)
theorem dX13_keyOf_96 : decode cX13_keyOf 96 = .ok (.bipush 8, 2) := dk_16 8 (dk_at dksX13_keyOf_4 3 rfl rfl)
theorem dX13_keyOf_98 : decode cX13_keyOf 98 = .ok (.irem, 1) := dk_112 (dk_at dksX13_keyOf_4 5 rfl rfl)
theorem dX13_keyOf_99 : decode cX13_keyOf 99 = .ok (.istore 7, 2) := dk_54 7 (dk_at dksX13_keyOf_4 6 rfl rfl)
theorem dX13_keyOf_101 : decode cX13_keyOf 101 = .ok (.ldc2_w 366, 3) := dk_20 1 110 (dk_at dksX13_keyOf_4 8 rfl rfl)
theorem dX13_keyOf_104 : decode cX13_keyOf 104 = .ok (.lload_n 3, 1) := dk_33 (dk_at dksX13_keyOf_4 11 rfl rfl)
theorem dX13_keyOf_105 : decode cX13_keyOf 105 = .ok (.lmul, 1) := dk_105 (dk_at dksX13_keyOf_4 12 rfl rfl)
theorem dX13_keyOf_106 : decode cX13_keyOf 106 = .ok (.iload 7, 2) := dk_21 7 (dk_at dksX13_keyOf_4 13 rfl rfl)
theorem dX13_keyOf_108 : decode cX13_keyOf 108 = .ok (.i2l, 1) := dk_133 (dk_at dksX13_keyOf_4 15 rfl rfl)
theorem dX13_keyOf_109 : decode cX13_keyOf 109 = .ok (.ladd, 1) := dk_97 (dk_at dksX13_keyOf_4 16 rfl rfl)
theorem dX13_keyOf_110 : decode cX13_keyOf 110 = .ok (.lstore_n 3, 1) := dk_66 (dk_at dksX13_keyOf_4 17 rfl rfl)
theorem dX13_keyOf_111 : decode cX13_keyOf 111 = .ok (.iinc 6 1, 3) := dk_132 6 1 (dk_at dksX13_keyOf_4 18 rfl rfl)
theorem dX13_keyOf_114 : decode cX13_keyOf 114 = .ok (.goto (-89), 3) := dk_167 255 167 (dk_at dksX13_keyOf_4 21 rfl rfl)
theorem dX13_keyOf_117 : decode cX13_keyOf 117 = .ok (.iload_n 2, 1) := dk_28 (dk_at dksX13_keyOf_5 0 rfl rfl)
theorem dX13_keyOf_118 : decode cX13_keyOf 118 = .ok (.iconst 2, 1) := dk_5 (dk_at dksX13_keyOf_5 1 rfl rfl)
theorem dX13_keyOf_119 : decode cX13_keyOf 119 = .ok (.if_icmp .ne 31, 3) := dk_160 0 31 (dk_at dksX13_keyOf_5 2 rfl rfl)
theorem dX13_keyOf_122 : decode cX13_keyOf 122 = .ok (.lload_n 3, 1) := dk_33 (dk_at dksX13_keyOf_5 5 rfl rfl)
theorem dX13_keyOf_123 : decode cX13_keyOf 123 = .ok (.ldc2_w 368, 3) := dk_20 1 112 (dk_at dksX13_keyOf_5 6 rfl rfl)
theorem dX13_keyOf_126 : decode cX13_keyOf 126 = .ok (.lmul, 1) := dk_105 (dk_at dksX13_keyOf_5 9 rfl rfl)
theorem dX13_keyOf_127 : decode cX13_keyOf 127 = .ok (.iconst 2, 1) := dk_5 (dk_at dksX13_keyOf_5 10 rfl rfl)
theorem dX13_keyOf_128 : decode cX13_keyOf 128 = .ok (.aload_n 0, 1) := dk_42 (dk_at dksX13_keyOf_5 11 rfl rfl)
theorem dX13_keyOf_129 : decode cX13_keyOf 129 = .ok (.getfield 115, 3) := dk_180 0 115 (dk_at dksX13_keyOf_5 12 rfl rfl)
theorem dX13_keyOf_132 : decode cX13_keyOf 132 = .ok (.iload_n 1, 1) := dk_27 (dk_at dksX13_keyOf_5 15 rfl rfl)
theorem dX13_keyOf_133 : decode cX13_keyOf 133 = .ok (.iaload, 1) := dk_46 (dk_at dksX13_keyOf_5 16 rfl rfl)
theorem dX13_keyOf_134 : decode cX13_keyOf 134 = .ok (.imul, 1) := dk_104 (dk_at dksX13_keyOf_5 17 rfl rfl)
theorem dX13_keyOf_135 : decode cX13_keyOf 135 = .ok (.i2l, 1) := dk_133 (dk_at dksX13_keyOf_5 18 rfl rfl)
theorem dX13_keyOf_136 : decode cX13_keyOf 136 = .ok (.ladd, 1) := dk_97 (dk_at dksX13_keyOf_5 19 rfl rfl)
theorem dX13_keyOf_137 : decode cX13_keyOf 137 = .ok (.aload_n 0, 1) := dk_42 (dk_at dksX13_keyOf_5 20 rfl rfl)
theorem dX13_keyOf_138 : decode cX13_keyOf 138 = .ok (.getfield 115, 3) := dk_180 0 115 (dk_at dksX13_keyOf_5 21 rfl rfl)
theorem dX13_keyOf_141 : decode cX13_keyOf 141 = .ok (.iload_n 1, 1) := dk_27 (dk_at dksX13_keyOf_6 0 rfl rfl)
theorem dX13_keyOf_142 : decode cX13_keyOf 142 = .ok (.iconst 3, 1) := dk_6 (dk_at dksX13_keyOf_6 1 rfl rfl)
theorem dX13_keyOf_143 : decode cX13_keyOf 143 = .ok (.iadd, 1) := dk_96 (dk_at dksX13_keyOf_6 2 rfl rfl)
theorem dX13_keyOf_144 : decode cX13_keyOf 144 = .ok (.iaload, 1) := dk_46 (dk_at dksX13_keyOf_6 3 rfl rfl)
theorem dX13_keyOf_145 : decode cX13_keyOf 145 = .ok (.i2l, 1) := dk_133 (dk_at dksX13_keyOf_6 4 rfl rfl)
theorem dX13_keyOf_146 : decode cX13_keyOf 146 = .ok (.ladd, 1) := dk_97 (dk_at dksX13_keyOf_6 5 rfl rfl)
theorem dX13_keyOf_147 : decode cX13_keyOf 147 = .ok (.goto 4, 3) := dk_167 0 4 (dk_at dksX13_keyOf_6 6 rfl rfl)
theorem dX13_keyOf_150 : decode cX13_keyOf 150 = .ok (.lload_n 3, 1) := dk_33 (dk_at dksX13_keyOf_6 9 rfl rfl)
theorem dX13_keyOf_151 : decode cX13_keyOf 151 = .ok (.lreturn, 1) := dk_173 (dk_at dksX13_keyOf_6 10 rfl rfl)
abbrev cX13_all : ByteArray := prog_24_method_79_code
def yX13_all : MethodName := ⟨RX13, "all", "(I)I"⟩
def dkwX13_all_6 : List UInt8 := [167, 0, 17, 29, 156, 0, 7, 3, 167, 0, 9, 42, 180, 0, 155, 29, 46, 172]
abbrev dktX13_all_6 : List UInt8 := dkwX13_all_6 ++ []
def dkwX13_all_5 : List UInt8 := [132, 4, 1, 167, 255, 180, 27, 8, 162, 0, 7, 28, 167, 0, 27, 27, 16, 6, 160, 0, 7, 29]
abbrev dktX13_all_5 : List UInt8 := dkwX13_all_5 ++ dktX13_all_6
def dkwX13_all_4 : List UInt8 := [180, 0, 155, 21, 4, 46, 42, 180, 0, 155, 29, 46, 164, 0, 8, 21, 4, 167, 0, 4, 29, 62]
abbrev dktX13_all_4 : List UInt8 := dkwX13_all_4 ++ dktX13_all_5
def dkwX13_all_3 : List UInt8 := [167, 0, 4, 3, 96, 61, 42, 180, 0, 152, 21, 4, 46, 5, 162, 0, 28, 29, 155, 0, 19, 42]
abbrev dktX13_all_3 : List UInt8 := dkwX13_all_3 ++ dktX13_all_4
def dkwX13_all_2 : List UInt8 := [162, 0, 73, 28, 27, 8, 162, 0, 20, 42, 180, 0, 152, 21, 4, 46, 27, 4, 100, 160, 0, 7, 4]
abbrev dktX13_all_2 : List UInt8 := dkwX13_all_2 ++ dktX13_all_3
def dkwX13_all_1 : List UInt8 := [27, 154, 0, 8, 42, 180, 1, 166, 172, 3, 61, 2, 62, 3, 54, 4, 21, 4, 42, 180, 1, 166]
abbrev dktX13_all_1 : List UInt8 := dkwX13_all_1 ++ dktX13_all_2
def dkwX13_all_0 : List UInt8 := [42, 3, 181, 0, 1, 27, 3, 16, 6, 184, 1, 91, 153, 0, 10, 42, 182, 1, 176, 154, 0, 5, 2, 172]
abbrev dktX13_all_0 : List UInt8 := dkwX13_all_0 ++ dktX13_all_1
theorem dksX13_all_0 : cX13_all.data.toList.drop 0 = dktX13_all_0 := by decide +kernel
theorem dksX13_all_1 : cX13_all.data.toList.drop 24 = dktX13_all_1 := dk_seg dksX13_all_0 24 rfl rfl
theorem dksX13_all_2 : cX13_all.data.toList.drop 46 = dktX13_all_2 := dk_seg dksX13_all_1 22 rfl rfl
theorem dksX13_all_3 : cX13_all.data.toList.drop 69 = dktX13_all_3 := dk_seg dksX13_all_2 23 rfl rfl
theorem dksX13_all_4 : cX13_all.data.toList.drop 91 = dktX13_all_4 := dk_seg dksX13_all_3 22 rfl rfl
theorem dksX13_all_5 : cX13_all.data.toList.drop 113 = dktX13_all_5 := dk_seg dksX13_all_4 22 rfl rfl
theorem dksX13_all_6 : cX13_all.data.toList.drop 135 = dktX13_all_6 := dk_seg dksX13_all_5 22 rfl rfl
theorem dX13_all_0 : decode cX13_all 0 = .ok (.aload_n 0, 1) := dk_42 (dk_at dksX13_all_0 0 rfl rfl)
theorem dX13_all_1 : decode cX13_all 1 = .ok (.iconst 0, 1) := dk_3 (dk_at dksX13_all_0 1 rfl rfl)
theorem dX13_all_2 : decode cX13_all 2 = .ok (.putfield 1, 3) := dk_181 0 1 (dk_at dksX13_all_0 2 rfl rfl)
theorem dX13_all_5 : decode cX13_all 5 = .ok (.iload_n 1, 1) := dk_27 (dk_at dksX13_all_0 5 rfl rfl)
theorem dX13_all_6 : decode cX13_all 6 = .ok (.iconst 0, 1) := dk_3 (dk_at dksX13_all_0 6 rfl rfl)
theorem dX13_all_7 : decode cX13_all 7 = .ok (.bipush 6, 2) := dk_16 6 (dk_at dksX13_all_0 7 rfl rfl)
theorem dX13_all_9 : decode cX13_all 9 = .ok (.invokestatic 347, 3) := dk_184 1 91 (dk_at dksX13_all_0 9 rfl rfl)
theorem dX13_all_12 : decode cX13_all 12 = .ok (.ifCond .eq 10, 3) := dk_153 0 10 (dk_at dksX13_all_0 12 rfl rfl)
theorem dX13_all_15 : decode cX13_all 15 = .ok (.aload_n 0, 1) := dk_42 (dk_at dksX13_all_0 15 rfl rfl)
theorem dX13_all_16 : decode cX13_all 16 = .ok (.invokevirtual 432, 3) := dk_182 1 176 (dk_at dksX13_all_0 16 rfl rfl)
theorem dX13_all_19 : decode cX13_all 19 = .ok (.ifCond .ne 5, 3) := dk_154 0 5 (dk_at dksX13_all_0 19 rfl rfl)
theorem dX13_all_22 : decode cX13_all 22 = .ok (.iconst (-1), 1) := dk_2 (dk_at dksX13_all_0 22 rfl rfl)
theorem dX13_all_23 : decode cX13_all 23 = .ok (.ireturn, 1) := dk_172 (dk_at dksX13_all_0 23 rfl rfl)
theorem dX13_all_24 : decode cX13_all 24 = .ok (.iload_n 1, 1) := dk_27 (dk_at dksX13_all_1 0 rfl rfl)
theorem dX13_all_25 : decode cX13_all 25 = .ok (.ifCond .ne 8, 3) := dk_154 0 8 (dk_at dksX13_all_1 1 rfl rfl)
theorem dX13_all_28 : decode cX13_all 28 = .ok (.aload_n 0, 1) := dk_42 (dk_at dksX13_all_1 4 rfl rfl)
theorem dX13_all_29 : decode cX13_all 29 = .ok (.getfield 422, 3) := dk_180 1 166 (dk_at dksX13_all_1 5 rfl rfl)
theorem dX13_all_32 : decode cX13_all 32 = .ok (.ireturn, 1) := dk_172 (dk_at dksX13_all_1 8 rfl rfl)
theorem dX13_all_33 : decode cX13_all 33 = .ok (.iconst 0, 1) := dk_3 (dk_at dksX13_all_1 9 rfl rfl)
theorem dX13_all_34 : decode cX13_all 34 = .ok (.istore_n 2, 1) := dk_61 (dk_at dksX13_all_1 10 rfl rfl)
theorem dX13_all_35 : decode cX13_all 35 = .ok (.iconst (-1), 1) := dk_2 (dk_at dksX13_all_1 11 rfl rfl)
theorem dX13_all_36 : decode cX13_all 36 = .ok (.istore_n 3, 1) := dk_62 (dk_at dksX13_all_1 12 rfl rfl)
theorem dX13_all_37 : decode cX13_all 37 = .ok (.iconst 0, 1) := dk_3 (dk_at dksX13_all_1 13 rfl rfl)
theorem dX13_all_38 : decode cX13_all 38 = .ok (.istore 4, 2) := dk_54 4 (dk_at dksX13_all_1 14 rfl rfl)
theorem dX13_all_40 : decode cX13_all 40 = .ok (.iload 4, 2) := dk_21 4 (dk_at dksX13_all_1 16 rfl rfl)
theorem dX13_all_42 : decode cX13_all 42 = .ok (.aload_n 0, 1) := dk_42 (dk_at dksX13_all_1 18 rfl rfl)
theorem dX13_all_43 : decode cX13_all 43 = .ok (.getfield 422, 3) := dk_180 1 166 (dk_at dksX13_all_1 19 rfl rfl)
theorem dX13_all_46 : decode cX13_all 46 = .ok (.if_icmp .ge 73, 3) := dk_162 0 73 (dk_at dksX13_all_2 0 rfl rfl)
theorem dX13_all_49 : decode cX13_all 49 = .ok (.iload_n 2, 1) := dk_28 (dk_at dksX13_all_2 3 rfl rfl)
theorem dX13_all_50 : decode cX13_all 50 = .ok (.iload_n 1, 1) := dk_27 (dk_at dksX13_all_2 4 rfl rfl)
theorem dX13_all_51 : decode cX13_all 51 = .ok (.iconst 5, 1) := dk_8 (dk_at dksX13_all_2 5 rfl rfl)
theorem dX13_all_52 : decode cX13_all 52 = .ok (.if_icmp .ge 20, 3) := dk_162 0 20 (dk_at dksX13_all_2 6 rfl rfl)
theorem dX13_all_55 : decode cX13_all 55 = .ok (.aload_n 0, 1) := dk_42 (dk_at dksX13_all_2 9 rfl rfl)
theorem dX13_all_56 : decode cX13_all 56 = .ok (.getfield 152, 3) := dk_180 0 152 (dk_at dksX13_all_2 10 rfl rfl)
theorem dX13_all_59 : decode cX13_all 59 = .ok (.iload 4, 2) := dk_21 4 (dk_at dksX13_all_2 13 rfl rfl)
theorem dX13_all_61 : decode cX13_all 61 = .ok (.iaload, 1) := dk_46 (dk_at dksX13_all_2 15 rfl rfl)
theorem dX13_all_62 : decode cX13_all 62 = .ok (.iload_n 1, 1) := dk_27 (dk_at dksX13_all_2 16 rfl rfl)
theorem dX13_all_63 : decode cX13_all 63 = .ok (.iconst 1, 1) := dk_4 (dk_at dksX13_all_2 17 rfl rfl)
theorem dX13_all_64 : decode cX13_all 64 = .ok (.isub, 1) := dk_100 (dk_at dksX13_all_2 18 rfl rfl)
theorem dX13_all_65 : decode cX13_all 65 = .ok (.if_icmp .ne 7, 3) := dk_160 0 7 (dk_at dksX13_all_2 19 rfl rfl)
theorem dX13_all_68 : decode cX13_all 68 = .ok (.iconst 1, 1) := dk_4 (dk_at dksX13_all_2 22 rfl rfl)
theorem dX13_all_69 : decode cX13_all 69 = .ok (.goto 4, 3) := dk_167 0 4 (dk_at dksX13_all_3 0 rfl rfl)
theorem dX13_all_72 : decode cX13_all 72 = .ok (.iconst 0, 1) := dk_3 (dk_at dksX13_all_3 3 rfl rfl)
theorem dX13_all_73 : decode cX13_all 73 = .ok (.iadd, 1) := dk_96 (dk_at dksX13_all_3 4 rfl rfl)
theorem dX13_all_74 : decode cX13_all 74 = .ok (.istore_n 2, 1) := dk_61 (dk_at dksX13_all_3 5 rfl rfl)
theorem dX13_all_75 : decode cX13_all 75 = .ok (.aload_n 0, 1) := dk_42 (dk_at dksX13_all_3 6 rfl rfl)
theorem dX13_all_76 : decode cX13_all 76 = .ok (.getfield 152, 3) := dk_180 0 152 (dk_at dksX13_all_3 7 rfl rfl)
theorem dX13_all_79 : decode cX13_all 79 = .ok (.iload 4, 2) := dk_21 4 (dk_at dksX13_all_3 10 rfl rfl)
theorem dX13_all_81 : decode cX13_all 81 = .ok (.iaload, 1) := dk_46 (dk_at dksX13_all_3 12 rfl rfl)
theorem dX13_all_82 : decode cX13_all 82 = .ok (.iconst 2, 1) := dk_5 (dk_at dksX13_all_3 13 rfl rfl)
theorem dX13_all_83 : decode cX13_all 83 = .ok (.if_icmp .ge 28, 3) := dk_162 0 28 (dk_at dksX13_all_3 14 rfl rfl)
theorem dX13_all_86 : decode cX13_all 86 = .ok (.iload_n 3, 1) := dk_29 (dk_at dksX13_all_3 17 rfl rfl)
theorem dX13_all_87 : decode cX13_all 87 = .ok (.ifCond .lt 19, 3) := dk_155 0 19 (dk_at dksX13_all_3 18 rfl rfl)
theorem dX13_all_90 : decode cX13_all 90 = .ok (.aload_n 0, 1) := dk_42 (dk_at dksX13_all_3 21 rfl rfl)
theorem dX13_all_91 : decode cX13_all 91 = .ok (.getfield 155, 3) := dk_180 0 155 (dk_at dksX13_all_4 0 rfl rfl)
theorem dX13_all_94 : decode cX13_all 94 = .ok (.iload 4, 2) := dk_21 4 (dk_at dksX13_all_4 3 rfl rfl)
theorem dX13_all_96 : decode cX13_all 96 = .ok (.iaload, 1) := dk_46 (dk_at dksX13_all_4 5 rfl rfl)
theorem dX13_all_97 : decode cX13_all 97 = .ok (.aload_n 0, 1) := dk_42 (dk_at dksX13_all_4 6 rfl rfl)
theorem dX13_all_98 : decode cX13_all 98 = .ok (.getfield 155, 3) := dk_180 0 155 (dk_at dksX13_all_4 7 rfl rfl)
theorem dX13_all_101 : decode cX13_all 101 = .ok (.iload_n 3, 1) := dk_29 (dk_at dksX13_all_4 10 rfl rfl)
theorem dX13_all_102 : decode cX13_all 102 = .ok (.iaload, 1) := dk_46 (dk_at dksX13_all_4 11 rfl rfl)
theorem dX13_all_103 : decode cX13_all 103 = .ok (.if_icmp .le 8, 3) := dk_164 0 8 (dk_at dksX13_all_4 12 rfl rfl)
theorem dX13_all_106 : decode cX13_all 106 = .ok (.iload 4, 2) := dk_21 4 (dk_at dksX13_all_4 15 rfl rfl)
theorem dX13_all_108 : decode cX13_all 108 = .ok (.goto 4, 3) := dk_167 0 4 (dk_at dksX13_all_4 17 rfl rfl)
theorem dX13_all_111 : decode cX13_all 111 = .ok (.iload_n 3, 1) := dk_29 (dk_at dksX13_all_4 20 rfl rfl)
theorem dX13_all_112 : decode cX13_all 112 = .ok (.istore_n 3, 1) := dk_62 (dk_at dksX13_all_4 21 rfl rfl)
theorem dX13_all_113 : decode cX13_all 113 = .ok (.iinc 4 1, 3) := dk_132 4 1 (dk_at dksX13_all_5 0 rfl rfl)
theorem dX13_all_116 : decode cX13_all 116 = .ok (.goto (-76), 3) := dk_167 255 180 (dk_at dksX13_all_5 3 rfl rfl)
theorem dX13_all_119 : decode cX13_all 119 = .ok (.iload_n 1, 1) := dk_27 (dk_at dksX13_all_5 6 rfl rfl)
theorem dX13_all_120 : decode cX13_all 120 = .ok (.iconst 5, 1) := dk_8 (dk_at dksX13_all_5 7 rfl rfl)
theorem dX13_all_121 : decode cX13_all 121 = .ok (.if_icmp .ge 7, 3) := dk_162 0 7 (dk_at dksX13_all_5 8 rfl rfl)
theorem dX13_all_124 : decode cX13_all 124 = .ok (.iload_n 2, 1) := dk_28 (dk_at dksX13_all_5 11 rfl rfl)
theorem dX13_all_125 : decode cX13_all 125 = .ok (.goto 27, 3) := dk_167 0 27 (dk_at dksX13_all_5 12 rfl rfl)
theorem dX13_all_128 : decode cX13_all 128 = .ok (.iload_n 1, 1) := dk_27 (dk_at dksX13_all_5 15 rfl rfl)
theorem dX13_all_129 : decode cX13_all 129 = .ok (.bipush 6, 2) := dk_16 6 (dk_at dksX13_all_5 16 rfl rfl)
theorem dX13_all_131 : decode cX13_all 131 = .ok (.if_icmp .ne 7, 3) := dk_160 0 7 (dk_at dksX13_all_5 18 rfl rfl)
theorem dX13_all_134 : decode cX13_all 134 = .ok (.iload_n 3, 1) := dk_29 (dk_at dksX13_all_5 21 rfl rfl)
theorem dX13_all_135 : decode cX13_all 135 = .ok (.goto 17, 3) := dk_167 0 17 (dk_at dksX13_all_6 0 rfl rfl)
theorem dX13_all_138 : decode cX13_all 138 = .ok (.iload_n 3, 1) := dk_29 (dk_at dksX13_all_6 3 rfl rfl)
theorem dX13_all_139 : decode cX13_all 139 = .ok (.ifCond .ge 7, 3) := dk_156 0 7 (dk_at dksX13_all_6 4 rfl rfl)
theorem dX13_all_142 : decode cX13_all 142 = .ok (.iconst 0, 1) := dk_3 (dk_at dksX13_all_6 7 rfl rfl)
theorem dX13_all_143 : decode cX13_all 143 = .ok (.goto 9, 3) := dk_167 0 9 (dk_at dksX13_all_6 8 rfl rfl)
theorem dX13_all_146 : decode cX13_all 146 = .ok (.aload_n 0, 1) := dk_42 (dk_at dksX13_all_6 11 rfl rfl)
theorem dX13_all_147 : decode cX13_all 147 = .ok (.getfield 155, 3) := dk_180 0 155 (dk_at dksX13_all_6 12 rfl rfl)
theorem dX13_all_150 : decode cX13_all 150 = .ok (.iload_n 3, 1) := dk_29 (dk_at dksX13_all_6 15 rfl rfl)
theorem dX13_all_151 : decode cX13_all 151 = .ok (.iaload, 1) := dk_46 (dk_at dksX13_all_6 16 rfl rfl)
theorem dX13_all_152 : decode cX13_all 152 = .ok (.ireturn, 1) := dk_172 (dk_at dksX13_all_6 17 rfl rfl)
abbrev cX13_counts : ByteArray := prog_24_method_78_code
def yX13_counts : MethodName := ⟨RX13, "counts", "()Z"⟩
def dkwX13_counts_6 : List UInt8 := [182, 1, 159, 4, 172]
abbrev dktX13_counts_6 : List UInt8 := dkwX13_counts_6 ++ []
def dkwX13_counts_5 : List UInt8 := [180, 0, 149, 42, 180, 1, 150, 182, 1, 172, 87, 132, 1, 1, 167, 255, 186, 42, 4, 181, 0, 240, 42]
abbrev dktX13_counts_5 : List UInt8 := dkwX13_counts_5 ++ dktX13_counts_6
def dkwX13_counts_4 : List UInt8 := [42, 180, 0, 152, 27, 42, 180, 1, 138, 79, 42, 180, 0, 155, 27, 42, 180, 1, 132, 79, 42, 42]
abbrev dktX13_counts_4 : List UInt8 := dkwX13_counts_4 ++ dktX13_counts_5
def dkwX13_counts_3 : List UInt8 := [180, 0, 149, 42, 180, 1, 150, 42, 180, 0, 85, 5, 46, 182, 1, 169, 42, 17, 37, 188, 2, 182, 1, 144]
abbrev dktX13_counts_3 : List UInt8 := dkwX13_counts_3 ++ dktX13_counts_4
def dkwX13_counts_2 : List UInt8 := [180, 1, 166, 155, 0, 7, 4, 167, 0, 4, 3, 172, 3, 60, 27, 42, 180, 1, 166, 162, 0, 68, 42, 42]
abbrev dktX13_counts_2 : List UInt8 := dkwX13_counts_2 ++ dktX13_counts_3
def dkwX13_counts_1 : List UInt8 := [180, 1, 150, 182, 1, 162, 181, 1, 166, 42, 180, 1, 166, 155, 0, 10, 42, 180, 0, 240, 153, 0, 16, 42]
abbrev dktX13_counts_1 : List UInt8 := dkwX13_counts_1 ++ dktX13_counts_2
def dkwX13_counts_0 : List UInt8 := [42, 182, 1, 159, 42, 42, 180, 1, 150, 154, 0, 7, 2, 167, 0, 15, 42, 42, 180, 0, 149, 42]
abbrev dktX13_counts_0 : List UInt8 := dkwX13_counts_0 ++ dktX13_counts_1
theorem dksX13_counts_0 : cX13_counts.data.toList.drop 0 = dktX13_counts_0 := by decide +kernel
theorem dksX13_counts_1 : cX13_counts.data.toList.drop 22 = dktX13_counts_1 := dk_seg dksX13_counts_0 22 rfl rfl
theorem dksX13_counts_2 : cX13_counts.data.toList.drop 46 = dktX13_counts_2 := dk_seg dksX13_counts_1 24 rfl rfl
theorem dksX13_counts_3 : cX13_counts.data.toList.drop 70 = dktX13_counts_3 := dk_seg dksX13_counts_2 24 rfl rfl
theorem dksX13_counts_4 : cX13_counts.data.toList.drop 94 = dktX13_counts_4 := dk_seg dksX13_counts_3 24 rfl rfl
theorem dksX13_counts_5 : cX13_counts.data.toList.drop 116 = dktX13_counts_5 := dk_seg dksX13_counts_4 22 rfl rfl
theorem dksX13_counts_6 : cX13_counts.data.toList.drop 139 = dktX13_counts_6 := dk_seg dksX13_counts_5 23 rfl rfl
theorem dX13_counts_0 : decode cX13_counts 0 = .ok (.aload_n 0, 1) := dk_42 (dk_at dksX13_counts_0 0 rfl rfl)
theorem dX13_counts_1 : decode cX13_counts 1 = .ok (.invokevirtual 415, 3) := dk_182 1 159 (dk_at dksX13_counts_0 1 rfl rfl)
theorem dX13_counts_4 : decode cX13_counts 4 = .ok (.aload_n 0, 1) := dk_42 (dk_at dksX13_counts_0 4 rfl rfl)
theorem dX13_counts_5 : decode cX13_counts 5 = .ok (.aload_n 0, 1) := dk_42 (dk_at dksX13_counts_0 5 rfl rfl)
theorem dX13_counts_6 : decode cX13_counts 6 = .ok (.getfield 406, 3) := dk_180 1 150 (dk_at dksX13_counts_0 6 rfl rfl)
theorem dX13_counts_9 : decode cX13_counts 9 = .ok (.ifCond .ne 7, 3) := dk_154 0 7 (dk_at dksX13_counts_0 9 rfl rfl)
theorem dX13_counts_12 : decode cX13_counts 12 = .ok (.iconst (-1), 1) := dk_2 (dk_at dksX13_counts_0 12 rfl rfl)
theorem dX13_counts_13 : decode cX13_counts 13 = .ok (.goto 15, 3) := dk_167 0 15 (dk_at dksX13_counts_0 13 rfl rfl)
theorem dX13_counts_16 : decode cX13_counts 16 = .ok (.aload_n 0, 1) := dk_42 (dk_at dksX13_counts_0 16 rfl rfl)
theorem dX13_counts_17 : decode cX13_counts 17 = .ok (.aload_n 0, 1) := dk_42 (dk_at dksX13_counts_0 17 rfl rfl)
theorem dX13_counts_18 : decode cX13_counts 18 = .ok (.getfield 149, 3) := dk_180 0 149 (dk_at dksX13_counts_0 18 rfl rfl)
theorem dX13_counts_21 : decode cX13_counts 21 = .ok (.aload_n 0, 1) := dk_42 (dk_at dksX13_counts_0 21 rfl rfl)
theorem dX13_counts_22 : decode cX13_counts 22 = .ok (.getfield 406, 3) := dk_180 1 150 (dk_at dksX13_counts_1 0 rfl rfl)
theorem dX13_counts_25 : decode cX13_counts 25 = .ok (.invokevirtual 418, 3) := dk_182 1 162 (dk_at dksX13_counts_1 3 rfl rfl)
theorem dX13_counts_28 : decode cX13_counts 28 = .ok (.putfield 422, 3) := dk_181 1 166 (dk_at dksX13_counts_1 6 rfl rfl)
theorem dX13_counts_31 : decode cX13_counts 31 = .ok (.aload_n 0, 1) := dk_42 (dk_at dksX13_counts_1 9 rfl rfl)
theorem dX13_counts_32 : decode cX13_counts 32 = .ok (.getfield 422, 3) := dk_180 1 166 (dk_at dksX13_counts_1 10 rfl rfl)
theorem dX13_counts_35 : decode cX13_counts 35 = .ok (.ifCond .lt 10, 3) := dk_155 0 10 (dk_at dksX13_counts_1 13 rfl rfl)
theorem dX13_counts_38 : decode cX13_counts 38 = .ok (.aload_n 0, 1) := dk_42 (dk_at dksX13_counts_1 16 rfl rfl)
theorem dX13_counts_39 : decode cX13_counts 39 = .ok (.getfield 240, 3) := dk_180 0 240 (dk_at dksX13_counts_1 17 rfl rfl)
theorem dX13_counts_42 : decode cX13_counts 42 = .ok (.ifCond .eq 16, 3) := dk_153 0 16 (dk_at dksX13_counts_1 20 rfl rfl)
theorem dX13_counts_45 : decode cX13_counts 45 = .ok (.aload_n 0, 1) := dk_42 (dk_at dksX13_counts_1 23 rfl rfl)
theorem dX13_counts_46 : decode cX13_counts 46 = .ok (.getfield 422, 3) := dk_180 1 166 (dk_at dksX13_counts_2 0 rfl rfl)
theorem dX13_counts_49 : decode cX13_counts 49 = .ok (.ifCond .lt 7, 3) := dk_155 0 7 (dk_at dksX13_counts_2 3 rfl rfl)
theorem dX13_counts_52 : decode cX13_counts 52 = .ok (.iconst 1, 1) := dk_4 (dk_at dksX13_counts_2 6 rfl rfl)
theorem dX13_counts_53 : decode cX13_counts 53 = .ok (.goto 4, 3) := dk_167 0 4 (dk_at dksX13_counts_2 7 rfl rfl)
theorem dX13_counts_56 : decode cX13_counts 56 = .ok (.iconst 0, 1) := dk_3 (dk_at dksX13_counts_2 10 rfl rfl)
theorem dX13_counts_57 : decode cX13_counts 57 = .ok (.ireturn, 1) := dk_172 (dk_at dksX13_counts_2 11 rfl rfl)
theorem dX13_counts_58 : decode cX13_counts 58 = .ok (.iconst 0, 1) := dk_3 (dk_at dksX13_counts_2 12 rfl rfl)
theorem dX13_counts_59 : decode cX13_counts 59 = .ok (.istore_n 1, 1) := dk_60 (dk_at dksX13_counts_2 13 rfl rfl)
theorem dX13_counts_60 : decode cX13_counts 60 = .ok (.iload_n 1, 1) := dk_27 (dk_at dksX13_counts_2 14 rfl rfl)
theorem dX13_counts_61 : decode cX13_counts 61 = .ok (.aload_n 0, 1) := dk_42 (dk_at dksX13_counts_2 15 rfl rfl)
theorem dX13_counts_62 : decode cX13_counts 62 = .ok (.getfield 422, 3) := dk_180 1 166 (dk_at dksX13_counts_2 16 rfl rfl)
theorem dX13_counts_65 : decode cX13_counts 65 = .ok (.if_icmp .ge 68, 3) := dk_162 0 68 (dk_at dksX13_counts_2 19 rfl rfl)
theorem dX13_counts_68 : decode cX13_counts 68 = .ok (.aload_n 0, 1) := dk_42 (dk_at dksX13_counts_2 22 rfl rfl)
theorem dX13_counts_69 : decode cX13_counts 69 = .ok (.aload_n 0, 1) := dk_42 (dk_at dksX13_counts_2 23 rfl rfl)
theorem dX13_counts_70 : decode cX13_counts 70 = .ok (.getfield 149, 3) := dk_180 0 149 (dk_at dksX13_counts_3 0 rfl rfl)
theorem dX13_counts_73 : decode cX13_counts 73 = .ok (.aload_n 0, 1) := dk_42 (dk_at dksX13_counts_3 3 rfl rfl)
theorem dX13_counts_74 : decode cX13_counts 74 = .ok (.getfield 406, 3) := dk_180 1 150 (dk_at dksX13_counts_3 4 rfl rfl)
theorem dX13_counts_77 : decode cX13_counts 77 = .ok (.aload_n 0, 1) := dk_42 (dk_at dksX13_counts_3 7 rfl rfl)
theorem dX13_counts_78 : decode cX13_counts 78 = .ok (.getfield 85, 3) := dk_180 0 85 (dk_at dksX13_counts_3 8 rfl rfl)
theorem dX13_counts_81 : decode cX13_counts 81 = .ok (.iconst 2, 1) := dk_5 (dk_at dksX13_counts_3 11 rfl rfl)
theorem dX13_counts_82 : decode cX13_counts 82 = .ok (.iaload, 1) := dk_46 (dk_at dksX13_counts_3 12 rfl rfl)
theorem dX13_counts_83 : decode cX13_counts 83 = .ok (.invokevirtual 425, 3) := dk_182 1 169 (dk_at dksX13_counts_3 13 rfl rfl)
theorem dX13_counts_86 : decode cX13_counts 86 = .ok (.aload_n 0, 1) := dk_42 (dk_at dksX13_counts_3 16 rfl rfl)
theorem dX13_counts_87 : decode cX13_counts 87 = .ok (.sipush 9660, 3) := dk_17 37 188 (dk_at dksX13_counts_3 17 rfl rfl)
theorem dX13_counts_90 : decode cX13_counts 90 = .ok (.iconst (-1), 1) := dk_2 (dk_at dksX13_counts_3 20 rfl rfl)
theorem dX13_counts_91 : decode cX13_counts 91 = .ok (.invokevirtual 400, 3) := dk_182 1 144 (dk_at dksX13_counts_3 21 rfl rfl)
theorem dX13_counts_94 : decode cX13_counts 94 = .ok (.aload_n 0, 1) := dk_42 (dk_at dksX13_counts_4 0 rfl rfl)
theorem dX13_counts_95 : decode cX13_counts 95 = .ok (.getfield 152, 3) := dk_180 0 152 (dk_at dksX13_counts_4 1 rfl rfl)
theorem dX13_counts_98 : decode cX13_counts 98 = .ok (.iload_n 1, 1) := dk_27 (dk_at dksX13_counts_4 4 rfl rfl)
theorem dX13_counts_99 : decode cX13_counts 99 = .ok (.aload_n 0, 1) := dk_42 (dk_at dksX13_counts_4 5 rfl rfl)
theorem dX13_counts_100 : decode cX13_counts 100 = .ok (.getfield 394, 3) := dk_180 1 138 (dk_at dksX13_counts_4 6 rfl rfl)
theorem dX13_counts_103 : decode cX13_counts 103 = .ok (.iastore, 1) := dk_79 (dk_at dksX13_counts_4 9 rfl rfl)
theorem dX13_counts_104 : decode cX13_counts 104 = .ok (.aload_n 0, 1) := dk_42 (dk_at dksX13_counts_4 10 rfl rfl)
theorem dX13_counts_105 : decode cX13_counts 105 = .ok (.getfield 155, 3) := dk_180 0 155 (dk_at dksX13_counts_4 11 rfl rfl)
theorem dX13_counts_108 : decode cX13_counts 108 = .ok (.iload_n 1, 1) := dk_27 (dk_at dksX13_counts_4 14 rfl rfl)
theorem dX13_counts_109 : decode cX13_counts 109 = .ok (.aload_n 0, 1) := dk_42 (dk_at dksX13_counts_4 15 rfl rfl)
theorem dX13_counts_110 : decode cX13_counts 110 = .ok (.getfield 388, 3) := dk_180 1 132 (dk_at dksX13_counts_4 16 rfl rfl)
theorem dX13_counts_113 : decode cX13_counts 113 = .ok (.iastore, 1) := dk_79 (dk_at dksX13_counts_4 19 rfl rfl)
theorem dX13_counts_114 : decode cX13_counts 114 = .ok (.aload_n 0, 1) := dk_42 (dk_at dksX13_counts_4 20 rfl rfl)
theorem dX13_counts_115 : decode cX13_counts 115 = .ok (.aload_n 0, 1) := dk_42 (dk_at dksX13_counts_4 21 rfl rfl)
theorem dX13_counts_116 : decode cX13_counts 116 = .ok (.getfield 149, 3) := dk_180 0 149 (dk_at dksX13_counts_5 0 rfl rfl)
theorem dX13_counts_119 : decode cX13_counts 119 = .ok (.aload_n 0, 1) := dk_42 (dk_at dksX13_counts_5 3 rfl rfl)
theorem dX13_counts_120 : decode cX13_counts 120 = .ok (.getfield 406, 3) := dk_180 1 150 (dk_at dksX13_counts_5 4 rfl rfl)
theorem dX13_counts_123 : decode cX13_counts 123 = .ok (.invokevirtual 428, 3) := dk_182 1 172 (dk_at dksX13_counts_5 7 rfl rfl)
theorem dX13_counts_126 : decode cX13_counts 126 = .ok (.pop, 1) := dk_87 (dk_at dksX13_counts_5 10 rfl rfl)
theorem dX13_counts_127 : decode cX13_counts 127 = .ok (.iinc 1 1, 3) := dk_132 1 1 (dk_at dksX13_counts_5 11 rfl rfl)
theorem dX13_counts_130 : decode cX13_counts 130 = .ok (.goto (-70), 3) := dk_167 255 186 (dk_at dksX13_counts_5 14 rfl rfl)
theorem dX13_counts_133 : decode cX13_counts 133 = .ok (.aload_n 0, 1) := dk_42 (dk_at dksX13_counts_5 17 rfl rfl)
theorem dX13_counts_134 : decode cX13_counts 134 = .ok (.iconst 1, 1) := dk_4 (dk_at dksX13_counts_5 18 rfl rfl)
theorem dX13_counts_135 : decode cX13_counts 135 = .ok (.putfield 240, 3) := dk_181 0 240 (dk_at dksX13_counts_5 19 rfl rfl)
theorem dX13_counts_138 : decode cX13_counts 138 = .ok (.aload_n 0, 1) := dk_42 (dk_at dksX13_counts_5 22 rfl rfl)
theorem dX13_counts_139 : decode cX13_counts 139 = .ok (.invokevirtual 415, 3) := dk_182 1 159 (dk_at dksX13_counts_6 0 rfl rfl)
theorem dX13_counts_142 : decode cX13_counts 142 = .ok (.iconst 1, 1) := dk_4 (dk_at dksX13_counts_6 3 rfl rfl)
theorem dX13_counts_143 : decode cX13_counts 143 = .ok (.ireturn, 1) := dk_172 (dk_at dksX13_counts_6 4 rfl rfl)
abbrev cX13_laysPack : ByteArray := prog_24_method_73_code
def yX13_laysPack : MethodName := ⟨RX13, "laysPack", "()V"⟩
def dkwX13_laysPack_2 : List UInt8 := [4, 96, 181, 1, 150, 132, 2, 1, 167, 255, 217, 132, 1, 1, 167, 255, 201, 177]
abbrev dktX13_laysPack_2 : List UInt8 := dkwX13_laysPack_2 ++ []
def dkwX13_laysPack_1 : List UInt8 := [27, 104, 96, 4, 96, 46, 162, 0, 29, 42, 180, 0, 149, 42, 180, 1, 150, 27, 79, 42, 89, 180, 1, 150]
abbrev dktX13_laysPack_1 : List UInt8 := dkwX13_laysPack_1 ++ dktX13_laysPack_2
def dkwX13_laysPack_0 : List UInt8 := [42, 3, 181, 1, 150, 3, 60, 27, 42, 182, 1, 56, 162, 0, 53, 3, 61, 28, 42, 180, 0, 85, 8, 5]
abbrev dktX13_laysPack_0 : List UInt8 := dkwX13_laysPack_0 ++ dktX13_laysPack_1
theorem dksX13_laysPack_0 : cX13_laysPack.data.toList.drop 0 = dktX13_laysPack_0 := by decide +kernel
theorem dksX13_laysPack_1 : cX13_laysPack.data.toList.drop 24 = dktX13_laysPack_1 := dk_seg dksX13_laysPack_0 24 rfl rfl
theorem dksX13_laysPack_2 : cX13_laysPack.data.toList.drop 48 = dktX13_laysPack_2 := dk_seg dksX13_laysPack_1 24 rfl rfl
theorem dX13_laysPack_0 : decode cX13_laysPack 0 = .ok (.aload_n 0, 1) := dk_42 (dk_at dksX13_laysPack_0 0 rfl rfl)
theorem dX13_laysPack_1 : decode cX13_laysPack 1 = .ok (.iconst 0, 1) := dk_3 (dk_at dksX13_laysPack_0 1 rfl rfl)
theorem dX13_laysPack_2 : decode cX13_laysPack 2 = .ok (.putfield 406, 3) := dk_181 1 150 (dk_at dksX13_laysPack_0 2 rfl rfl)
theorem dX13_laysPack_5 : decode cX13_laysPack 5 = .ok (.iconst 0, 1) := dk_3 (dk_at dksX13_laysPack_0 5 rfl rfl)
theorem dX13_laysPack_6 : decode cX13_laysPack 6 = .ok (.istore_n 1, 1) := dk_60 (dk_at dksX13_laysPack_0 6 rfl rfl)
theorem dX13_laysPack_7 : decode cX13_laysPack 7 = .ok (.iload_n 1, 1) := dk_27 (dk_at dksX13_laysPack_0 7 rfl rfl)
theorem dX13_laysPack_8 : decode cX13_laysPack 8 = .ok (.aload_n 0, 1) := dk_42 (dk_at dksX13_laysPack_0 8 rfl rfl)
theorem dX13_laysPack_9 : decode cX13_laysPack 9 = .ok (.invokevirtual 312, 3) := dk_182 1 56 (dk_at dksX13_laysPack_0 9 rfl rfl)
theorem dX13_laysPack_12 : decode cX13_laysPack 12 = .ok (.if_icmp .ge 53, 3) := dk_162 0 53 (dk_at dksX13_laysPack_0 12 rfl rfl)
theorem dX13_laysPack_15 : decode cX13_laysPack 15 = .ok (.iconst 0, 1) := dk_3 (dk_at dksX13_laysPack_0 15 rfl rfl)
theorem dX13_laysPack_16 : decode cX13_laysPack 16 = .ok (.istore_n 2, 1) := dk_61 (dk_at dksX13_laysPack_0 16 rfl rfl)
theorem dX13_laysPack_17 : decode cX13_laysPack 17 = .ok (.iload_n 2, 1) := dk_28 (dk_at dksX13_laysPack_0 17 rfl rfl)
theorem dX13_laysPack_18 : decode cX13_laysPack 18 = .ok (.aload_n 0, 1) := dk_42 (dk_at dksX13_laysPack_0 18 rfl rfl)
theorem dX13_laysPack_19 : decode cX13_laysPack 19 = .ok (.getfield 85, 3) := dk_180 0 85 (dk_at dksX13_laysPack_0 19 rfl rfl)
theorem dX13_laysPack_22 : decode cX13_laysPack 22 = .ok (.iconst 5, 1) := dk_8 (dk_at dksX13_laysPack_0 22 rfl rfl)
theorem dX13_laysPack_23 : decode cX13_laysPack 23 = .ok (.iconst 2, 1) := dk_5 (dk_at dksX13_laysPack_0 23 rfl rfl)
theorem dX13_laysPack_24 : decode cX13_laysPack 24 = .ok (.iload_n 1, 1) := dk_27 (dk_at dksX13_laysPack_1 0 rfl rfl)
theorem dX13_laysPack_25 : decode cX13_laysPack 25 = .ok (.imul, 1) := dk_104 (dk_at dksX13_laysPack_1 1 rfl rfl)
theorem dX13_laysPack_26 : decode cX13_laysPack 26 = .ok (.iadd, 1) := dk_96 (dk_at dksX13_laysPack_1 2 rfl rfl)
theorem dX13_laysPack_27 : decode cX13_laysPack 27 = .ok (.iconst 1, 1) := dk_4 (dk_at dksX13_laysPack_1 3 rfl rfl)
theorem dX13_laysPack_28 : decode cX13_laysPack 28 = .ok (.iadd, 1) := dk_96 (dk_at dksX13_laysPack_1 4 rfl rfl)
theorem dX13_laysPack_29 : decode cX13_laysPack 29 = .ok (.iaload, 1) := dk_46 (dk_at dksX13_laysPack_1 5 rfl rfl)
theorem dX13_laysPack_30 : decode cX13_laysPack 30 = .ok (.if_icmp .ge 29, 3) := dk_162 0 29 (dk_at dksX13_laysPack_1 6 rfl rfl)
theorem dX13_laysPack_33 : decode cX13_laysPack 33 = .ok (.aload_n 0, 1) := dk_42 (dk_at dksX13_laysPack_1 9 rfl rfl)
theorem dX13_laysPack_34 : decode cX13_laysPack 34 = .ok (.getfield 149, 3) := dk_180 0 149 (dk_at dksX13_laysPack_1 10 rfl rfl)
theorem dX13_laysPack_37 : decode cX13_laysPack 37 = .ok (.aload_n 0, 1) := dk_42 (dk_at dksX13_laysPack_1 13 rfl rfl)
theorem dX13_laysPack_38 : decode cX13_laysPack 38 = .ok (.getfield 406, 3) := dk_180 1 150 (dk_at dksX13_laysPack_1 14 rfl rfl)
theorem dX13_laysPack_41 : decode cX13_laysPack 41 = .ok (.iload_n 1, 1) := dk_27 (dk_at dksX13_laysPack_1 17 rfl rfl)
theorem dX13_laysPack_42 : decode cX13_laysPack 42 = .ok (.iastore, 1) := dk_79 (dk_at dksX13_laysPack_1 18 rfl rfl)
theorem dX13_laysPack_43 : decode cX13_laysPack 43 = .ok (.aload_n 0, 1) := dk_42 (dk_at dksX13_laysPack_1 19 rfl rfl)
theorem dX13_laysPack_44 : decode cX13_laysPack 44 = .ok (.dup, 1) := dk_89 (dk_at dksX13_laysPack_1 20 rfl rfl)
theorem dX13_laysPack_45 : decode cX13_laysPack 45 = .ok (.getfield 406, 3) := dk_180 1 150 (dk_at dksX13_laysPack_1 21 rfl rfl)
theorem dX13_laysPack_48 : decode cX13_laysPack 48 = .ok (.iconst 1, 1) := dk_4 (dk_at dksX13_laysPack_2 0 rfl rfl)
theorem dX13_laysPack_49 : decode cX13_laysPack 49 = .ok (.iadd, 1) := dk_96 (dk_at dksX13_laysPack_2 1 rfl rfl)
theorem dX13_laysPack_50 : decode cX13_laysPack 50 = .ok (.putfield 406, 3) := dk_181 1 150 (dk_at dksX13_laysPack_2 2 rfl rfl)
theorem dX13_laysPack_53 : decode cX13_laysPack 53 = .ok (.iinc 2 1, 3) := dk_132 2 1 (dk_at dksX13_laysPack_2 5 rfl rfl)
theorem dX13_laysPack_56 : decode cX13_laysPack 56 = .ok (.goto (-39), 3) := dk_167 255 217 (dk_at dksX13_laysPack_2 8 rfl rfl)
theorem dX13_laysPack_59 : decode cX13_laysPack 59 = .ok (.iinc 1 1, 3) := dk_132 1 1 (dk_at dksX13_laysPack_2 11 rfl rfl)
theorem dX13_laysPack_62 : decode cX13_laysPack 62 = .ok (.goto (-55), 3) := dk_167 255 201 (dk_at dksX13_laysPack_2 14 rfl rfl)
theorem dX13_laysPack_65 : decode cX13_laysPack 65 = .ok (.return_, 1) := dk_177 (dk_at dksX13_laysPack_2 17 rfl rfl)
abbrev cX13_rowsOf : ByteArray := prog_24_method_74_code
def yX13_rowsOf : MethodName := ⟨RX13, "rowsOf", "([II)I"⟩
def dkwX13_rowsOf_3 : List UInt8 := [66, 132, 5, 1, 167, 255, 195, 33, 20, 1, 153, 148, 158, 0, 7, 2, 167, 0, 5, 33, 136, 172]
abbrev dktX13_rowsOf_3 : List UInt8 := dkwX13_rowsOf_3 ++ []
def dkwX13_rowsOf_2 : List UInt8 := [167, 0, 4, 3, 96, 54, 6, 132, 7, 1, 167, 255, 225, 33, 21, 5, 4, 96, 133, 105, 21, 6, 133, 109]
abbrev dktX13_rowsOf_2 : List UInt8 := dkwX13_rowsOf_2 ++ dktX13_rowsOf_3
def dkwX13_rowsOf_1 : List UInt8 := [54, 7, 21, 7, 21, 5, 163, 0, 30, 21, 6, 43, 21, 7, 46, 43, 21, 5, 46, 160, 0, 7, 4]
abbrev dktX13_rowsOf_1 : List UInt8 := dkwX13_rowsOf_1 ++ dktX13_rowsOf_2
def dkwX13_rowsOf_0 : List UInt8 := [28, 16, 10, 164, 0, 5, 2, 172, 10, 66, 3, 54, 5, 21, 5, 28, 162, 0, 61, 3, 54, 6, 3]
abbrev dktX13_rowsOf_0 : List UInt8 := dkwX13_rowsOf_0 ++ dktX13_rowsOf_1
theorem dksX13_rowsOf_0 : cX13_rowsOf.data.toList.drop 0 = dktX13_rowsOf_0 := by decide +kernel
theorem dksX13_rowsOf_1 : cX13_rowsOf.data.toList.drop 23 = dktX13_rowsOf_1 := dk_seg dksX13_rowsOf_0 23 rfl rfl
theorem dksX13_rowsOf_2 : cX13_rowsOf.data.toList.drop 46 = dktX13_rowsOf_2 := dk_seg dksX13_rowsOf_1 23 rfl rfl
theorem dksX13_rowsOf_3 : cX13_rowsOf.data.toList.drop 70 = dktX13_rowsOf_3 := dk_seg dksX13_rowsOf_2 24 rfl rfl
theorem dX13_rowsOf_0 : decode cX13_rowsOf 0 = .ok (.iload_n 2, 1) := dk_28 (dk_at dksX13_rowsOf_0 0 rfl rfl)
theorem dX13_rowsOf_1 : decode cX13_rowsOf 1 = .ok (.bipush 10, 2) := dk_16 10 (dk_at dksX13_rowsOf_0 1 rfl rfl)
theorem dX13_rowsOf_3 : decode cX13_rowsOf 3 = .ok (.if_icmp .le 5, 3) := dk_164 0 5 (dk_at dksX13_rowsOf_0 3 rfl rfl)
theorem dX13_rowsOf_6 : decode cX13_rowsOf 6 = .ok (.iconst (-1), 1) := dk_2 (dk_at dksX13_rowsOf_0 6 rfl rfl)
theorem dX13_rowsOf_7 : decode cX13_rowsOf 7 = .ok (.ireturn, 1) := dk_172 (dk_at dksX13_rowsOf_0 7 rfl rfl)
theorem dX13_rowsOf_8 : decode cX13_rowsOf 8 = .ok (.lconst 1, 1) := dk_10 (dk_at dksX13_rowsOf_0 8 rfl rfl)
theorem dX13_rowsOf_9 : decode cX13_rowsOf 9 = .ok (.lstore_n 3, 1) := dk_66 (dk_at dksX13_rowsOf_0 9 rfl rfl)
theorem dX13_rowsOf_10 : decode cX13_rowsOf 10 = .ok (.iconst 0, 1) := dk_3 (dk_at dksX13_rowsOf_0 10 rfl rfl)
theorem dX13_rowsOf_11 : decode cX13_rowsOf 11 = .ok (.istore 5, 2) := dk_54 5 (dk_at dksX13_rowsOf_0 11 rfl rfl)
theorem dX13_rowsOf_13 : decode cX13_rowsOf 13 = .ok (.iload 5, 2) := dk_21 5 (dk_at dksX13_rowsOf_0 13 rfl rfl)
theorem dX13_rowsOf_15 : decode cX13_rowsOf 15 = .ok (.iload_n 2, 1) := dk_28 (dk_at dksX13_rowsOf_0 15 rfl rfl)
theorem dX13_rowsOf_16 : decode cX13_rowsOf 16 = .ok (.if_icmp .ge 61, 3) := dk_162 0 61 (dk_at dksX13_rowsOf_0 16 rfl rfl)
theorem dX13_rowsOf_19 : decode cX13_rowsOf 19 = .ok (.iconst 0, 1) := dk_3 (dk_at dksX13_rowsOf_0 19 rfl rfl)
theorem dX13_rowsOf_20 : decode cX13_rowsOf 20 = .ok (.istore 6, 2) := dk_54 6 (dk_at dksX13_rowsOf_0 20 rfl rfl)
theorem dX13_rowsOf_22 : decode cX13_rowsOf 22 = .ok (.iconst 0, 1) := dk_3 (dk_at dksX13_rowsOf_0 22 rfl rfl)
theorem dX13_rowsOf_23 : decode cX13_rowsOf 23 = .ok (.istore 7, 2) := dk_54 7 (dk_at dksX13_rowsOf_1 0 rfl rfl)
theorem dX13_rowsOf_25 : decode cX13_rowsOf 25 = .ok (.iload 7, 2) := dk_21 7 (dk_at dksX13_rowsOf_1 2 rfl rfl)
theorem dX13_rowsOf_27 : decode cX13_rowsOf 27 = .ok (.iload 5, 2) := dk_21 5 (dk_at dksX13_rowsOf_1 4 rfl rfl)
theorem dX13_rowsOf_29 : decode cX13_rowsOf 29 = .ok (.if_icmp .gt 30, 3) := dk_163 0 30 (dk_at dksX13_rowsOf_1 6 rfl rfl)
theorem dX13_rowsOf_32 : decode cX13_rowsOf 32 = .ok (.iload 6, 2) := dk_21 6 (dk_at dksX13_rowsOf_1 9 rfl rfl)
theorem dX13_rowsOf_34 : decode cX13_rowsOf 34 = .ok (.aload_n 1, 1) := dk_43 (dk_at dksX13_rowsOf_1 11 rfl rfl)
theorem dX13_rowsOf_35 : decode cX13_rowsOf 35 = .ok (.iload 7, 2) := dk_21 7 (dk_at dksX13_rowsOf_1 12 rfl rfl)
theorem dX13_rowsOf_37 : decode cX13_rowsOf 37 = .ok (.iaload, 1) := dk_46 (dk_at dksX13_rowsOf_1 14 rfl rfl)
theorem dX13_rowsOf_38 : decode cX13_rowsOf 38 = .ok (.aload_n 1, 1) := dk_43 (dk_at dksX13_rowsOf_1 15 rfl rfl)
theorem dX13_rowsOf_39 : decode cX13_rowsOf 39 = .ok (.iload 5, 2) := dk_21 5 (dk_at dksX13_rowsOf_1 16 rfl rfl)
theorem dX13_rowsOf_41 : decode cX13_rowsOf 41 = .ok (.iaload, 1) := dk_46 (dk_at dksX13_rowsOf_1 18 rfl rfl)
theorem dX13_rowsOf_42 : decode cX13_rowsOf 42 = .ok (.if_icmp .ne 7, 3) := dk_160 0 7 (dk_at dksX13_rowsOf_1 19 rfl rfl)
theorem dX13_rowsOf_45 : decode cX13_rowsOf 45 = .ok (.iconst 1, 1) := dk_4 (dk_at dksX13_rowsOf_1 22 rfl rfl)
theorem dX13_rowsOf_46 : decode cX13_rowsOf 46 = .ok (.goto 4, 3) := dk_167 0 4 (dk_at dksX13_rowsOf_2 0 rfl rfl)
theorem dX13_rowsOf_49 : decode cX13_rowsOf 49 = .ok (.iconst 0, 1) := dk_3 (dk_at dksX13_rowsOf_2 3 rfl rfl)
theorem dX13_rowsOf_50 : decode cX13_rowsOf 50 = .ok (.iadd, 1) := dk_96 (dk_at dksX13_rowsOf_2 4 rfl rfl)
theorem dX13_rowsOf_51 : decode cX13_rowsOf 51 = .ok (.istore 6, 2) := dk_54 6 (dk_at dksX13_rowsOf_2 5 rfl rfl)
theorem dX13_rowsOf_53 : decode cX13_rowsOf 53 = .ok (.iinc 7 1, 3) := dk_132 7 1 (dk_at dksX13_rowsOf_2 7 rfl rfl)
theorem dX13_rowsOf_56 : decode cX13_rowsOf 56 = .ok (.goto (-31), 3) := dk_167 255 225 (dk_at dksX13_rowsOf_2 10 rfl rfl)
theorem dX13_rowsOf_59 : decode cX13_rowsOf 59 = .ok (.lload_n 3, 1) := dk_33 (dk_at dksX13_rowsOf_2 13 rfl rfl)
theorem dX13_rowsOf_60 : decode cX13_rowsOf 60 = .ok (.iload 5, 2) := dk_21 5 (dk_at dksX13_rowsOf_2 14 rfl rfl)
theorem dX13_rowsOf_62 : decode cX13_rowsOf 62 = .ok (.iconst 1, 1) := dk_4 (dk_at dksX13_rowsOf_2 16 rfl rfl)
theorem dX13_rowsOf_63 : decode cX13_rowsOf 63 = .ok (.iadd, 1) := dk_96 (dk_at dksX13_rowsOf_2 17 rfl rfl)
theorem dX13_rowsOf_64 : decode cX13_rowsOf 64 = .ok (.i2l, 1) := dk_133 (dk_at dksX13_rowsOf_2 18 rfl rfl)
theorem dX13_rowsOf_65 : decode cX13_rowsOf 65 = .ok (.lmul, 1) := dk_105 (dk_at dksX13_rowsOf_2 19 rfl rfl)
theorem dX13_rowsOf_66 : decode cX13_rowsOf 66 = .ok (.iload 6, 2) := dk_21 6 (dk_at dksX13_rowsOf_2 20 rfl rfl)
theorem dX13_rowsOf_68 : decode cX13_rowsOf 68 = .ok (.i2l, 1) := dk_133 (dk_at dksX13_rowsOf_2 22 rfl rfl)
theorem dX13_rowsOf_69 : decode cX13_rowsOf 69 = .ok (.ldiv, 1) := dk_109 (dk_at dksX13_rowsOf_2 23 rfl rfl)
theorem dX13_rowsOf_70 : decode cX13_rowsOf 70 = .ok (.lstore_n 3, 1) := dk_66 (dk_at dksX13_rowsOf_3 0 rfl rfl)
theorem dX13_rowsOf_71 : decode cX13_rowsOf 71 = .ok (.iinc 5 1, 3) := dk_132 5 1 (dk_at dksX13_rowsOf_3 1 rfl rfl)
theorem dX13_rowsOf_74 : decode cX13_rowsOf 74 = .ok (.goto (-61), 3) := dk_167 255 195 (dk_at dksX13_rowsOf_3 4 rfl rfl)
theorem dX13_rowsOf_77 : decode cX13_rowsOf 77 = .ok (.lload_n 3, 1) := dk_33 (dk_at dksX13_rowsOf_3 7 rfl rfl)
theorem dX13_rowsOf_78 : decode cX13_rowsOf 78 = .ok (.ldc2_w 409, 3) := dk_20 1 153 (dk_at dksX13_rowsOf_3 8 rfl rfl)
theorem dX13_rowsOf_81 : decode cX13_rowsOf 81 = .ok (.lcmp, 1) := dk_148 (dk_at dksX13_rowsOf_3 11 rfl rfl)
theorem dX13_rowsOf_82 : decode cX13_rowsOf 82 = .ok (.ifCond .le 7, 3) := dk_158 0 7 (dk_at dksX13_rowsOf_3 12 rfl rfl)
theorem dX13_rowsOf_85 : decode cX13_rowsOf 85 = .ok (.iconst (-1), 1) := dk_2 (dk_at dksX13_rowsOf_3 15 rfl rfl)
theorem dX13_rowsOf_86 : decode cX13_rowsOf 86 = .ok (.goto 5, 3) := dk_167 0 5 (dk_at dksX13_rowsOf_3 16 rfl rfl)
theorem dX13_rowsOf_89 : decode cX13_rowsOf 89 = .ok (.lload_n 3, 1) := dk_33 (dk_at dksX13_rowsOf_3 19 rfl rfl)
theorem dX13_rowsOf_90 : decode cX13_rowsOf 90 = .ok (.l2i, 1) := dk_136 (dk_at dksX13_rowsOf_3 20 rfl rfl)
theorem dX13_rowsOf_91 : decode cX13_rowsOf 91 = .ok (.ireturn, 1) := dk_172 (dk_at dksX13_rowsOf_3 21 rfl rfl)
abbrev cX13_dealsTrial : ByteArray := prog_24_method_77_code
def yX13_dealsTrial : MethodName := ⟨RX13, "dealsTrial", "([III)V"⟩
def dkwX13_dealsTrial_5 : List UInt8 := [17, 37, 191, 29, 79, 177]
abbrev dktX13_dealsTrial_5 : List UInt8 := dkwX13_dealsTrial_5 ++ []
def dkwX13_dealsTrial_4 : List UInt8 := [132, 6, 1, 167, 255, 203, 132, 4, 1, 167, 255, 156, 42, 17, 37, 188, 182, 0, 174, 42, 180, 0, 115]
abbrev dktX13_dealsTrial_4 : List UInt8 := dkwX13_dealsTrial_4 ++ dktX13_dealsTrial_5
def dkwX13_dealsTrial_3 : List UInt8 := [104, 96, 21, 6, 96, 43, 21, 4, 154, 0, 8, 21, 6, 167, 0, 8, 21, 5, 21, 6, 96, 46, 79]
abbrev dktX13_dealsTrial_3 : List UInt8 := dkwX13_dealsTrial_3 ++ dktX13_dealsTrial_4
def dkwX13_dealsTrial_2 : List UInt8 := [180, 0, 115, 17, 37, 204, 21, 4, 96, 46, 162, 0, 43, 42, 180, 0, 115, 17, 38, 144, 16, 24, 21, 4]
abbrev dktX13_dealsTrial_2 : List UInt8 := dkwX13_dealsTrial_2 ++ dktX13_dealsTrial_3
def dkwX13_dealsTrial_1 : List UInt8 := [21, 4, 96, 21, 4, 154, 0, 8, 21, 5, 167, 0, 7, 28, 21, 5, 100, 79, 3, 54, 6, 21, 6, 42]
abbrev dktX13_dealsTrial_1 : List UInt8 := dkwX13_dealsTrial_1 ++ dktX13_dealsTrial_2
def dkwX13_dealsTrial_0 : List UInt8 := [3, 54, 4, 21, 4, 5, 162, 0, 100, 28, 4, 96, 5, 108, 54, 5, 42, 180, 0, 115, 17, 37, 204]
abbrev dktX13_dealsTrial_0 : List UInt8 := dkwX13_dealsTrial_0 ++ dktX13_dealsTrial_1
theorem dksX13_dealsTrial_0 : cX13_dealsTrial.data.toList.drop 0 = dktX13_dealsTrial_0 := by decide +kernel
theorem dksX13_dealsTrial_1 : cX13_dealsTrial.data.toList.drop 23 = dktX13_dealsTrial_1 := dk_seg dksX13_dealsTrial_0 23 rfl rfl
theorem dksX13_dealsTrial_2 : cX13_dealsTrial.data.toList.drop 47 = dktX13_dealsTrial_2 := dk_seg dksX13_dealsTrial_1 24 rfl rfl
theorem dksX13_dealsTrial_3 : cX13_dealsTrial.data.toList.drop 71 = dktX13_dealsTrial_3 := dk_seg dksX13_dealsTrial_2 24 rfl rfl
theorem dksX13_dealsTrial_4 : cX13_dealsTrial.data.toList.drop 94 = dktX13_dealsTrial_4 := dk_seg dksX13_dealsTrial_3 23 rfl rfl
theorem dksX13_dealsTrial_5 : cX13_dealsTrial.data.toList.drop 117 = dktX13_dealsTrial_5 := dk_seg dksX13_dealsTrial_4 23 rfl rfl
theorem dX13_dealsTrial_0 : decode cX13_dealsTrial 0 = .ok (.iconst 0, 1) := dk_3 (dk_at dksX13_dealsTrial_0 0 rfl rfl)
theorem dX13_dealsTrial_1 : decode cX13_dealsTrial 1 = .ok (.istore 4, 2) := dk_54 4 (dk_at dksX13_dealsTrial_0 1 rfl rfl)
theorem dX13_dealsTrial_3 : decode cX13_dealsTrial 3 = .ok (.iload 4, 2) := dk_21 4 (dk_at dksX13_dealsTrial_0 3 rfl rfl)
theorem dX13_dealsTrial_5 : decode cX13_dealsTrial 5 = .ok (.iconst 2, 1) := dk_5 (dk_at dksX13_dealsTrial_0 5 rfl rfl)
theorem dX13_dealsTrial_6 : decode cX13_dealsTrial 6 = .ok (.if_icmp .ge 100, 3) := dk_162 0 100 (dk_at dksX13_dealsTrial_0 6 rfl rfl)
theorem dX13_dealsTrial_9 : decode cX13_dealsTrial 9 = .ok (.iload_n 2, 1) := dk_28 (dk_at dksX13_dealsTrial_0 9 rfl rfl)
theorem dX13_dealsTrial_10 : decode cX13_dealsTrial 10 = .ok (.iconst 1, 1) := dk_4 (dk_at dksX13_dealsTrial_0 10 rfl rfl)
theorem dX13_dealsTrial_11 : decode cX13_dealsTrial 11 = .ok (.iadd, 1) := dk_96 (dk_at dksX13_dealsTrial_0 11 rfl rfl)
theorem dX13_dealsTrial_12 : decode cX13_dealsTrial 12 = .ok (.iconst 2, 1) := dk_5 (dk_at dksX13_dealsTrial_0 12 rfl rfl)
theorem dX13_dealsTrial_13 : decode cX13_dealsTrial 13 = .ok (.idiv, 1) := dk_108 (dk_at dksX13_dealsTrial_0 13 rfl rfl)
theorem dX13_dealsTrial_14 : decode cX13_dealsTrial 14 = .ok (.istore 5, 2) := dk_54 5 (dk_at dksX13_dealsTrial_0 14 rfl rfl)
theorem dX13_dealsTrial_16 : decode cX13_dealsTrial 16 = .ok (.aload_n 0, 1) := dk_42 (dk_at dksX13_dealsTrial_0 16 rfl rfl)
theorem dX13_dealsTrial_17 : decode cX13_dealsTrial 17 = .ok (.getfield 115, 3) := dk_180 0 115 (dk_at dksX13_dealsTrial_0 17 rfl rfl)
theorem dX13_dealsTrial_20 : decode cX13_dealsTrial 20 = .ok (.sipush 9676, 3) := dk_17 37 204 (dk_at dksX13_dealsTrial_0 20 rfl rfl)
theorem dX13_dealsTrial_23 : decode cX13_dealsTrial 23 = .ok (.iload 4, 2) := dk_21 4 (dk_at dksX13_dealsTrial_1 0 rfl rfl)
theorem dX13_dealsTrial_25 : decode cX13_dealsTrial 25 = .ok (.iadd, 1) := dk_96 (dk_at dksX13_dealsTrial_1 2 rfl rfl)
theorem dX13_dealsTrial_26 : decode cX13_dealsTrial 26 = .ok (.iload 4, 2) := dk_21 4 (dk_at dksX13_dealsTrial_1 3 rfl rfl)
theorem dX13_dealsTrial_28 : decode cX13_dealsTrial 28 = .ok (.ifCond .ne 8, 3) := dk_154 0 8 (dk_at dksX13_dealsTrial_1 5 rfl rfl)
theorem dX13_dealsTrial_31 : decode cX13_dealsTrial 31 = .ok (.iload 5, 2) := dk_21 5 (dk_at dksX13_dealsTrial_1 8 rfl rfl)
theorem dX13_dealsTrial_33 : decode cX13_dealsTrial 33 = .ok (.goto 7, 3) := dk_167 0 7 (dk_at dksX13_dealsTrial_1 10 rfl rfl)
theorem dX13_dealsTrial_36 : decode cX13_dealsTrial 36 = .ok (.iload_n 2, 1) := dk_28 (dk_at dksX13_dealsTrial_1 13 rfl rfl)
theorem dX13_dealsTrial_37 : decode cX13_dealsTrial 37 = .ok (.iload 5, 2) := dk_21 5 (dk_at dksX13_dealsTrial_1 14 rfl rfl)
theorem dX13_dealsTrial_39 : decode cX13_dealsTrial 39 = .ok (.isub, 1) := dk_100 (dk_at dksX13_dealsTrial_1 16 rfl rfl)
theorem dX13_dealsTrial_40 : decode cX13_dealsTrial 40 = .ok (.iastore, 1) := dk_79 (dk_at dksX13_dealsTrial_1 17 rfl rfl)
theorem dX13_dealsTrial_41 : decode cX13_dealsTrial 41 = .ok (.iconst 0, 1) := dk_3 (dk_at dksX13_dealsTrial_1 18 rfl rfl)
theorem dX13_dealsTrial_42 : decode cX13_dealsTrial 42 = .ok (.istore 6, 2) := dk_54 6 (dk_at dksX13_dealsTrial_1 19 rfl rfl)
theorem dX13_dealsTrial_44 : decode cX13_dealsTrial 44 = .ok (.iload 6, 2) := dk_21 6 (dk_at dksX13_dealsTrial_1 21 rfl rfl)
theorem dX13_dealsTrial_46 : decode cX13_dealsTrial 46 = .ok (.aload_n 0, 1) := dk_42 (dk_at dksX13_dealsTrial_1 23 rfl rfl)
theorem dX13_dealsTrial_47 : decode cX13_dealsTrial 47 = .ok (.getfield 115, 3) := dk_180 0 115 (dk_at dksX13_dealsTrial_2 0 rfl rfl)
theorem dX13_dealsTrial_50 : decode cX13_dealsTrial 50 = .ok (.sipush 9676, 3) := dk_17 37 204 (dk_at dksX13_dealsTrial_2 3 rfl rfl)
theorem dX13_dealsTrial_53 : decode cX13_dealsTrial 53 = .ok (.iload 4, 2) := dk_21 4 (dk_at dksX13_dealsTrial_2 6 rfl rfl)
theorem dX13_dealsTrial_55 : decode cX13_dealsTrial 55 = .ok (.iadd, 1) := dk_96 (dk_at dksX13_dealsTrial_2 8 rfl rfl)
theorem dX13_dealsTrial_56 : decode cX13_dealsTrial 56 = .ok (.iaload, 1) := dk_46 (dk_at dksX13_dealsTrial_2 9 rfl rfl)
theorem dX13_dealsTrial_57 : decode cX13_dealsTrial 57 = .ok (.if_icmp .ge 43, 3) := dk_162 0 43 (dk_at dksX13_dealsTrial_2 10 rfl rfl)
theorem dX13_dealsTrial_60 : decode cX13_dealsTrial 60 = .ok (.aload_n 0, 1) := dk_42 (dk_at dksX13_dealsTrial_2 13 rfl rfl)
theorem dX13_dealsTrial_61 : decode cX13_dealsTrial 61 = .ok (.getfield 115, 3) := dk_180 0 115 (dk_at dksX13_dealsTrial_2 14 rfl rfl)
theorem dX13_dealsTrial_64 : decode cX13_dealsTrial 64 = .ok (.sipush 9872, 3) := dk_17 38 144 (dk_at dksX13_dealsTrial_2 17 rfl rfl)
theorem dX13_dealsTrial_67 : decode cX13_dealsTrial 67 = .ok (.bipush 24, 2) := dk_16 24 (dk_at dksX13_dealsTrial_2 20 rfl rfl)
theorem dX13_dealsTrial_69 : decode cX13_dealsTrial 69 = .ok (.iload 4, 2) := dk_21 4 (dk_at dksX13_dealsTrial_2 22 rfl rfl)
theorem dX13_dealsTrial_71 : decode cX13_dealsTrial 71 = .ok (.imul, 1) := dk_104 (dk_at dksX13_dealsTrial_3 0 rfl rfl)
theorem dX13_dealsTrial_72 : decode cX13_dealsTrial 72 = .ok (.iadd, 1) := dk_96 (dk_at dksX13_dealsTrial_3 1 rfl rfl)
theorem dX13_dealsTrial_73 : decode cX13_dealsTrial 73 = .ok (.iload 6, 2) := dk_21 6 (dk_at dksX13_dealsTrial_3 2 rfl rfl)
theorem dX13_dealsTrial_75 : decode cX13_dealsTrial 75 = .ok (.iadd, 1) := dk_96 (dk_at dksX13_dealsTrial_3 4 rfl rfl)
theorem dX13_dealsTrial_76 : decode cX13_dealsTrial 76 = .ok (.aload_n 1, 1) := dk_43 (dk_at dksX13_dealsTrial_3 5 rfl rfl)
theorem dX13_dealsTrial_77 : decode cX13_dealsTrial 77 = .ok (.iload 4, 2) := dk_21 4 (dk_at dksX13_dealsTrial_3 6 rfl rfl)
theorem dX13_dealsTrial_79 : decode cX13_dealsTrial 79 = .ok (.ifCond .ne 8, 3) := dk_154 0 8 (dk_at dksX13_dealsTrial_3 8 rfl rfl)
theorem dX13_dealsTrial_82 : decode cX13_dealsTrial 82 = .ok (.iload 6, 2) := dk_21 6 (dk_at dksX13_dealsTrial_3 11 rfl rfl)
theorem dX13_dealsTrial_84 : decode cX13_dealsTrial 84 = .ok (.goto 8, 3) := dk_167 0 8 (dk_at dksX13_dealsTrial_3 13 rfl rfl)
theorem dX13_dealsTrial_87 : decode cX13_dealsTrial 87 = .ok (.iload 5, 2) := dk_21 5 (dk_at dksX13_dealsTrial_3 16 rfl rfl)
theorem dX13_dealsTrial_89 : decode cX13_dealsTrial 89 = .ok (.iload 6, 2) := dk_21 6 (dk_at dksX13_dealsTrial_3 18 rfl rfl)
theorem dX13_dealsTrial_91 : decode cX13_dealsTrial 91 = .ok (.iadd, 1) := dk_96 (dk_at dksX13_dealsTrial_3 20 rfl rfl)
theorem dX13_dealsTrial_92 : decode cX13_dealsTrial 92 = .ok (.iaload, 1) := dk_46 (dk_at dksX13_dealsTrial_3 21 rfl rfl)
theorem dX13_dealsTrial_93 : decode cX13_dealsTrial 93 = .ok (.iastore, 1) := dk_79 (dk_at dksX13_dealsTrial_3 22 rfl rfl)
theorem dX13_dealsTrial_94 : decode cX13_dealsTrial 94 = .ok (.iinc 6 1, 3) := dk_132 6 1 (dk_at dksX13_dealsTrial_4 0 rfl rfl)
theorem dX13_dealsTrial_97 : decode cX13_dealsTrial 97 = .ok (.goto (-53), 3) := dk_167 255 203 (dk_at dksX13_dealsTrial_4 3 rfl rfl)
theorem dX13_dealsTrial_100 : decode cX13_dealsTrial 100 = .ok (.iinc 4 1, 3) := dk_132 4 1 (dk_at dksX13_dealsTrial_4 6 rfl rfl)
theorem dX13_dealsTrial_103 : decode cX13_dealsTrial 103 = .ok (.goto (-100), 3) := dk_167 255 156 (dk_at dksX13_dealsTrial_4 9 rfl rfl)
theorem dX13_dealsTrial_106 : decode cX13_dealsTrial 106 = .ok (.aload_n 0, 1) := dk_42 (dk_at dksX13_dealsTrial_4 12 rfl rfl)
theorem dX13_dealsTrial_107 : decode cX13_dealsTrial 107 = .ok (.sipush 9660, 3) := dk_17 37 188 (dk_at dksX13_dealsTrial_4 13 rfl rfl)
theorem dX13_dealsTrial_110 : decode cX13_dealsTrial 110 = .ok (.invokevirtual 174, 3) := dk_182 0 174 (dk_at dksX13_dealsTrial_4 16 rfl rfl)
theorem dX13_dealsTrial_113 : decode cX13_dealsTrial 113 = .ok (.aload_n 0, 1) := dk_42 (dk_at dksX13_dealsTrial_4 19 rfl rfl)
theorem dX13_dealsTrial_114 : decode cX13_dealsTrial 114 = .ok (.getfield 115, 3) := dk_180 0 115 (dk_at dksX13_dealsTrial_4 20 rfl rfl)
theorem dX13_dealsTrial_117 : decode cX13_dealsTrial 117 = .ok (.sipush 9663, 3) := dk_17 37 191 (dk_at dksX13_dealsTrial_5 0 rfl rfl)
theorem dX13_dealsTrial_120 : decode cX13_dealsTrial 120 = .ok (.iload_n 3, 1) := dk_29 (dk_at dksX13_dealsTrial_5 3 rfl rfl)
theorem dX13_dealsTrial_121 : decode cX13_dealsTrial 121 = .ok (.iastore, 1) := dk_79 (dk_at dksX13_dealsTrial_5 4 rfl rfl)
theorem dX13_dealsTrial_122 : decode cX13_dealsTrial 122 = .ok (.return_, 1) := dk_177 (dk_at dksX13_dealsTrial_5 5 rfl rfl)
abbrev cX13_goesNext : ByteArray := prog_24_method_75_code
def yX13_goesNext : MethodName := ⟨RX13, "goesNext", "([II)Z"⟩
def dkwX13_goesNext_4 : List UInt8 := [4, 172]
abbrev dktX13_goesNext_4 : List UInt8 := dkwX13_goesNext_4 ++ []
def dkwX13_goesNext_3 : List UInt8 := [21, 5, 21, 6, 162, 0, 20, 43, 21, 5, 21, 6, 184, 1, 155, 132, 5, 1, 132, 6, 255, 167, 255, 235]
abbrev dktX13_goesNext_3 : List UInt8 := dkwX13_goesNext_3 ++ dktX13_goesNext_4
def dkwX13_goesNext_2 : List UInt8 := [132, 4, 255, 167, 255, 243, 43, 29, 21, 4, 184, 1, 155, 29, 4, 96, 54, 5, 28, 4, 100, 54, 6]
abbrev dktX13_goesNext_2 : List UInt8 := dkwX13_goesNext_2 ++ dktX13_goesNext_3
def dkwX13_goesNext_1 : List UInt8 := [167, 255, 238, 29, 156, 0, 5, 3, 172, 28, 4, 100, 54, 4, 43, 21, 4, 46, 43, 29, 46, 163, 0, 9]
abbrev dktX13_goesNext_1 : List UInt8 := dkwX13_goesNext_1 ++ dktX13_goesNext_2
def dkwX13_goesNext_0 : List UInt8 := [28, 5, 100, 62, 29, 155, 0, 20, 43, 29, 46, 43, 29, 4, 96, 46, 161, 0, 9, 132, 3, 255]
abbrev dktX13_goesNext_0 : List UInt8 := dkwX13_goesNext_0 ++ dktX13_goesNext_1
theorem dksX13_goesNext_0 : cX13_goesNext.data.toList.drop 0 = dktX13_goesNext_0 := by decide +kernel
theorem dksX13_goesNext_1 : cX13_goesNext.data.toList.drop 22 = dktX13_goesNext_1 := dk_seg dksX13_goesNext_0 22 rfl rfl
theorem dksX13_goesNext_2 : cX13_goesNext.data.toList.drop 46 = dktX13_goesNext_2 := dk_seg dksX13_goesNext_1 24 rfl rfl
theorem dksX13_goesNext_3 : cX13_goesNext.data.toList.drop 69 = dktX13_goesNext_3 := dk_seg dksX13_goesNext_2 23 rfl rfl
theorem dksX13_goesNext_4 : cX13_goesNext.data.toList.drop 93 = dktX13_goesNext_4 := dk_seg dksX13_goesNext_3 24 rfl rfl
theorem dX13_goesNext_0 : decode cX13_goesNext 0 = .ok (.iload_n 2, 1) := dk_28 (dk_at dksX13_goesNext_0 0 rfl rfl)
theorem dX13_goesNext_1 : decode cX13_goesNext 1 = .ok (.iconst 2, 1) := dk_5 (dk_at dksX13_goesNext_0 1 rfl rfl)
theorem dX13_goesNext_2 : decode cX13_goesNext 2 = .ok (.isub, 1) := dk_100 (dk_at dksX13_goesNext_0 2 rfl rfl)
theorem dX13_goesNext_3 : decode cX13_goesNext 3 = .ok (.istore_n 3, 1) := dk_62 (dk_at dksX13_goesNext_0 3 rfl rfl)
theorem dX13_goesNext_4 : decode cX13_goesNext 4 = .ok (.iload_n 3, 1) := dk_29 (dk_at dksX13_goesNext_0 4 rfl rfl)
theorem dX13_goesNext_5 : decode cX13_goesNext 5 = .ok (.ifCond .lt 20, 3) := dk_155 0 20 (dk_at dksX13_goesNext_0 5 rfl rfl)
theorem dX13_goesNext_8 : decode cX13_goesNext 8 = .ok (.aload_n 1, 1) := dk_43 (dk_at dksX13_goesNext_0 8 rfl rfl)
theorem dX13_goesNext_9 : decode cX13_goesNext 9 = .ok (.iload_n 3, 1) := dk_29 (dk_at dksX13_goesNext_0 9 rfl rfl)
theorem dX13_goesNext_10 : decode cX13_goesNext 10 = .ok (.iaload, 1) := dk_46 (dk_at dksX13_goesNext_0 10 rfl rfl)
theorem dX13_goesNext_11 : decode cX13_goesNext 11 = .ok (.aload_n 1, 1) := dk_43 (dk_at dksX13_goesNext_0 11 rfl rfl)
theorem dX13_goesNext_12 : decode cX13_goesNext 12 = .ok (.iload_n 3, 1) := dk_29 (dk_at dksX13_goesNext_0 12 rfl rfl)
theorem dX13_goesNext_13 : decode cX13_goesNext 13 = .ok (.iconst 1, 1) := dk_4 (dk_at dksX13_goesNext_0 13 rfl rfl)
theorem dX13_goesNext_14 : decode cX13_goesNext 14 = .ok (.iadd, 1) := dk_96 (dk_at dksX13_goesNext_0 14 rfl rfl)
theorem dX13_goesNext_15 : decode cX13_goesNext 15 = .ok (.iaload, 1) := dk_46 (dk_at dksX13_goesNext_0 15 rfl rfl)
theorem dX13_goesNext_16 : decode cX13_goesNext 16 = .ok (.if_icmp .lt 9, 3) := dk_161 0 9 (dk_at dksX13_goesNext_0 16 rfl rfl)
theorem dX13_goesNext_19 : decode cX13_goesNext 19 = .ok (.iinc 3 (-1), 3) := dk_132 3 255 (dk_at dksX13_goesNext_0 19 rfl rfl)
theorem dX13_goesNext_22 : decode cX13_goesNext 22 = .ok (.goto (-18), 3) := dk_167 255 238 (dk_at dksX13_goesNext_1 0 rfl rfl)
theorem dX13_goesNext_25 : decode cX13_goesNext 25 = .ok (.iload_n 3, 1) := dk_29 (dk_at dksX13_goesNext_1 3 rfl rfl)
theorem dX13_goesNext_26 : decode cX13_goesNext 26 = .ok (.ifCond .ge 5, 3) := dk_156 0 5 (dk_at dksX13_goesNext_1 4 rfl rfl)
theorem dX13_goesNext_29 : decode cX13_goesNext 29 = .ok (.iconst 0, 1) := dk_3 (dk_at dksX13_goesNext_1 7 rfl rfl)
theorem dX13_goesNext_30 : decode cX13_goesNext 30 = .ok (.ireturn, 1) := dk_172 (dk_at dksX13_goesNext_1 8 rfl rfl)
theorem dX13_goesNext_31 : decode cX13_goesNext 31 = .ok (.iload_n 2, 1) := dk_28 (dk_at dksX13_goesNext_1 9 rfl rfl)
theorem dX13_goesNext_32 : decode cX13_goesNext 32 = .ok (.iconst 1, 1) := dk_4 (dk_at dksX13_goesNext_1 10 rfl rfl)
theorem dX13_goesNext_33 : decode cX13_goesNext 33 = .ok (.isub, 1) := dk_100 (dk_at dksX13_goesNext_1 11 rfl rfl)
theorem dX13_goesNext_34 : decode cX13_goesNext 34 = .ok (.istore 4, 2) := dk_54 4 (dk_at dksX13_goesNext_1 12 rfl rfl)
theorem dX13_goesNext_36 : decode cX13_goesNext 36 = .ok (.aload_n 1, 1) := dk_43 (dk_at dksX13_goesNext_1 14 rfl rfl)
theorem dX13_goesNext_37 : decode cX13_goesNext 37 = .ok (.iload 4, 2) := dk_21 4 (dk_at dksX13_goesNext_1 15 rfl rfl)
theorem dX13_goesNext_39 : decode cX13_goesNext 39 = .ok (.iaload, 1) := dk_46 (dk_at dksX13_goesNext_1 17 rfl rfl)
theorem dX13_goesNext_40 : decode cX13_goesNext 40 = .ok (.aload_n 1, 1) := dk_43 (dk_at dksX13_goesNext_1 18 rfl rfl)
theorem dX13_goesNext_41 : decode cX13_goesNext 41 = .ok (.iload_n 3, 1) := dk_29 (dk_at dksX13_goesNext_1 19 rfl rfl)
theorem dX13_goesNext_42 : decode cX13_goesNext 42 = .ok (.iaload, 1) := dk_46 (dk_at dksX13_goesNext_1 20 rfl rfl)
theorem dX13_goesNext_43 : decode cX13_goesNext 43 = .ok (.if_icmp .gt 9, 3) := dk_163 0 9 (dk_at dksX13_goesNext_1 21 rfl rfl)
theorem dX13_goesNext_46 : decode cX13_goesNext 46 = .ok (.iinc 4 (-1), 3) := dk_132 4 255 (dk_at dksX13_goesNext_2 0 rfl rfl)
theorem dX13_goesNext_49 : decode cX13_goesNext 49 = .ok (.goto (-13), 3) := dk_167 255 243 (dk_at dksX13_goesNext_2 3 rfl rfl)
theorem dX13_goesNext_52 : decode cX13_goesNext 52 = .ok (.aload_n 1, 1) := dk_43 (dk_at dksX13_goesNext_2 6 rfl rfl)
theorem dX13_goesNext_53 : decode cX13_goesNext 53 = .ok (.iload_n 3, 1) := dk_29 (dk_at dksX13_goesNext_2 7 rfl rfl)
theorem dX13_goesNext_54 : decode cX13_goesNext 54 = .ok (.iload 4, 2) := dk_21 4 (dk_at dksX13_goesNext_2 8 rfl rfl)
theorem dX13_goesNext_56 : decode cX13_goesNext 56 = .ok (.invokestatic 411, 3) := dk_184 1 155 (dk_at dksX13_goesNext_2 10 rfl rfl)
theorem dX13_goesNext_59 : decode cX13_goesNext 59 = .ok (.iload_n 3, 1) := dk_29 (dk_at dksX13_goesNext_2 13 rfl rfl)
theorem dX13_goesNext_60 : decode cX13_goesNext 60 = .ok (.iconst 1, 1) := dk_4 (dk_at dksX13_goesNext_2 14 rfl rfl)
theorem dX13_goesNext_61 : decode cX13_goesNext 61 = .ok (.iadd, 1) := dk_96 (dk_at dksX13_goesNext_2 15 rfl rfl)
theorem dX13_goesNext_62 : decode cX13_goesNext 62 = .ok (.istore 5, 2) := dk_54 5 (dk_at dksX13_goesNext_2 16 rfl rfl)
theorem dX13_goesNext_64 : decode cX13_goesNext 64 = .ok (.iload_n 2, 1) := dk_28 (dk_at dksX13_goesNext_2 18 rfl rfl)
theorem dX13_goesNext_65 : decode cX13_goesNext 65 = .ok (.iconst 1, 1) := dk_4 (dk_at dksX13_goesNext_2 19 rfl rfl)
theorem dX13_goesNext_66 : decode cX13_goesNext 66 = .ok (.isub, 1) := dk_100 (dk_at dksX13_goesNext_2 20 rfl rfl)
theorem dX13_goesNext_67 : decode cX13_goesNext 67 = .ok (.istore 6, 2) := dk_54 6 (dk_at dksX13_goesNext_2 21 rfl rfl)
theorem dX13_goesNext_69 : decode cX13_goesNext 69 = .ok (.iload 5, 2) := dk_21 5 (dk_at dksX13_goesNext_3 0 rfl rfl)
theorem dX13_goesNext_71 : decode cX13_goesNext 71 = .ok (.iload 6, 2) := dk_21 6 (dk_at dksX13_goesNext_3 2 rfl rfl)
theorem dX13_goesNext_73 : decode cX13_goesNext 73 = .ok (.if_icmp .ge 20, 3) := dk_162 0 20 (dk_at dksX13_goesNext_3 4 rfl rfl)
theorem dX13_goesNext_76 : decode cX13_goesNext 76 = .ok (.aload_n 1, 1) := dk_43 (dk_at dksX13_goesNext_3 7 rfl rfl)
theorem dX13_goesNext_77 : decode cX13_goesNext 77 = .ok (.iload 5, 2) := dk_21 5 (dk_at dksX13_goesNext_3 8 rfl rfl)
theorem dX13_goesNext_79 : decode cX13_goesNext 79 = .ok (.iload 6, 2) := dk_21 6 (dk_at dksX13_goesNext_3 10 rfl rfl)
theorem dX13_goesNext_81 : decode cX13_goesNext 81 = .ok (.invokestatic 411, 3) := dk_184 1 155 (dk_at dksX13_goesNext_3 12 rfl rfl)
theorem dX13_goesNext_84 : decode cX13_goesNext 84 = .ok (.iinc 5 1, 3) := dk_132 5 1 (dk_at dksX13_goesNext_3 15 rfl rfl)
theorem dX13_goesNext_87 : decode cX13_goesNext 87 = .ok (.iinc 6 (-1), 3) := dk_132 6 255 (dk_at dksX13_goesNext_3 18 rfl rfl)
theorem dX13_goesNext_90 : decode cX13_goesNext 90 = .ok (.goto (-21), 3) := dk_167 255 235 (dk_at dksX13_goesNext_3 21 rfl rfl)
theorem dX13_goesNext_93 : decode cX13_goesNext 93 = .ok (.iconst 1, 1) := dk_4 (dk_at dksX13_goesNext_4 0 rfl rfl)
theorem dX13_goesNext_94 : decode cX13_goesNext 94 = .ok (.ireturn, 1) := dk_172 (dk_at dksX13_goesNext_4 1 rfl rfl)
abbrev cX13_swaps : ByteArray := prog_24_method_76_code
def yX13_swaps : MethodName := ⟨RX13, "swaps", "([III)V"⟩
def dkwX13_swaps_0 : List UInt8 := [42, 27, 46, 62, 42, 27, 42, 28, 46, 79, 42, 28, 29, 79, 177]
abbrev dktX13_swaps_0 : List UInt8 := dkwX13_swaps_0 ++ []
theorem dksX13_swaps_0 : cX13_swaps.data.toList.drop 0 = dktX13_swaps_0 := by decide +kernel
theorem dX13_swaps_0 : decode cX13_swaps 0 = .ok (.aload_n 0, 1) := dk_42 (dk_at dksX13_swaps_0 0 rfl rfl)
theorem dX13_swaps_1 : decode cX13_swaps 1 = .ok (.iload_n 1, 1) := dk_27 (dk_at dksX13_swaps_0 1 rfl rfl)
theorem dX13_swaps_2 : decode cX13_swaps 2 = .ok (.iaload, 1) := dk_46 (dk_at dksX13_swaps_0 2 rfl rfl)
theorem dX13_swaps_3 : decode cX13_swaps 3 = .ok (.istore_n 3, 1) := dk_62 (dk_at dksX13_swaps_0 3 rfl rfl)
theorem dX13_swaps_4 : decode cX13_swaps 4 = .ok (.aload_n 0, 1) := dk_42 (dk_at dksX13_swaps_0 4 rfl rfl)
theorem dX13_swaps_5 : decode cX13_swaps 5 = .ok (.iload_n 1, 1) := dk_27 (dk_at dksX13_swaps_0 5 rfl rfl)
theorem dX13_swaps_6 : decode cX13_swaps 6 = .ok (.aload_n 0, 1) := dk_42 (dk_at dksX13_swaps_0 6 rfl rfl)
theorem dX13_swaps_7 : decode cX13_swaps 7 = .ok (.iload_n 2, 1) := dk_28 (dk_at dksX13_swaps_0 7 rfl rfl)
theorem dX13_swaps_8 : decode cX13_swaps 8 = .ok (.iaload, 1) := dk_46 (dk_at dksX13_swaps_0 8 rfl rfl)
theorem dX13_swaps_9 : decode cX13_swaps 9 = .ok (.iastore, 1) := dk_79 (dk_at dksX13_swaps_0 9 rfl rfl)
theorem dX13_swaps_10 : decode cX13_swaps 10 = .ok (.aload_n 0, 1) := dk_42 (dk_at dksX13_swaps_0 10 rfl rfl)
theorem dX13_swaps_11 : decode cX13_swaps 11 = .ok (.iload_n 2, 1) := dk_28 (dk_at dksX13_swaps_0 11 rfl rfl)
theorem dX13_swaps_12 : decode cX13_swaps 12 = .ok (.iload_n 3, 1) := dk_29 (dk_at dksX13_swaps_0 12 rfl rfl)
theorem dX13_swaps_13 : decode cX13_swaps 13 = .ok (.iastore, 1) := dk_79 (dk_at dksX13_swaps_0 13 rfl rfl)
theorem dX13_swaps_14 : decode cX13_swaps 14 = .ok (.return_, 1) := dk_177 (dk_at dksX13_swaps_0 14 rfl rfl)
abbrev cX13_row : ByteArray := prog_24_method_80_code
def yX13_row : MethodName := ⟨RX13, "row", "(II)I"⟩
def dkwX13_row_2 : List UInt8 := [180, 0, 149, 42, 180, 1, 150, 182, 1, 172, 87, 132, 3, 1, 167, 255, 235, 42, 180, 0, 149, 28, 46, 172]
abbrev dktX13_row_2 : List UInt8 := dkwX13_row_2 ++ []
def dkwX13_row_1 : List UInt8 := [28, 155, 0, 11, 28, 42, 180, 1, 150, 161, 0, 5, 2, 172, 3, 62, 29, 27, 162, 0, 22, 42, 42]
abbrev dktX13_row_1 : List UInt8 := dkwX13_row_1 ++ dktX13_row_2
def dkwX13_row_0 : List UInt8 := [42, 3, 181, 0, 1, 42, 182, 1, 176, 153, 0, 27, 27, 155, 0, 23, 27, 42, 180, 1, 166, 162, 0, 15]
abbrev dktX13_row_0 : List UInt8 := dkwX13_row_0 ++ dktX13_row_1
theorem dksX13_row_0 : cX13_row.data.toList.drop 0 = dktX13_row_0 := by decide +kernel
theorem dksX13_row_1 : cX13_row.data.toList.drop 24 = dktX13_row_1 := dk_seg dksX13_row_0 24 rfl rfl
theorem dksX13_row_2 : cX13_row.data.toList.drop 47 = dktX13_row_2 := dk_seg dksX13_row_1 23 rfl rfl
theorem dX13_row_0 : decode cX13_row 0 = .ok (.aload_n 0, 1) := dk_42 (dk_at dksX13_row_0 0 rfl rfl)
theorem dX13_row_1 : decode cX13_row 1 = .ok (.iconst 0, 1) := dk_3 (dk_at dksX13_row_0 1 rfl rfl)
theorem dX13_row_2 : decode cX13_row 2 = .ok (.putfield 1, 3) := dk_181 0 1 (dk_at dksX13_row_0 2 rfl rfl)
theorem dX13_row_5 : decode cX13_row 5 = .ok (.aload_n 0, 1) := dk_42 (dk_at dksX13_row_0 5 rfl rfl)
theorem dX13_row_6 : decode cX13_row 6 = .ok (.invokevirtual 432, 3) := dk_182 1 176 (dk_at dksX13_row_0 6 rfl rfl)
theorem dX13_row_9 : decode cX13_row 9 = .ok (.ifCond .eq 27, 3) := dk_153 0 27 (dk_at dksX13_row_0 9 rfl rfl)
theorem dX13_row_12 : decode cX13_row 12 = .ok (.iload_n 1, 1) := dk_27 (dk_at dksX13_row_0 12 rfl rfl)
theorem dX13_row_13 : decode cX13_row 13 = .ok (.ifCond .lt 23, 3) := dk_155 0 23 (dk_at dksX13_row_0 13 rfl rfl)
theorem dX13_row_16 : decode cX13_row 16 = .ok (.iload_n 1, 1) := dk_27 (dk_at dksX13_row_0 16 rfl rfl)
theorem dX13_row_17 : decode cX13_row 17 = .ok (.aload_n 0, 1) := dk_42 (dk_at dksX13_row_0 17 rfl rfl)
theorem dX13_row_18 : decode cX13_row 18 = .ok (.getfield 422, 3) := dk_180 1 166 (dk_at dksX13_row_0 18 rfl rfl)
theorem dX13_row_21 : decode cX13_row 21 = .ok (.if_icmp .ge 15, 3) := dk_162 0 15 (dk_at dksX13_row_0 21 rfl rfl)
theorem dX13_row_24 : decode cX13_row 24 = .ok (.iload_n 2, 1) := dk_28 (dk_at dksX13_row_1 0 rfl rfl)
theorem dX13_row_25 : decode cX13_row 25 = .ok (.ifCond .lt 11, 3) := dk_155 0 11 (dk_at dksX13_row_1 1 rfl rfl)
theorem dX13_row_28 : decode cX13_row 28 = .ok (.iload_n 2, 1) := dk_28 (dk_at dksX13_row_1 4 rfl rfl)
theorem dX13_row_29 : decode cX13_row 29 = .ok (.aload_n 0, 1) := dk_42 (dk_at dksX13_row_1 5 rfl rfl)
theorem dX13_row_30 : decode cX13_row 30 = .ok (.getfield 406, 3) := dk_180 1 150 (dk_at dksX13_row_1 6 rfl rfl)
theorem dX13_row_33 : decode cX13_row 33 = .ok (.if_icmp .lt 5, 3) := dk_161 0 5 (dk_at dksX13_row_1 9 rfl rfl)
theorem dX13_row_36 : decode cX13_row 36 = .ok (.iconst (-1), 1) := dk_2 (dk_at dksX13_row_1 12 rfl rfl)
theorem dX13_row_37 : decode cX13_row 37 = .ok (.ireturn, 1) := dk_172 (dk_at dksX13_row_1 13 rfl rfl)
theorem dX13_row_38 : decode cX13_row 38 = .ok (.iconst 0, 1) := dk_3 (dk_at dksX13_row_1 14 rfl rfl)
theorem dX13_row_39 : decode cX13_row 39 = .ok (.istore_n 3, 1) := dk_62 (dk_at dksX13_row_1 15 rfl rfl)
theorem dX13_row_40 : decode cX13_row 40 = .ok (.iload_n 3, 1) := dk_29 (dk_at dksX13_row_1 16 rfl rfl)
theorem dX13_row_41 : decode cX13_row 41 = .ok (.iload_n 1, 1) := dk_27 (dk_at dksX13_row_1 17 rfl rfl)
theorem dX13_row_42 : decode cX13_row 42 = .ok (.if_icmp .ge 22, 3) := dk_162 0 22 (dk_at dksX13_row_1 18 rfl rfl)
theorem dX13_row_45 : decode cX13_row 45 = .ok (.aload_n 0, 1) := dk_42 (dk_at dksX13_row_1 21 rfl rfl)
theorem dX13_row_46 : decode cX13_row 46 = .ok (.aload_n 0, 1) := dk_42 (dk_at dksX13_row_1 22 rfl rfl)
theorem dX13_row_47 : decode cX13_row 47 = .ok (.getfield 149, 3) := dk_180 0 149 (dk_at dksX13_row_2 0 rfl rfl)
theorem dX13_row_50 : decode cX13_row 50 = .ok (.aload_n 0, 1) := dk_42 (dk_at dksX13_row_2 3 rfl rfl)
theorem dX13_row_51 : decode cX13_row 51 = .ok (.getfield 406, 3) := dk_180 1 150 (dk_at dksX13_row_2 4 rfl rfl)
theorem dX13_row_54 : decode cX13_row 54 = .ok (.invokevirtual 428, 3) := dk_182 1 172 (dk_at dksX13_row_2 7 rfl rfl)
theorem dX13_row_57 : decode cX13_row 57 = .ok (.pop, 1) := dk_87 (dk_at dksX13_row_2 10 rfl rfl)
theorem dX13_row_58 : decode cX13_row 58 = .ok (.iinc 3 1, 3) := dk_132 3 1 (dk_at dksX13_row_2 11 rfl rfl)
theorem dX13_row_61 : decode cX13_row 61 = .ok (.goto (-21), 3) := dk_167 255 235 (dk_at dksX13_row_2 14 rfl rfl)
theorem dX13_row_64 : decode cX13_row 64 = .ok (.aload_n 0, 1) := dk_42 (dk_at dksX13_row_2 17 rfl rfl)
theorem dX13_row_65 : decode cX13_row 65 = .ok (.getfield 149, 3) := dk_180 0 149 (dk_at dksX13_row_2 18 rfl rfl)
theorem dX13_row_68 : decode cX13_row 68 = .ok (.iload_n 2, 1) := dk_28 (dk_at dksX13_row_2 21 rfl rfl)
theorem dX13_row_69 : decode cX13_row 69 = .ok (.iaload, 1) := dk_46 (dk_at dksX13_row_2 22 rfl rfl)
theorem dX13_row_70 : decode cX13_row 70 = .ok (.ireturn, 1) := dk_172 (dk_at dksX13_row_2 23 rfl rfl)
abbrev cX13_beginner : ByteArray := prog_24_method_81_code
def yX13_beginner : MethodName := ⟨RX13, "beginner", "(I)I"⟩
def dkwX13_beginner_7 : List UInt8 := [160, 0, 7, 29, 167, 0, 13, 5, 42, 180, 1, 166, 104, 28, 100, 29, 100, 172]
abbrev dktX13_beginner_7 : List UInt8 := dkwX13_beginner_7 ++ []
def dkwX13_beginner_6 : List UInt8 := [180, 1, 150, 182, 1, 172, 87, 132, 4, 1, 167, 255, 136, 27, 154, 0, 7, 28, 167, 0, 22, 27, 4]
abbrev dktX13_beginner_6 : List UInt8 := dkwX13_beginner_6 ++ dktX13_beginner_7
def dkwX13_beginner_5 : List UInt8 := [160, 0, 7, 4, 167, 0, 4, 3, 96, 62, 132, 5, 1, 167, 255, 167, 42, 42, 180, 0, 149, 42]
abbrev dktX13_beginner_5 : List UInt8 := dkwX13_beginner_5 ++ dktX13_beginner_6
def dkwX13_beginner_4 : List UInt8 := [54, 6, 28, 21, 6, 21, 5, 160, 0, 7, 4, 167, 0, 4, 3, 96, 61, 29, 21, 6, 4, 21, 5, 100]
abbrev dktX13_beginner_4 : List UInt8 := dkwX13_beginner_4 ++ dktX13_beginner_5
def dkwX13_beginner_3 : List UInt8 := [180, 0, 149, 42, 180, 1, 150, 21, 5, 182, 1, 169, 42, 17, 37, 188, 2, 182, 1, 144, 42, 180, 1, 138]
abbrev dktX13_beginner_3 : List UInt8 := dkwX13_beginner_3 ++ dktX13_beginner_4
def dkwX13_beginner_2 : List UInt8 := [42, 180, 0, 152, 21, 4, 46, 54, 6, 21, 5, 42, 180, 0, 85, 5, 46, 159, 0, 31, 42, 42]
abbrev dktX13_beginner_2 : List UInt8 := dkwX13_beginner_2 ++ dktX13_beginner_3
def dkwX13_beginner_1 : List UInt8 := [61, 3, 62, 3, 54, 4, 21, 4, 42, 180, 1, 166, 162, 0, 117, 3, 54, 5, 21, 5, 5, 162, 0, 89]
abbrev dktX13_beginner_1 : List UInt8 := dkwX13_beginner_1 ++ dktX13_beginner_2
def dkwX13_beginner_0 : List UInt8 := [42, 3, 181, 0, 1, 27, 3, 5, 184, 1, 91, 153, 0, 10, 42, 182, 1, 176, 154, 0, 5, 2, 172, 3]
abbrev dktX13_beginner_0 : List UInt8 := dkwX13_beginner_0 ++ dktX13_beginner_1
theorem dksX13_beginner_0 : cX13_beginner.data.toList.drop 0 = dktX13_beginner_0 := by decide +kernel
theorem dksX13_beginner_1 : cX13_beginner.data.toList.drop 24 = dktX13_beginner_1 := dk_seg dksX13_beginner_0 24 rfl rfl
theorem dksX13_beginner_2 : cX13_beginner.data.toList.drop 48 = dktX13_beginner_2 := dk_seg dksX13_beginner_1 24 rfl rfl
theorem dksX13_beginner_3 : cX13_beginner.data.toList.drop 70 = dktX13_beginner_3 := dk_seg dksX13_beginner_2 22 rfl rfl
theorem dksX13_beginner_4 : cX13_beginner.data.toList.drop 94 = dktX13_beginner_4 := dk_seg dksX13_beginner_3 24 rfl rfl
theorem dksX13_beginner_5 : cX13_beginner.data.toList.drop 118 = dktX13_beginner_5 := dk_seg dksX13_beginner_4 24 rfl rfl
theorem dksX13_beginner_6 : cX13_beginner.data.toList.drop 140 = dktX13_beginner_6 := dk_seg dksX13_beginner_5 22 rfl rfl
theorem dksX13_beginner_7 : cX13_beginner.data.toList.drop 163 = dktX13_beginner_7 := dk_seg dksX13_beginner_6 23 rfl rfl
theorem dX13_beginner_0 : decode cX13_beginner 0 = .ok (.aload_n 0, 1) := dk_42 (dk_at dksX13_beginner_0 0 rfl rfl)
theorem dX13_beginner_1 : decode cX13_beginner 1 = .ok (.iconst 0, 1) := dk_3 (dk_at dksX13_beginner_0 1 rfl rfl)
theorem dX13_beginner_2 : decode cX13_beginner 2 = .ok (.putfield 1, 3) := dk_181 0 1 (dk_at dksX13_beginner_0 2 rfl rfl)
theorem dX13_beginner_5 : decode cX13_beginner 5 = .ok (.iload_n 1, 1) := dk_27 (dk_at dksX13_beginner_0 5 rfl rfl)
theorem dX13_beginner_6 : decode cX13_beginner 6 = .ok (.iconst 0, 1) := dk_3 (dk_at dksX13_beginner_0 6 rfl rfl)
theorem dX13_beginner_7 : decode cX13_beginner 7 = .ok (.iconst 2, 1) := dk_5 (dk_at dksX13_beginner_0 7 rfl rfl)
theorem dX13_beginner_8 : decode cX13_beginner 8 = .ok (.invokestatic 347, 3) := dk_184 1 91 (dk_at dksX13_beginner_0 8 rfl rfl)
theorem dX13_beginner_11 : decode cX13_beginner 11 = .ok (.ifCond .eq 10, 3) := dk_153 0 10 (dk_at dksX13_beginner_0 11 rfl rfl)
theorem dX13_beginner_14 : decode cX13_beginner 14 = .ok (.aload_n 0, 1) := dk_42 (dk_at dksX13_beginner_0 14 rfl rfl)
theorem dX13_beginner_15 : decode cX13_beginner 15 = .ok (.invokevirtual 432, 3) := dk_182 1 176 (dk_at dksX13_beginner_0 15 rfl rfl)
theorem dX13_beginner_18 : decode cX13_beginner 18 = .ok (.ifCond .ne 5, 3) := dk_154 0 5 (dk_at dksX13_beginner_0 18 rfl rfl)
theorem dX13_beginner_21 : decode cX13_beginner 21 = .ok (.iconst (-1), 1) := dk_2 (dk_at dksX13_beginner_0 21 rfl rfl)
theorem dX13_beginner_22 : decode cX13_beginner 22 = .ok (.ireturn, 1) := dk_172 (dk_at dksX13_beginner_0 22 rfl rfl)
theorem dX13_beginner_23 : decode cX13_beginner 23 = .ok (.iconst 0, 1) := dk_3 (dk_at dksX13_beginner_0 23 rfl rfl)
theorem dX13_beginner_24 : decode cX13_beginner 24 = .ok (.istore_n 2, 1) := dk_61 (dk_at dksX13_beginner_1 0 rfl rfl)
theorem dX13_beginner_25 : decode cX13_beginner 25 = .ok (.iconst 0, 1) := dk_3 (dk_at dksX13_beginner_1 1 rfl rfl)
theorem dX13_beginner_26 : decode cX13_beginner 26 = .ok (.istore_n 3, 1) := dk_62 (dk_at dksX13_beginner_1 2 rfl rfl)
theorem dX13_beginner_27 : decode cX13_beginner 27 = .ok (.iconst 0, 1) := dk_3 (dk_at dksX13_beginner_1 3 rfl rfl)
theorem dX13_beginner_28 : decode cX13_beginner 28 = .ok (.istore 4, 2) := dk_54 4 (dk_at dksX13_beginner_1 4 rfl rfl)
theorem dX13_beginner_30 : decode cX13_beginner 30 = .ok (.iload 4, 2) := dk_21 4 (dk_at dksX13_beginner_1 6 rfl rfl)
theorem dX13_beginner_32 : decode cX13_beginner 32 = .ok (.aload_n 0, 1) := dk_42 (dk_at dksX13_beginner_1 8 rfl rfl)
theorem dX13_beginner_33 : decode cX13_beginner 33 = .ok (.getfield 422, 3) := dk_180 1 166 (dk_at dksX13_beginner_1 9 rfl rfl)
theorem dX13_beginner_36 : decode cX13_beginner 36 = .ok (.if_icmp .ge 117, 3) := dk_162 0 117 (dk_at dksX13_beginner_1 12 rfl rfl)
theorem dX13_beginner_39 : decode cX13_beginner 39 = .ok (.iconst 0, 1) := dk_3 (dk_at dksX13_beginner_1 15 rfl rfl)
theorem dX13_beginner_40 : decode cX13_beginner 40 = .ok (.istore 5, 2) := dk_54 5 (dk_at dksX13_beginner_1 16 rfl rfl)
theorem dX13_beginner_42 : decode cX13_beginner 42 = .ok (.iload 5, 2) := dk_21 5 (dk_at dksX13_beginner_1 18 rfl rfl)
theorem dX13_beginner_44 : decode cX13_beginner 44 = .ok (.iconst 2, 1) := dk_5 (dk_at dksX13_beginner_1 20 rfl rfl)
theorem dX13_beginner_45 : decode cX13_beginner 45 = .ok (.if_icmp .ge 89, 3) := dk_162 0 89 (dk_at dksX13_beginner_1 21 rfl rfl)
theorem dX13_beginner_48 : decode cX13_beginner 48 = .ok (.aload_n 0, 1) := dk_42 (dk_at dksX13_beginner_2 0 rfl rfl)
theorem dX13_beginner_49 : decode cX13_beginner 49 = .ok (.getfield 152, 3) := dk_180 0 152 (dk_at dksX13_beginner_2 1 rfl rfl)
theorem dX13_beginner_52 : decode cX13_beginner 52 = .ok (.iload 4, 2) := dk_21 4 (dk_at dksX13_beginner_2 4 rfl rfl)
theorem dX13_beginner_54 : decode cX13_beginner 54 = .ok (.iaload, 1) := dk_46 (dk_at dksX13_beginner_2 6 rfl rfl)
theorem dX13_beginner_55 : decode cX13_beginner 55 = .ok (.istore 6, 2) := dk_54 6 (dk_at dksX13_beginner_2 7 rfl rfl)
theorem dX13_beginner_57 : decode cX13_beginner 57 = .ok (.iload 5, 2) := dk_21 5 (dk_at dksX13_beginner_2 9 rfl rfl)
theorem dX13_beginner_59 : decode cX13_beginner 59 = .ok (.aload_n 0, 1) := dk_42 (dk_at dksX13_beginner_2 11 rfl rfl)
theorem dX13_beginner_60 : decode cX13_beginner 60 = .ok (.getfield 85, 3) := dk_180 0 85 (dk_at dksX13_beginner_2 12 rfl rfl)
theorem dX13_beginner_63 : decode cX13_beginner 63 = .ok (.iconst 2, 1) := dk_5 (dk_at dksX13_beginner_2 15 rfl rfl)
theorem dX13_beginner_64 : decode cX13_beginner 64 = .ok (.iaload, 1) := dk_46 (dk_at dksX13_beginner_2 16 rfl rfl)
theorem dX13_beginner_65 : decode cX13_beginner 65 = .ok (.if_icmp .eq 31, 3) := dk_159 0 31 (dk_at dksX13_beginner_2 17 rfl rfl)
theorem dX13_beginner_68 : decode cX13_beginner 68 = .ok (.aload_n 0, 1) := dk_42 (dk_at dksX13_beginner_2 20 rfl rfl)
theorem dX13_beginner_69 : decode cX13_beginner 69 = .ok (.aload_n 0, 1) := dk_42 (dk_at dksX13_beginner_2 21 rfl rfl)
theorem dX13_beginner_70 : decode cX13_beginner 70 = .ok (.getfield 149, 3) := dk_180 0 149 (dk_at dksX13_beginner_3 0 rfl rfl)
theorem dX13_beginner_73 : decode cX13_beginner 73 = .ok (.aload_n 0, 1) := dk_42 (dk_at dksX13_beginner_3 3 rfl rfl)
theorem dX13_beginner_74 : decode cX13_beginner 74 = .ok (.getfield 406, 3) := dk_180 1 150 (dk_at dksX13_beginner_3 4 rfl rfl)
theorem dX13_beginner_77 : decode cX13_beginner 77 = .ok (.iload 5, 2) := dk_21 5 (dk_at dksX13_beginner_3 7 rfl rfl)
theorem dX13_beginner_79 : decode cX13_beginner 79 = .ok (.invokevirtual 425, 3) := dk_182 1 169 (dk_at dksX13_beginner_3 9 rfl rfl)
theorem dX13_beginner_82 : decode cX13_beginner 82 = .ok (.aload_n 0, 1) := dk_42 (dk_at dksX13_beginner_3 12 rfl rfl)
theorem dX13_beginner_83 : decode cX13_beginner 83 = .ok (.sipush 9660, 3) := dk_17 37 188 (dk_at dksX13_beginner_3 13 rfl rfl)
theorem dX13_beginner_86 : decode cX13_beginner 86 = .ok (.iconst (-1), 1) := dk_2 (dk_at dksX13_beginner_3 16 rfl rfl)
theorem dX13_beginner_87 : decode cX13_beginner 87 = .ok (.invokevirtual 400, 3) := dk_182 1 144 (dk_at dksX13_beginner_3 17 rfl rfl)
theorem dX13_beginner_90 : decode cX13_beginner 90 = .ok (.aload_n 0, 1) := dk_42 (dk_at dksX13_beginner_3 20 rfl rfl)
theorem dX13_beginner_91 : decode cX13_beginner 91 = .ok (.getfield 394, 3) := dk_180 1 138 (dk_at dksX13_beginner_3 21 rfl rfl)
theorem dX13_beginner_94 : decode cX13_beginner 94 = .ok (.istore 6, 2) := dk_54 6 (dk_at dksX13_beginner_4 0 rfl rfl)
theorem dX13_beginner_96 : decode cX13_beginner 96 = .ok (.iload_n 2, 1) := dk_28 (dk_at dksX13_beginner_4 2 rfl rfl)
theorem dX13_beginner_97 : decode cX13_beginner 97 = .ok (.iload 6, 2) := dk_21 6 (dk_at dksX13_beginner_4 3 rfl rfl)
theorem dX13_beginner_99 : decode cX13_beginner 99 = .ok (.iload 5, 2) := dk_21 5 (dk_at dksX13_beginner_4 5 rfl rfl)
theorem dX13_beginner_101 : decode cX13_beginner 101 = .ok (.if_icmp .ne 7, 3) := dk_160 0 7 (dk_at dksX13_beginner_4 7 rfl rfl)
theorem dX13_beginner_104 : decode cX13_beginner 104 = .ok (.iconst 1, 1) := dk_4 (dk_at dksX13_beginner_4 10 rfl rfl)
theorem dX13_beginner_105 : decode cX13_beginner 105 = .ok (.goto 4, 3) := dk_167 0 4 (dk_at dksX13_beginner_4 11 rfl rfl)
theorem dX13_beginner_108 : decode cX13_beginner 108 = .ok (.iconst 0, 1) := dk_3 (dk_at dksX13_beginner_4 14 rfl rfl)
theorem dX13_beginner_109 : decode cX13_beginner 109 = .ok (.iadd, 1) := dk_96 (dk_at dksX13_beginner_4 15 rfl rfl)
theorem dX13_beginner_110 : decode cX13_beginner 110 = .ok (.istore_n 2, 1) := dk_61 (dk_at dksX13_beginner_4 16 rfl rfl)
theorem dX13_beginner_111 : decode cX13_beginner 111 = .ok (.iload_n 3, 1) := dk_29 (dk_at dksX13_beginner_4 17 rfl rfl)
theorem dX13_beginner_112 : decode cX13_beginner 112 = .ok (.iload 6, 2) := dk_21 6 (dk_at dksX13_beginner_4 18 rfl rfl)
theorem dX13_beginner_114 : decode cX13_beginner 114 = .ok (.iconst 1, 1) := dk_4 (dk_at dksX13_beginner_4 20 rfl rfl)
theorem dX13_beginner_115 : decode cX13_beginner 115 = .ok (.iload 5, 2) := dk_21 5 (dk_at dksX13_beginner_4 21 rfl rfl)
theorem dX13_beginner_117 : decode cX13_beginner 117 = .ok (.isub, 1) := dk_100 (dk_at dksX13_beginner_4 23 rfl rfl)
theorem dX13_beginner_118 : decode cX13_beginner 118 = .ok (.if_icmp .ne 7, 3) := dk_160 0 7 (dk_at dksX13_beginner_5 0 rfl rfl)
theorem dX13_beginner_121 : decode cX13_beginner 121 = .ok (.iconst 1, 1) := dk_4 (dk_at dksX13_beginner_5 3 rfl rfl)
theorem dX13_beginner_122 : decode cX13_beginner 122 = .ok (.goto 4, 3) := dk_167 0 4 (dk_at dksX13_beginner_5 4 rfl rfl)
theorem dX13_beginner_125 : decode cX13_beginner 125 = .ok (.iconst 0, 1) := dk_3 (dk_at dksX13_beginner_5 7 rfl rfl)
theorem dX13_beginner_126 : decode cX13_beginner 126 = .ok (.iadd, 1) := dk_96 (dk_at dksX13_beginner_5 8 rfl rfl)
theorem dX13_beginner_127 : decode cX13_beginner 127 = .ok (.istore_n 3, 1) := dk_62 (dk_at dksX13_beginner_5 9 rfl rfl)
theorem dX13_beginner_128 : decode cX13_beginner 128 = .ok (.iinc 5 1, 3) := dk_132 5 1 (dk_at dksX13_beginner_5 10 rfl rfl)
theorem dX13_beginner_131 : decode cX13_beginner 131 = .ok (.goto (-89), 3) := dk_167 255 167 (dk_at dksX13_beginner_5 13 rfl rfl)
theorem dX13_beginner_134 : decode cX13_beginner 134 = .ok (.aload_n 0, 1) := dk_42 (dk_at dksX13_beginner_5 16 rfl rfl)
theorem dX13_beginner_135 : decode cX13_beginner 135 = .ok (.aload_n 0, 1) := dk_42 (dk_at dksX13_beginner_5 17 rfl rfl)
theorem dX13_beginner_136 : decode cX13_beginner 136 = .ok (.getfield 149, 3) := dk_180 0 149 (dk_at dksX13_beginner_5 18 rfl rfl)
theorem dX13_beginner_139 : decode cX13_beginner 139 = .ok (.aload_n 0, 1) := dk_42 (dk_at dksX13_beginner_5 21 rfl rfl)
theorem dX13_beginner_140 : decode cX13_beginner 140 = .ok (.getfield 406, 3) := dk_180 1 150 (dk_at dksX13_beginner_6 0 rfl rfl)
theorem dX13_beginner_143 : decode cX13_beginner 143 = .ok (.invokevirtual 428, 3) := dk_182 1 172 (dk_at dksX13_beginner_6 3 rfl rfl)
theorem dX13_beginner_146 : decode cX13_beginner 146 = .ok (.pop, 1) := dk_87 (dk_at dksX13_beginner_6 6 rfl rfl)
theorem dX13_beginner_147 : decode cX13_beginner 147 = .ok (.iinc 4 1, 3) := dk_132 4 1 (dk_at dksX13_beginner_6 7 rfl rfl)
theorem dX13_beginner_150 : decode cX13_beginner 150 = .ok (.goto (-120), 3) := dk_167 255 136 (dk_at dksX13_beginner_6 10 rfl rfl)
theorem dX13_beginner_153 : decode cX13_beginner 153 = .ok (.iload_n 1, 1) := dk_27 (dk_at dksX13_beginner_6 13 rfl rfl)
theorem dX13_beginner_154 : decode cX13_beginner 154 = .ok (.ifCond .ne 7, 3) := dk_154 0 7 (dk_at dksX13_beginner_6 14 rfl rfl)
theorem dX13_beginner_157 : decode cX13_beginner 157 = .ok (.iload_n 2, 1) := dk_28 (dk_at dksX13_beginner_6 17 rfl rfl)
theorem dX13_beginner_158 : decode cX13_beginner 158 = .ok (.goto 22, 3) := dk_167 0 22 (dk_at dksX13_beginner_6 18 rfl rfl)
theorem dX13_beginner_161 : decode cX13_beginner 161 = .ok (.iload_n 1, 1) := dk_27 (dk_at dksX13_beginner_6 21 rfl rfl)
theorem dX13_beginner_162 : decode cX13_beginner 162 = .ok (.iconst 1, 1) := dk_4 (dk_at dksX13_beginner_6 22 rfl rfl)
theorem dX13_beginner_163 : decode cX13_beginner 163 = .ok (.if_icmp .ne 7, 3) := dk_160 0 7 (dk_at dksX13_beginner_7 0 rfl rfl)
theorem dX13_beginner_166 : decode cX13_beginner 166 = .ok (.iload_n 3, 1) := dk_29 (dk_at dksX13_beginner_7 3 rfl rfl)
theorem dX13_beginner_167 : decode cX13_beginner 167 = .ok (.goto 13, 3) := dk_167 0 13 (dk_at dksX13_beginner_7 4 rfl rfl)
theorem dX13_beginner_170 : decode cX13_beginner 170 = .ok (.iconst 2, 1) := dk_5 (dk_at dksX13_beginner_7 7 rfl rfl)
theorem dX13_beginner_171 : decode cX13_beginner 171 = .ok (.aload_n 0, 1) := dk_42 (dk_at dksX13_beginner_7 8 rfl rfl)
theorem dX13_beginner_172 : decode cX13_beginner 172 = .ok (.getfield 422, 3) := dk_180 1 166 (dk_at dksX13_beginner_7 9 rfl rfl)
theorem dX13_beginner_175 : decode cX13_beginner 175 = .ok (.imul, 1) := dk_104 (dk_at dksX13_beginner_7 12 rfl rfl)
theorem dX13_beginner_176 : decode cX13_beginner 176 = .ok (.iload_n 2, 1) := dk_28 (dk_at dksX13_beginner_7 13 rfl rfl)
theorem dX13_beginner_177 : decode cX13_beginner 177 = .ok (.isub, 1) := dk_100 (dk_at dksX13_beginner_7 14 rfl rfl)
theorem dX13_beginner_178 : decode cX13_beginner 178 = .ok (.iload_n 3, 1) := dk_29 (dk_at dksX13_beginner_7 15 rfl rfl)
theorem dX13_beginner_179 : decode cX13_beginner 179 = .ok (.isub, 1) := dk_100 (dk_at dksX13_beginner_7 16 rfl rfl)
theorem dX13_beginner_180 : decode cX13_beginner 180 = .ok (.ireturn, 1) := dk_172 (dk_at dksX13_beginner_7 17 rfl rfl)
abbrev cX13_worth : ByteArray := prog_24_method_82_code
def yX13_worth : MethodName := ⟨RX13, "worth", "(II)I"⟩
def dkwX13_worth_7 : List UInt8 := [132, 6, 1, 167, 255, 139, 28, 154, 0, 8, 21, 5, 167, 0, 5, 21, 4, 172]
abbrev dktX13_worth_7 : List UInt8 := dkwX13_worth_7 ++ []
def dkwX13_worth_6 : List UInt8 := [154, 0, 7, 4, 167, 0, 4, 3, 96, 54, 5, 42, 42, 180, 0, 149, 42, 180, 1, 150, 182, 1, 172, 87]
abbrev dktX13_worth_6 : List UInt8 := dkwX13_worth_6 ++ dktX13_worth_7
def dkwX13_worth_5 : List UInt8 := [4, 167, 0, 4, 3, 96, 54, 4, 21, 5, 21, 7, 158, 0, 17, 42, 180, 0, 152, 21, 6, 46]
abbrev dktX13_worth_5 : List UInt8 := dkwX13_worth_5 ++ dktX13_worth_6
def dkwX13_worth_4 : List UInt8 := [162, 0, 7, 4, 167, 0, 4, 2, 96, 54, 7, 132, 8, 1, 167, 255, 213, 21, 4, 21, 7, 158, 0, 7]
abbrev dktX13_worth_4 : List UInt8 := dkwX13_worth_4 ++ dktX13_worth_5
def dkwX13_worth_3 : List UInt8 := [162, 0, 40, 21, 7, 42, 180, 0, 149, 21, 8, 46, 27, 159, 0, 7, 3, 167, 0, 14, 21, 8, 29]
abbrev dktX13_worth_3 : List UInt8 := dkwX13_worth_3 ++ dktX13_worth_4
def dkwX13_worth_2 : List UInt8 := [54, 6, 21, 6, 42, 180, 1, 166, 162, 0, 114, 3, 54, 7, 3, 54, 8, 21, 8, 42, 180, 1, 150]
abbrev dktX13_worth_2 : List UInt8 := dkwX13_worth_2 ++ dktX13_worth_3
def dkwX13_worth_1 : List UInt8 := [182, 1, 176, 154, 0, 5, 2, 172, 42, 180, 1, 150, 4, 96, 5, 108, 62, 3, 54, 4, 3, 54, 5, 3]
abbrev dktX13_worth_1 : List UInt8 := dkwX13_worth_1 ++ dktX13_worth_2
def dkwX13_worth_0 : List UInt8 := [42, 3, 181, 0, 1, 42, 27, 182, 1, 88, 153, 0, 19, 28, 3, 4, 184, 1, 91, 153, 0, 10, 42]
abbrev dktX13_worth_0 : List UInt8 := dkwX13_worth_0 ++ dktX13_worth_1
theorem dksX13_worth_0 : cX13_worth.data.toList.drop 0 = dktX13_worth_0 := by decide +kernel
theorem dksX13_worth_1 : cX13_worth.data.toList.drop 23 = dktX13_worth_1 := dk_seg dksX13_worth_0 23 rfl rfl
theorem dksX13_worth_2 : cX13_worth.data.toList.drop 47 = dktX13_worth_2 := dk_seg dksX13_worth_1 24 rfl rfl
theorem dksX13_worth_3 : cX13_worth.data.toList.drop 70 = dktX13_worth_3 := dk_seg dksX13_worth_2 23 rfl rfl
theorem dksX13_worth_4 : cX13_worth.data.toList.drop 93 = dktX13_worth_4 := dk_seg dksX13_worth_3 23 rfl rfl
theorem dksX13_worth_5 : cX13_worth.data.toList.drop 117 = dktX13_worth_5 := dk_seg dksX13_worth_4 24 rfl rfl
theorem dksX13_worth_6 : cX13_worth.data.toList.drop 139 = dktX13_worth_6 := dk_seg dksX13_worth_5 22 rfl rfl
theorem dksX13_worth_7 : cX13_worth.data.toList.drop 163 = dktX13_worth_7 := dk_seg dksX13_worth_6 24 rfl rfl
theorem dX13_worth_0 : decode cX13_worth 0 = .ok (.aload_n 0, 1) := dk_42 (dk_at dksX13_worth_0 0 rfl rfl)
theorem dX13_worth_1 : decode cX13_worth 1 = .ok (.iconst 0, 1) := dk_3 (dk_at dksX13_worth_0 1 rfl rfl)
theorem dX13_worth_2 : decode cX13_worth 2 = .ok (.putfield 1, 3) := dk_181 0 1 (dk_at dksX13_worth_0 2 rfl rfl)
theorem dX13_worth_5 : decode cX13_worth 5 = .ok (.aload_n 0, 1) := dk_42 (dk_at dksX13_worth_0 5 rfl rfl)
theorem dX13_worth_6 : decode cX13_worth 6 = .ok (.iload_n 1, 1) := dk_27 (dk_at dksX13_worth_0 6 rfl rfl)
theorem dX13_worth_7 : decode cX13_worth 7 = .ok (.invokevirtual 344, 3) := dk_182 1 88 (dk_at dksX13_worth_0 7 rfl rfl)
theorem dX13_worth_10 : decode cX13_worth 10 = .ok (.ifCond .eq 19, 3) := dk_153 0 19 (dk_at dksX13_worth_0 10 rfl rfl)
theorem dX13_worth_13 : decode cX13_worth 13 = .ok (.iload_n 2, 1) := dk_28 (dk_at dksX13_worth_0 13 rfl rfl)
theorem dX13_worth_14 : decode cX13_worth 14 = .ok (.iconst 0, 1) := dk_3 (dk_at dksX13_worth_0 14 rfl rfl)
theorem dX13_worth_15 : decode cX13_worth 15 = .ok (.iconst 1, 1) := dk_4 (dk_at dksX13_worth_0 15 rfl rfl)
theorem dX13_worth_16 : decode cX13_worth 16 = .ok (.invokestatic 347, 3) := dk_184 1 91 (dk_at dksX13_worth_0 16 rfl rfl)
theorem dX13_worth_19 : decode cX13_worth 19 = .ok (.ifCond .eq 10, 3) := dk_153 0 10 (dk_at dksX13_worth_0 19 rfl rfl)
theorem dX13_worth_22 : decode cX13_worth 22 = .ok (.aload_n 0, 1) := dk_42 (dk_at dksX13_worth_0 22 rfl rfl)
theorem dX13_worth_23 : decode cX13_worth 23 = .ok (.invokevirtual 432, 3) := dk_182 1 176 (dk_at dksX13_worth_1 0 rfl rfl)
theorem dX13_worth_26 : decode cX13_worth 26 = .ok (.ifCond .ne 5, 3) := dk_154 0 5 (dk_at dksX13_worth_1 3 rfl rfl)
theorem dX13_worth_29 : decode cX13_worth 29 = .ok (.iconst (-1), 1) := dk_2 (dk_at dksX13_worth_1 6 rfl rfl)
theorem dX13_worth_30 : decode cX13_worth 30 = .ok (.ireturn, 1) := dk_172 (dk_at dksX13_worth_1 7 rfl rfl)
theorem dX13_worth_31 : decode cX13_worth 31 = .ok (.aload_n 0, 1) := dk_42 (dk_at dksX13_worth_1 8 rfl rfl)
theorem dX13_worth_32 : decode cX13_worth 32 = .ok (.getfield 406, 3) := dk_180 1 150 (dk_at dksX13_worth_1 9 rfl rfl)
theorem dX13_worth_35 : decode cX13_worth 35 = .ok (.iconst 1, 1) := dk_4 (dk_at dksX13_worth_1 12 rfl rfl)
theorem dX13_worth_36 : decode cX13_worth 36 = .ok (.iadd, 1) := dk_96 (dk_at dksX13_worth_1 13 rfl rfl)
theorem dX13_worth_37 : decode cX13_worth 37 = .ok (.iconst 2, 1) := dk_5 (dk_at dksX13_worth_1 14 rfl rfl)
theorem dX13_worth_38 : decode cX13_worth 38 = .ok (.idiv, 1) := dk_108 (dk_at dksX13_worth_1 15 rfl rfl)
theorem dX13_worth_39 : decode cX13_worth 39 = .ok (.istore_n 3, 1) := dk_62 (dk_at dksX13_worth_1 16 rfl rfl)
theorem dX13_worth_40 : decode cX13_worth 40 = .ok (.iconst 0, 1) := dk_3 (dk_at dksX13_worth_1 17 rfl rfl)
theorem dX13_worth_41 : decode cX13_worth 41 = .ok (.istore 4, 2) := dk_54 4 (dk_at dksX13_worth_1 18 rfl rfl)
theorem dX13_worth_43 : decode cX13_worth 43 = .ok (.iconst 0, 1) := dk_3 (dk_at dksX13_worth_1 20 rfl rfl)
theorem dX13_worth_44 : decode cX13_worth 44 = .ok (.istore 5, 2) := dk_54 5 (dk_at dksX13_worth_1 21 rfl rfl)
theorem dX13_worth_46 : decode cX13_worth 46 = .ok (.iconst 0, 1) := dk_3 (dk_at dksX13_worth_1 23 rfl rfl)
theorem dX13_worth_47 : decode cX13_worth 47 = .ok (.istore 6, 2) := dk_54 6 (dk_at dksX13_worth_2 0 rfl rfl)
theorem dX13_worth_49 : decode cX13_worth 49 = .ok (.iload 6, 2) := dk_21 6 (dk_at dksX13_worth_2 2 rfl rfl)
theorem dX13_worth_51 : decode cX13_worth 51 = .ok (.aload_n 0, 1) := dk_42 (dk_at dksX13_worth_2 4 rfl rfl)
theorem dX13_worth_52 : decode cX13_worth 52 = .ok (.getfield 422, 3) := dk_180 1 166 (dk_at dksX13_worth_2 5 rfl rfl)
theorem dX13_worth_55 : decode cX13_worth 55 = .ok (.if_icmp .ge 114, 3) := dk_162 0 114 (dk_at dksX13_worth_2 8 rfl rfl)
theorem dX13_worth_58 : decode cX13_worth 58 = .ok (.iconst 0, 1) := dk_3 (dk_at dksX13_worth_2 11 rfl rfl)
theorem dX13_worth_59 : decode cX13_worth 59 = .ok (.istore 7, 2) := dk_54 7 (dk_at dksX13_worth_2 12 rfl rfl)
theorem dX13_worth_61 : decode cX13_worth 61 = .ok (.iconst 0, 1) := dk_3 (dk_at dksX13_worth_2 14 rfl rfl)
theorem dX13_worth_62 : decode cX13_worth 62 = .ok (.istore 8, 2) := dk_54 8 (dk_at dksX13_worth_2 15 rfl rfl)
theorem dX13_worth_64 : decode cX13_worth 64 = .ok (.iload 8, 2) := dk_21 8 (dk_at dksX13_worth_2 17 rfl rfl)
theorem dX13_worth_66 : decode cX13_worth 66 = .ok (.aload_n 0, 1) := dk_42 (dk_at dksX13_worth_2 19 rfl rfl)
theorem dX13_worth_67 : decode cX13_worth 67 = .ok (.getfield 406, 3) := dk_180 1 150 (dk_at dksX13_worth_2 20 rfl rfl)
theorem dX13_worth_70 : decode cX13_worth 70 = .ok (.if_icmp .ge 40, 3) := dk_162 0 40 (dk_at dksX13_worth_3 0 rfl rfl)
theorem dX13_worth_73 : decode cX13_worth 73 = .ok (.iload 7, 2) := dk_21 7 (dk_at dksX13_worth_3 3 rfl rfl)
theorem dX13_worth_75 : decode cX13_worth 75 = .ok (.aload_n 0, 1) := dk_42 (dk_at dksX13_worth_3 5 rfl rfl)
theorem dX13_worth_76 : decode cX13_worth 76 = .ok (.getfield 149, 3) := dk_180 0 149 (dk_at dksX13_worth_3 6 rfl rfl)
theorem dX13_worth_79 : decode cX13_worth 79 = .ok (.iload 8, 2) := dk_21 8 (dk_at dksX13_worth_3 9 rfl rfl)
theorem dX13_worth_81 : decode cX13_worth 81 = .ok (.iaload, 1) := dk_46 (dk_at dksX13_worth_3 11 rfl rfl)
theorem dX13_worth_82 : decode cX13_worth 82 = .ok (.iload_n 1, 1) := dk_27 (dk_at dksX13_worth_3 12 rfl rfl)
theorem dX13_worth_83 : decode cX13_worth 83 = .ok (.if_icmp .eq 7, 3) := dk_159 0 7 (dk_at dksX13_worth_3 13 rfl rfl)
theorem dX13_worth_86 : decode cX13_worth 86 = .ok (.iconst 0, 1) := dk_3 (dk_at dksX13_worth_3 16 rfl rfl)
theorem dX13_worth_87 : decode cX13_worth 87 = .ok (.goto 14, 3) := dk_167 0 14 (dk_at dksX13_worth_3 17 rfl rfl)
theorem dX13_worth_90 : decode cX13_worth 90 = .ok (.iload 8, 2) := dk_21 8 (dk_at dksX13_worth_3 20 rfl rfl)
theorem dX13_worth_92 : decode cX13_worth 92 = .ok (.iload_n 3, 1) := dk_29 (dk_at dksX13_worth_3 22 rfl rfl)
theorem dX13_worth_93 : decode cX13_worth 93 = .ok (.if_icmp .ge 7, 3) := dk_162 0 7 (dk_at dksX13_worth_4 0 rfl rfl)
theorem dX13_worth_96 : decode cX13_worth 96 = .ok (.iconst 1, 1) := dk_4 (dk_at dksX13_worth_4 3 rfl rfl)
theorem dX13_worth_97 : decode cX13_worth 97 = .ok (.goto 4, 3) := dk_167 0 4 (dk_at dksX13_worth_4 4 rfl rfl)
theorem dX13_worth_100 : decode cX13_worth 100 = .ok (.iconst (-1), 1) := dk_2 (dk_at dksX13_worth_4 7 rfl rfl)
theorem dX13_worth_101 : decode cX13_worth 101 = .ok (.iadd, 1) := dk_96 (dk_at dksX13_worth_4 8 rfl rfl)
theorem dX13_worth_102 : decode cX13_worth 102 = .ok (.istore 7, 2) := dk_54 7 (dk_at dksX13_worth_4 9 rfl rfl)
theorem dX13_worth_104 : decode cX13_worth 104 = .ok (.iinc 8 1, 3) := dk_132 8 1 (dk_at dksX13_worth_4 11 rfl rfl)
theorem dX13_worth_107 : decode cX13_worth 107 = .ok (.goto (-43), 3) := dk_167 255 213 (dk_at dksX13_worth_4 14 rfl rfl)
theorem dX13_worth_110 : decode cX13_worth 110 = .ok (.iload 4, 2) := dk_21 4 (dk_at dksX13_worth_4 17 rfl rfl)
theorem dX13_worth_112 : decode cX13_worth 112 = .ok (.iload 7, 2) := dk_21 7 (dk_at dksX13_worth_4 19 rfl rfl)
theorem dX13_worth_114 : decode cX13_worth 114 = .ok (.ifCond .le 7, 3) := dk_158 0 7 (dk_at dksX13_worth_4 21 rfl rfl)
theorem dX13_worth_117 : decode cX13_worth 117 = .ok (.iconst 1, 1) := dk_4 (dk_at dksX13_worth_5 0 rfl rfl)
theorem dX13_worth_118 : decode cX13_worth 118 = .ok (.goto 4, 3) := dk_167 0 4 (dk_at dksX13_worth_5 1 rfl rfl)
theorem dX13_worth_121 : decode cX13_worth 121 = .ok (.iconst 0, 1) := dk_3 (dk_at dksX13_worth_5 4 rfl rfl)
theorem dX13_worth_122 : decode cX13_worth 122 = .ok (.iadd, 1) := dk_96 (dk_at dksX13_worth_5 5 rfl rfl)
theorem dX13_worth_123 : decode cX13_worth 123 = .ok (.istore 4, 2) := dk_54 4 (dk_at dksX13_worth_5 6 rfl rfl)
theorem dX13_worth_125 : decode cX13_worth 125 = .ok (.iload 5, 2) := dk_21 5 (dk_at dksX13_worth_5 8 rfl rfl)
theorem dX13_worth_127 : decode cX13_worth 127 = .ok (.iload 7, 2) := dk_21 7 (dk_at dksX13_worth_5 10 rfl rfl)
theorem dX13_worth_129 : decode cX13_worth 129 = .ok (.ifCond .le 17, 3) := dk_158 0 17 (dk_at dksX13_worth_5 12 rfl rfl)
theorem dX13_worth_132 : decode cX13_worth 132 = .ok (.aload_n 0, 1) := dk_42 (dk_at dksX13_worth_5 15 rfl rfl)
theorem dX13_worth_133 : decode cX13_worth 133 = .ok (.getfield 152, 3) := dk_180 0 152 (dk_at dksX13_worth_5 16 rfl rfl)
theorem dX13_worth_136 : decode cX13_worth 136 = .ok (.iload 6, 2) := dk_21 6 (dk_at dksX13_worth_5 19 rfl rfl)
theorem dX13_worth_138 : decode cX13_worth 138 = .ok (.iaload, 1) := dk_46 (dk_at dksX13_worth_5 21 rfl rfl)
theorem dX13_worth_139 : decode cX13_worth 139 = .ok (.ifCond .ne 7, 3) := dk_154 0 7 (dk_at dksX13_worth_6 0 rfl rfl)
theorem dX13_worth_142 : decode cX13_worth 142 = .ok (.iconst 1, 1) := dk_4 (dk_at dksX13_worth_6 3 rfl rfl)
theorem dX13_worth_143 : decode cX13_worth 143 = .ok (.goto 4, 3) := dk_167 0 4 (dk_at dksX13_worth_6 4 rfl rfl)
theorem dX13_worth_146 : decode cX13_worth 146 = .ok (.iconst 0, 1) := dk_3 (dk_at dksX13_worth_6 7 rfl rfl)
theorem dX13_worth_147 : decode cX13_worth 147 = .ok (.iadd, 1) := dk_96 (dk_at dksX13_worth_6 8 rfl rfl)
theorem dX13_worth_148 : decode cX13_worth 148 = .ok (.istore 5, 2) := dk_54 5 (dk_at dksX13_worth_6 9 rfl rfl)
theorem dX13_worth_150 : decode cX13_worth 150 = .ok (.aload_n 0, 1) := dk_42 (dk_at dksX13_worth_6 11 rfl rfl)
theorem dX13_worth_151 : decode cX13_worth 151 = .ok (.aload_n 0, 1) := dk_42 (dk_at dksX13_worth_6 12 rfl rfl)
theorem dX13_worth_152 : decode cX13_worth 152 = .ok (.getfield 149, 3) := dk_180 0 149 (dk_at dksX13_worth_6 13 rfl rfl)
theorem dX13_worth_155 : decode cX13_worth 155 = .ok (.aload_n 0, 1) := dk_42 (dk_at dksX13_worth_6 16 rfl rfl)
theorem dX13_worth_156 : decode cX13_worth 156 = .ok (.getfield 406, 3) := dk_180 1 150 (dk_at dksX13_worth_6 17 rfl rfl)
theorem dX13_worth_159 : decode cX13_worth 159 = .ok (.invokevirtual 428, 3) := dk_182 1 172 (dk_at dksX13_worth_6 20 rfl rfl)
theorem dX13_worth_162 : decode cX13_worth 162 = .ok (.pop, 1) := dk_87 (dk_at dksX13_worth_6 23 rfl rfl)
theorem dX13_worth_163 : decode cX13_worth 163 = .ok (.iinc 6 1, 3) := dk_132 6 1 (dk_at dksX13_worth_7 0 rfl rfl)
theorem dX13_worth_166 : decode cX13_worth 166 = .ok (.goto (-117), 3) := dk_167 255 139 (dk_at dksX13_worth_7 3 rfl rfl)
theorem dX13_worth_169 : decode cX13_worth 169 = .ok (.iload_n 2, 1) := dk_28 (dk_at dksX13_worth_7 6 rfl rfl)
theorem dX13_worth_170 : decode cX13_worth 170 = .ok (.ifCond .ne 8, 3) := dk_154 0 8 (dk_at dksX13_worth_7 7 rfl rfl)
theorem dX13_worth_173 : decode cX13_worth 173 = .ok (.iload 5, 2) := dk_21 5 (dk_at dksX13_worth_7 10 rfl rfl)
theorem dX13_worth_175 : decode cX13_worth 175 = .ok (.goto 5, 3) := dk_167 0 5 (dk_at dksX13_worth_7 12 rfl rfl)
theorem dX13_worth_178 : decode cX13_worth 178 = .ok (.iload 4, 2) := dk_21 4 (dk_at dksX13_worth_7 15 rfl rfl)
theorem dX13_worth_180 : decode cX13_worth 180 = .ok (.ireturn, 1) := dk_172 (dk_at dksX13_worth_7 17 rfl rfl)
abbrev cX13_leads : ByteArray := prog_24_method_84_code
def yX13_leads : MethodName := ⟨RX13, "leads", "(II)I"⟩
def dkwX13_leads_10 : List UInt8 := [21, 4, 167, 0, 4, 29, 172]
abbrev dktX13_leads_10 : List UInt8 := dkwX13_leads_10 ++ []
def dkwX13_leads_9 : List UInt8 := [180, 0, 149, 42, 180, 1, 150, 182, 1, 172, 87, 132, 5, 1, 167, 255, 74, 28, 5, 112, 154, 0, 8]
abbrev dktX13_leads_9 : List UInt8 := dkwX13_leads_9 ++ dktX13_leads_10
def dkwX13_leads_8 : List UInt8 := [156, 0, 18, 42, 180, 0, 152, 21, 5, 46, 4, 160, 0, 7, 4, 167, 0, 4, 3, 96, 54, 4, 42, 42]
abbrev dktX13_leads_8 : List UInt8 := dkwX13_leads_8 ++ dktX13_leads_9
def dkwX13_leads_7 : List UInt8 := [21, 6, 153, 0, 38, 21, 7, 158, 0, 13, 42, 180, 0, 152, 21, 5, 46, 153, 0, 19, 21, 7]
abbrev dktX13_leads_7 : List UInt8 := dkwX13_leads_7 ++ dktX13_leads_8
def dkwX13_leads_6 : List UInt8 := [100, 54, 7, 29, 21, 6, 153, 0, 12, 21, 7, 153, 0, 7, 4, 167, 0, 4, 3, 96, 62, 21, 4]
abbrev dktX13_leads_6 : List UInt8 := dkwX13_leads_6 ++ dktX13_leads_7
def dkwX13_leads_5 : List UInt8 := [17, 37, 189, 46, 100, 167, 0, 20, 42, 17, 37, 188, 3, 182, 1, 179, 42, 17, 37, 188, 4, 182, 1, 179]
abbrev dktX13_leads_5 : List UInt8 := dkwX13_leads_5 ++ dktX13_leads_6
def dkwX13_leads_4 : List UInt8 := [167, 0, 4, 3, 54, 6, 28, 5, 162, 0, 23, 42, 180, 0, 115, 17, 37, 188, 46, 42, 180, 0, 115]
abbrev dktX13_leads_4 : List UInt8 := dkwX13_leads_4 ++ dktX13_leads_5
def dkwX13_leads_3 : List UInt8 := [17, 37, 188, 27, 182, 1, 144, 42, 180, 1, 138, 6, 160, 0, 15, 42, 180, 1, 135, 27, 160, 0, 7, 4]
abbrev dktX13_leads_3 : List UInt8 := dkwX13_leads_3 ++ dktX13_leads_4
def dkwX13_leads_2 : List UInt8 := [162, 0, 179, 42, 42, 180, 0, 149, 42, 180, 1, 150, 42, 180, 0, 85, 5, 46, 182, 1, 169, 42]
abbrev dktX13_leads_2 : List UInt8 := dkwX13_leads_2 ++ dktX13_leads_3
def dkwX13_leads_1 : List UInt8 := [42, 182, 1, 176, 154, 0, 5, 2, 172, 3, 62, 3, 54, 4, 3, 54, 5, 21, 5, 42, 180, 1, 166]
abbrev dktX13_leads_1 : List UInt8 := dkwX13_leads_1 ++ dktX13_leads_2
def dkwX13_leads_0 : List UInt8 := [42, 3, 181, 0, 1, 27, 4, 16, 20, 184, 1, 91, 153, 0, 19, 28, 3, 6, 184, 1, 91, 153, 0, 10]
abbrev dktX13_leads_0 : List UInt8 := dkwX13_leads_0 ++ dktX13_leads_1
theorem dksX13_leads_0 : cX13_leads.data.toList.drop 0 = dktX13_leads_0 := by decide +kernel
theorem dksX13_leads_1 : cX13_leads.data.toList.drop 24 = dktX13_leads_1 := dk_seg dksX13_leads_0 24 rfl rfl
theorem dksX13_leads_2 : cX13_leads.data.toList.drop 47 = dktX13_leads_2 := dk_seg dksX13_leads_1 23 rfl rfl
theorem dksX13_leads_3 : cX13_leads.data.toList.drop 69 = dktX13_leads_3 := dk_seg dksX13_leads_2 22 rfl rfl
theorem dksX13_leads_4 : cX13_leads.data.toList.drop 93 = dktX13_leads_4 := dk_seg dksX13_leads_3 24 rfl rfl
theorem dksX13_leads_5 : cX13_leads.data.toList.drop 116 = dktX13_leads_5 := dk_seg dksX13_leads_4 23 rfl rfl
theorem dksX13_leads_6 : cX13_leads.data.toList.drop 140 = dktX13_leads_6 := dk_seg dksX13_leads_5 24 rfl rfl
theorem dksX13_leads_7 : cX13_leads.data.toList.drop 163 = dktX13_leads_7 := dk_seg dksX13_leads_6 23 rfl rfl
theorem dksX13_leads_8 : cX13_leads.data.toList.drop 185 = dktX13_leads_8 := dk_seg dksX13_leads_7 22 rfl rfl
theorem dksX13_leads_9 : cX13_leads.data.toList.drop 209 = dktX13_leads_9 := dk_seg dksX13_leads_8 24 rfl rfl
theorem dksX13_leads_10 : cX13_leads.data.toList.drop 232 = dktX13_leads_10 := dk_seg dksX13_leads_9 23 rfl rfl
theorem dX13_leads_0 : decode cX13_leads 0 = .ok (.aload_n 0, 1) := dk_42 (dk_at dksX13_leads_0 0 rfl rfl)
theorem dX13_leads_1 : decode cX13_leads 1 = .ok (.iconst 0, 1) := dk_3 (dk_at dksX13_leads_0 1 rfl rfl)
theorem dX13_leads_2 : decode cX13_leads 2 = .ok (.putfield 1, 3) := dk_181 0 1 (dk_at dksX13_leads_0 2 rfl rfl)
theorem dX13_leads_5 : decode cX13_leads 5 = .ok (.iload_n 1, 1) := dk_27 (dk_at dksX13_leads_0 5 rfl rfl)
theorem dX13_leads_6 : decode cX13_leads 6 = .ok (.iconst 1, 1) := dk_4 (dk_at dksX13_leads_0 6 rfl rfl)
theorem dX13_leads_7 : decode cX13_leads 7 = .ok (.bipush 20, 2) := dk_16 20 (dk_at dksX13_leads_0 7 rfl rfl)
theorem dX13_leads_9 : decode cX13_leads 9 = .ok (.invokestatic 347, 3) := dk_184 1 91 (dk_at dksX13_leads_0 9 rfl rfl)
theorem dX13_leads_12 : decode cX13_leads 12 = .ok (.ifCond .eq 19, 3) := dk_153 0 19 (dk_at dksX13_leads_0 12 rfl rfl)
theorem dX13_leads_15 : decode cX13_leads 15 = .ok (.iload_n 2, 1) := dk_28 (dk_at dksX13_leads_0 15 rfl rfl)
theorem dX13_leads_16 : decode cX13_leads 16 = .ok (.iconst 0, 1) := dk_3 (dk_at dksX13_leads_0 16 rfl rfl)
theorem dX13_leads_17 : decode cX13_leads 17 = .ok (.iconst 3, 1) := dk_6 (dk_at dksX13_leads_0 17 rfl rfl)
theorem dX13_leads_18 : decode cX13_leads 18 = .ok (.invokestatic 347, 3) := dk_184 1 91 (dk_at dksX13_leads_0 18 rfl rfl)
theorem dX13_leads_21 : decode cX13_leads 21 = .ok (.ifCond .eq 10, 3) := dk_153 0 10 (dk_at dksX13_leads_0 21 rfl rfl)
theorem dX13_leads_24 : decode cX13_leads 24 = .ok (.aload_n 0, 1) := dk_42 (dk_at dksX13_leads_1 0 rfl rfl)
theorem dX13_leads_25 : decode cX13_leads 25 = .ok (.invokevirtual 432, 3) := dk_182 1 176 (dk_at dksX13_leads_1 1 rfl rfl)
theorem dX13_leads_28 : decode cX13_leads 28 = .ok (.ifCond .ne 5, 3) := dk_154 0 5 (dk_at dksX13_leads_1 4 rfl rfl)
theorem dX13_leads_31 : decode cX13_leads 31 = .ok (.iconst (-1), 1) := dk_2 (dk_at dksX13_leads_1 7 rfl rfl)
theorem dX13_leads_32 : decode cX13_leads 32 = .ok (.ireturn, 1) := dk_172 (dk_at dksX13_leads_1 8 rfl rfl)
theorem dX13_leads_33 : decode cX13_leads 33 = .ok (.iconst 0, 1) := dk_3 (dk_at dksX13_leads_1 9 rfl rfl)
theorem dX13_leads_34 : decode cX13_leads 34 = .ok (.istore_n 3, 1) := dk_62 (dk_at dksX13_leads_1 10 rfl rfl)
theorem dX13_leads_35 : decode cX13_leads 35 = .ok (.iconst 0, 1) := dk_3 (dk_at dksX13_leads_1 11 rfl rfl)
theorem dX13_leads_36 : decode cX13_leads 36 = .ok (.istore 4, 2) := dk_54 4 (dk_at dksX13_leads_1 12 rfl rfl)
theorem dX13_leads_38 : decode cX13_leads 38 = .ok (.iconst 0, 1) := dk_3 (dk_at dksX13_leads_1 14 rfl rfl)
theorem dX13_leads_39 : decode cX13_leads 39 = .ok (.istore 5, 2) := dk_54 5 (dk_at dksX13_leads_1 15 rfl rfl)
theorem dX13_leads_41 : decode cX13_leads 41 = .ok (.iload 5, 2) := dk_21 5 (dk_at dksX13_leads_1 17 rfl rfl)
theorem dX13_leads_43 : decode cX13_leads 43 = .ok (.aload_n 0, 1) := dk_42 (dk_at dksX13_leads_1 19 rfl rfl)
theorem dX13_leads_44 : decode cX13_leads 44 = .ok (.getfield 422, 3) := dk_180 1 166 (dk_at dksX13_leads_1 20 rfl rfl)
theorem dX13_leads_47 : decode cX13_leads 47 = .ok (.if_icmp .ge 179, 3) := dk_162 0 179 (dk_at dksX13_leads_2 0 rfl rfl)
theorem dX13_leads_50 : decode cX13_leads 50 = .ok (.aload_n 0, 1) := dk_42 (dk_at dksX13_leads_2 3 rfl rfl)
theorem dX13_leads_51 : decode cX13_leads 51 = .ok (.aload_n 0, 1) := dk_42 (dk_at dksX13_leads_2 4 rfl rfl)
theorem dX13_leads_52 : decode cX13_leads 52 = .ok (.getfield 149, 3) := dk_180 0 149 (dk_at dksX13_leads_2 5 rfl rfl)
theorem dX13_leads_55 : decode cX13_leads 55 = .ok (.aload_n 0, 1) := dk_42 (dk_at dksX13_leads_2 8 rfl rfl)
theorem dX13_leads_56 : decode cX13_leads 56 = .ok (.getfield 406, 3) := dk_180 1 150 (dk_at dksX13_leads_2 9 rfl rfl)
theorem dX13_leads_59 : decode cX13_leads 59 = .ok (.aload_n 0, 1) := dk_42 (dk_at dksX13_leads_2 12 rfl rfl)
theorem dX13_leads_60 : decode cX13_leads 60 = .ok (.getfield 85, 3) := dk_180 0 85 (dk_at dksX13_leads_2 13 rfl rfl)
theorem dX13_leads_63 : decode cX13_leads 63 = .ok (.iconst 2, 1) := dk_5 (dk_at dksX13_leads_2 16 rfl rfl)
theorem dX13_leads_64 : decode cX13_leads 64 = .ok (.iaload, 1) := dk_46 (dk_at dksX13_leads_2 17 rfl rfl)
theorem dX13_leads_65 : decode cX13_leads 65 = .ok (.invokevirtual 425, 3) := dk_182 1 169 (dk_at dksX13_leads_2 18 rfl rfl)
theorem dX13_leads_68 : decode cX13_leads 68 = .ok (.aload_n 0, 1) := dk_42 (dk_at dksX13_leads_2 21 rfl rfl)
theorem dX13_leads_69 : decode cX13_leads 69 = .ok (.sipush 9660, 3) := dk_17 37 188 (dk_at dksX13_leads_3 0 rfl rfl)
theorem dX13_leads_72 : decode cX13_leads 72 = .ok (.iload_n 1, 1) := dk_27 (dk_at dksX13_leads_3 3 rfl rfl)
theorem dX13_leads_73 : decode cX13_leads 73 = .ok (.invokevirtual 400, 3) := dk_182 1 144 (dk_at dksX13_leads_3 4 rfl rfl)
theorem dX13_leads_76 : decode cX13_leads 76 = .ok (.aload_n 0, 1) := dk_42 (dk_at dksX13_leads_3 7 rfl rfl)
theorem dX13_leads_77 : decode cX13_leads 77 = .ok (.getfield 394, 3) := dk_180 1 138 (dk_at dksX13_leads_3 8 rfl rfl)
theorem dX13_leads_80 : decode cX13_leads 80 = .ok (.iconst 3, 1) := dk_6 (dk_at dksX13_leads_3 11 rfl rfl)
theorem dX13_leads_81 : decode cX13_leads 81 = .ok (.if_icmp .ne 15, 3) := dk_160 0 15 (dk_at dksX13_leads_3 12 rfl rfl)
theorem dX13_leads_84 : decode cX13_leads 84 = .ok (.aload_n 0, 1) := dk_42 (dk_at dksX13_leads_3 15 rfl rfl)
theorem dX13_leads_85 : decode cX13_leads 85 = .ok (.getfield 391, 3) := dk_180 1 135 (dk_at dksX13_leads_3 16 rfl rfl)
theorem dX13_leads_88 : decode cX13_leads 88 = .ok (.iload_n 1, 1) := dk_27 (dk_at dksX13_leads_3 19 rfl rfl)
theorem dX13_leads_89 : decode cX13_leads 89 = .ok (.if_icmp .ne 7, 3) := dk_160 0 7 (dk_at dksX13_leads_3 20 rfl rfl)
theorem dX13_leads_92 : decode cX13_leads 92 = .ok (.iconst 1, 1) := dk_4 (dk_at dksX13_leads_3 23 rfl rfl)
theorem dX13_leads_93 : decode cX13_leads 93 = .ok (.goto 4, 3) := dk_167 0 4 (dk_at dksX13_leads_4 0 rfl rfl)
theorem dX13_leads_96 : decode cX13_leads 96 = .ok (.iconst 0, 1) := dk_3 (dk_at dksX13_leads_4 3 rfl rfl)
theorem dX13_leads_97 : decode cX13_leads 97 = .ok (.istore 6, 2) := dk_54 6 (dk_at dksX13_leads_4 4 rfl rfl)
theorem dX13_leads_99 : decode cX13_leads 99 = .ok (.iload_n 2, 1) := dk_28 (dk_at dksX13_leads_4 6 rfl rfl)
theorem dX13_leads_100 : decode cX13_leads 100 = .ok (.iconst 2, 1) := dk_5 (dk_at dksX13_leads_4 7 rfl rfl)
theorem dX13_leads_101 : decode cX13_leads 101 = .ok (.if_icmp .ge 23, 3) := dk_162 0 23 (dk_at dksX13_leads_4 8 rfl rfl)
theorem dX13_leads_104 : decode cX13_leads 104 = .ok (.aload_n 0, 1) := dk_42 (dk_at dksX13_leads_4 11 rfl rfl)
theorem dX13_leads_105 : decode cX13_leads 105 = .ok (.getfield 115, 3) := dk_180 0 115 (dk_at dksX13_leads_4 12 rfl rfl)
theorem dX13_leads_108 : decode cX13_leads 108 = .ok (.sipush 9660, 3) := dk_17 37 188 (dk_at dksX13_leads_4 15 rfl rfl)
theorem dX13_leads_111 : decode cX13_leads 111 = .ok (.iaload, 1) := dk_46 (dk_at dksX13_leads_4 18 rfl rfl)
theorem dX13_leads_112 : decode cX13_leads 112 = .ok (.aload_n 0, 1) := dk_42 (dk_at dksX13_leads_4 19 rfl rfl)
theorem dX13_leads_113 : decode cX13_leads 113 = .ok (.getfield 115, 3) := dk_180 0 115 (dk_at dksX13_leads_4 20 rfl rfl)
theorem dX13_leads_116 : decode cX13_leads 116 = .ok (.sipush 9661, 3) := dk_17 37 189 (dk_at dksX13_leads_5 0 rfl rfl)
theorem dX13_leads_119 : decode cX13_leads 119 = .ok (.iaload, 1) := dk_46 (dk_at dksX13_leads_5 3 rfl rfl)
theorem dX13_leads_120 : decode cX13_leads 120 = .ok (.isub, 1) := dk_100 (dk_at dksX13_leads_5 4 rfl rfl)
theorem dX13_leads_121 : decode cX13_leads 121 = .ok (.goto 20, 3) := dk_167 0 20 (dk_at dksX13_leads_5 5 rfl rfl)
theorem dX13_leads_124 : decode cX13_leads 124 = .ok (.aload_n 0, 1) := dk_42 (dk_at dksX13_leads_5 8 rfl rfl)
theorem dX13_leads_125 : decode cX13_leads 125 = .ok (.sipush 9660, 3) := dk_17 37 188 (dk_at dksX13_leads_5 9 rfl rfl)
theorem dX13_leads_128 : decode cX13_leads 128 = .ok (.iconst 0, 1) := dk_3 (dk_at dksX13_leads_5 12 rfl rfl)
theorem dX13_leads_129 : decode cX13_leads 129 = .ok (.invokevirtual 435, 3) := dk_182 1 179 (dk_at dksX13_leads_5 13 rfl rfl)
theorem dX13_leads_132 : decode cX13_leads 132 = .ok (.aload_n 0, 1) := dk_42 (dk_at dksX13_leads_5 16 rfl rfl)
theorem dX13_leads_133 : decode cX13_leads 133 = .ok (.sipush 9660, 3) := dk_17 37 188 (dk_at dksX13_leads_5 17 rfl rfl)
theorem dX13_leads_136 : decode cX13_leads 136 = .ok (.iconst 1, 1) := dk_4 (dk_at dksX13_leads_5 20 rfl rfl)
theorem dX13_leads_137 : decode cX13_leads 137 = .ok (.invokevirtual 435, 3) := dk_182 1 179 (dk_at dksX13_leads_5 21 rfl rfl)
theorem dX13_leads_140 : decode cX13_leads 140 = .ok (.isub, 1) := dk_100 (dk_at dksX13_leads_6 0 rfl rfl)
theorem dX13_leads_141 : decode cX13_leads 141 = .ok (.istore 7, 2) := dk_54 7 (dk_at dksX13_leads_6 1 rfl rfl)
theorem dX13_leads_143 : decode cX13_leads 143 = .ok (.iload_n 3, 1) := dk_29 (dk_at dksX13_leads_6 3 rfl rfl)
theorem dX13_leads_144 : decode cX13_leads 144 = .ok (.iload 6, 2) := dk_21 6 (dk_at dksX13_leads_6 4 rfl rfl)
theorem dX13_leads_146 : decode cX13_leads 146 = .ok (.ifCond .eq 12, 3) := dk_153 0 12 (dk_at dksX13_leads_6 6 rfl rfl)
theorem dX13_leads_149 : decode cX13_leads 149 = .ok (.iload 7, 2) := dk_21 7 (dk_at dksX13_leads_6 9 rfl rfl)
theorem dX13_leads_151 : decode cX13_leads 151 = .ok (.ifCond .eq 7, 3) := dk_153 0 7 (dk_at dksX13_leads_6 11 rfl rfl)
theorem dX13_leads_154 : decode cX13_leads 154 = .ok (.iconst 1, 1) := dk_4 (dk_at dksX13_leads_6 14 rfl rfl)
theorem dX13_leads_155 : decode cX13_leads 155 = .ok (.goto 4, 3) := dk_167 0 4 (dk_at dksX13_leads_6 15 rfl rfl)
theorem dX13_leads_158 : decode cX13_leads 158 = .ok (.iconst 0, 1) := dk_3 (dk_at dksX13_leads_6 18 rfl rfl)
theorem dX13_leads_159 : decode cX13_leads 159 = .ok (.iadd, 1) := dk_96 (dk_at dksX13_leads_6 19 rfl rfl)
theorem dX13_leads_160 : decode cX13_leads 160 = .ok (.istore_n 3, 1) := dk_62 (dk_at dksX13_leads_6 20 rfl rfl)
theorem dX13_leads_161 : decode cX13_leads 161 = .ok (.iload 4, 2) := dk_21 4 (dk_at dksX13_leads_6 21 rfl rfl)
theorem dX13_leads_163 : decode cX13_leads 163 = .ok (.iload 6, 2) := dk_21 6 (dk_at dksX13_leads_7 0 rfl rfl)
theorem dX13_leads_165 : decode cX13_leads 165 = .ok (.ifCond .eq 38, 3) := dk_153 0 38 (dk_at dksX13_leads_7 2 rfl rfl)
theorem dX13_leads_168 : decode cX13_leads 168 = .ok (.iload 7, 2) := dk_21 7 (dk_at dksX13_leads_7 5 rfl rfl)
theorem dX13_leads_170 : decode cX13_leads 170 = .ok (.ifCond .le 13, 3) := dk_158 0 13 (dk_at dksX13_leads_7 7 rfl rfl)
theorem dX13_leads_173 : decode cX13_leads 173 = .ok (.aload_n 0, 1) := dk_42 (dk_at dksX13_leads_7 10 rfl rfl)
theorem dX13_leads_174 : decode cX13_leads 174 = .ok (.getfield 152, 3) := dk_180 0 152 (dk_at dksX13_leads_7 11 rfl rfl)
theorem dX13_leads_177 : decode cX13_leads 177 = .ok (.iload 5, 2) := dk_21 5 (dk_at dksX13_leads_7 14 rfl rfl)
theorem dX13_leads_179 : decode cX13_leads 179 = .ok (.iaload, 1) := dk_46 (dk_at dksX13_leads_7 16 rfl rfl)
theorem dX13_leads_180 : decode cX13_leads 180 = .ok (.ifCond .eq 19, 3) := dk_153 0 19 (dk_at dksX13_leads_7 17 rfl rfl)
theorem dX13_leads_183 : decode cX13_leads 183 = .ok (.iload 7, 2) := dk_21 7 (dk_at dksX13_leads_7 20 rfl rfl)
theorem dX13_leads_185 : decode cX13_leads 185 = .ok (.ifCond .ge 18, 3) := dk_156 0 18 (dk_at dksX13_leads_8 0 rfl rfl)
theorem dX13_leads_188 : decode cX13_leads 188 = .ok (.aload_n 0, 1) := dk_42 (dk_at dksX13_leads_8 3 rfl rfl)
theorem dX13_leads_189 : decode cX13_leads 189 = .ok (.getfield 152, 3) := dk_180 0 152 (dk_at dksX13_leads_8 4 rfl rfl)
theorem dX13_leads_192 : decode cX13_leads 192 = .ok (.iload 5, 2) := dk_21 5 (dk_at dksX13_leads_8 7 rfl rfl)
theorem dX13_leads_194 : decode cX13_leads 194 = .ok (.iaload, 1) := dk_46 (dk_at dksX13_leads_8 9 rfl rfl)
theorem dX13_leads_195 : decode cX13_leads 195 = .ok (.iconst 1, 1) := dk_4 (dk_at dksX13_leads_8 10 rfl rfl)
theorem dX13_leads_196 : decode cX13_leads 196 = .ok (.if_icmp .ne 7, 3) := dk_160 0 7 (dk_at dksX13_leads_8 11 rfl rfl)
theorem dX13_leads_199 : decode cX13_leads 199 = .ok (.iconst 1, 1) := dk_4 (dk_at dksX13_leads_8 14 rfl rfl)
theorem dX13_leads_200 : decode cX13_leads 200 = .ok (.goto 4, 3) := dk_167 0 4 (dk_at dksX13_leads_8 15 rfl rfl)
theorem dX13_leads_203 : decode cX13_leads 203 = .ok (.iconst 0, 1) := dk_3 (dk_at dksX13_leads_8 18 rfl rfl)
theorem dX13_leads_204 : decode cX13_leads 204 = .ok (.iadd, 1) := dk_96 (dk_at dksX13_leads_8 19 rfl rfl)
theorem dX13_leads_205 : decode cX13_leads 205 = .ok (.istore 4, 2) := dk_54 4 (dk_at dksX13_leads_8 20 rfl rfl)
theorem dX13_leads_207 : decode cX13_leads 207 = .ok (.aload_n 0, 1) := dk_42 (dk_at dksX13_leads_8 22 rfl rfl)
theorem dX13_leads_208 : decode cX13_leads 208 = .ok (.aload_n 0, 1) := dk_42 (dk_at dksX13_leads_8 23 rfl rfl)
theorem dX13_leads_209 : decode cX13_leads 209 = .ok (.getfield 149, 3) := dk_180 0 149 (dk_at dksX13_leads_9 0 rfl rfl)
theorem dX13_leads_212 : decode cX13_leads 212 = .ok (.aload_n 0, 1) := dk_42 (dk_at dksX13_leads_9 3 rfl rfl)
theorem dX13_leads_213 : decode cX13_leads 213 = .ok (.getfield 406, 3) := dk_180 1 150 (dk_at dksX13_leads_9 4 rfl rfl)
theorem dX13_leads_216 : decode cX13_leads 216 = .ok (.invokevirtual 428, 3) := dk_182 1 172 (dk_at dksX13_leads_9 7 rfl rfl)
theorem dX13_leads_219 : decode cX13_leads 219 = .ok (.pop, 1) := dk_87 (dk_at dksX13_leads_9 10 rfl rfl)
theorem dX13_leads_220 : decode cX13_leads 220 = .ok (.iinc 5 1, 3) := dk_132 5 1 (dk_at dksX13_leads_9 11 rfl rfl)
theorem dX13_leads_223 : decode cX13_leads 223 = .ok (.goto (-182), 3) := dk_167 255 74 (dk_at dksX13_leads_9 14 rfl rfl)
theorem dX13_leads_226 : decode cX13_leads 226 = .ok (.iload_n 2, 1) := dk_28 (dk_at dksX13_leads_9 17 rfl rfl)
theorem dX13_leads_227 : decode cX13_leads 227 = .ok (.iconst 2, 1) := dk_5 (dk_at dksX13_leads_9 18 rfl rfl)
theorem dX13_leads_228 : decode cX13_leads 228 = .ok (.irem, 1) := dk_112 (dk_at dksX13_leads_9 19 rfl rfl)
theorem dX13_leads_229 : decode cX13_leads 229 = .ok (.ifCond .ne 8, 3) := dk_154 0 8 (dk_at dksX13_leads_9 20 rfl rfl)
theorem dX13_leads_232 : decode cX13_leads 232 = .ok (.iload 4, 2) := dk_21 4 (dk_at dksX13_leads_10 0 rfl rfl)
theorem dX13_leads_234 : decode cX13_leads 234 = .ok (.goto 4, 3) := dk_167 0 4 (dk_at dksX13_leads_10 2 rfl rfl)
theorem dX13_leads_237 : decode cX13_leads 237 = .ok (.iload_n 3, 1) := dk_29 (dk_at dksX13_leads_10 5 rfl rfl)
theorem dX13_leads_238 : decode cX13_leads 238 = .ok (.ireturn, 1) := dk_172 (dk_at dksX13_leads_10 6 rfl rfl)
abbrev cX13_paysIn : ByteArray := prog_24_method_83_code
def yX13_paysIn : MethodName := ⟨RX13, "paysIn", "(II)I"⟩
def dkwX13_paysIn_2 : List UInt8 := [167, 255, 214, 29, 172]
abbrev dktX13_paysIn_2 : List UInt8 := dkwX13_paysIn_2 ++ []
def dkwX13_paysIn_1 : List UInt8 := [180, 0, 115, 27, 16, 20, 96, 16, 48, 28, 104, 96, 21, 4, 96, 46, 182, 1, 67, 96, 62, 132, 4, 1]
abbrev dktX13_paysIn_1 : List UInt8 := dkwX13_paysIn_1 ++ dktX13_paysIn_2
def dkwX13_paysIn_0 : List UInt8 := [3, 62, 3, 54, 4, 21, 4, 42, 180, 0, 115, 27, 3, 96, 28, 96, 46, 162, 0, 33, 29, 42, 42]
abbrev dktX13_paysIn_0 : List UInt8 := dkwX13_paysIn_0 ++ dktX13_paysIn_1
theorem dksX13_paysIn_0 : cX13_paysIn.data.toList.drop 0 = dktX13_paysIn_0 := by decide +kernel
theorem dksX13_paysIn_1 : cX13_paysIn.data.toList.drop 23 = dktX13_paysIn_1 := dk_seg dksX13_paysIn_0 23 rfl rfl
theorem dksX13_paysIn_2 : cX13_paysIn.data.toList.drop 47 = dktX13_paysIn_2 := dk_seg dksX13_paysIn_1 24 rfl rfl
theorem dX13_paysIn_0 : decode cX13_paysIn 0 = .ok (.iconst 0, 1) := dk_3 (dk_at dksX13_paysIn_0 0 rfl rfl)
theorem dX13_paysIn_1 : decode cX13_paysIn 1 = .ok (.istore_n 3, 1) := dk_62 (dk_at dksX13_paysIn_0 1 rfl rfl)
theorem dX13_paysIn_2 : decode cX13_paysIn 2 = .ok (.iconst 0, 1) := dk_3 (dk_at dksX13_paysIn_0 2 rfl rfl)
theorem dX13_paysIn_3 : decode cX13_paysIn 3 = .ok (.istore 4, 2) := dk_54 4 (dk_at dksX13_paysIn_0 3 rfl rfl)
theorem dX13_paysIn_5 : decode cX13_paysIn 5 = .ok (.iload 4, 2) := dk_21 4 (dk_at dksX13_paysIn_0 5 rfl rfl)
theorem dX13_paysIn_7 : decode cX13_paysIn 7 = .ok (.aload_n 0, 1) := dk_42 (dk_at dksX13_paysIn_0 7 rfl rfl)
theorem dX13_paysIn_8 : decode cX13_paysIn 8 = .ok (.getfield 115, 3) := dk_180 0 115 (dk_at dksX13_paysIn_0 8 rfl rfl)
theorem dX13_paysIn_11 : decode cX13_paysIn 11 = .ok (.iload_n 1, 1) := dk_27 (dk_at dksX13_paysIn_0 11 rfl rfl)
theorem dX13_paysIn_12 : decode cX13_paysIn 12 = .ok (.iconst 0, 1) := dk_3 (dk_at dksX13_paysIn_0 12 rfl rfl)
theorem dX13_paysIn_13 : decode cX13_paysIn 13 = .ok (.iadd, 1) := dk_96 (dk_at dksX13_paysIn_0 13 rfl rfl)
theorem dX13_paysIn_14 : decode cX13_paysIn 14 = .ok (.iload_n 2, 1) := dk_28 (dk_at dksX13_paysIn_0 14 rfl rfl)
theorem dX13_paysIn_15 : decode cX13_paysIn 15 = .ok (.iadd, 1) := dk_96 (dk_at dksX13_paysIn_0 15 rfl rfl)
theorem dX13_paysIn_16 : decode cX13_paysIn 16 = .ok (.iaload, 1) := dk_46 (dk_at dksX13_paysIn_0 16 rfl rfl)
theorem dX13_paysIn_17 : decode cX13_paysIn 17 = .ok (.if_icmp .ge 33, 3) := dk_162 0 33 (dk_at dksX13_paysIn_0 17 rfl rfl)
theorem dX13_paysIn_20 : decode cX13_paysIn 20 = .ok (.iload_n 3, 1) := dk_29 (dk_at dksX13_paysIn_0 20 rfl rfl)
theorem dX13_paysIn_21 : decode cX13_paysIn 21 = .ok (.aload_n 0, 1) := dk_42 (dk_at dksX13_paysIn_0 21 rfl rfl)
theorem dX13_paysIn_22 : decode cX13_paysIn 22 = .ok (.aload_n 0, 1) := dk_42 (dk_at dksX13_paysIn_0 22 rfl rfl)
theorem dX13_paysIn_23 : decode cX13_paysIn 23 = .ok (.getfield 115, 3) := dk_180 0 115 (dk_at dksX13_paysIn_1 0 rfl rfl)
theorem dX13_paysIn_26 : decode cX13_paysIn 26 = .ok (.iload_n 1, 1) := dk_27 (dk_at dksX13_paysIn_1 3 rfl rfl)
theorem dX13_paysIn_27 : decode cX13_paysIn 27 = .ok (.bipush 20, 2) := dk_16 20 (dk_at dksX13_paysIn_1 4 rfl rfl)
theorem dX13_paysIn_29 : decode cX13_paysIn 29 = .ok (.iadd, 1) := dk_96 (dk_at dksX13_paysIn_1 6 rfl rfl)
theorem dX13_paysIn_30 : decode cX13_paysIn 30 = .ok (.bipush 48, 2) := dk_16 48 (dk_at dksX13_paysIn_1 7 rfl rfl)
theorem dX13_paysIn_32 : decode cX13_paysIn 32 = .ok (.iload_n 2, 1) := dk_28 (dk_at dksX13_paysIn_1 9 rfl rfl)
theorem dX13_paysIn_33 : decode cX13_paysIn 33 = .ok (.imul, 1) := dk_104 (dk_at dksX13_paysIn_1 10 rfl rfl)
theorem dX13_paysIn_34 : decode cX13_paysIn 34 = .ok (.iadd, 1) := dk_96 (dk_at dksX13_paysIn_1 11 rfl rfl)
theorem dX13_paysIn_35 : decode cX13_paysIn 35 = .ok (.iload 4, 2) := dk_21 4 (dk_at dksX13_paysIn_1 12 rfl rfl)
theorem dX13_paysIn_37 : decode cX13_paysIn 37 = .ok (.iadd, 1) := dk_96 (dk_at dksX13_paysIn_1 14 rfl rfl)
theorem dX13_paysIn_38 : decode cX13_paysIn 38 = .ok (.iaload, 1) := dk_46 (dk_at dksX13_paysIn_1 15 rfl rfl)
theorem dX13_paysIn_39 : decode cX13_paysIn 39 = .ok (.invokevirtual 323, 3) := dk_182 1 67 (dk_at dksX13_paysIn_1 16 rfl rfl)
theorem dX13_paysIn_42 : decode cX13_paysIn 42 = .ok (.iadd, 1) := dk_96 (dk_at dksX13_paysIn_1 19 rfl rfl)
theorem dX13_paysIn_43 : decode cX13_paysIn 43 = .ok (.istore_n 3, 1) := dk_62 (dk_at dksX13_paysIn_1 20 rfl rfl)
theorem dX13_paysIn_44 : decode cX13_paysIn 44 = .ok (.iinc 4 1, 3) := dk_132 4 1 (dk_at dksX13_paysIn_1 21 rfl rfl)
theorem dX13_paysIn_47 : decode cX13_paysIn 47 = .ok (.goto (-42), 3) := dk_167 255 214 (dk_at dksX13_paysIn_2 0 rfl rfl)
theorem dX13_paysIn_50 : decode cX13_paysIn 50 = .ok (.iload_n 3, 1) := dk_29 (dk_at dksX13_paysIn_2 3 rfl rfl)
theorem dX13_paysIn_51 : decode cX13_paysIn 51 = .ok (.ireturn, 1) := dk_172 (dk_at dksX13_paysIn_2 4 rfl rfl)
abbrev cX13_laws : ByteArray := prog_24_method_85_code
def yX13_laws : MethodName := ⟨RX13, "laws", "(III)I"⟩
def dkwX13_laws_10 : List UInt8 := [21, 7, 108, 167, 0, 8, 21, 5, 21, 7, 108, 172]
abbrev dktX13_laws_10 : List UInt8 := dkwX13_laws_10 ++ []
def dkwX13_laws_9 : List UInt8 := [160, 0, 8, 21, 6, 167, 0, 29, 21, 5, 154, 0, 7, 29, 167, 0, 20, 29, 154, 0, 11, 21, 4]
abbrev dktX13_laws_9 : List UInt8 := dkwX13_laws_9 ++ dktX13_laws_10
def dkwX13_laws_8 : List UInt8 := [153, 0, 21, 21, 7, 21, 8, 112, 54, 9, 21, 8, 54, 7, 21, 9, 54, 8, 167, 255, 236, 29, 5]
abbrev dktX13_laws_8 : List UInt8 := dkwX13_laws_8 ++ dktX13_laws_9
def dkwX13_laws_7 : List UInt8 := [87, 132, 7, 1, 167, 255, 148, 42, 2, 181, 0, 122, 21, 4, 54, 7, 21, 5, 54, 8, 21, 8]
abbrev dktX13_laws_7 : List UInt8 := dkwX13_laws_7 ++ dktX13_laws_8
def dkwX13_laws_6 : List UInt8 := [5, 160, 0, 7, 4, 167, 0, 4, 3, 96, 54, 6, 42, 42, 180, 0, 149, 42, 180, 1, 150, 182, 1, 172]
abbrev dktX13_laws_6 : List UInt8 := dkwX13_laws_6 ++ dktX13_laws_7
def dkwX13_laws_5 : List UInt8 := [21, 5, 42, 180, 1, 138, 5, 162, 0, 7, 4, 167, 0, 4, 3, 96, 54, 5, 21, 6, 42, 180, 1, 138]
abbrev dktX13_laws_5 : List UInt8 := dkwX13_laws_5 ++ dktX13_laws_6
def dkwX13_laws_4 : List UInt8 := [182, 1, 144, 21, 4, 42, 180, 1, 138, 5, 162, 0, 10, 42, 180, 1, 132, 167, 0, 4, 3, 96, 54, 4]
abbrev dktX13_laws_4 : List UInt8 := dkwX13_laws_4 ++ dktX13_laws_5
def dkwX13_laws_3 : List UInt8 := [42, 42, 180, 0, 149, 42, 180, 1, 150, 42, 180, 0, 85, 5, 46, 182, 1, 169, 42, 17, 37, 188, 2]
abbrev dktX13_laws_3 : List UInt8 := dkwX13_laws_3 ++ dktX13_laws_4
def dkwX13_laws_2 : List UInt8 := [181, 1, 60, 3, 54, 4, 3, 54, 5, 3, 54, 6, 3, 54, 7, 21, 7, 42, 180, 1, 166, 162, 0, 105]
abbrev dktX13_laws_2 : List UInt8 := dkwX13_laws_2 ++ dktX13_laws_3
def dkwX13_laws_1 : List UInt8 := [3, 5, 184, 1, 91, 153, 0, 10, 42, 182, 1, 176, 154, 0, 5, 2, 172, 42, 27, 181, 0, 122, 42, 28]
abbrev dktX13_laws_1 : List UInt8 := dkwX13_laws_1 ++ dktX13_laws_2
def dkwX13_laws_0 : List UInt8 := [42, 3, 181, 0, 1, 42, 27, 182, 1, 88, 153, 0, 29, 28, 3, 16, 6, 184, 1, 91, 153, 0, 19, 29]
abbrev dktX13_laws_0 : List UInt8 := dkwX13_laws_0 ++ dktX13_laws_1
theorem dksX13_laws_0 : cX13_laws.data.toList.drop 0 = dktX13_laws_0 := by decide +kernel
theorem dksX13_laws_1 : cX13_laws.data.toList.drop 24 = dktX13_laws_1 := dk_seg dksX13_laws_0 24 rfl rfl
theorem dksX13_laws_2 : cX13_laws.data.toList.drop 48 = dktX13_laws_2 := dk_seg dksX13_laws_1 24 rfl rfl
theorem dksX13_laws_3 : cX13_laws.data.toList.drop 72 = dktX13_laws_3 := dk_seg dksX13_laws_2 24 rfl rfl
theorem dksX13_laws_4 : cX13_laws.data.toList.drop 95 = dktX13_laws_4 := dk_seg dksX13_laws_3 23 rfl rfl
theorem dksX13_laws_5 : cX13_laws.data.toList.drop 119 = dktX13_laws_5 := dk_seg dksX13_laws_4 24 rfl rfl
theorem dksX13_laws_6 : cX13_laws.data.toList.drop 143 = dktX13_laws_6 := dk_seg dksX13_laws_5 24 rfl rfl
theorem dksX13_laws_7 : cX13_laws.data.toList.drop 167 = dktX13_laws_7 := dk_seg dksX13_laws_6 24 rfl rfl
theorem dksX13_laws_8 : cX13_laws.data.toList.drop 189 = dktX13_laws_8 := dk_seg dksX13_laws_7 22 rfl rfl
theorem dksX13_laws_9 : cX13_laws.data.toList.drop 212 = dktX13_laws_9 := dk_seg dksX13_laws_8 23 rfl rfl
theorem dksX13_laws_10 : cX13_laws.data.toList.drop 235 = dktX13_laws_10 := dk_seg dksX13_laws_9 23 rfl rfl
theorem dX13_laws_0 : decode cX13_laws 0 = .ok (.aload_n 0, 1) := dk_42 (dk_at dksX13_laws_0 0 rfl rfl)
theorem dX13_laws_1 : decode cX13_laws 1 = .ok (.iconst 0, 1) := dk_3 (dk_at dksX13_laws_0 1 rfl rfl)
theorem dX13_laws_2 : decode cX13_laws 2 = .ok (.putfield 1, 3) := dk_181 0 1 (dk_at dksX13_laws_0 2 rfl rfl)
theorem dX13_laws_5 : decode cX13_laws 5 = .ok (.aload_n 0, 1) := dk_42 (dk_at dksX13_laws_0 5 rfl rfl)
theorem dX13_laws_6 : decode cX13_laws 6 = .ok (.iload_n 1, 1) := dk_27 (dk_at dksX13_laws_0 6 rfl rfl)
theorem dX13_laws_7 : decode cX13_laws 7 = .ok (.invokevirtual 344, 3) := dk_182 1 88 (dk_at dksX13_laws_0 7 rfl rfl)
theorem dX13_laws_10 : decode cX13_laws 10 = .ok (.ifCond .eq 29, 3) := dk_153 0 29 (dk_at dksX13_laws_0 10 rfl rfl)
theorem dX13_laws_13 : decode cX13_laws 13 = .ok (.iload_n 2, 1) := dk_28 (dk_at dksX13_laws_0 13 rfl rfl)
theorem dX13_laws_14 : decode cX13_laws 14 = .ok (.iconst 0, 1) := dk_3 (dk_at dksX13_laws_0 14 rfl rfl)
theorem dX13_laws_15 : decode cX13_laws 15 = .ok (.bipush 6, 2) := dk_16 6 (dk_at dksX13_laws_0 15 rfl rfl)
theorem dX13_laws_17 : decode cX13_laws 17 = .ok (.invokestatic 347, 3) := dk_184 1 91 (dk_at dksX13_laws_0 17 rfl rfl)
theorem dX13_laws_20 : decode cX13_laws 20 = .ok (.ifCond .eq 19, 3) := dk_153 0 19 (dk_at dksX13_laws_0 20 rfl rfl)
theorem dX13_laws_23 : decode cX13_laws 23 = .ok (.iload_n 3, 1) := dk_29 (dk_at dksX13_laws_0 23 rfl rfl)
theorem dX13_laws_24 : decode cX13_laws 24 = .ok (.iconst 0, 1) := dk_3 (dk_at dksX13_laws_1 0 rfl rfl)
theorem dX13_laws_25 : decode cX13_laws 25 = .ok (.iconst 2, 1) := dk_5 (dk_at dksX13_laws_1 1 rfl rfl)
theorem dX13_laws_26 : decode cX13_laws 26 = .ok (.invokestatic 347, 3) := dk_184 1 91 (dk_at dksX13_laws_1 2 rfl rfl)
theorem dX13_laws_29 : decode cX13_laws 29 = .ok (.ifCond .eq 10, 3) := dk_153 0 10 (dk_at dksX13_laws_1 5 rfl rfl)
theorem dX13_laws_32 : decode cX13_laws 32 = .ok (.aload_n 0, 1) := dk_42 (dk_at dksX13_laws_1 8 rfl rfl)
theorem dX13_laws_33 : decode cX13_laws 33 = .ok (.invokevirtual 432, 3) := dk_182 1 176 (dk_at dksX13_laws_1 9 rfl rfl)
theorem dX13_laws_36 : decode cX13_laws 36 = .ok (.ifCond .ne 5, 3) := dk_154 0 5 (dk_at dksX13_laws_1 12 rfl rfl)
theorem dX13_laws_39 : decode cX13_laws 39 = .ok (.iconst (-1), 1) := dk_2 (dk_at dksX13_laws_1 15 rfl rfl)
theorem dX13_laws_40 : decode cX13_laws 40 = .ok (.ireturn, 1) := dk_172 (dk_at dksX13_laws_1 16 rfl rfl)
theorem dX13_laws_41 : decode cX13_laws 41 = .ok (.aload_n 0, 1) := dk_42 (dk_at dksX13_laws_1 17 rfl rfl)
theorem dX13_laws_42 : decode cX13_laws 42 = .ok (.iload_n 1, 1) := dk_27 (dk_at dksX13_laws_1 18 rfl rfl)
theorem dX13_laws_43 : decode cX13_laws 43 = .ok (.putfield 122, 3) := dk_181 0 122 (dk_at dksX13_laws_1 19 rfl rfl)
theorem dX13_laws_46 : decode cX13_laws 46 = .ok (.aload_n 0, 1) := dk_42 (dk_at dksX13_laws_1 22 rfl rfl)
theorem dX13_laws_47 : decode cX13_laws 47 = .ok (.iload_n 2, 1) := dk_28 (dk_at dksX13_laws_1 23 rfl rfl)
theorem dX13_laws_48 : decode cX13_laws 48 = .ok (.putfield 316, 3) := dk_181 1 60 (dk_at dksX13_laws_2 0 rfl rfl)
theorem dX13_laws_51 : decode cX13_laws 51 = .ok (.iconst 0, 1) := dk_3 (dk_at dksX13_laws_2 3 rfl rfl)
theorem dX13_laws_52 : decode cX13_laws 52 = .ok (.istore 4, 2) := dk_54 4 (dk_at dksX13_laws_2 4 rfl rfl)
theorem dX13_laws_54 : decode cX13_laws 54 = .ok (.iconst 0, 1) := dk_3 (dk_at dksX13_laws_2 6 rfl rfl)
theorem dX13_laws_55 : decode cX13_laws 55 = .ok (.istore 5, 2) := dk_54 5 (dk_at dksX13_laws_2 7 rfl rfl)
theorem dX13_laws_57 : decode cX13_laws 57 = .ok (.iconst 0, 1) := dk_3 (dk_at dksX13_laws_2 9 rfl rfl)
theorem dX13_laws_58 : decode cX13_laws 58 = .ok (.istore 6, 2) := dk_54 6 (dk_at dksX13_laws_2 10 rfl rfl)
theorem dX13_laws_60 : decode cX13_laws 60 = .ok (.iconst 0, 1) := dk_3 (dk_at dksX13_laws_2 12 rfl rfl)
theorem dX13_laws_61 : decode cX13_laws 61 = .ok (.istore 7, 2) := dk_54 7 (dk_at dksX13_laws_2 13 rfl rfl)
theorem dX13_laws_63 : decode cX13_laws 63 = .ok (.iload 7, 2) := dk_21 7 (dk_at dksX13_laws_2 15 rfl rfl)
theorem dX13_laws_65 : decode cX13_laws 65 = .ok (.aload_n 0, 1) := dk_42 (dk_at dksX13_laws_2 17 rfl rfl)
theorem dX13_laws_66 : decode cX13_laws 66 = .ok (.getfield 422, 3) := dk_180 1 166 (dk_at dksX13_laws_2 18 rfl rfl)
theorem dX13_laws_69 : decode cX13_laws 69 = .ok (.if_icmp .ge 105, 3) := dk_162 0 105 (dk_at dksX13_laws_2 21 rfl rfl)
theorem dX13_laws_72 : decode cX13_laws 72 = .ok (.aload_n 0, 1) := dk_42 (dk_at dksX13_laws_3 0 rfl rfl)
theorem dX13_laws_73 : decode cX13_laws 73 = .ok (.aload_n 0, 1) := dk_42 (dk_at dksX13_laws_3 1 rfl rfl)
theorem dX13_laws_74 : decode cX13_laws 74 = .ok (.getfield 149, 3) := dk_180 0 149 (dk_at dksX13_laws_3 2 rfl rfl)
theorem dX13_laws_77 : decode cX13_laws 77 = .ok (.aload_n 0, 1) := dk_42 (dk_at dksX13_laws_3 5 rfl rfl)
theorem dX13_laws_78 : decode cX13_laws 78 = .ok (.getfield 406, 3) := dk_180 1 150 (dk_at dksX13_laws_3 6 rfl rfl)
theorem dX13_laws_81 : decode cX13_laws 81 = .ok (.aload_n 0, 1) := dk_42 (dk_at dksX13_laws_3 9 rfl rfl)
theorem dX13_laws_82 : decode cX13_laws 82 = .ok (.getfield 85, 3) := dk_180 0 85 (dk_at dksX13_laws_3 10 rfl rfl)
theorem dX13_laws_85 : decode cX13_laws 85 = .ok (.iconst 2, 1) := dk_5 (dk_at dksX13_laws_3 13 rfl rfl)
theorem dX13_laws_86 : decode cX13_laws 86 = .ok (.iaload, 1) := dk_46 (dk_at dksX13_laws_3 14 rfl rfl)
theorem dX13_laws_87 : decode cX13_laws 87 = .ok (.invokevirtual 425, 3) := dk_182 1 169 (dk_at dksX13_laws_3 15 rfl rfl)
theorem dX13_laws_90 : decode cX13_laws 90 = .ok (.aload_n 0, 1) := dk_42 (dk_at dksX13_laws_3 18 rfl rfl)
theorem dX13_laws_91 : decode cX13_laws 91 = .ok (.sipush 9660, 3) := dk_17 37 188 (dk_at dksX13_laws_3 19 rfl rfl)
theorem dX13_laws_94 : decode cX13_laws 94 = .ok (.iconst (-1), 1) := dk_2 (dk_at dksX13_laws_3 22 rfl rfl)
theorem dX13_laws_95 : decode cX13_laws 95 = .ok (.invokevirtual 400, 3) := dk_182 1 144 (dk_at dksX13_laws_4 0 rfl rfl)
theorem dX13_laws_98 : decode cX13_laws 98 = .ok (.iload 4, 2) := dk_21 4 (dk_at dksX13_laws_4 3 rfl rfl)
theorem dX13_laws_100 : decode cX13_laws 100 = .ok (.aload_n 0, 1) := dk_42 (dk_at dksX13_laws_4 5 rfl rfl)
theorem dX13_laws_101 : decode cX13_laws 101 = .ok (.getfield 394, 3) := dk_180 1 138 (dk_at dksX13_laws_4 6 rfl rfl)
theorem dX13_laws_104 : decode cX13_laws 104 = .ok (.iconst 2, 1) := dk_5 (dk_at dksX13_laws_4 9 rfl rfl)
theorem dX13_laws_105 : decode cX13_laws 105 = .ok (.if_icmp .ge 10, 3) := dk_162 0 10 (dk_at dksX13_laws_4 10 rfl rfl)
theorem dX13_laws_108 : decode cX13_laws 108 = .ok (.aload_n 0, 1) := dk_42 (dk_at dksX13_laws_4 13 rfl rfl)
theorem dX13_laws_109 : decode cX13_laws 109 = .ok (.getfield 388, 3) := dk_180 1 132 (dk_at dksX13_laws_4 14 rfl rfl)
theorem dX13_laws_112 : decode cX13_laws 112 = .ok (.goto 4, 3) := dk_167 0 4 (dk_at dksX13_laws_4 17 rfl rfl)
theorem dX13_laws_115 : decode cX13_laws 115 = .ok (.iconst 0, 1) := dk_3 (dk_at dksX13_laws_4 20 rfl rfl)
theorem dX13_laws_116 : decode cX13_laws 116 = .ok (.iadd, 1) := dk_96 (dk_at dksX13_laws_4 21 rfl rfl)
theorem dX13_laws_117 : decode cX13_laws 117 = .ok (.istore 4, 2) := dk_54 4 (dk_at dksX13_laws_4 22 rfl rfl)
theorem dX13_laws_119 : decode cX13_laws 119 = .ok (.iload 5, 2) := dk_21 5 (dk_at dksX13_laws_5 0 rfl rfl)
theorem dX13_laws_121 : decode cX13_laws 121 = .ok (.aload_n 0, 1) := dk_42 (dk_at dksX13_laws_5 2 rfl rfl)
theorem dX13_laws_122 : decode cX13_laws 122 = .ok (.getfield 394, 3) := dk_180 1 138 (dk_at dksX13_laws_5 3 rfl rfl)
theorem dX13_laws_125 : decode cX13_laws 125 = .ok (.iconst 2, 1) := dk_5 (dk_at dksX13_laws_5 6 rfl rfl)
theorem dX13_laws_126 : decode cX13_laws 126 = .ok (.if_icmp .ge 7, 3) := dk_162 0 7 (dk_at dksX13_laws_5 7 rfl rfl)
theorem dX13_laws_129 : decode cX13_laws 129 = .ok (.iconst 1, 1) := dk_4 (dk_at dksX13_laws_5 10 rfl rfl)
theorem dX13_laws_130 : decode cX13_laws 130 = .ok (.goto 4, 3) := dk_167 0 4 (dk_at dksX13_laws_5 11 rfl rfl)
theorem dX13_laws_133 : decode cX13_laws 133 = .ok (.iconst 0, 1) := dk_3 (dk_at dksX13_laws_5 14 rfl rfl)
theorem dX13_laws_134 : decode cX13_laws 134 = .ok (.iadd, 1) := dk_96 (dk_at dksX13_laws_5 15 rfl rfl)
theorem dX13_laws_135 : decode cX13_laws 135 = .ok (.istore 5, 2) := dk_54 5 (dk_at dksX13_laws_5 16 rfl rfl)
theorem dX13_laws_137 : decode cX13_laws 137 = .ok (.iload 6, 2) := dk_21 6 (dk_at dksX13_laws_5 18 rfl rfl)
theorem dX13_laws_139 : decode cX13_laws 139 = .ok (.aload_n 0, 1) := dk_42 (dk_at dksX13_laws_5 20 rfl rfl)
theorem dX13_laws_140 : decode cX13_laws 140 = .ok (.getfield 394, 3) := dk_180 1 138 (dk_at dksX13_laws_5 21 rfl rfl)
theorem dX13_laws_143 : decode cX13_laws 143 = .ok (.iconst 2, 1) := dk_5 (dk_at dksX13_laws_6 0 rfl rfl)
theorem dX13_laws_144 : decode cX13_laws 144 = .ok (.if_icmp .ne 7, 3) := dk_160 0 7 (dk_at dksX13_laws_6 1 rfl rfl)
theorem dX13_laws_147 : decode cX13_laws 147 = .ok (.iconst 1, 1) := dk_4 (dk_at dksX13_laws_6 4 rfl rfl)
theorem dX13_laws_148 : decode cX13_laws 148 = .ok (.goto 4, 3) := dk_167 0 4 (dk_at dksX13_laws_6 5 rfl rfl)
theorem dX13_laws_151 : decode cX13_laws 151 = .ok (.iconst 0, 1) := dk_3 (dk_at dksX13_laws_6 8 rfl rfl)
theorem dX13_laws_152 : decode cX13_laws 152 = .ok (.iadd, 1) := dk_96 (dk_at dksX13_laws_6 9 rfl rfl)
theorem dX13_laws_153 : decode cX13_laws 153 = .ok (.istore 6, 2) := dk_54 6 (dk_at dksX13_laws_6 10 rfl rfl)
theorem dX13_laws_155 : decode cX13_laws 155 = .ok (.aload_n 0, 1) := dk_42 (dk_at dksX13_laws_6 12 rfl rfl)
theorem dX13_laws_156 : decode cX13_laws 156 = .ok (.aload_n 0, 1) := dk_42 (dk_at dksX13_laws_6 13 rfl rfl)
theorem dX13_laws_157 : decode cX13_laws 157 = .ok (.getfield 149, 3) := dk_180 0 149 (dk_at dksX13_laws_6 14 rfl rfl)
theorem dX13_laws_160 : decode cX13_laws 160 = .ok (.aload_n 0, 1) := dk_42 (dk_at dksX13_laws_6 17 rfl rfl)
theorem dX13_laws_161 : decode cX13_laws 161 = .ok (.getfield 406, 3) := dk_180 1 150 (dk_at dksX13_laws_6 18 rfl rfl)
theorem dX13_laws_164 : decode cX13_laws 164 = .ok (.invokevirtual 428, 3) := dk_182 1 172 (dk_at dksX13_laws_6 21 rfl rfl)
theorem dX13_laws_167 : decode cX13_laws 167 = .ok (.pop, 1) := dk_87 (dk_at dksX13_laws_7 0 rfl rfl)
theorem dX13_laws_168 : decode cX13_laws 168 = .ok (.iinc 7 1, 3) := dk_132 7 1 (dk_at dksX13_laws_7 1 rfl rfl)
theorem dX13_laws_171 : decode cX13_laws 171 = .ok (.goto (-108), 3) := dk_167 255 148 (dk_at dksX13_laws_7 4 rfl rfl)
theorem dX13_laws_174 : decode cX13_laws 174 = .ok (.aload_n 0, 1) := dk_42 (dk_at dksX13_laws_7 7 rfl rfl)
theorem dX13_laws_175 : decode cX13_laws 175 = .ok (.iconst (-1), 1) := dk_2 (dk_at dksX13_laws_7 8 rfl rfl)
theorem dX13_laws_176 : decode cX13_laws 176 = .ok (.putfield 122, 3) := dk_181 0 122 (dk_at dksX13_laws_7 9 rfl rfl)
theorem dX13_laws_179 : decode cX13_laws 179 = .ok (.iload 4, 2) := dk_21 4 (dk_at dksX13_laws_7 12 rfl rfl)
theorem dX13_laws_181 : decode cX13_laws 181 = .ok (.istore 7, 2) := dk_54 7 (dk_at dksX13_laws_7 14 rfl rfl)
theorem dX13_laws_183 : decode cX13_laws 183 = .ok (.iload 5, 2) := dk_21 5 (dk_at dksX13_laws_7 16 rfl rfl)
theorem dX13_laws_185 : decode cX13_laws 185 = .ok (.istore 8, 2) := dk_54 8 (dk_at dksX13_laws_7 18 rfl rfl)
theorem dX13_laws_187 : decode cX13_laws 187 = .ok (.iload 8, 2) := dk_21 8 (dk_at dksX13_laws_7 20 rfl rfl)
theorem dX13_laws_189 : decode cX13_laws 189 = .ok (.ifCond .eq 21, 3) := dk_153 0 21 (dk_at dksX13_laws_8 0 rfl rfl)
theorem dX13_laws_192 : decode cX13_laws 192 = .ok (.iload 7, 2) := dk_21 7 (dk_at dksX13_laws_8 3 rfl rfl)
theorem dX13_laws_194 : decode cX13_laws 194 = .ok (.iload 8, 2) := dk_21 8 (dk_at dksX13_laws_8 5 rfl rfl)
theorem dX13_laws_196 : decode cX13_laws 196 = .ok (.irem, 1) := dk_112 (dk_at dksX13_laws_8 7 rfl rfl)
theorem dX13_laws_197 : decode cX13_laws 197 = .ok (.istore 9, 2) := dk_54 9 (dk_at dksX13_laws_8 8 rfl rfl)
theorem dX13_laws_199 : decode cX13_laws 199 = .ok (.iload 8, 2) := dk_21 8 (dk_at dksX13_laws_8 10 rfl rfl)
theorem dX13_laws_201 : decode cX13_laws 201 = .ok (.istore 7, 2) := dk_54 7 (dk_at dksX13_laws_8 12 rfl rfl)
theorem dX13_laws_203 : decode cX13_laws 203 = .ok (.iload 9, 2) := dk_21 9 (dk_at dksX13_laws_8 14 rfl rfl)
theorem dX13_laws_205 : decode cX13_laws 205 = .ok (.istore 8, 2) := dk_54 8 (dk_at dksX13_laws_8 16 rfl rfl)
theorem dX13_laws_207 : decode cX13_laws 207 = .ok (.goto (-20), 3) := dk_167 255 236 (dk_at dksX13_laws_8 18 rfl rfl)
theorem dX13_laws_210 : decode cX13_laws 210 = .ok (.iload_n 3, 1) := dk_29 (dk_at dksX13_laws_8 21 rfl rfl)
theorem dX13_laws_211 : decode cX13_laws 211 = .ok (.iconst 2, 1) := dk_5 (dk_at dksX13_laws_8 22 rfl rfl)
theorem dX13_laws_212 : decode cX13_laws 212 = .ok (.if_icmp .ne 8, 3) := dk_160 0 8 (dk_at dksX13_laws_9 0 rfl rfl)
theorem dX13_laws_215 : decode cX13_laws 215 = .ok (.iload 6, 2) := dk_21 6 (dk_at dksX13_laws_9 3 rfl rfl)
theorem dX13_laws_217 : decode cX13_laws 217 = .ok (.goto 29, 3) := dk_167 0 29 (dk_at dksX13_laws_9 5 rfl rfl)
theorem dX13_laws_220 : decode cX13_laws 220 = .ok (.iload 5, 2) := dk_21 5 (dk_at dksX13_laws_9 8 rfl rfl)
theorem dX13_laws_222 : decode cX13_laws 222 = .ok (.ifCond .ne 7, 3) := dk_154 0 7 (dk_at dksX13_laws_9 10 rfl rfl)
theorem dX13_laws_225 : decode cX13_laws 225 = .ok (.iload_n 3, 1) := dk_29 (dk_at dksX13_laws_9 13 rfl rfl)
theorem dX13_laws_226 : decode cX13_laws 226 = .ok (.goto 20, 3) := dk_167 0 20 (dk_at dksX13_laws_9 14 rfl rfl)
theorem dX13_laws_229 : decode cX13_laws 229 = .ok (.iload_n 3, 1) := dk_29 (dk_at dksX13_laws_9 17 rfl rfl)
theorem dX13_laws_230 : decode cX13_laws 230 = .ok (.ifCond .ne 11, 3) := dk_154 0 11 (dk_at dksX13_laws_9 18 rfl rfl)
theorem dX13_laws_233 : decode cX13_laws 233 = .ok (.iload 4, 2) := dk_21 4 (dk_at dksX13_laws_9 21 rfl rfl)
theorem dX13_laws_235 : decode cX13_laws 235 = .ok (.iload 7, 2) := dk_21 7 (dk_at dksX13_laws_10 0 rfl rfl)
theorem dX13_laws_237 : decode cX13_laws 237 = .ok (.idiv, 1) := dk_108 (dk_at dksX13_laws_10 2 rfl rfl)
theorem dX13_laws_238 : decode cX13_laws 238 = .ok (.goto 8, 3) := dk_167 0 8 (dk_at dksX13_laws_10 3 rfl rfl)
theorem dX13_laws_241 : decode cX13_laws 241 = .ok (.iload 5, 2) := dk_21 5 (dk_at dksX13_laws_10 6 rfl rfl)
theorem dX13_laws_243 : decode cX13_laws 243 = .ok (.iload 7, 2) := dk_21 7 (dk_at dksX13_laws_10 8 rfl rfl)
theorem dX13_laws_245 : decode cX13_laws 245 = .ok (.idiv, 1) := dk_108 (dk_at dksX13_laws_10 10 rfl rfl)
theorem dX13_laws_246 : decode cX13_laws 246 = .ok (.ireturn, 1) := dk_172 (dk_at dksX13_laws_10 11 rfl rfl)
abbrev cX13_unseen : ByteArray := prog_24_method_87_code
def yX13_unseen : MethodName := ⟨RX13, "unseen", "(I)I"⟩
def dkwX13_unseen_2 : List UInt8 := [161, 0, 7, 4, 167, 0, 4, 3, 96, 61, 132, 3, 1, 167, 255, 214, 28, 172]
abbrev dktX13_unseen_2 : List UInt8 := dkwX13_unseen_2 ++ []
def dkwX13_unseen_1 : List UInt8 := [27, 96, 46, 162, 0, 36, 28, 42, 180, 0, 115, 16, 20, 16, 48, 27, 104, 96, 29, 96, 46, 16, 8]
abbrev dktX13_unseen_1 : List UInt8 := dkwX13_unseen_1 ++ dktX13_unseen_2
def dkwX13_unseen_0 : List UInt8 := [42, 3, 181, 0, 1, 27, 184, 1, 98, 154, 0, 5, 2, 172, 3, 61, 3, 62, 29, 42, 180, 0, 115, 3]
abbrev dktX13_unseen_0 : List UInt8 := dkwX13_unseen_0 ++ dktX13_unseen_1
theorem dksX13_unseen_0 : cX13_unseen.data.toList.drop 0 = dktX13_unseen_0 := by decide +kernel
theorem dksX13_unseen_1 : cX13_unseen.data.toList.drop 24 = dktX13_unseen_1 := dk_seg dksX13_unseen_0 24 rfl rfl
theorem dksX13_unseen_2 : cX13_unseen.data.toList.drop 47 = dktX13_unseen_2 := dk_seg dksX13_unseen_1 23 rfl rfl
theorem dX13_unseen_0 : decode cX13_unseen 0 = .ok (.aload_n 0, 1) := dk_42 (dk_at dksX13_unseen_0 0 rfl rfl)
theorem dX13_unseen_1 : decode cX13_unseen 1 = .ok (.iconst 0, 1) := dk_3 (dk_at dksX13_unseen_0 1 rfl rfl)
theorem dX13_unseen_2 : decode cX13_unseen 2 = .ok (.putfield 1, 3) := dk_181 0 1 (dk_at dksX13_unseen_0 2 rfl rfl)
theorem dX13_unseen_5 : decode cX13_unseen 5 = .ok (.iload_n 1, 1) := dk_27 (dk_at dksX13_unseen_0 5 rfl rfl)
theorem dX13_unseen_6 : decode cX13_unseen 6 = .ok (.invokestatic 354, 3) := dk_184 1 98 (dk_at dksX13_unseen_0 6 rfl rfl)
theorem dX13_unseen_9 : decode cX13_unseen 9 = .ok (.ifCond .ne 5, 3) := dk_154 0 5 (dk_at dksX13_unseen_0 9 rfl rfl)
theorem dX13_unseen_12 : decode cX13_unseen 12 = .ok (.iconst (-1), 1) := dk_2 (dk_at dksX13_unseen_0 12 rfl rfl)
theorem dX13_unseen_13 : decode cX13_unseen 13 = .ok (.ireturn, 1) := dk_172 (dk_at dksX13_unseen_0 13 rfl rfl)
theorem dX13_unseen_14 : decode cX13_unseen 14 = .ok (.iconst 0, 1) := dk_3 (dk_at dksX13_unseen_0 14 rfl rfl)
theorem dX13_unseen_15 : decode cX13_unseen 15 = .ok (.istore_n 2, 1) := dk_61 (dk_at dksX13_unseen_0 15 rfl rfl)
theorem dX13_unseen_16 : decode cX13_unseen 16 = .ok (.iconst 0, 1) := dk_3 (dk_at dksX13_unseen_0 16 rfl rfl)
theorem dX13_unseen_17 : decode cX13_unseen 17 = .ok (.istore_n 3, 1) := dk_62 (dk_at dksX13_unseen_0 17 rfl rfl)
theorem dX13_unseen_18 : decode cX13_unseen 18 = .ok (.iload_n 3, 1) := dk_29 (dk_at dksX13_unseen_0 18 rfl rfl)
theorem dX13_unseen_19 : decode cX13_unseen 19 = .ok (.aload_n 0, 1) := dk_42 (dk_at dksX13_unseen_0 19 rfl rfl)
theorem dX13_unseen_20 : decode cX13_unseen 20 = .ok (.getfield 115, 3) := dk_180 0 115 (dk_at dksX13_unseen_0 20 rfl rfl)
theorem dX13_unseen_23 : decode cX13_unseen 23 = .ok (.iconst 0, 1) := dk_3 (dk_at dksX13_unseen_0 23 rfl rfl)
theorem dX13_unseen_24 : decode cX13_unseen 24 = .ok (.iload_n 1, 1) := dk_27 (dk_at dksX13_unseen_1 0 rfl rfl)
theorem dX13_unseen_25 : decode cX13_unseen 25 = .ok (.iadd, 1) := dk_96 (dk_at dksX13_unseen_1 1 rfl rfl)
theorem dX13_unseen_26 : decode cX13_unseen 26 = .ok (.iaload, 1) := dk_46 (dk_at dksX13_unseen_1 2 rfl rfl)
theorem dX13_unseen_27 : decode cX13_unseen 27 = .ok (.if_icmp .ge 36, 3) := dk_162 0 36 (dk_at dksX13_unseen_1 3 rfl rfl)
theorem dX13_unseen_30 : decode cX13_unseen 30 = .ok (.iload_n 2, 1) := dk_28 (dk_at dksX13_unseen_1 6 rfl rfl)
theorem dX13_unseen_31 : decode cX13_unseen 31 = .ok (.aload_n 0, 1) := dk_42 (dk_at dksX13_unseen_1 7 rfl rfl)
theorem dX13_unseen_32 : decode cX13_unseen 32 = .ok (.getfield 115, 3) := dk_180 0 115 (dk_at dksX13_unseen_1 8 rfl rfl)
theorem dX13_unseen_35 : decode cX13_unseen 35 = .ok (.bipush 20, 2) := dk_16 20 (dk_at dksX13_unseen_1 11 rfl rfl)
theorem dX13_unseen_37 : decode cX13_unseen 37 = .ok (.bipush 48, 2) := dk_16 48 (dk_at dksX13_unseen_1 13 rfl rfl)
theorem dX13_unseen_39 : decode cX13_unseen 39 = .ok (.iload_n 1, 1) := dk_27 (dk_at dksX13_unseen_1 15 rfl rfl)
theorem dX13_unseen_40 : decode cX13_unseen 40 = .ok (.imul, 1) := dk_104 (dk_at dksX13_unseen_1 16 rfl rfl)
theorem dX13_unseen_41 : decode cX13_unseen 41 = .ok (.iadd, 1) := dk_96 (dk_at dksX13_unseen_1 17 rfl rfl)
theorem dX13_unseen_42 : decode cX13_unseen 42 = .ok (.iload_n 3, 1) := dk_29 (dk_at dksX13_unseen_1 18 rfl rfl)
theorem dX13_unseen_43 : decode cX13_unseen 43 = .ok (.iadd, 1) := dk_96 (dk_at dksX13_unseen_1 19 rfl rfl)
theorem dX13_unseen_44 : decode cX13_unseen 44 = .ok (.iaload, 1) := dk_46 (dk_at dksX13_unseen_1 20 rfl rfl)
theorem dX13_unseen_45 : decode cX13_unseen 45 = .ok (.bipush 8, 2) := dk_16 8 (dk_at dksX13_unseen_1 21 rfl rfl)
theorem dX13_unseen_47 : decode cX13_unseen 47 = .ok (.if_icmp .lt 7, 3) := dk_161 0 7 (dk_at dksX13_unseen_2 0 rfl rfl)
theorem dX13_unseen_50 : decode cX13_unseen 50 = .ok (.iconst 1, 1) := dk_4 (dk_at dksX13_unseen_2 3 rfl rfl)
theorem dX13_unseen_51 : decode cX13_unseen 51 = .ok (.goto 4, 3) := dk_167 0 4 (dk_at dksX13_unseen_2 4 rfl rfl)
theorem dX13_unseen_54 : decode cX13_unseen 54 = .ok (.iconst 0, 1) := dk_3 (dk_at dksX13_unseen_2 7 rfl rfl)
theorem dX13_unseen_55 : decode cX13_unseen 55 = .ok (.iadd, 1) := dk_96 (dk_at dksX13_unseen_2 8 rfl rfl)
theorem dX13_unseen_56 : decode cX13_unseen 56 = .ok (.istore_n 2, 1) := dk_61 (dk_at dksX13_unseen_2 9 rfl rfl)
theorem dX13_unseen_57 : decode cX13_unseen 57 = .ok (.iinc 3 1, 3) := dk_132 3 1 (dk_at dksX13_unseen_2 10 rfl rfl)
theorem dX13_unseen_60 : decode cX13_unseen 60 = .ok (.goto (-42), 3) := dk_167 255 214 (dk_at dksX13_unseen_2 13 rfl rfl)
theorem dX13_unseen_63 : decode cX13_unseen 63 = .ok (.iload_n 2, 1) := dk_28 (dk_at dksX13_unseen_2 16 rfl rfl)
theorem dX13_unseen_64 : decode cX13_unseen 64 = .ok (.ireturn, 1) := dk_172 (dk_at dksX13_unseen_2 17 rfl rfl)
abbrev cX13_odds : ByteArray := prog_24_method_89_code
def yX13_odds : MethodName := ⟨RX13, "odds", "(I)I"⟩
def dkwX13_odds_2 : List UInt8 := [180, 1, 188, 172]
abbrev dktX13_odds_2 : List UInt8 := dkwX13_odds_2 ++ []
def dkwX13_odds_1 : List UInt8 := [154, 0, 10, 42, 180, 1, 191, 167, 0, 19, 27, 4, 160, 0, 10, 42, 180, 1, 194, 167, 0, 7, 42]
abbrev dktX13_odds_1 : List UInt8 := dkwX13_odds_1 ++ dktX13_odds_2
def dkwX13_odds_0 : List UInt8 := [42, 3, 181, 0, 1, 27, 3, 5, 184, 1, 91, 153, 0, 10, 42, 182, 1, 197, 154, 0, 5, 2, 172, 27]
abbrev dktX13_odds_0 : List UInt8 := dkwX13_odds_0 ++ dktX13_odds_1
theorem dksX13_odds_0 : cX13_odds.data.toList.drop 0 = dktX13_odds_0 := by decide +kernel
theorem dksX13_odds_1 : cX13_odds.data.toList.drop 24 = dktX13_odds_1 := dk_seg dksX13_odds_0 24 rfl rfl
theorem dksX13_odds_2 : cX13_odds.data.toList.drop 47 = dktX13_odds_2 := dk_seg dksX13_odds_1 23 rfl rfl
theorem dX13_odds_0 : decode cX13_odds 0 = .ok (.aload_n 0, 1) := dk_42 (dk_at dksX13_odds_0 0 rfl rfl)
theorem dX13_odds_1 : decode cX13_odds 1 = .ok (.iconst 0, 1) := dk_3 (dk_at dksX13_odds_0 1 rfl rfl)
theorem dX13_odds_2 : decode cX13_odds 2 = .ok (.putfield 1, 3) := dk_181 0 1 (dk_at dksX13_odds_0 2 rfl rfl)
theorem dX13_odds_5 : decode cX13_odds 5 = .ok (.iload_n 1, 1) := dk_27 (dk_at dksX13_odds_0 5 rfl rfl)
theorem dX13_odds_6 : decode cX13_odds 6 = .ok (.iconst 0, 1) := dk_3 (dk_at dksX13_odds_0 6 rfl rfl)
theorem dX13_odds_7 : decode cX13_odds 7 = .ok (.iconst 2, 1) := dk_5 (dk_at dksX13_odds_0 7 rfl rfl)
theorem dX13_odds_8 : decode cX13_odds 8 = .ok (.invokestatic 347, 3) := dk_184 1 91 (dk_at dksX13_odds_0 8 rfl rfl)
theorem dX13_odds_11 : decode cX13_odds 11 = .ok (.ifCond .eq 10, 3) := dk_153 0 10 (dk_at dksX13_odds_0 11 rfl rfl)
theorem dX13_odds_14 : decode cX13_odds 14 = .ok (.aload_n 0, 1) := dk_42 (dk_at dksX13_odds_0 14 rfl rfl)
theorem dX13_odds_15 : decode cX13_odds 15 = .ok (.invokevirtual 453, 3) := dk_182 1 197 (dk_at dksX13_odds_0 15 rfl rfl)
theorem dX13_odds_18 : decode cX13_odds 18 = .ok (.ifCond .ne 5, 3) := dk_154 0 5 (dk_at dksX13_odds_0 18 rfl rfl)
theorem dX13_odds_21 : decode cX13_odds 21 = .ok (.iconst (-1), 1) := dk_2 (dk_at dksX13_odds_0 21 rfl rfl)
theorem dX13_odds_22 : decode cX13_odds 22 = .ok (.ireturn, 1) := dk_172 (dk_at dksX13_odds_0 22 rfl rfl)
theorem dX13_odds_23 : decode cX13_odds 23 = .ok (.iload_n 1, 1) := dk_27 (dk_at dksX13_odds_0 23 rfl rfl)
theorem dX13_odds_24 : decode cX13_odds 24 = .ok (.ifCond .ne 10, 3) := dk_154 0 10 (dk_at dksX13_odds_1 0 rfl rfl)
theorem dX13_odds_27 : decode cX13_odds 27 = .ok (.aload_n 0, 1) := dk_42 (dk_at dksX13_odds_1 3 rfl rfl)
theorem dX13_odds_28 : decode cX13_odds 28 = .ok (.getfield 447, 3) := dk_180 1 191 (dk_at dksX13_odds_1 4 rfl rfl)
theorem dX13_odds_31 : decode cX13_odds 31 = .ok (.goto 19, 3) := dk_167 0 19 (dk_at dksX13_odds_1 7 rfl rfl)
theorem dX13_odds_34 : decode cX13_odds 34 = .ok (.iload_n 1, 1) := dk_27 (dk_at dksX13_odds_1 10 rfl rfl)
theorem dX13_odds_35 : decode cX13_odds 35 = .ok (.iconst 1, 1) := dk_4 (dk_at dksX13_odds_1 11 rfl rfl)
theorem dX13_odds_36 : decode cX13_odds 36 = .ok (.if_icmp .ne 10, 3) := dk_160 0 10 (dk_at dksX13_odds_1 12 rfl rfl)
theorem dX13_odds_39 : decode cX13_odds 39 = .ok (.aload_n 0, 1) := dk_42 (dk_at dksX13_odds_1 15 rfl rfl)
theorem dX13_odds_40 : decode cX13_odds 40 = .ok (.getfield 450, 3) := dk_180 1 194 (dk_at dksX13_odds_1 16 rfl rfl)
theorem dX13_odds_43 : decode cX13_odds 43 = .ok (.goto 7, 3) := dk_167 0 7 (dk_at dksX13_odds_1 19 rfl rfl)
theorem dX13_odds_46 : decode cX13_odds 46 = .ok (.aload_n 0, 1) := dk_42 (dk_at dksX13_odds_1 22 rfl rfl)
theorem dX13_odds_47 : decode cX13_odds 47 = .ok (.getfield 444, 3) := dk_180 1 188 (dk_at dksX13_odds_2 0 rfl rfl)
theorem dX13_odds_50 : decode cX13_odds 50 = .ok (.ireturn, 1) := dk_172 (dk_at dksX13_odds_2 3 rfl rfl)
abbrev cX13_findOdds : ByteArray := prog_24_method_88_code
def yX13_findOdds : MethodName := ⟨RX13, "findOdds", "()Z"⟩
def dkwX13_findOdds_7 : List UInt8 := [180, 1, 188, 155, 0, 7, 4, 167, 0, 4, 3, 172]
abbrev dktX13_findOdds_7 : List UInt8 := dkwX13_findOdds_7 ++ []
def dkwX13_findOdds_6 : List UInt8 := [181, 1, 194, 42, 42, 180, 0, 161, 42, 180, 1, 182, 182, 1, 172, 87, 132, 1, 1, 167, 255, 130, 42]
abbrev dktX13_findOdds_6 : List UInt8 := dkwX13_findOdds_6 ++ dktX13_findOdds_7
def dkwX13_findOdds_5 : List UInt8 := [96, 181, 1, 191, 42, 89, 180, 1, 194, 42, 180, 1, 138, 4, 160, 0, 7, 4, 167, 0, 4, 3, 96]
abbrev dktX13_findOdds_5 : List UInt8 := dkwX13_findOdds_5 ++ dktX13_findOdds_6
def dkwX13_findOdds_4 : List UInt8 := [17, 37, 188, 2, 182, 1, 144, 42, 89, 180, 1, 191, 42, 180, 1, 138, 154, 0, 7, 4, 167, 0, 4, 3]
abbrev dktX13_findOdds_4 : List UInt8 := dkwX13_findOdds_4 ++ dktX13_findOdds_5
def dkwX13_findOdds_3 : List UInt8 := [180, 0, 158, 28, 46, 96, 16, 8, 42, 180, 0, 161, 28, 46, 96, 79, 132, 2, 1, 167, 255, 221, 42]
abbrev dktX13_findOdds_3 : List UInt8 := dkwX13_findOdds_3 ++ dktX13_findOdds_4
def dkwX13_findOdds_2 : List UInt8 := [17, 0, 164, 182, 1, 52, 3, 61, 28, 42, 180, 1, 182, 162, 0, 33, 42, 180, 0, 115, 17, 37, 188, 42]
abbrev dktX13_findOdds_2 : List UInt8 := dkwX13_findOdds_2 ++ dktX13_findOdds_3
def dkwX13_findOdds_1 : List UInt8 := [181, 1, 191, 42, 3, 181, 1, 194, 3, 60, 27, 42, 180, 1, 188, 162, 0, 124, 42, 3, 17, 37, 188]
abbrev dktX13_findOdds_1 : List UInt8 := dkwX13_findOdds_1 ++ dktX13_findOdds_2
def dkwX13_findOdds_0 : List UInt8 := [42, 182, 1, 185, 42, 42, 42, 180, 0, 161, 42, 180, 1, 182, 182, 1, 162, 181, 1, 188, 42, 3]
abbrev dktX13_findOdds_0 : List UInt8 := dkwX13_findOdds_0 ++ dktX13_findOdds_1
theorem dksX13_findOdds_0 : cX13_findOdds.data.toList.drop 0 = dktX13_findOdds_0 := by decide +kernel
theorem dksX13_findOdds_1 : cX13_findOdds.data.toList.drop 22 = dktX13_findOdds_1 := dk_seg dksX13_findOdds_0 22 rfl rfl
theorem dksX13_findOdds_2 : cX13_findOdds.data.toList.drop 45 = dktX13_findOdds_2 := dk_seg dksX13_findOdds_1 23 rfl rfl
theorem dksX13_findOdds_3 : cX13_findOdds.data.toList.drop 69 = dktX13_findOdds_3 := dk_seg dksX13_findOdds_2 24 rfl rfl
theorem dksX13_findOdds_4 : cX13_findOdds.data.toList.drop 92 = dktX13_findOdds_4 := dk_seg dksX13_findOdds_3 23 rfl rfl
theorem dksX13_findOdds_5 : cX13_findOdds.data.toList.drop 116 = dktX13_findOdds_5 := dk_seg dksX13_findOdds_4 24 rfl rfl
theorem dksX13_findOdds_6 : cX13_findOdds.data.toList.drop 139 = dktX13_findOdds_6 := dk_seg dksX13_findOdds_5 23 rfl rfl
theorem dksX13_findOdds_7 : cX13_findOdds.data.toList.drop 162 = dktX13_findOdds_7 := dk_seg dksX13_findOdds_6 23 rfl rfl
theorem dX13_findOdds_0 : decode cX13_findOdds 0 = .ok (.aload_n 0, 1) := dk_42 (dk_at dksX13_findOdds_0 0 rfl rfl)
theorem dX13_findOdds_1 : decode cX13_findOdds 1 = .ok (.invokevirtual 441, 3) := dk_182 1 185 (dk_at dksX13_findOdds_0 1 rfl rfl)
theorem dX13_findOdds_4 : decode cX13_findOdds 4 = .ok (.aload_n 0, 1) := dk_42 (dk_at dksX13_findOdds_0 4 rfl rfl)
theorem dX13_findOdds_5 : decode cX13_findOdds 5 = .ok (.aload_n 0, 1) := dk_42 (dk_at dksX13_findOdds_0 5 rfl rfl)
theorem dX13_findOdds_6 : decode cX13_findOdds 6 = .ok (.aload_n 0, 1) := dk_42 (dk_at dksX13_findOdds_0 6 rfl rfl)
theorem dX13_findOdds_7 : decode cX13_findOdds 7 = .ok (.getfield 161, 3) := dk_180 0 161 (dk_at dksX13_findOdds_0 7 rfl rfl)
theorem dX13_findOdds_10 : decode cX13_findOdds 10 = .ok (.aload_n 0, 1) := dk_42 (dk_at dksX13_findOdds_0 10 rfl rfl)
theorem dX13_findOdds_11 : decode cX13_findOdds 11 = .ok (.getfield 438, 3) := dk_180 1 182 (dk_at dksX13_findOdds_0 11 rfl rfl)
theorem dX13_findOdds_14 : decode cX13_findOdds 14 = .ok (.invokevirtual 418, 3) := dk_182 1 162 (dk_at dksX13_findOdds_0 14 rfl rfl)
theorem dX13_findOdds_17 : decode cX13_findOdds 17 = .ok (.putfield 444, 3) := dk_181 1 188 (dk_at dksX13_findOdds_0 17 rfl rfl)
theorem dX13_findOdds_20 : decode cX13_findOdds 20 = .ok (.aload_n 0, 1) := dk_42 (dk_at dksX13_findOdds_0 20 rfl rfl)
theorem dX13_findOdds_21 : decode cX13_findOdds 21 = .ok (.iconst 0, 1) := dk_3 (dk_at dksX13_findOdds_0 21 rfl rfl)
theorem dX13_findOdds_22 : decode cX13_findOdds 22 = .ok (.putfield 447, 3) := dk_181 1 191 (dk_at dksX13_findOdds_1 0 rfl rfl)
theorem dX13_findOdds_25 : decode cX13_findOdds 25 = .ok (.aload_n 0, 1) := dk_42 (dk_at dksX13_findOdds_1 3 rfl rfl)
theorem dX13_findOdds_26 : decode cX13_findOdds 26 = .ok (.iconst 0, 1) := dk_3 (dk_at dksX13_findOdds_1 4 rfl rfl)
theorem dX13_findOdds_27 : decode cX13_findOdds 27 = .ok (.putfield 450, 3) := dk_181 1 194 (dk_at dksX13_findOdds_1 5 rfl rfl)
theorem dX13_findOdds_30 : decode cX13_findOdds 30 = .ok (.iconst 0, 1) := dk_3 (dk_at dksX13_findOdds_1 8 rfl rfl)
theorem dX13_findOdds_31 : decode cX13_findOdds 31 = .ok (.istore_n 1, 1) := dk_60 (dk_at dksX13_findOdds_1 9 rfl rfl)
theorem dX13_findOdds_32 : decode cX13_findOdds 32 = .ok (.iload_n 1, 1) := dk_27 (dk_at dksX13_findOdds_1 10 rfl rfl)
theorem dX13_findOdds_33 : decode cX13_findOdds 33 = .ok (.aload_n 0, 1) := dk_42 (dk_at dksX13_findOdds_1 11 rfl rfl)
theorem dX13_findOdds_34 : decode cX13_findOdds 34 = .ok (.getfield 444, 3) := dk_180 1 188 (dk_at dksX13_findOdds_1 12 rfl rfl)
theorem dX13_findOdds_37 : decode cX13_findOdds 37 = .ok (.if_icmp .ge 124, 3) := dk_162 0 124 (dk_at dksX13_findOdds_1 15 rfl rfl)
theorem dX13_findOdds_40 : decode cX13_findOdds 40 = .ok (.aload_n 0, 1) := dk_42 (dk_at dksX13_findOdds_1 18 rfl rfl)
theorem dX13_findOdds_41 : decode cX13_findOdds 41 = .ok (.iconst 0, 1) := dk_3 (dk_at dksX13_findOdds_1 19 rfl rfl)
theorem dX13_findOdds_42 : decode cX13_findOdds 42 = .ok (.sipush 9660, 3) := dk_17 37 188 (dk_at dksX13_findOdds_1 20 rfl rfl)
theorem dX13_findOdds_45 : decode cX13_findOdds 45 = .ok (.sipush 164, 3) := dk_17 0 164 (dk_at dksX13_findOdds_2 0 rfl rfl)
theorem dX13_findOdds_48 : decode cX13_findOdds 48 = .ok (.invokevirtual 308, 3) := dk_182 1 52 (dk_at dksX13_findOdds_2 3 rfl rfl)
theorem dX13_findOdds_51 : decode cX13_findOdds 51 = .ok (.iconst 0, 1) := dk_3 (dk_at dksX13_findOdds_2 6 rfl rfl)
theorem dX13_findOdds_52 : decode cX13_findOdds 52 = .ok (.istore_n 2, 1) := dk_61 (dk_at dksX13_findOdds_2 7 rfl rfl)
theorem dX13_findOdds_53 : decode cX13_findOdds 53 = .ok (.iload_n 2, 1) := dk_28 (dk_at dksX13_findOdds_2 8 rfl rfl)
theorem dX13_findOdds_54 : decode cX13_findOdds 54 = .ok (.aload_n 0, 1) := dk_42 (dk_at dksX13_findOdds_2 9 rfl rfl)
theorem dX13_findOdds_55 : decode cX13_findOdds 55 = .ok (.getfield 438, 3) := dk_180 1 182 (dk_at dksX13_findOdds_2 10 rfl rfl)
theorem dX13_findOdds_58 : decode cX13_findOdds 58 = .ok (.if_icmp .ge 33, 3) := dk_162 0 33 (dk_at dksX13_findOdds_2 13 rfl rfl)
theorem dX13_findOdds_61 : decode cX13_findOdds 61 = .ok (.aload_n 0, 1) := dk_42 (dk_at dksX13_findOdds_2 16 rfl rfl)
theorem dX13_findOdds_62 : decode cX13_findOdds 62 = .ok (.getfield 115, 3) := dk_180 0 115 (dk_at dksX13_findOdds_2 17 rfl rfl)
theorem dX13_findOdds_65 : decode cX13_findOdds 65 = .ok (.sipush 9660, 3) := dk_17 37 188 (dk_at dksX13_findOdds_2 20 rfl rfl)
theorem dX13_findOdds_68 : decode cX13_findOdds 68 = .ok (.aload_n 0, 1) := dk_42 (dk_at dksX13_findOdds_2 23 rfl rfl)
theorem dX13_findOdds_69 : decode cX13_findOdds 69 = .ok (.getfield 158, 3) := dk_180 0 158 (dk_at dksX13_findOdds_3 0 rfl rfl)
theorem dX13_findOdds_72 : decode cX13_findOdds 72 = .ok (.iload_n 2, 1) := dk_28 (dk_at dksX13_findOdds_3 3 rfl rfl)
theorem dX13_findOdds_73 : decode cX13_findOdds 73 = .ok (.iaload, 1) := dk_46 (dk_at dksX13_findOdds_3 4 rfl rfl)
theorem dX13_findOdds_74 : decode cX13_findOdds 74 = .ok (.iadd, 1) := dk_96 (dk_at dksX13_findOdds_3 5 rfl rfl)
theorem dX13_findOdds_75 : decode cX13_findOdds 75 = .ok (.bipush 8, 2) := dk_16 8 (dk_at dksX13_findOdds_3 6 rfl rfl)
theorem dX13_findOdds_77 : decode cX13_findOdds 77 = .ok (.aload_n 0, 1) := dk_42 (dk_at dksX13_findOdds_3 8 rfl rfl)
theorem dX13_findOdds_78 : decode cX13_findOdds 78 = .ok (.getfield 161, 3) := dk_180 0 161 (dk_at dksX13_findOdds_3 9 rfl rfl)
theorem dX13_findOdds_81 : decode cX13_findOdds 81 = .ok (.iload_n 2, 1) := dk_28 (dk_at dksX13_findOdds_3 12 rfl rfl)
theorem dX13_findOdds_82 : decode cX13_findOdds 82 = .ok (.iaload, 1) := dk_46 (dk_at dksX13_findOdds_3 13 rfl rfl)
theorem dX13_findOdds_83 : decode cX13_findOdds 83 = .ok (.iadd, 1) := dk_96 (dk_at dksX13_findOdds_3 14 rfl rfl)
theorem dX13_findOdds_84 : decode cX13_findOdds 84 = .ok (.iastore, 1) := dk_79 (dk_at dksX13_findOdds_3 15 rfl rfl)
theorem dX13_findOdds_85 : decode cX13_findOdds 85 = .ok (.iinc 2 1, 3) := dk_132 2 1 (dk_at dksX13_findOdds_3 16 rfl rfl)
theorem dX13_findOdds_88 : decode cX13_findOdds 88 = .ok (.goto (-35), 3) := dk_167 255 221 (dk_at dksX13_findOdds_3 19 rfl rfl)
theorem dX13_findOdds_91 : decode cX13_findOdds 91 = .ok (.aload_n 0, 1) := dk_42 (dk_at dksX13_findOdds_3 22 rfl rfl)
theorem dX13_findOdds_92 : decode cX13_findOdds 92 = .ok (.sipush 9660, 3) := dk_17 37 188 (dk_at dksX13_findOdds_4 0 rfl rfl)
theorem dX13_findOdds_95 : decode cX13_findOdds 95 = .ok (.iconst (-1), 1) := dk_2 (dk_at dksX13_findOdds_4 3 rfl rfl)
theorem dX13_findOdds_96 : decode cX13_findOdds 96 = .ok (.invokevirtual 400, 3) := dk_182 1 144 (dk_at dksX13_findOdds_4 4 rfl rfl)
theorem dX13_findOdds_99 : decode cX13_findOdds 99 = .ok (.aload_n 0, 1) := dk_42 (dk_at dksX13_findOdds_4 7 rfl rfl)
theorem dX13_findOdds_100 : decode cX13_findOdds 100 = .ok (.dup, 1) := dk_89 (dk_at dksX13_findOdds_4 8 rfl rfl)
theorem dX13_findOdds_101 : decode cX13_findOdds 101 = .ok (.getfield 447, 3) := dk_180 1 191 (dk_at dksX13_findOdds_4 9 rfl rfl)
theorem dX13_findOdds_104 : decode cX13_findOdds 104 = .ok (.aload_n 0, 1) := dk_42 (dk_at dksX13_findOdds_4 12 rfl rfl)
theorem dX13_findOdds_105 : decode cX13_findOdds 105 = .ok (.getfield 394, 3) := dk_180 1 138 (dk_at dksX13_findOdds_4 13 rfl rfl)
theorem dX13_findOdds_108 : decode cX13_findOdds 108 = .ok (.ifCond .ne 7, 3) := dk_154 0 7 (dk_at dksX13_findOdds_4 16 rfl rfl)
theorem dX13_findOdds_111 : decode cX13_findOdds 111 = .ok (.iconst 1, 1) := dk_4 (dk_at dksX13_findOdds_4 19 rfl rfl)
theorem dX13_findOdds_112 : decode cX13_findOdds 112 = .ok (.goto 4, 3) := dk_167 0 4 (dk_at dksX13_findOdds_4 20 rfl rfl)
theorem dX13_findOdds_115 : decode cX13_findOdds 115 = .ok (.iconst 0, 1) := dk_3 (dk_at dksX13_findOdds_4 23 rfl rfl)
theorem dX13_findOdds_116 : decode cX13_findOdds 116 = .ok (.iadd, 1) := dk_96 (dk_at dksX13_findOdds_5 0 rfl rfl)
theorem dX13_findOdds_117 : decode cX13_findOdds 117 = .ok (.putfield 447, 3) := dk_181 1 191 (dk_at dksX13_findOdds_5 1 rfl rfl)
theorem dX13_findOdds_120 : decode cX13_findOdds 120 = .ok (.aload_n 0, 1) := dk_42 (dk_at dksX13_findOdds_5 4 rfl rfl)
theorem dX13_findOdds_121 : decode cX13_findOdds 121 = .ok (.dup, 1) := dk_89 (dk_at dksX13_findOdds_5 5 rfl rfl)
theorem dX13_findOdds_122 : decode cX13_findOdds 122 = .ok (.getfield 450, 3) := dk_180 1 194 (dk_at dksX13_findOdds_5 6 rfl rfl)
theorem dX13_findOdds_125 : decode cX13_findOdds 125 = .ok (.aload_n 0, 1) := dk_42 (dk_at dksX13_findOdds_5 9 rfl rfl)
theorem dX13_findOdds_126 : decode cX13_findOdds 126 = .ok (.getfield 394, 3) := dk_180 1 138 (dk_at dksX13_findOdds_5 10 rfl rfl)
theorem dX13_findOdds_129 : decode cX13_findOdds 129 = .ok (.iconst 1, 1) := dk_4 (dk_at dksX13_findOdds_5 13 rfl rfl)
theorem dX13_findOdds_130 : decode cX13_findOdds 130 = .ok (.if_icmp .ne 7, 3) := dk_160 0 7 (dk_at dksX13_findOdds_5 14 rfl rfl)
theorem dX13_findOdds_133 : decode cX13_findOdds 133 = .ok (.iconst 1, 1) := dk_4 (dk_at dksX13_findOdds_5 17 rfl rfl)
theorem dX13_findOdds_134 : decode cX13_findOdds 134 = .ok (.goto 4, 3) := dk_167 0 4 (dk_at dksX13_findOdds_5 18 rfl rfl)
theorem dX13_findOdds_137 : decode cX13_findOdds 137 = .ok (.iconst 0, 1) := dk_3 (dk_at dksX13_findOdds_5 21 rfl rfl)
theorem dX13_findOdds_138 : decode cX13_findOdds 138 = .ok (.iadd, 1) := dk_96 (dk_at dksX13_findOdds_5 22 rfl rfl)
theorem dX13_findOdds_139 : decode cX13_findOdds 139 = .ok (.putfield 450, 3) := dk_181 1 194 (dk_at dksX13_findOdds_6 0 rfl rfl)
theorem dX13_findOdds_142 : decode cX13_findOdds 142 = .ok (.aload_n 0, 1) := dk_42 (dk_at dksX13_findOdds_6 3 rfl rfl)
theorem dX13_findOdds_143 : decode cX13_findOdds 143 = .ok (.aload_n 0, 1) := dk_42 (dk_at dksX13_findOdds_6 4 rfl rfl)
theorem dX13_findOdds_144 : decode cX13_findOdds 144 = .ok (.getfield 161, 3) := dk_180 0 161 (dk_at dksX13_findOdds_6 5 rfl rfl)
theorem dX13_findOdds_147 : decode cX13_findOdds 147 = .ok (.aload_n 0, 1) := dk_42 (dk_at dksX13_findOdds_6 8 rfl rfl)
theorem dX13_findOdds_148 : decode cX13_findOdds 148 = .ok (.getfield 438, 3) := dk_180 1 182 (dk_at dksX13_findOdds_6 9 rfl rfl)
theorem dX13_findOdds_151 : decode cX13_findOdds 151 = .ok (.invokevirtual 428, 3) := dk_182 1 172 (dk_at dksX13_findOdds_6 12 rfl rfl)
theorem dX13_findOdds_154 : decode cX13_findOdds 154 = .ok (.pop, 1) := dk_87 (dk_at dksX13_findOdds_6 15 rfl rfl)
theorem dX13_findOdds_155 : decode cX13_findOdds 155 = .ok (.iinc 1 1, 3) := dk_132 1 1 (dk_at dksX13_findOdds_6 16 rfl rfl)
theorem dX13_findOdds_158 : decode cX13_findOdds 158 = .ok (.goto (-126), 3) := dk_167 255 130 (dk_at dksX13_findOdds_6 19 rfl rfl)
theorem dX13_findOdds_161 : decode cX13_findOdds 161 = .ok (.aload_n 0, 1) := dk_42 (dk_at dksX13_findOdds_6 22 rfl rfl)
theorem dX13_findOdds_162 : decode cX13_findOdds 162 = .ok (.getfield 444, 3) := dk_180 1 188 (dk_at dksX13_findOdds_7 0 rfl rfl)
theorem dX13_findOdds_165 : decode cX13_findOdds 165 = .ok (.ifCond .lt 7, 3) := dk_155 0 7 (dk_at dksX13_findOdds_7 3 rfl rfl)
theorem dX13_findOdds_168 : decode cX13_findOdds 168 = .ok (.iconst 1, 1) := dk_4 (dk_at dksX13_findOdds_7 6 rfl rfl)
theorem dX13_findOdds_169 : decode cX13_findOdds 169 = .ok (.goto 4, 3) := dk_167 0 4 (dk_at dksX13_findOdds_7 7 rfl rfl)
theorem dX13_findOdds_172 : decode cX13_findOdds 172 = .ok (.iconst 0, 1) := dk_3 (dk_at dksX13_findOdds_7 10 rfl rfl)
theorem dX13_findOdds_173 : decode cX13_findOdds 173 = .ok (.ireturn, 1) := dk_172 (dk_at dksX13_findOdds_7 11 rfl rfl)
abbrev cX13_findHidden : ByteArray := prog_24_method_86_code
def yX13_findHidden : MethodName := ⟨RX13, "findHidden", "()V"⟩
def dkwX13_findHidden_6 : List UInt8 := [167, 255, 224, 132, 1, 1, 167, 255, 208, 177]
abbrev dktX13_findHidden_6 : List UInt8 := dkwX13_findHidden_6 ++ []
def dkwX13_findHidden_5 : List UInt8 := [28, 46, 42, 180, 0, 161, 27, 46, 164, 0, 12, 42, 180, 0, 161, 28, 27, 184, 1, 155, 132, 2, 1]
abbrev dktX13_findHidden_5 : List UInt8 := dkwX13_findHidden_5 ++ dktX13_findHidden_6
def dkwX13_findHidden_4 : List UInt8 := [167, 255, 169, 3, 60, 27, 42, 180, 1, 182, 162, 0, 46, 3, 61, 28, 27, 162, 0, 33, 42, 180, 0, 161]
abbrev dktX13_findHidden_4 : List UInt8 := dkwX13_findHidden_4 ++ dktX13_findHidden_5
def dkwX13_findHidden_3 : List UInt8 := [16, 8, 112, 79, 42, 89, 180, 1, 182, 4, 96, 181, 1, 182, 132, 2, 1, 167, 255, 182, 132, 1, 1]
abbrev dktX13_findHidden_3 : List UInt8 := dkwX13_findHidden_3 ++ dktX13_findHidden_4
def dkwX13_findHidden_2 : List UInt8 := [42, 180, 0, 158, 42, 180, 1, 182, 29, 79, 42, 180, 0, 161, 42, 180, 1, 182, 42, 180, 0, 115, 29, 46]
abbrev dktX13_findHidden_2 : List UInt8 := dkwX13_findHidden_2 ++ dktX13_findHidden_3
def dkwX13_findHidden_1 : List UInt8 := [162, 0, 68, 16, 20, 16, 48, 27, 104, 96, 28, 96, 62, 42, 180, 0, 115, 29, 46, 16, 8, 161, 0, 41]
abbrev dktX13_findHidden_1 : List UInt8 := dkwX13_findHidden_1 ++ dktX13_findHidden_2
def dkwX13_findHidden_0 : List UInt8 := [42, 3, 181, 1, 182, 3, 60, 27, 5, 162, 0, 88, 3, 61, 28, 42, 180, 0, 115, 3, 27, 96, 46]
abbrev dktX13_findHidden_0 : List UInt8 := dkwX13_findHidden_0 ++ dktX13_findHidden_1
theorem dksX13_findHidden_0 : cX13_findHidden.data.toList.drop 0 = dktX13_findHidden_0 := by decide +kernel
theorem dksX13_findHidden_1 : cX13_findHidden.data.toList.drop 23 = dktX13_findHidden_1 := dk_seg dksX13_findHidden_0 23 rfl rfl
theorem dksX13_findHidden_2 : cX13_findHidden.data.toList.drop 47 = dktX13_findHidden_2 := dk_seg dksX13_findHidden_1 24 rfl rfl
theorem dksX13_findHidden_3 : cX13_findHidden.data.toList.drop 71 = dktX13_findHidden_3 := dk_seg dksX13_findHidden_2 24 rfl rfl
theorem dksX13_findHidden_4 : cX13_findHidden.data.toList.drop 94 = dktX13_findHidden_4 := dk_seg dksX13_findHidden_3 23 rfl rfl
theorem dksX13_findHidden_5 : cX13_findHidden.data.toList.drop 118 = dktX13_findHidden_5 := dk_seg dksX13_findHidden_4 24 rfl rfl
theorem dksX13_findHidden_6 : cX13_findHidden.data.toList.drop 141 = dktX13_findHidden_6 := dk_seg dksX13_findHidden_5 23 rfl rfl
theorem dX13_findHidden_0 : decode cX13_findHidden 0 = .ok (.aload_n 0, 1) := dk_42 (dk_at dksX13_findHidden_0 0 rfl rfl)
theorem dX13_findHidden_1 : decode cX13_findHidden 1 = .ok (.iconst 0, 1) := dk_3 (dk_at dksX13_findHidden_0 1 rfl rfl)
theorem dX13_findHidden_2 : decode cX13_findHidden 2 = .ok (.putfield 438, 3) := dk_181 1 182 (dk_at dksX13_findHidden_0 2 rfl rfl)
theorem dX13_findHidden_5 : decode cX13_findHidden 5 = .ok (.iconst 0, 1) := dk_3 (dk_at dksX13_findHidden_0 5 rfl rfl)
theorem dX13_findHidden_6 : decode cX13_findHidden 6 = .ok (.istore_n 1, 1) := dk_60 (dk_at dksX13_findHidden_0 6 rfl rfl)
theorem dX13_findHidden_7 : decode cX13_findHidden 7 = .ok (.iload_n 1, 1) := dk_27 (dk_at dksX13_findHidden_0 7 rfl rfl)
theorem dX13_findHidden_8 : decode cX13_findHidden 8 = .ok (.iconst 2, 1) := dk_5 (dk_at dksX13_findHidden_0 8 rfl rfl)
theorem dX13_findHidden_9 : decode cX13_findHidden 9 = .ok (.if_icmp .ge 88, 3) := dk_162 0 88 (dk_at dksX13_findHidden_0 9 rfl rfl)
theorem dX13_findHidden_12 : decode cX13_findHidden 12 = .ok (.iconst 0, 1) := dk_3 (dk_at dksX13_findHidden_0 12 rfl rfl)
theorem dX13_findHidden_13 : decode cX13_findHidden 13 = .ok (.istore_n 2, 1) := dk_61 (dk_at dksX13_findHidden_0 13 rfl rfl)
theorem dX13_findHidden_14 : decode cX13_findHidden 14 = .ok (.iload_n 2, 1) := dk_28 (dk_at dksX13_findHidden_0 14 rfl rfl)
theorem dX13_findHidden_15 : decode cX13_findHidden 15 = .ok (.aload_n 0, 1) := dk_42 (dk_at dksX13_findHidden_0 15 rfl rfl)
theorem dX13_findHidden_16 : decode cX13_findHidden 16 = .ok (.getfield 115, 3) := dk_180 0 115 (dk_at dksX13_findHidden_0 16 rfl rfl)
theorem dX13_findHidden_19 : decode cX13_findHidden 19 = .ok (.iconst 0, 1) := dk_3 (dk_at dksX13_findHidden_0 19 rfl rfl)
theorem dX13_findHidden_20 : decode cX13_findHidden 20 = .ok (.iload_n 1, 1) := dk_27 (dk_at dksX13_findHidden_0 20 rfl rfl)
theorem dX13_findHidden_21 : decode cX13_findHidden 21 = .ok (.iadd, 1) := dk_96 (dk_at dksX13_findHidden_0 21 rfl rfl)
theorem dX13_findHidden_22 : decode cX13_findHidden 22 = .ok (.iaload, 1) := dk_46 (dk_at dksX13_findHidden_0 22 rfl rfl)
theorem dX13_findHidden_23 : decode cX13_findHidden 23 = .ok (.if_icmp .ge 68, 3) := dk_162 0 68 (dk_at dksX13_findHidden_1 0 rfl rfl)
theorem dX13_findHidden_26 : decode cX13_findHidden 26 = .ok (.bipush 20, 2) := dk_16 20 (dk_at dksX13_findHidden_1 3 rfl rfl)
theorem dX13_findHidden_28 : decode cX13_findHidden 28 = .ok (.bipush 48, 2) := dk_16 48 (dk_at dksX13_findHidden_1 5 rfl rfl)
theorem dX13_findHidden_30 : decode cX13_findHidden 30 = .ok (.iload_n 1, 1) := dk_27 (dk_at dksX13_findHidden_1 7 rfl rfl)
theorem dX13_findHidden_31 : decode cX13_findHidden 31 = .ok (.imul, 1) := dk_104 (dk_at dksX13_findHidden_1 8 rfl rfl)
theorem dX13_findHidden_32 : decode cX13_findHidden 32 = .ok (.iadd, 1) := dk_96 (dk_at dksX13_findHidden_1 9 rfl rfl)
theorem dX13_findHidden_33 : decode cX13_findHidden 33 = .ok (.iload_n 2, 1) := dk_28 (dk_at dksX13_findHidden_1 10 rfl rfl)
theorem dX13_findHidden_34 : decode cX13_findHidden 34 = .ok (.iadd, 1) := dk_96 (dk_at dksX13_findHidden_1 11 rfl rfl)
theorem dX13_findHidden_35 : decode cX13_findHidden 35 = .ok (.istore_n 3, 1) := dk_62 (dk_at dksX13_findHidden_1 12 rfl rfl)
theorem dX13_findHidden_36 : decode cX13_findHidden 36 = .ok (.aload_n 0, 1) := dk_42 (dk_at dksX13_findHidden_1 13 rfl rfl)
theorem dX13_findHidden_37 : decode cX13_findHidden 37 = .ok (.getfield 115, 3) := dk_180 0 115 (dk_at dksX13_findHidden_1 14 rfl rfl)
theorem dX13_findHidden_40 : decode cX13_findHidden 40 = .ok (.iload_n 3, 1) := dk_29 (dk_at dksX13_findHidden_1 17 rfl rfl)
theorem dX13_findHidden_41 : decode cX13_findHidden 41 = .ok (.iaload, 1) := dk_46 (dk_at dksX13_findHidden_1 18 rfl rfl)
theorem dX13_findHidden_42 : decode cX13_findHidden 42 = .ok (.bipush 8, 2) := dk_16 8 (dk_at dksX13_findHidden_1 19 rfl rfl)
theorem dX13_findHidden_44 : decode cX13_findHidden 44 = .ok (.if_icmp .lt 41, 3) := dk_161 0 41 (dk_at dksX13_findHidden_1 21 rfl rfl)
theorem dX13_findHidden_47 : decode cX13_findHidden 47 = .ok (.aload_n 0, 1) := dk_42 (dk_at dksX13_findHidden_2 0 rfl rfl)
theorem dX13_findHidden_48 : decode cX13_findHidden 48 = .ok (.getfield 158, 3) := dk_180 0 158 (dk_at dksX13_findHidden_2 1 rfl rfl)
theorem dX13_findHidden_51 : decode cX13_findHidden 51 = .ok (.aload_n 0, 1) := dk_42 (dk_at dksX13_findHidden_2 4 rfl rfl)
theorem dX13_findHidden_52 : decode cX13_findHidden 52 = .ok (.getfield 438, 3) := dk_180 1 182 (dk_at dksX13_findHidden_2 5 rfl rfl)
theorem dX13_findHidden_55 : decode cX13_findHidden 55 = .ok (.iload_n 3, 1) := dk_29 (dk_at dksX13_findHidden_2 8 rfl rfl)
theorem dX13_findHidden_56 : decode cX13_findHidden 56 = .ok (.iastore, 1) := dk_79 (dk_at dksX13_findHidden_2 9 rfl rfl)
theorem dX13_findHidden_57 : decode cX13_findHidden 57 = .ok (.aload_n 0, 1) := dk_42 (dk_at dksX13_findHidden_2 10 rfl rfl)
theorem dX13_findHidden_58 : decode cX13_findHidden 58 = .ok (.getfield 161, 3) := dk_180 0 161 (dk_at dksX13_findHidden_2 11 rfl rfl)
theorem dX13_findHidden_61 : decode cX13_findHidden 61 = .ok (.aload_n 0, 1) := dk_42 (dk_at dksX13_findHidden_2 14 rfl rfl)
theorem dX13_findHidden_62 : decode cX13_findHidden 62 = .ok (.getfield 438, 3) := dk_180 1 182 (dk_at dksX13_findHidden_2 15 rfl rfl)
theorem dX13_findHidden_65 : decode cX13_findHidden 65 = .ok (.aload_n 0, 1) := dk_42 (dk_at dksX13_findHidden_2 18 rfl rfl)
theorem dX13_findHidden_66 : decode cX13_findHidden 66 = .ok (.getfield 115, 3) := dk_180 0 115 (dk_at dksX13_findHidden_2 19 rfl rfl)
theorem dX13_findHidden_69 : decode cX13_findHidden 69 = .ok (.iload_n 3, 1) := dk_29 (dk_at dksX13_findHidden_2 22 rfl rfl)
theorem dX13_findHidden_70 : decode cX13_findHidden 70 = .ok (.iaload, 1) := dk_46 (dk_at dksX13_findHidden_2 23 rfl rfl)
theorem dX13_findHidden_71 : decode cX13_findHidden 71 = .ok (.bipush 8, 2) := dk_16 8 (dk_at dksX13_findHidden_3 0 rfl rfl)
theorem dX13_findHidden_73 : decode cX13_findHidden 73 = .ok (.irem, 1) := dk_112 (dk_at dksX13_findHidden_3 2 rfl rfl)
theorem dX13_findHidden_74 : decode cX13_findHidden 74 = .ok (.iastore, 1) := dk_79 (dk_at dksX13_findHidden_3 3 rfl rfl)
theorem dX13_findHidden_75 : decode cX13_findHidden 75 = .ok (.aload_n 0, 1) := dk_42 (dk_at dksX13_findHidden_3 4 rfl rfl)
theorem dX13_findHidden_76 : decode cX13_findHidden 76 = .ok (.dup, 1) := dk_89 (dk_at dksX13_findHidden_3 5 rfl rfl)
theorem dX13_findHidden_77 : decode cX13_findHidden 77 = .ok (.getfield 438, 3) := dk_180 1 182 (dk_at dksX13_findHidden_3 6 rfl rfl)
theorem dX13_findHidden_80 : decode cX13_findHidden 80 = .ok (.iconst 1, 1) := dk_4 (dk_at dksX13_findHidden_3 9 rfl rfl)
theorem dX13_findHidden_81 : decode cX13_findHidden 81 = .ok (.iadd, 1) := dk_96 (dk_at dksX13_findHidden_3 10 rfl rfl)
theorem dX13_findHidden_82 : decode cX13_findHidden 82 = .ok (.putfield 438, 3) := dk_181 1 182 (dk_at dksX13_findHidden_3 11 rfl rfl)
theorem dX13_findHidden_85 : decode cX13_findHidden 85 = .ok (.iinc 2 1, 3) := dk_132 2 1 (dk_at dksX13_findHidden_3 14 rfl rfl)
theorem dX13_findHidden_88 : decode cX13_findHidden 88 = .ok (.goto (-74), 3) := dk_167 255 182 (dk_at dksX13_findHidden_3 17 rfl rfl)
theorem dX13_findHidden_91 : decode cX13_findHidden 91 = .ok (.iinc 1 1, 3) := dk_132 1 1 (dk_at dksX13_findHidden_3 20 rfl rfl)
theorem dX13_findHidden_94 : decode cX13_findHidden 94 = .ok (.goto (-87), 3) := dk_167 255 169 (dk_at dksX13_findHidden_4 0 rfl rfl)
theorem dX13_findHidden_97 : decode cX13_findHidden 97 = .ok (.iconst 0, 1) := dk_3 (dk_at dksX13_findHidden_4 3 rfl rfl)
theorem dX13_findHidden_98 : decode cX13_findHidden 98 = .ok (.istore_n 1, 1) := dk_60 (dk_at dksX13_findHidden_4 4 rfl rfl)
theorem dX13_findHidden_99 : decode cX13_findHidden 99 = .ok (.iload_n 1, 1) := dk_27 (dk_at dksX13_findHidden_4 5 rfl rfl)
theorem dX13_findHidden_100 : decode cX13_findHidden 100 = .ok (.aload_n 0, 1) := dk_42 (dk_at dksX13_findHidden_4 6 rfl rfl)
theorem dX13_findHidden_101 : decode cX13_findHidden 101 = .ok (.getfield 438, 3) := dk_180 1 182 (dk_at dksX13_findHidden_4 7 rfl rfl)
theorem dX13_findHidden_104 : decode cX13_findHidden 104 = .ok (.if_icmp .ge 46, 3) := dk_162 0 46 (dk_at dksX13_findHidden_4 10 rfl rfl)
theorem dX13_findHidden_107 : decode cX13_findHidden 107 = .ok (.iconst 0, 1) := dk_3 (dk_at dksX13_findHidden_4 13 rfl rfl)
theorem dX13_findHidden_108 : decode cX13_findHidden 108 = .ok (.istore_n 2, 1) := dk_61 (dk_at dksX13_findHidden_4 14 rfl rfl)
theorem dX13_findHidden_109 : decode cX13_findHidden 109 = .ok (.iload_n 2, 1) := dk_28 (dk_at dksX13_findHidden_4 15 rfl rfl)
theorem dX13_findHidden_110 : decode cX13_findHidden 110 = .ok (.iload_n 1, 1) := dk_27 (dk_at dksX13_findHidden_4 16 rfl rfl)
theorem dX13_findHidden_111 : decode cX13_findHidden 111 = .ok (.if_icmp .ge 33, 3) := dk_162 0 33 (dk_at dksX13_findHidden_4 17 rfl rfl)
theorem dX13_findHidden_114 : decode cX13_findHidden 114 = .ok (.aload_n 0, 1) := dk_42 (dk_at dksX13_findHidden_4 20 rfl rfl)
theorem dX13_findHidden_115 : decode cX13_findHidden 115 = .ok (.getfield 161, 3) := dk_180 0 161 (dk_at dksX13_findHidden_4 21 rfl rfl)
theorem dX13_findHidden_118 : decode cX13_findHidden 118 = .ok (.iload_n 2, 1) := dk_28 (dk_at dksX13_findHidden_5 0 rfl rfl)
theorem dX13_findHidden_119 : decode cX13_findHidden 119 = .ok (.iaload, 1) := dk_46 (dk_at dksX13_findHidden_5 1 rfl rfl)
theorem dX13_findHidden_120 : decode cX13_findHidden 120 = .ok (.aload_n 0, 1) := dk_42 (dk_at dksX13_findHidden_5 2 rfl rfl)
theorem dX13_findHidden_121 : decode cX13_findHidden 121 = .ok (.getfield 161, 3) := dk_180 0 161 (dk_at dksX13_findHidden_5 3 rfl rfl)
theorem dX13_findHidden_124 : decode cX13_findHidden 124 = .ok (.iload_n 1, 1) := dk_27 (dk_at dksX13_findHidden_5 6 rfl rfl)
theorem dX13_findHidden_125 : decode cX13_findHidden 125 = .ok (.iaload, 1) := dk_46 (dk_at dksX13_findHidden_5 7 rfl rfl)
theorem dX13_findHidden_126 : decode cX13_findHidden 126 = .ok (.if_icmp .le 12, 3) := dk_164 0 12 (dk_at dksX13_findHidden_5 8 rfl rfl)
theorem dX13_findHidden_129 : decode cX13_findHidden 129 = .ok (.aload_n 0, 1) := dk_42 (dk_at dksX13_findHidden_5 11 rfl rfl)
theorem dX13_findHidden_130 : decode cX13_findHidden 130 = .ok (.getfield 161, 3) := dk_180 0 161 (dk_at dksX13_findHidden_5 12 rfl rfl)
theorem dX13_findHidden_133 : decode cX13_findHidden 133 = .ok (.iload_n 2, 1) := dk_28 (dk_at dksX13_findHidden_5 15 rfl rfl)
theorem dX13_findHidden_134 : decode cX13_findHidden 134 = .ok (.iload_n 1, 1) := dk_27 (dk_at dksX13_findHidden_5 16 rfl rfl)
theorem dX13_findHidden_135 : decode cX13_findHidden 135 = .ok (.invokestatic 411, 3) := dk_184 1 155 (dk_at dksX13_findHidden_5 17 rfl rfl)
theorem dX13_findHidden_138 : decode cX13_findHidden 138 = .ok (.iinc 2 1, 3) := dk_132 2 1 (dk_at dksX13_findHidden_5 20 rfl rfl)
theorem dX13_findHidden_141 : decode cX13_findHidden 141 = .ok (.goto (-32), 3) := dk_167 255 224 (dk_at dksX13_findHidden_6 0 rfl rfl)
theorem dX13_findHidden_144 : decode cX13_findHidden 144 = .ok (.iinc 1 1, 3) := dk_132 1 1 (dk_at dksX13_findHidden_6 3 rfl rfl)
theorem dX13_findHidden_147 : decode cX13_findHidden 147 = .ok (.goto (-48), 3) := dk_167 255 208 (dk_at dksX13_findHidden_6 6 rfl rfl)
theorem dX13_findHidden_150 : decode cX13_findHidden 150 = .ok (.return_, 1) := dk_177 (dk_at dksX13_findHidden_6 9 rfl rfl)
abbrev cX13_offer : ByteArray := prog_24_method_91_code
def yX13_offer : MethodName := ⟨RX13, "offer", "()I"⟩
def dkwX13_offer_0 : List UInt8 := [42, 3, 181, 0, 1, 42, 182, 1, 203, 172]
abbrev dktX13_offer_0 : List UInt8 := dkwX13_offer_0 ++ []
theorem dksX13_offer_0 : cX13_offer.data.toList.drop 0 = dktX13_offer_0 := by decide +kernel
theorem dX13_offer_0 : decode cX13_offer 0 = .ok (.aload_n 0, 1) := dk_42 (dk_at dksX13_offer_0 0 rfl rfl)
theorem dX13_offer_1 : decode cX13_offer 1 = .ok (.iconst 0, 1) := dk_3 (dk_at dksX13_offer_0 1 rfl rfl)
theorem dX13_offer_2 : decode cX13_offer 2 = .ok (.putfield 1, 3) := dk_181 0 1 (dk_at dksX13_offer_0 2 rfl rfl)
theorem dX13_offer_5 : decode cX13_offer 5 = .ok (.aload_n 0, 1) := dk_42 (dk_at dksX13_offer_0 5 rfl rfl)
theorem dX13_offer_6 : decode cX13_offer 6 = .ok (.invokevirtual 459, 3) := dk_182 1 203 (dk_at dksX13_offer_0 6 rfl rfl)
theorem dX13_offer_9 : decode cX13_offer 9 = .ok (.ireturn, 1) := dk_172 (dk_at dksX13_offer_0 9 rfl rfl)
abbrev cX13_offerNow : ByteArray := prog_24_method_90_code
def yX13_offerNow : MethodName := ⟨RX13, "offerNow", "()I"⟩
def dkwX13_offerNow_4 : List UInt8 := [16, 99, 164, 0, 8, 16, 99, 167, 0, 4, 27, 172]
abbrev dktX13_offerNow_4 : List UInt8 := dkwX13_offerNow_4 ++ []
def dkwX13_offerNow_3 : List UInt8 := [16, 6, 46, 79, 42, 42, 180, 0, 85, 7, 46, 182, 1, 200, 60, 27, 156, 0, 7, 3, 167, 0, 15, 27]
abbrev dktX13_offerNow_3 : List UInt8 := dkwX13_offerNow_3 ++ dktX13_offerNow_4
def dkwX13_offerNow_2 : List UInt8 := [100, 79, 42, 180, 0, 109, 5, 42, 180, 0, 115, 16, 7, 46, 79, 42, 180, 0, 109, 6, 42, 180, 0, 115]
abbrev dktX13_offerNow_2 : List UInt8 := dkwX13_offerNow_2 ++ dktX13_offerNow_3
def dkwX13_offerNow_1 : List UInt8 := [180, 0, 115, 4, 46, 100, 79, 42, 180, 0, 109, 4, 42, 3, 3, 182, 1, 179, 42, 3, 4, 182, 1, 179]
abbrev dktX13_offerNow_1 : List UInt8 := dkwX13_offerNow_1 ++ dktX13_offerNow_2
def dkwX13_offerNow_0 : List UInt8 := [42, 180, 0, 85, 7, 46, 156, 0, 6, 16, 10, 172, 42, 180, 0, 109, 3, 42, 180, 0, 115, 3, 46, 42]
abbrev dktX13_offerNow_0 : List UInt8 := dkwX13_offerNow_0 ++ dktX13_offerNow_1
theorem dksX13_offerNow_0 : cX13_offerNow.data.toList.drop 0 = dktX13_offerNow_0 := by decide +kernel
theorem dksX13_offerNow_1 : cX13_offerNow.data.toList.drop 24 = dktX13_offerNow_1 := dk_seg dksX13_offerNow_0 24 rfl rfl
theorem dksX13_offerNow_2 : cX13_offerNow.data.toList.drop 48 = dktX13_offerNow_2 := dk_seg dksX13_offerNow_1 24 rfl rfl
theorem dksX13_offerNow_3 : cX13_offerNow.data.toList.drop 72 = dktX13_offerNow_3 := dk_seg dksX13_offerNow_2 24 rfl rfl
theorem dksX13_offerNow_4 : cX13_offerNow.data.toList.drop 96 = dktX13_offerNow_4 := dk_seg dksX13_offerNow_3 24 rfl rfl
theorem dX13_offerNow_0 : decode cX13_offerNow 0 = .ok (.aload_n 0, 1) := dk_42 (dk_at dksX13_offerNow_0 0 rfl rfl)
theorem dX13_offerNow_1 : decode cX13_offerNow 1 = .ok (.getfield 85, 3) := dk_180 0 85 (dk_at dksX13_offerNow_0 1 rfl rfl)
theorem dX13_offerNow_4 : decode cX13_offerNow 4 = .ok (.iconst 4, 1) := dk_7 (dk_at dksX13_offerNow_0 4 rfl rfl)
theorem dX13_offerNow_5 : decode cX13_offerNow 5 = .ok (.iaload, 1) := dk_46 (dk_at dksX13_offerNow_0 5 rfl rfl)
theorem dX13_offerNow_6 : decode cX13_offerNow 6 = .ok (.ifCond .ge 6, 3) := dk_156 0 6 (dk_at dksX13_offerNow_0 6 rfl rfl)
theorem dX13_offerNow_9 : decode cX13_offerNow 9 = .ok (.bipush 10, 2) := dk_16 10 (dk_at dksX13_offerNow_0 9 rfl rfl)
theorem dX13_offerNow_11 : decode cX13_offerNow 11 = .ok (.ireturn, 1) := dk_172 (dk_at dksX13_offerNow_0 11 rfl rfl)
theorem dX13_offerNow_12 : decode cX13_offerNow 12 = .ok (.aload_n 0, 1) := dk_42 (dk_at dksX13_offerNow_0 12 rfl rfl)
theorem dX13_offerNow_13 : decode cX13_offerNow 13 = .ok (.getfield 109, 3) := dk_180 0 109 (dk_at dksX13_offerNow_0 13 rfl rfl)
theorem dX13_offerNow_16 : decode cX13_offerNow 16 = .ok (.iconst 0, 1) := dk_3 (dk_at dksX13_offerNow_0 16 rfl rfl)
theorem dX13_offerNow_17 : decode cX13_offerNow 17 = .ok (.aload_n 0, 1) := dk_42 (dk_at dksX13_offerNow_0 17 rfl rfl)
theorem dX13_offerNow_18 : decode cX13_offerNow 18 = .ok (.getfield 115, 3) := dk_180 0 115 (dk_at dksX13_offerNow_0 18 rfl rfl)
theorem dX13_offerNow_21 : decode cX13_offerNow 21 = .ok (.iconst 0, 1) := dk_3 (dk_at dksX13_offerNow_0 21 rfl rfl)
theorem dX13_offerNow_22 : decode cX13_offerNow 22 = .ok (.iaload, 1) := dk_46 (dk_at dksX13_offerNow_0 22 rfl rfl)
theorem dX13_offerNow_23 : decode cX13_offerNow 23 = .ok (.aload_n 0, 1) := dk_42 (dk_at dksX13_offerNow_0 23 rfl rfl)
theorem dX13_offerNow_24 : decode cX13_offerNow 24 = .ok (.getfield 115, 3) := dk_180 0 115 (dk_at dksX13_offerNow_1 0 rfl rfl)
theorem dX13_offerNow_27 : decode cX13_offerNow 27 = .ok (.iconst 1, 1) := dk_4 (dk_at dksX13_offerNow_1 3 rfl rfl)
theorem dX13_offerNow_28 : decode cX13_offerNow 28 = .ok (.iaload, 1) := dk_46 (dk_at dksX13_offerNow_1 4 rfl rfl)
theorem dX13_offerNow_29 : decode cX13_offerNow 29 = .ok (.isub, 1) := dk_100 (dk_at dksX13_offerNow_1 5 rfl rfl)
theorem dX13_offerNow_30 : decode cX13_offerNow 30 = .ok (.iastore, 1) := dk_79 (dk_at dksX13_offerNow_1 6 rfl rfl)
theorem dX13_offerNow_31 : decode cX13_offerNow 31 = .ok (.aload_n 0, 1) := dk_42 (dk_at dksX13_offerNow_1 7 rfl rfl)
theorem dX13_offerNow_32 : decode cX13_offerNow 32 = .ok (.getfield 109, 3) := dk_180 0 109 (dk_at dksX13_offerNow_1 8 rfl rfl)
theorem dX13_offerNow_35 : decode cX13_offerNow 35 = .ok (.iconst 1, 1) := dk_4 (dk_at dksX13_offerNow_1 11 rfl rfl)
theorem dX13_offerNow_36 : decode cX13_offerNow 36 = .ok (.aload_n 0, 1) := dk_42 (dk_at dksX13_offerNow_1 12 rfl rfl)
theorem dX13_offerNow_37 : decode cX13_offerNow 37 = .ok (.iconst 0, 1) := dk_3 (dk_at dksX13_offerNow_1 13 rfl rfl)
theorem dX13_offerNow_38 : decode cX13_offerNow 38 = .ok (.iconst 0, 1) := dk_3 (dk_at dksX13_offerNow_1 14 rfl rfl)
theorem dX13_offerNow_39 : decode cX13_offerNow 39 = .ok (.invokevirtual 435, 3) := dk_182 1 179 (dk_at dksX13_offerNow_1 15 rfl rfl)
theorem dX13_offerNow_42 : decode cX13_offerNow 42 = .ok (.aload_n 0, 1) := dk_42 (dk_at dksX13_offerNow_1 18 rfl rfl)
theorem dX13_offerNow_43 : decode cX13_offerNow 43 = .ok (.iconst 0, 1) := dk_3 (dk_at dksX13_offerNow_1 19 rfl rfl)
theorem dX13_offerNow_44 : decode cX13_offerNow 44 = .ok (.iconst 1, 1) := dk_4 (dk_at dksX13_offerNow_1 20 rfl rfl)
theorem dX13_offerNow_45 : decode cX13_offerNow 45 = .ok (.invokevirtual 435, 3) := dk_182 1 179 (dk_at dksX13_offerNow_1 21 rfl rfl)
theorem dX13_offerNow_48 : decode cX13_offerNow 48 = .ok (.isub, 1) := dk_100 (dk_at dksX13_offerNow_2 0 rfl rfl)
theorem dX13_offerNow_49 : decode cX13_offerNow 49 = .ok (.iastore, 1) := dk_79 (dk_at dksX13_offerNow_2 1 rfl rfl)
theorem dX13_offerNow_50 : decode cX13_offerNow 50 = .ok (.aload_n 0, 1) := dk_42 (dk_at dksX13_offerNow_2 2 rfl rfl)
theorem dX13_offerNow_51 : decode cX13_offerNow 51 = .ok (.getfield 109, 3) := dk_180 0 109 (dk_at dksX13_offerNow_2 3 rfl rfl)
theorem dX13_offerNow_54 : decode cX13_offerNow 54 = .ok (.iconst 2, 1) := dk_5 (dk_at dksX13_offerNow_2 6 rfl rfl)
theorem dX13_offerNow_55 : decode cX13_offerNow 55 = .ok (.aload_n 0, 1) := dk_42 (dk_at dksX13_offerNow_2 7 rfl rfl)
theorem dX13_offerNow_56 : decode cX13_offerNow 56 = .ok (.getfield 115, 3) := dk_180 0 115 (dk_at dksX13_offerNow_2 8 rfl rfl)
theorem dX13_offerNow_59 : decode cX13_offerNow 59 = .ok (.bipush 7, 2) := dk_16 7 (dk_at dksX13_offerNow_2 11 rfl rfl)
theorem dX13_offerNow_61 : decode cX13_offerNow 61 = .ok (.iaload, 1) := dk_46 (dk_at dksX13_offerNow_2 13 rfl rfl)
theorem dX13_offerNow_62 : decode cX13_offerNow 62 = .ok (.iastore, 1) := dk_79 (dk_at dksX13_offerNow_2 14 rfl rfl)
theorem dX13_offerNow_63 : decode cX13_offerNow 63 = .ok (.aload_n 0, 1) := dk_42 (dk_at dksX13_offerNow_2 15 rfl rfl)
theorem dX13_offerNow_64 : decode cX13_offerNow 64 = .ok (.getfield 109, 3) := dk_180 0 109 (dk_at dksX13_offerNow_2 16 rfl rfl)
theorem dX13_offerNow_67 : decode cX13_offerNow 67 = .ok (.iconst 3, 1) := dk_6 (dk_at dksX13_offerNow_2 19 rfl rfl)
theorem dX13_offerNow_68 : decode cX13_offerNow 68 = .ok (.aload_n 0, 1) := dk_42 (dk_at dksX13_offerNow_2 20 rfl rfl)
theorem dX13_offerNow_69 : decode cX13_offerNow 69 = .ok (.getfield 115, 3) := dk_180 0 115 (dk_at dksX13_offerNow_2 21 rfl rfl)
theorem dX13_offerNow_72 : decode cX13_offerNow 72 = .ok (.bipush 6, 2) := dk_16 6 (dk_at dksX13_offerNow_3 0 rfl rfl)
theorem dX13_offerNow_74 : decode cX13_offerNow 74 = .ok (.iaload, 1) := dk_46 (dk_at dksX13_offerNow_3 2 rfl rfl)
theorem dX13_offerNow_75 : decode cX13_offerNow 75 = .ok (.iastore, 1) := dk_79 (dk_at dksX13_offerNow_3 3 rfl rfl)
theorem dX13_offerNow_76 : decode cX13_offerNow 76 = .ok (.aload_n 0, 1) := dk_42 (dk_at dksX13_offerNow_3 4 rfl rfl)
theorem dX13_offerNow_77 : decode cX13_offerNow 77 = .ok (.aload_n 0, 1) := dk_42 (dk_at dksX13_offerNow_3 5 rfl rfl)
theorem dX13_offerNow_78 : decode cX13_offerNow 78 = .ok (.getfield 85, 3) := dk_180 0 85 (dk_at dksX13_offerNow_3 6 rfl rfl)
theorem dX13_offerNow_81 : decode cX13_offerNow 81 = .ok (.iconst 4, 1) := dk_7 (dk_at dksX13_offerNow_3 9 rfl rfl)
theorem dX13_offerNow_82 : decode cX13_offerNow 82 = .ok (.iaload, 1) := dk_46 (dk_at dksX13_offerNow_3 10 rfl rfl)
theorem dX13_offerNow_83 : decode cX13_offerNow 83 = .ok (.invokevirtual 456, 3) := dk_182 1 200 (dk_at dksX13_offerNow_3 11 rfl rfl)
theorem dX13_offerNow_86 : decode cX13_offerNow 86 = .ok (.istore_n 1, 1) := dk_60 (dk_at dksX13_offerNow_3 14 rfl rfl)
theorem dX13_offerNow_87 : decode cX13_offerNow 87 = .ok (.iload_n 1, 1) := dk_27 (dk_at dksX13_offerNow_3 15 rfl rfl)
theorem dX13_offerNow_88 : decode cX13_offerNow 88 = .ok (.ifCond .ge 7, 3) := dk_156 0 7 (dk_at dksX13_offerNow_3 16 rfl rfl)
theorem dX13_offerNow_91 : decode cX13_offerNow 91 = .ok (.iconst 0, 1) := dk_3 (dk_at dksX13_offerNow_3 19 rfl rfl)
theorem dX13_offerNow_92 : decode cX13_offerNow 92 = .ok (.goto 15, 3) := dk_167 0 15 (dk_at dksX13_offerNow_3 20 rfl rfl)
theorem dX13_offerNow_95 : decode cX13_offerNow 95 = .ok (.iload_n 1, 1) := dk_27 (dk_at dksX13_offerNow_3 23 rfl rfl)
theorem dX13_offerNow_96 : decode cX13_offerNow 96 = .ok (.bipush 99, 2) := dk_16 99 (dk_at dksX13_offerNow_4 0 rfl rfl)
theorem dX13_offerNow_98 : decode cX13_offerNow 98 = .ok (.if_icmp .le 8, 3) := dk_164 0 8 (dk_at dksX13_offerNow_4 2 rfl rfl)
theorem dX13_offerNow_101 : decode cX13_offerNow 101 = .ok (.bipush 99, 2) := dk_16 99 (dk_at dksX13_offerNow_4 5 rfl rfl)
theorem dX13_offerNow_103 : decode cX13_offerNow 103 = .ok (.goto 4, 3) := dk_167 0 4 (dk_at dksX13_offerNow_4 7 rfl rfl)
theorem dX13_offerNow_106 : decode cX13_offerNow 106 = .ok (.iload_n 1, 1) := dk_27 (dk_at dksX13_offerNow_4 10 rfl rfl)
theorem dX13_offerNow_107 : decode cX13_offerNow 107 = .ok (.ireturn, 1) := dk_172 (dk_at dksX13_offerNow_4 11 rfl rfl)
abbrev cX13_worthAt : ByteArray := prog_24_method_41_code
def yX13_worthAt : MethodName := ⟨RX13, "worthAt", "(I)I"⟩
def dkwX13_worthAt_6 : List UInt8 := [180, 0, 112, 3, 46, 172]
abbrev dktX13_worthAt_6 : List UInt8 := dkwX13_worthAt_6 ++ []
def dkwX13_worthAt_5 : List UInt8 := [180, 0, 112, 28, 4, 100, 46, 42, 180, 0, 112, 28, 46, 184, 1, 48, 79, 132, 3, 1, 167, 255, 123, 42]
abbrev dktX13_worthAt_5 : List UInt8 := dkwX13_worthAt_5 ++ dktX13_worthAt_6
def dkwX13_worthAt_4 : List UInt8 := [4, 167, 0, 4, 3, 79, 167, 0, 33, 132, 2, 255, 42, 180, 0, 112, 28, 4, 100, 21, 4, 42]
abbrev dktX13_worthAt_4 : List UInt8 := dkwX13_worthAt_4 ++ dktX13_worthAt_5
def dkwX13_worthAt_3 : List UInt8 := [21, 4, 6, 160, 0, 30, 42, 180, 0, 112, 28, 4, 100, 42, 180, 0, 112, 28, 4, 100, 46, 154, 0, 7]
abbrev dktX13_worthAt_3 : List UInt8 := dkwX13_worthAt_3 ++ dktX13_worthAt_4
def dkwX13_worthAt_2 : List UInt8 := [29, 46, 167, 0, 14, 42, 180, 0, 109, 42, 180, 0, 91, 29, 46, 46, 79, 132, 2, 1, 167, 0, 66]
abbrev dktX13_worthAt_2 : List UInt8 := dkwX13_worthAt_2 ++ dktX13_worthAt_3
def dkwX13_worthAt_1 : List UInt8 := [159, 0, 9, 21, 4, 5, 160, 0, 41, 42, 180, 0, 112, 28, 21, 4, 4, 160, 0, 12, 42, 180, 0, 91]
abbrev dktX13_worthAt_1 : List UInt8 := dkwX13_worthAt_1 ++ dktX13_worthAt_2
def dkwX13_worthAt_0 : List UInt8 := [3, 61, 27, 62, 42, 180, 0, 88, 29, 46, 153, 0, 130, 42, 180, 0, 88, 29, 46, 54, 4, 21, 4, 4]
abbrev dktX13_worthAt_0 : List UInt8 := dkwX13_worthAt_0 ++ dktX13_worthAt_1
theorem dksX13_worthAt_0 : cX13_worthAt.data.toList.drop 0 = dktX13_worthAt_0 := by decide +kernel
theorem dksX13_worthAt_1 : cX13_worthAt.data.toList.drop 24 = dktX13_worthAt_1 := dk_seg dksX13_worthAt_0 24 rfl rfl
theorem dksX13_worthAt_2 : cX13_worthAt.data.toList.drop 48 = dktX13_worthAt_2 := dk_seg dksX13_worthAt_1 24 rfl rfl
theorem dksX13_worthAt_3 : cX13_worthAt.data.toList.drop 71 = dktX13_worthAt_3 := dk_seg dksX13_worthAt_2 23 rfl rfl
theorem dksX13_worthAt_4 : cX13_worthAt.data.toList.drop 95 = dktX13_worthAt_4 := dk_seg dksX13_worthAt_3 24 rfl rfl
theorem dksX13_worthAt_5 : cX13_worthAt.data.toList.drop 117 = dktX13_worthAt_5 := dk_seg dksX13_worthAt_4 22 rfl rfl
theorem dksX13_worthAt_6 : cX13_worthAt.data.toList.drop 141 = dktX13_worthAt_6 := dk_seg dksX13_worthAt_5 24 rfl rfl
theorem dX13_worthAt_0 : decode cX13_worthAt 0 = .ok (.iconst 0, 1) := dk_3 (dk_at dksX13_worthAt_0 0 rfl rfl)
theorem dX13_worthAt_1 : decode cX13_worthAt 1 = .ok (.istore_n 2, 1) := dk_61 (dk_at dksX13_worthAt_0 1 rfl rfl)
theorem dX13_worthAt_2 : decode cX13_worthAt 2 = .ok (.iload_n 1, 1) := dk_27 (dk_at dksX13_worthAt_0 2 rfl rfl)
theorem dX13_worthAt_3 : decode cX13_worthAt 3 = .ok (.istore_n 3, 1) := dk_62 (dk_at dksX13_worthAt_0 3 rfl rfl)
theorem dX13_worthAt_4 : decode cX13_worthAt 4 = .ok (.aload_n 0, 1) := dk_42 (dk_at dksX13_worthAt_0 4 rfl rfl)
theorem dX13_worthAt_5 : decode cX13_worthAt 5 = .ok (.getfield 88, 3) := dk_180 0 88 (dk_at dksX13_worthAt_0 5 rfl rfl)
theorem dX13_worthAt_8 : decode cX13_worthAt 8 = .ok (.iload_n 3, 1) := dk_29 (dk_at dksX13_worthAt_0 8 rfl rfl)
theorem dX13_worthAt_9 : decode cX13_worthAt 9 = .ok (.iaload, 1) := dk_46 (dk_at dksX13_worthAt_0 9 rfl rfl)
theorem dX13_worthAt_10 : decode cX13_worthAt 10 = .ok (.ifCond .eq 130, 3) := dk_153 0 130 (dk_at dksX13_worthAt_0 10 rfl rfl)
theorem dX13_worthAt_13 : decode cX13_worthAt 13 = .ok (.aload_n 0, 1) := dk_42 (dk_at dksX13_worthAt_0 13 rfl rfl)
theorem dX13_worthAt_14 : decode cX13_worthAt 14 = .ok (.getfield 88, 3) := dk_180 0 88 (dk_at dksX13_worthAt_0 14 rfl rfl)
theorem dX13_worthAt_17 : decode cX13_worthAt 17 = .ok (.iload_n 3, 1) := dk_29 (dk_at dksX13_worthAt_0 17 rfl rfl)
theorem dX13_worthAt_18 : decode cX13_worthAt 18 = .ok (.iaload, 1) := dk_46 (dk_at dksX13_worthAt_0 18 rfl rfl)
theorem dX13_worthAt_19 : decode cX13_worthAt 19 = .ok (.istore 4, 2) := dk_54 4 (dk_at dksX13_worthAt_0 19 rfl rfl)
theorem dX13_worthAt_21 : decode cX13_worthAt 21 = .ok (.iload 4, 2) := dk_21 4 (dk_at dksX13_worthAt_0 21 rfl rfl)
theorem dX13_worthAt_23 : decode cX13_worthAt 23 = .ok (.iconst 1, 1) := dk_4 (dk_at dksX13_worthAt_0 23 rfl rfl)
theorem dX13_worthAt_24 : decode cX13_worthAt 24 = .ok (.if_icmp .eq 9, 3) := dk_159 0 9 (dk_at dksX13_worthAt_1 0 rfl rfl)
theorem dX13_worthAt_27 : decode cX13_worthAt 27 = .ok (.iload 4, 2) := dk_21 4 (dk_at dksX13_worthAt_1 3 rfl rfl)
theorem dX13_worthAt_29 : decode cX13_worthAt 29 = .ok (.iconst 2, 1) := dk_5 (dk_at dksX13_worthAt_1 5 rfl rfl)
theorem dX13_worthAt_30 : decode cX13_worthAt 30 = .ok (.if_icmp .ne 41, 3) := dk_160 0 41 (dk_at dksX13_worthAt_1 6 rfl rfl)
theorem dX13_worthAt_33 : decode cX13_worthAt 33 = .ok (.aload_n 0, 1) := dk_42 (dk_at dksX13_worthAt_1 9 rfl rfl)
theorem dX13_worthAt_34 : decode cX13_worthAt 34 = .ok (.getfield 112, 3) := dk_180 0 112 (dk_at dksX13_worthAt_1 10 rfl rfl)
theorem dX13_worthAt_37 : decode cX13_worthAt 37 = .ok (.iload_n 2, 1) := dk_28 (dk_at dksX13_worthAt_1 13 rfl rfl)
theorem dX13_worthAt_38 : decode cX13_worthAt 38 = .ok (.iload 4, 2) := dk_21 4 (dk_at dksX13_worthAt_1 14 rfl rfl)
theorem dX13_worthAt_40 : decode cX13_worthAt 40 = .ok (.iconst 1, 1) := dk_4 (dk_at dksX13_worthAt_1 16 rfl rfl)
theorem dX13_worthAt_41 : decode cX13_worthAt 41 = .ok (.if_icmp .ne 12, 3) := dk_160 0 12 (dk_at dksX13_worthAt_1 17 rfl rfl)
theorem dX13_worthAt_44 : decode cX13_worthAt 44 = .ok (.aload_n 0, 1) := dk_42 (dk_at dksX13_worthAt_1 20 rfl rfl)
theorem dX13_worthAt_45 : decode cX13_worthAt 45 = .ok (.getfield 91, 3) := dk_180 0 91 (dk_at dksX13_worthAt_1 21 rfl rfl)
theorem dX13_worthAt_48 : decode cX13_worthAt 48 = .ok (.iload_n 3, 1) := dk_29 (dk_at dksX13_worthAt_2 0 rfl rfl)
theorem dX13_worthAt_49 : decode cX13_worthAt 49 = .ok (.iaload, 1) := dk_46 (dk_at dksX13_worthAt_2 1 rfl rfl)
theorem dX13_worthAt_50 : decode cX13_worthAt 50 = .ok (.goto 14, 3) := dk_167 0 14 (dk_at dksX13_worthAt_2 2 rfl rfl)
theorem dX13_worthAt_53 : decode cX13_worthAt 53 = .ok (.aload_n 0, 1) := dk_42 (dk_at dksX13_worthAt_2 5 rfl rfl)
theorem dX13_worthAt_54 : decode cX13_worthAt 54 = .ok (.getfield 109, 3) := dk_180 0 109 (dk_at dksX13_worthAt_2 6 rfl rfl)
theorem dX13_worthAt_57 : decode cX13_worthAt 57 = .ok (.aload_n 0, 1) := dk_42 (dk_at dksX13_worthAt_2 9 rfl rfl)
theorem dX13_worthAt_58 : decode cX13_worthAt 58 = .ok (.getfield 91, 3) := dk_180 0 91 (dk_at dksX13_worthAt_2 10 rfl rfl)
theorem dX13_worthAt_61 : decode cX13_worthAt 61 = .ok (.iload_n 3, 1) := dk_29 (dk_at dksX13_worthAt_2 13 rfl rfl)
theorem dX13_worthAt_62 : decode cX13_worthAt 62 = .ok (.iaload, 1) := dk_46 (dk_at dksX13_worthAt_2 14 rfl rfl)
theorem dX13_worthAt_63 : decode cX13_worthAt 63 = .ok (.iaload, 1) := dk_46 (dk_at dksX13_worthAt_2 15 rfl rfl)
theorem dX13_worthAt_64 : decode cX13_worthAt 64 = .ok (.iastore, 1) := dk_79 (dk_at dksX13_worthAt_2 16 rfl rfl)
theorem dX13_worthAt_65 : decode cX13_worthAt 65 = .ok (.iinc 2 1, 3) := dk_132 2 1 (dk_at dksX13_worthAt_2 17 rfl rfl)
theorem dX13_worthAt_68 : decode cX13_worthAt 68 = .ok (.goto 66, 3) := dk_167 0 66 (dk_at dksX13_worthAt_2 20 rfl rfl)
theorem dX13_worthAt_71 : decode cX13_worthAt 71 = .ok (.iload 4, 2) := dk_21 4 (dk_at dksX13_worthAt_3 0 rfl rfl)
theorem dX13_worthAt_73 : decode cX13_worthAt 73 = .ok (.iconst 3, 1) := dk_6 (dk_at dksX13_worthAt_3 2 rfl rfl)
theorem dX13_worthAt_74 : decode cX13_worthAt 74 = .ok (.if_icmp .ne 30, 3) := dk_160 0 30 (dk_at dksX13_worthAt_3 3 rfl rfl)
theorem dX13_worthAt_77 : decode cX13_worthAt 77 = .ok (.aload_n 0, 1) := dk_42 (dk_at dksX13_worthAt_3 6 rfl rfl)
theorem dX13_worthAt_78 : decode cX13_worthAt 78 = .ok (.getfield 112, 3) := dk_180 0 112 (dk_at dksX13_worthAt_3 7 rfl rfl)
theorem dX13_worthAt_81 : decode cX13_worthAt 81 = .ok (.iload_n 2, 1) := dk_28 (dk_at dksX13_worthAt_3 10 rfl rfl)
theorem dX13_worthAt_82 : decode cX13_worthAt 82 = .ok (.iconst 1, 1) := dk_4 (dk_at dksX13_worthAt_3 11 rfl rfl)
theorem dX13_worthAt_83 : decode cX13_worthAt 83 = .ok (.isub, 1) := dk_100 (dk_at dksX13_worthAt_3 12 rfl rfl)
theorem dX13_worthAt_84 : decode cX13_worthAt 84 = .ok (.aload_n 0, 1) := dk_42 (dk_at dksX13_worthAt_3 13 rfl rfl)
theorem dX13_worthAt_85 : decode cX13_worthAt 85 = .ok (.getfield 112, 3) := dk_180 0 112 (dk_at dksX13_worthAt_3 14 rfl rfl)
theorem dX13_worthAt_88 : decode cX13_worthAt 88 = .ok (.iload_n 2, 1) := dk_28 (dk_at dksX13_worthAt_3 17 rfl rfl)
theorem dX13_worthAt_89 : decode cX13_worthAt 89 = .ok (.iconst 1, 1) := dk_4 (dk_at dksX13_worthAt_3 18 rfl rfl)
theorem dX13_worthAt_90 : decode cX13_worthAt 90 = .ok (.isub, 1) := dk_100 (dk_at dksX13_worthAt_3 19 rfl rfl)
theorem dX13_worthAt_91 : decode cX13_worthAt 91 = .ok (.iaload, 1) := dk_46 (dk_at dksX13_worthAt_3 20 rfl rfl)
theorem dX13_worthAt_92 : decode cX13_worthAt 92 = .ok (.ifCond .ne 7, 3) := dk_154 0 7 (dk_at dksX13_worthAt_3 21 rfl rfl)
theorem dX13_worthAt_95 : decode cX13_worthAt 95 = .ok (.iconst 1, 1) := dk_4 (dk_at dksX13_worthAt_4 0 rfl rfl)
theorem dX13_worthAt_96 : decode cX13_worthAt 96 = .ok (.goto 4, 3) := dk_167 0 4 (dk_at dksX13_worthAt_4 1 rfl rfl)
theorem dX13_worthAt_99 : decode cX13_worthAt 99 = .ok (.iconst 0, 1) := dk_3 (dk_at dksX13_worthAt_4 4 rfl rfl)
theorem dX13_worthAt_100 : decode cX13_worthAt 100 = .ok (.iastore, 1) := dk_79 (dk_at dksX13_worthAt_4 5 rfl rfl)
theorem dX13_worthAt_101 : decode cX13_worthAt 101 = .ok (.goto 33, 3) := dk_167 0 33 (dk_at dksX13_worthAt_4 6 rfl rfl)
theorem dX13_worthAt_104 : decode cX13_worthAt 104 = .ok (.iinc 2 (-1), 3) := dk_132 2 255 (dk_at dksX13_worthAt_4 9 rfl rfl)
theorem dX13_worthAt_107 : decode cX13_worthAt 107 = .ok (.aload_n 0, 1) := dk_42 (dk_at dksX13_worthAt_4 12 rfl rfl)
theorem dX13_worthAt_108 : decode cX13_worthAt 108 = .ok (.getfield 112, 3) := dk_180 0 112 (dk_at dksX13_worthAt_4 13 rfl rfl)
theorem dX13_worthAt_111 : decode cX13_worthAt 111 = .ok (.iload_n 2, 1) := dk_28 (dk_at dksX13_worthAt_4 16 rfl rfl)
theorem dX13_worthAt_112 : decode cX13_worthAt 112 = .ok (.iconst 1, 1) := dk_4 (dk_at dksX13_worthAt_4 17 rfl rfl)
theorem dX13_worthAt_113 : decode cX13_worthAt 113 = .ok (.isub, 1) := dk_100 (dk_at dksX13_worthAt_4 18 rfl rfl)
theorem dX13_worthAt_114 : decode cX13_worthAt 114 = .ok (.iload 4, 2) := dk_21 4 (dk_at dksX13_worthAt_4 19 rfl rfl)
theorem dX13_worthAt_116 : decode cX13_worthAt 116 = .ok (.aload_n 0, 1) := dk_42 (dk_at dksX13_worthAt_4 21 rfl rfl)
theorem dX13_worthAt_117 : decode cX13_worthAt 117 = .ok (.getfield 112, 3) := dk_180 0 112 (dk_at dksX13_worthAt_5 0 rfl rfl)
theorem dX13_worthAt_120 : decode cX13_worthAt 120 = .ok (.iload_n 2, 1) := dk_28 (dk_at dksX13_worthAt_5 3 rfl rfl)
theorem dX13_worthAt_121 : decode cX13_worthAt 121 = .ok (.iconst 1, 1) := dk_4 (dk_at dksX13_worthAt_5 4 rfl rfl)
theorem dX13_worthAt_122 : decode cX13_worthAt 122 = .ok (.isub, 1) := dk_100 (dk_at dksX13_worthAt_5 5 rfl rfl)
theorem dX13_worthAt_123 : decode cX13_worthAt 123 = .ok (.iaload, 1) := dk_46 (dk_at dksX13_worthAt_5 6 rfl rfl)
theorem dX13_worthAt_124 : decode cX13_worthAt 124 = .ok (.aload_n 0, 1) := dk_42 (dk_at dksX13_worthAt_5 7 rfl rfl)
theorem dX13_worthAt_125 : decode cX13_worthAt 125 = .ok (.getfield 112, 3) := dk_180 0 112 (dk_at dksX13_worthAt_5 8 rfl rfl)
theorem dX13_worthAt_128 : decode cX13_worthAt 128 = .ok (.iload_n 2, 1) := dk_28 (dk_at dksX13_worthAt_5 11 rfl rfl)
theorem dX13_worthAt_129 : decode cX13_worthAt 129 = .ok (.iaload, 1) := dk_46 (dk_at dksX13_worthAt_5 12 rfl rfl)
theorem dX13_worthAt_130 : decode cX13_worthAt 130 = .ok (.invokestatic 304, 3) := dk_184 1 48 (dk_at dksX13_worthAt_5 13 rfl rfl)
theorem dX13_worthAt_133 : decode cX13_worthAt 133 = .ok (.iastore, 1) := dk_79 (dk_at dksX13_worthAt_5 16 rfl rfl)
theorem dX13_worthAt_134 : decode cX13_worthAt 134 = .ok (.iinc 3 1, 3) := dk_132 3 1 (dk_at dksX13_worthAt_5 17 rfl rfl)
theorem dX13_worthAt_137 : decode cX13_worthAt 137 = .ok (.goto (-133), 3) := dk_167 255 123 (dk_at dksX13_worthAt_5 20 rfl rfl)
theorem dX13_worthAt_140 : decode cX13_worthAt 140 = .ok (.aload_n 0, 1) := dk_42 (dk_at dksX13_worthAt_5 23 rfl rfl)
theorem dX13_worthAt_141 : decode cX13_worthAt 141 = .ok (.getfield 112, 3) := dk_180 0 112 (dk_at dksX13_worthAt_6 0 rfl rfl)
theorem dX13_worthAt_144 : decode cX13_worthAt 144 = .ok (.iconst 0, 1) := dk_3 (dk_at dksX13_worthAt_6 3 rfl rfl)
theorem dX13_worthAt_145 : decode cX13_worthAt 145 = .ok (.iaload, 1) := dk_46 (dk_at dksX13_worthAt_6 4 rfl rfl)
theorem dX13_worthAt_146 : decode cX13_worthAt 146 = .ok (.ireturn, 1) := dk_172 (dk_at dksX13_worthAt_6 5 rfl rfl)
abbrev cX13_both : ByteArray := prog_24_method_42_code
def yX13_both : MethodName := ⟨RX13, "both", "(III)I"⟩
def dkwX13_both_4 : List UInt8 := [27, 154, 0, 7, 28, 153, 0, 7, 4, 167, 0, 4, 3, 172]
abbrev dktX13_both_4 : List UInt8 := dkwX13_both_4 ++ []
def dkwX13_both_3 : List UInt8 := [28, 160, 0, 7, 4, 167, 0, 4, 3, 172, 27, 153, 0, 11, 28, 153, 0, 7, 4, 167, 0, 4, 3, 172]
abbrev dktX13_both_3 : List UInt8 := dkwX13_both_3 ++ dktX13_both_4
def dkwX13_both_2 : List UInt8 := [27, 28, 96, 172, 27, 28, 100, 172, 27, 28, 104, 172, 27, 28, 162, 0, 7, 4, 167, 0, 4, 3, 172, 27]
abbrev dktX13_both_2 : List UInt8 := dkwX13_both_2 ++ dktX13_both_3
def dkwX13_both_1 : List UInt8 := [170, 0, 0, 0, 0, 0, 87, 0, 0, 0, 4, 0, 0, 0, 9, 0, 0, 0, 39, 0, 0, 0, 43, 0, 0, 0, 47, 0, 0, 0, 51, 0, 0, 0, 62, 0, 0, 0, 73]
abbrev dktX13_both_1 : List UInt8 := dkwX13_both_1 ++ dktX13_both_2
def dkwX13_both_0 : List UInt8 := [26]
abbrev dktX13_both_0 : List UInt8 := dkwX13_both_0 ++ dktX13_both_1
theorem dksX13_both_0 : cX13_both.data.toList.drop 0 = dktX13_both_0 := by decide +kernel
theorem dksX13_both_1 : cX13_both.data.toList.drop 1 = dktX13_both_1 := dk_seg dksX13_both_0 1 rfl rfl
theorem dksX13_both_2 : cX13_both.data.toList.drop 40 = dktX13_both_2 := dk_seg dksX13_both_1 39 rfl rfl
theorem dksX13_both_3 : cX13_both.data.toList.drop 64 = dktX13_both_3 := dk_seg dksX13_both_2 24 rfl rfl
theorem dksX13_both_4 : cX13_both.data.toList.drop 88 = dktX13_both_4 := dk_seg dksX13_both_3 24 rfl rfl
theorem dX13_both_0 : decode cX13_both 0 = .ok (.iload_n 0, 1) := dk_26 (dk_at dksX13_both_0 0 rfl rfl)
theorem dX13_both_1 : decode cX13_both 1 = .ok (.tableswitch 87 4 9 #[39, 43, 47, 51, 62, 73], 39) := by decide +kernel
theorem dX13_both_40 : decode cX13_both 40 = .ok (.iload_n 1, 1) := dk_27 (dk_at dksX13_both_2 0 rfl rfl)
theorem dX13_both_41 : decode cX13_both 41 = .ok (.iload_n 2, 1) := dk_28 (dk_at dksX13_both_2 1 rfl rfl)
theorem dX13_both_42 : decode cX13_both 42 = .ok (.iadd, 1) := dk_96 (dk_at dksX13_both_2 2 rfl rfl)
theorem dX13_both_43 : decode cX13_both 43 = .ok (.ireturn, 1) := dk_172 (dk_at dksX13_both_2 3 rfl rfl)
theorem dX13_both_44 : decode cX13_both 44 = .ok (.iload_n 1, 1) := dk_27 (dk_at dksX13_both_2 4 rfl rfl)
theorem dX13_both_45 : decode cX13_both 45 = .ok (.iload_n 2, 1) := dk_28 (dk_at dksX13_both_2 5 rfl rfl)
theorem dX13_both_46 : decode cX13_both 46 = .ok (.isub, 1) := dk_100 (dk_at dksX13_both_2 6 rfl rfl)
theorem dX13_both_47 : decode cX13_both 47 = .ok (.ireturn, 1) := dk_172 (dk_at dksX13_both_2 7 rfl rfl)
theorem dX13_both_48 : decode cX13_both 48 = .ok (.iload_n 1, 1) := dk_27 (dk_at dksX13_both_2 8 rfl rfl)
theorem dX13_both_49 : decode cX13_both 49 = .ok (.iload_n 2, 1) := dk_28 (dk_at dksX13_both_2 9 rfl rfl)
theorem dX13_both_50 : decode cX13_both 50 = .ok (.imul, 1) := dk_104 (dk_at dksX13_both_2 10 rfl rfl)
theorem dX13_both_51 : decode cX13_both 51 = .ok (.ireturn, 1) := dk_172 (dk_at dksX13_both_2 11 rfl rfl)
theorem dX13_both_52 : decode cX13_both 52 = .ok (.iload_n 1, 1) := dk_27 (dk_at dksX13_both_2 12 rfl rfl)
theorem dX13_both_53 : decode cX13_both 53 = .ok (.iload_n 2, 1) := dk_28 (dk_at dksX13_both_2 13 rfl rfl)
theorem dX13_both_54 : decode cX13_both 54 = .ok (.if_icmp .ge 7, 3) := dk_162 0 7 (dk_at dksX13_both_2 14 rfl rfl)
theorem dX13_both_57 : decode cX13_both 57 = .ok (.iconst 1, 1) := dk_4 (dk_at dksX13_both_2 17 rfl rfl)
theorem dX13_both_58 : decode cX13_both 58 = .ok (.goto 4, 3) := dk_167 0 4 (dk_at dksX13_both_2 18 rfl rfl)
theorem dX13_both_61 : decode cX13_both 61 = .ok (.iconst 0, 1) := dk_3 (dk_at dksX13_both_2 21 rfl rfl)
theorem dX13_both_62 : decode cX13_both 62 = .ok (.ireturn, 1) := dk_172 (dk_at dksX13_both_2 22 rfl rfl)
theorem dX13_both_63 : decode cX13_both 63 = .ok (.iload_n 1, 1) := dk_27 (dk_at dksX13_both_2 23 rfl rfl)
theorem dX13_both_64 : decode cX13_both 64 = .ok (.iload_n 2, 1) := dk_28 (dk_at dksX13_both_3 0 rfl rfl)
theorem dX13_both_65 : decode cX13_both 65 = .ok (.if_icmp .ne 7, 3) := dk_160 0 7 (dk_at dksX13_both_3 1 rfl rfl)
theorem dX13_both_68 : decode cX13_both 68 = .ok (.iconst 1, 1) := dk_4 (dk_at dksX13_both_3 4 rfl rfl)
theorem dX13_both_69 : decode cX13_both 69 = .ok (.goto 4, 3) := dk_167 0 4 (dk_at dksX13_both_3 5 rfl rfl)
theorem dX13_both_72 : decode cX13_both 72 = .ok (.iconst 0, 1) := dk_3 (dk_at dksX13_both_3 8 rfl rfl)
theorem dX13_both_73 : decode cX13_both 73 = .ok (.ireturn, 1) := dk_172 (dk_at dksX13_both_3 9 rfl rfl)
theorem dX13_both_74 : decode cX13_both 74 = .ok (.iload_n 1, 1) := dk_27 (dk_at dksX13_both_3 10 rfl rfl)
theorem dX13_both_75 : decode cX13_both 75 = .ok (.ifCond .eq 11, 3) := dk_153 0 11 (dk_at dksX13_both_3 11 rfl rfl)
theorem dX13_both_78 : decode cX13_both 78 = .ok (.iload_n 2, 1) := dk_28 (dk_at dksX13_both_3 14 rfl rfl)
theorem dX13_both_79 : decode cX13_both 79 = .ok (.ifCond .eq 7, 3) := dk_153 0 7 (dk_at dksX13_both_3 15 rfl rfl)
theorem dX13_both_82 : decode cX13_both 82 = .ok (.iconst 1, 1) := dk_4 (dk_at dksX13_both_3 18 rfl rfl)
theorem dX13_both_83 : decode cX13_both 83 = .ok (.goto 4, 3) := dk_167 0 4 (dk_at dksX13_both_3 19 rfl rfl)
theorem dX13_both_86 : decode cX13_both 86 = .ok (.iconst 0, 1) := dk_3 (dk_at dksX13_both_3 22 rfl rfl)
theorem dX13_both_87 : decode cX13_both 87 = .ok (.ireturn, 1) := dk_172 (dk_at dksX13_both_3 23 rfl rfl)
theorem dX13_both_88 : decode cX13_both 88 = .ok (.iload_n 1, 1) := dk_27 (dk_at dksX13_both_4 0 rfl rfl)
theorem dX13_both_89 : decode cX13_both 89 = .ok (.ifCond .ne 7, 3) := dk_154 0 7 (dk_at dksX13_both_4 1 rfl rfl)
theorem dX13_both_92 : decode cX13_both 92 = .ok (.iload_n 2, 1) := dk_28 (dk_at dksX13_both_4 4 rfl rfl)
theorem dX13_both_93 : decode cX13_both 93 = .ok (.ifCond .eq 7, 3) := dk_153 0 7 (dk_at dksX13_both_4 5 rfl rfl)
theorem dX13_both_96 : decode cX13_both 96 = .ok (.iconst 1, 1) := dk_4 (dk_at dksX13_both_4 8 rfl rfl)
theorem dX13_both_97 : decode cX13_both 97 = .ok (.goto 4, 3) := dk_167 0 4 (dk_at dksX13_both_4 9 rfl rfl)
theorem dX13_both_100 : decode cX13_both 100 = .ok (.iconst 0, 1) := dk_3 (dk_at dksX13_both_4 12 rfl rfl)
theorem dX13_both_101 : decode cX13_both 101 = .ok (.ireturn, 1) := dk_172 (dk_at dksX13_both_4 13 rfl rfl)
abbrev cX13_bet : ByteArray := prog_24_method_92_code
def yX13_bet : MethodName := ⟨RX13, "bet", "(II)I"⟩
def dkwX13_bet_5 : List UInt8 := [100, 79, 42, 180, 0, 115, 16, 9, 46, 172]
abbrev dktX13_bet_5 : List UInt8 := dkwX13_bet_5 ++ []
def dkwX13_bet_4 : List UInt8 := [182, 1, 203, 79, 42, 180, 0, 115, 16, 10, 92, 46, 4, 96, 79, 42, 180, 0, 115, 16, 9, 92, 46, 28]
abbrev dktX13_bet_4 : List UInt8 := dkwX13_bet_4 ++ dktX13_bet_5
def dkwX13_bet_3 : List UInt8 := [180, 0, 115, 29, 27, 79, 42, 180, 0, 115, 29, 4, 96, 28, 79, 42, 180, 0, 115, 29, 5, 96, 42]
abbrev dktX13_bet_3 : List UInt8 := dkwX13_bet_3 ++ dktX13_bet_4
def dkwX13_bet_2 : List UInt8 := [160, 0, 5, 2, 172, 42, 182, 1, 101, 17, 1, 164, 6, 42, 180, 0, 115, 16, 10, 46, 104, 96, 62, 42]
abbrev dktX13_bet_2 : List UInt8 := dkwX13_bet_2 ++ dktX13_bet_3
def dkwX13_bet_1 : List UInt8 := [153, 0, 25, 42, 180, 0, 115, 16, 8, 46, 156, 0, 15, 42, 180, 0, 115, 16, 10, 46, 16, 8]
abbrev dktX13_bet_1 : List UInt8 := dkwX13_bet_1 ++ dktX13_bet_2
def dkwX13_bet_0 : List UInt8 := [42, 3, 181, 0, 1, 27, 184, 1, 98, 153, 0, 40, 28, 4, 42, 180, 0, 115, 16, 9, 46, 184, 1, 91]
abbrev dktX13_bet_0 : List UInt8 := dkwX13_bet_0 ++ dktX13_bet_1
theorem dksX13_bet_0 : cX13_bet.data.toList.drop 0 = dktX13_bet_0 := by decide +kernel
theorem dksX13_bet_1 : cX13_bet.data.toList.drop 24 = dktX13_bet_1 := dk_seg dksX13_bet_0 24 rfl rfl
theorem dksX13_bet_2 : cX13_bet.data.toList.drop 46 = dktX13_bet_2 := dk_seg dksX13_bet_1 22 rfl rfl
theorem dksX13_bet_3 : cX13_bet.data.toList.drop 70 = dktX13_bet_3 := dk_seg dksX13_bet_2 24 rfl rfl
theorem dksX13_bet_4 : cX13_bet.data.toList.drop 93 = dktX13_bet_4 := dk_seg dksX13_bet_3 23 rfl rfl
theorem dksX13_bet_5 : cX13_bet.data.toList.drop 117 = dktX13_bet_5 := dk_seg dksX13_bet_4 24 rfl rfl
theorem dX13_bet_0 : decode cX13_bet 0 = .ok (.aload_n 0, 1) := dk_42 (dk_at dksX13_bet_0 0 rfl rfl)
theorem dX13_bet_1 : decode cX13_bet 1 = .ok (.iconst 0, 1) := dk_3 (dk_at dksX13_bet_0 1 rfl rfl)
theorem dX13_bet_2 : decode cX13_bet 2 = .ok (.putfield 1, 3) := dk_181 0 1 (dk_at dksX13_bet_0 2 rfl rfl)
theorem dX13_bet_5 : decode cX13_bet 5 = .ok (.iload_n 1, 1) := dk_27 (dk_at dksX13_bet_0 5 rfl rfl)
theorem dX13_bet_6 : decode cX13_bet 6 = .ok (.invokestatic 354, 3) := dk_184 1 98 (dk_at dksX13_bet_0 6 rfl rfl)
theorem dX13_bet_9 : decode cX13_bet 9 = .ok (.ifCond .eq 40, 3) := dk_153 0 40 (dk_at dksX13_bet_0 9 rfl rfl)
theorem dX13_bet_12 : decode cX13_bet 12 = .ok (.iload_n 2, 1) := dk_28 (dk_at dksX13_bet_0 12 rfl rfl)
theorem dX13_bet_13 : decode cX13_bet 13 = .ok (.iconst 1, 1) := dk_4 (dk_at dksX13_bet_0 13 rfl rfl)
theorem dX13_bet_14 : decode cX13_bet 14 = .ok (.aload_n 0, 1) := dk_42 (dk_at dksX13_bet_0 14 rfl rfl)
theorem dX13_bet_15 : decode cX13_bet 15 = .ok (.getfield 115, 3) := dk_180 0 115 (dk_at dksX13_bet_0 15 rfl rfl)
theorem dX13_bet_18 : decode cX13_bet 18 = .ok (.bipush 9, 2) := dk_16 9 (dk_at dksX13_bet_0 18 rfl rfl)
theorem dX13_bet_20 : decode cX13_bet 20 = .ok (.iaload, 1) := dk_46 (dk_at dksX13_bet_0 20 rfl rfl)
theorem dX13_bet_21 : decode cX13_bet 21 = .ok (.invokestatic 347, 3) := dk_184 1 91 (dk_at dksX13_bet_0 21 rfl rfl)
theorem dX13_bet_24 : decode cX13_bet 24 = .ok (.ifCond .eq 25, 3) := dk_153 0 25 (dk_at dksX13_bet_1 0 rfl rfl)
theorem dX13_bet_27 : decode cX13_bet 27 = .ok (.aload_n 0, 1) := dk_42 (dk_at dksX13_bet_1 3 rfl rfl)
theorem dX13_bet_28 : decode cX13_bet 28 = .ok (.getfield 115, 3) := dk_180 0 115 (dk_at dksX13_bet_1 4 rfl rfl)
theorem dX13_bet_31 : decode cX13_bet 31 = .ok (.bipush 8, 2) := dk_16 8 (dk_at dksX13_bet_1 7 rfl rfl)
theorem dX13_bet_33 : decode cX13_bet 33 = .ok (.iaload, 1) := dk_46 (dk_at dksX13_bet_1 9 rfl rfl)
theorem dX13_bet_34 : decode cX13_bet 34 = .ok (.ifCond .ge 15, 3) := dk_156 0 15 (dk_at dksX13_bet_1 10 rfl rfl)
theorem dX13_bet_37 : decode cX13_bet 37 = .ok (.aload_n 0, 1) := dk_42 (dk_at dksX13_bet_1 13 rfl rfl)
theorem dX13_bet_38 : decode cX13_bet 38 = .ok (.getfield 115, 3) := dk_180 0 115 (dk_at dksX13_bet_1 14 rfl rfl)
theorem dX13_bet_41 : decode cX13_bet 41 = .ok (.bipush 10, 2) := dk_16 10 (dk_at dksX13_bet_1 17 rfl rfl)
theorem dX13_bet_43 : decode cX13_bet 43 = .ok (.iaload, 1) := dk_46 (dk_at dksX13_bet_1 19 rfl rfl)
theorem dX13_bet_44 : decode cX13_bet 44 = .ok (.bipush 8, 2) := dk_16 8 (dk_at dksX13_bet_1 20 rfl rfl)
theorem dX13_bet_46 : decode cX13_bet 46 = .ok (.if_icmp .ne 5, 3) := dk_160 0 5 (dk_at dksX13_bet_2 0 rfl rfl)
theorem dX13_bet_49 : decode cX13_bet 49 = .ok (.iconst (-1), 1) := dk_2 (dk_at dksX13_bet_2 3 rfl rfl)
theorem dX13_bet_50 : decode cX13_bet 50 = .ok (.ireturn, 1) := dk_172 (dk_at dksX13_bet_2 4 rfl rfl)
theorem dX13_bet_51 : decode cX13_bet 51 = .ok (.aload_n 0, 1) := dk_42 (dk_at dksX13_bet_2 5 rfl rfl)
theorem dX13_bet_52 : decode cX13_bet 52 = .ok (.invokevirtual 357, 3) := dk_182 1 101 (dk_at dksX13_bet_2 6 rfl rfl)
theorem dX13_bet_55 : decode cX13_bet 55 = .ok (.sipush 420, 3) := dk_17 1 164 (dk_at dksX13_bet_2 9 rfl rfl)
theorem dX13_bet_58 : decode cX13_bet 58 = .ok (.iconst 3, 1) := dk_6 (dk_at dksX13_bet_2 12 rfl rfl)
theorem dX13_bet_59 : decode cX13_bet 59 = .ok (.aload_n 0, 1) := dk_42 (dk_at dksX13_bet_2 13 rfl rfl)
theorem dX13_bet_60 : decode cX13_bet 60 = .ok (.getfield 115, 3) := dk_180 0 115 (dk_at dksX13_bet_2 14 rfl rfl)
theorem dX13_bet_63 : decode cX13_bet 63 = .ok (.bipush 10, 2) := dk_16 10 (dk_at dksX13_bet_2 17 rfl rfl)
theorem dX13_bet_65 : decode cX13_bet 65 = .ok (.iaload, 1) := dk_46 (dk_at dksX13_bet_2 19 rfl rfl)
theorem dX13_bet_66 : decode cX13_bet 66 = .ok (.imul, 1) := dk_104 (dk_at dksX13_bet_2 20 rfl rfl)
theorem dX13_bet_67 : decode cX13_bet 67 = .ok (.iadd, 1) := dk_96 (dk_at dksX13_bet_2 21 rfl rfl)
theorem dX13_bet_68 : decode cX13_bet 68 = .ok (.istore_n 3, 1) := dk_62 (dk_at dksX13_bet_2 22 rfl rfl)
theorem dX13_bet_69 : decode cX13_bet 69 = .ok (.aload_n 0, 1) := dk_42 (dk_at dksX13_bet_2 23 rfl rfl)
theorem dX13_bet_70 : decode cX13_bet 70 = .ok (.getfield 115, 3) := dk_180 0 115 (dk_at dksX13_bet_3 0 rfl rfl)
theorem dX13_bet_73 : decode cX13_bet 73 = .ok (.iload_n 3, 1) := dk_29 (dk_at dksX13_bet_3 3 rfl rfl)
theorem dX13_bet_74 : decode cX13_bet 74 = .ok (.iload_n 1, 1) := dk_27 (dk_at dksX13_bet_3 4 rfl rfl)
theorem dX13_bet_75 : decode cX13_bet 75 = .ok (.iastore, 1) := dk_79 (dk_at dksX13_bet_3 5 rfl rfl)
theorem dX13_bet_76 : decode cX13_bet 76 = .ok (.aload_n 0, 1) := dk_42 (dk_at dksX13_bet_3 6 rfl rfl)
theorem dX13_bet_77 : decode cX13_bet 77 = .ok (.getfield 115, 3) := dk_180 0 115 (dk_at dksX13_bet_3 7 rfl rfl)
theorem dX13_bet_80 : decode cX13_bet 80 = .ok (.iload_n 3, 1) := dk_29 (dk_at dksX13_bet_3 10 rfl rfl)
theorem dX13_bet_81 : decode cX13_bet 81 = .ok (.iconst 1, 1) := dk_4 (dk_at dksX13_bet_3 11 rfl rfl)
theorem dX13_bet_82 : decode cX13_bet 82 = .ok (.iadd, 1) := dk_96 (dk_at dksX13_bet_3 12 rfl rfl)
theorem dX13_bet_83 : decode cX13_bet 83 = .ok (.iload_n 2, 1) := dk_28 (dk_at dksX13_bet_3 13 rfl rfl)
theorem dX13_bet_84 : decode cX13_bet 84 = .ok (.iastore, 1) := dk_79 (dk_at dksX13_bet_3 14 rfl rfl)
theorem dX13_bet_85 : decode cX13_bet 85 = .ok (.aload_n 0, 1) := dk_42 (dk_at dksX13_bet_3 15 rfl rfl)
theorem dX13_bet_86 : decode cX13_bet 86 = .ok (.getfield 115, 3) := dk_180 0 115 (dk_at dksX13_bet_3 16 rfl rfl)
theorem dX13_bet_89 : decode cX13_bet 89 = .ok (.iload_n 3, 1) := dk_29 (dk_at dksX13_bet_3 19 rfl rfl)
theorem dX13_bet_90 : decode cX13_bet 90 = .ok (.iconst 2, 1) := dk_5 (dk_at dksX13_bet_3 20 rfl rfl)
theorem dX13_bet_91 : decode cX13_bet 91 = .ok (.iadd, 1) := dk_96 (dk_at dksX13_bet_3 21 rfl rfl)
theorem dX13_bet_92 : decode cX13_bet 92 = .ok (.aload_n 0, 1) := dk_42 (dk_at dksX13_bet_3 22 rfl rfl)
theorem dX13_bet_93 : decode cX13_bet 93 = .ok (.invokevirtual 459, 3) := dk_182 1 203 (dk_at dksX13_bet_4 0 rfl rfl)
theorem dX13_bet_96 : decode cX13_bet 96 = .ok (.iastore, 1) := dk_79 (dk_at dksX13_bet_4 3 rfl rfl)
theorem dX13_bet_97 : decode cX13_bet 97 = .ok (.aload_n 0, 1) := dk_42 (dk_at dksX13_bet_4 4 rfl rfl)
theorem dX13_bet_98 : decode cX13_bet 98 = .ok (.getfield 115, 3) := dk_180 0 115 (dk_at dksX13_bet_4 5 rfl rfl)
theorem dX13_bet_101 : decode cX13_bet 101 = .ok (.bipush 10, 2) := dk_16 10 (dk_at dksX13_bet_4 8 rfl rfl)
theorem dX13_bet_103 : decode cX13_bet 103 = .ok (.dup2, 1) := dk_92 (dk_at dksX13_bet_4 10 rfl rfl)
theorem dX13_bet_104 : decode cX13_bet 104 = .ok (.iaload, 1) := dk_46 (dk_at dksX13_bet_4 11 rfl rfl)
theorem dX13_bet_105 : decode cX13_bet 105 = .ok (.iconst 1, 1) := dk_4 (dk_at dksX13_bet_4 12 rfl rfl)
theorem dX13_bet_106 : decode cX13_bet 106 = .ok (.iadd, 1) := dk_96 (dk_at dksX13_bet_4 13 rfl rfl)
theorem dX13_bet_107 : decode cX13_bet 107 = .ok (.iastore, 1) := dk_79 (dk_at dksX13_bet_4 14 rfl rfl)
theorem dX13_bet_108 : decode cX13_bet 108 = .ok (.aload_n 0, 1) := dk_42 (dk_at dksX13_bet_4 15 rfl rfl)
theorem dX13_bet_109 : decode cX13_bet 109 = .ok (.getfield 115, 3) := dk_180 0 115 (dk_at dksX13_bet_4 16 rfl rfl)
theorem dX13_bet_112 : decode cX13_bet 112 = .ok (.bipush 9, 2) := dk_16 9 (dk_at dksX13_bet_4 19 rfl rfl)
theorem dX13_bet_114 : decode cX13_bet 114 = .ok (.dup2, 1) := dk_92 (dk_at dksX13_bet_4 21 rfl rfl)
theorem dX13_bet_115 : decode cX13_bet 115 = .ok (.iaload, 1) := dk_46 (dk_at dksX13_bet_4 22 rfl rfl)
theorem dX13_bet_116 : decode cX13_bet 116 = .ok (.iload_n 2, 1) := dk_28 (dk_at dksX13_bet_4 23 rfl rfl)
theorem dX13_bet_117 : decode cX13_bet 117 = .ok (.isub, 1) := dk_100 (dk_at dksX13_bet_5 0 rfl rfl)
theorem dX13_bet_118 : decode cX13_bet 118 = .ok (.iastore, 1) := dk_79 (dk_at dksX13_bet_5 1 rfl rfl)
theorem dX13_bet_119 : decode cX13_bet 119 = .ok (.aload_n 0, 1) := dk_42 (dk_at dksX13_bet_5 2 rfl rfl)
theorem dX13_bet_120 : decode cX13_bet 120 = .ok (.getfield 115, 3) := dk_180 0 115 (dk_at dksX13_bet_5 3 rfl rfl)
theorem dX13_bet_123 : decode cX13_bet 123 = .ok (.bipush 9, 2) := dk_16 9 (dk_at dksX13_bet_5 6 rfl rfl)
theorem dX13_bet_125 : decode cX13_bet 125 = .ok (.iaload, 1) := dk_46 (dk_at dksX13_bet_5 8 rfl rfl)
theorem dX13_bet_126 : decode cX13_bet 126 = .ok (.ireturn, 1) := dk_172 (dk_at dksX13_bet_5 9 rfl rfl)
abbrev cX13_take : ByteArray := prog_24_method_93_code
def yX13_take : MethodName := ⟨RX13, "take", "(I)I"⟩
def dkwX13_take_2 : List UInt8 := [180, 1, 188, 28, 100, 16, 10, 104, 164, 0, 7, 4, 167, 0, 4, 3, 172]
abbrev dktX13_take_2 : List UInt8 := dkwX13_take_2 ++ []
def dkwX13_take_1 : List UInt8 := [154, 0, 10, 42, 180, 1, 191, 167, 0, 7, 42, 180, 1, 194, 61, 28, 42, 182, 1, 203, 104, 42]
abbrev dktX13_take_1 : List UInt8 := dkwX13_take_1 ++ dktX13_take_2
def dkwX13_take_0 : List UInt8 := [42, 3, 181, 0, 1, 27, 184, 1, 98, 153, 0, 10, 42, 182, 1, 197, 154, 0, 5, 2, 172, 27]
abbrev dktX13_take_0 : List UInt8 := dkwX13_take_0 ++ dktX13_take_1
theorem dksX13_take_0 : cX13_take.data.toList.drop 0 = dktX13_take_0 := by decide +kernel
theorem dksX13_take_1 : cX13_take.data.toList.drop 22 = dktX13_take_1 := dk_seg dksX13_take_0 22 rfl rfl
theorem dksX13_take_2 : cX13_take.data.toList.drop 44 = dktX13_take_2 := dk_seg dksX13_take_1 22 rfl rfl
theorem dX13_take_0 : decode cX13_take 0 = .ok (.aload_n 0, 1) := dk_42 (dk_at dksX13_take_0 0 rfl rfl)
theorem dX13_take_1 : decode cX13_take 1 = .ok (.iconst 0, 1) := dk_3 (dk_at dksX13_take_0 1 rfl rfl)
theorem dX13_take_2 : decode cX13_take 2 = .ok (.putfield 1, 3) := dk_181 0 1 (dk_at dksX13_take_0 2 rfl rfl)
theorem dX13_take_5 : decode cX13_take 5 = .ok (.iload_n 1, 1) := dk_27 (dk_at dksX13_take_0 5 rfl rfl)
theorem dX13_take_6 : decode cX13_take 6 = .ok (.invokestatic 354, 3) := dk_184 1 98 (dk_at dksX13_take_0 6 rfl rfl)
theorem dX13_take_9 : decode cX13_take 9 = .ok (.ifCond .eq 10, 3) := dk_153 0 10 (dk_at dksX13_take_0 9 rfl rfl)
theorem dX13_take_12 : decode cX13_take 12 = .ok (.aload_n 0, 1) := dk_42 (dk_at dksX13_take_0 12 rfl rfl)
theorem dX13_take_13 : decode cX13_take 13 = .ok (.invokevirtual 453, 3) := dk_182 1 197 (dk_at dksX13_take_0 13 rfl rfl)
theorem dX13_take_16 : decode cX13_take 16 = .ok (.ifCond .ne 5, 3) := dk_154 0 5 (dk_at dksX13_take_0 16 rfl rfl)
theorem dX13_take_19 : decode cX13_take 19 = .ok (.iconst (-1), 1) := dk_2 (dk_at dksX13_take_0 19 rfl rfl)
theorem dX13_take_20 : decode cX13_take 20 = .ok (.ireturn, 1) := dk_172 (dk_at dksX13_take_0 20 rfl rfl)
theorem dX13_take_21 : decode cX13_take 21 = .ok (.iload_n 1, 1) := dk_27 (dk_at dksX13_take_0 21 rfl rfl)
theorem dX13_take_22 : decode cX13_take 22 = .ok (.ifCond .ne 10, 3) := dk_154 0 10 (dk_at dksX13_take_1 0 rfl rfl)
theorem dX13_take_25 : decode cX13_take 25 = .ok (.aload_n 0, 1) := dk_42 (dk_at dksX13_take_1 3 rfl rfl)
theorem dX13_take_26 : decode cX13_take 26 = .ok (.getfield 447, 3) := dk_180 1 191 (dk_at dksX13_take_1 4 rfl rfl)
theorem dX13_take_29 : decode cX13_take 29 = .ok (.goto 7, 3) := dk_167 0 7 (dk_at dksX13_take_1 7 rfl rfl)
theorem dX13_take_32 : decode cX13_take 32 = .ok (.aload_n 0, 1) := dk_42 (dk_at dksX13_take_1 10 rfl rfl)
theorem dX13_take_33 : decode cX13_take 33 = .ok (.getfield 450, 3) := dk_180 1 194 (dk_at dksX13_take_1 11 rfl rfl)
theorem dX13_take_36 : decode cX13_take 36 = .ok (.istore_n 2, 1) := dk_61 (dk_at dksX13_take_1 14 rfl rfl)
theorem dX13_take_37 : decode cX13_take 37 = .ok (.iload_n 2, 1) := dk_28 (dk_at dksX13_take_1 15 rfl rfl)
theorem dX13_take_38 : decode cX13_take 38 = .ok (.aload_n 0, 1) := dk_42 (dk_at dksX13_take_1 16 rfl rfl)
theorem dX13_take_39 : decode cX13_take 39 = .ok (.invokevirtual 459, 3) := dk_182 1 203 (dk_at dksX13_take_1 17 rfl rfl)
theorem dX13_take_42 : decode cX13_take 42 = .ok (.imul, 1) := dk_104 (dk_at dksX13_take_1 20 rfl rfl)
theorem dX13_take_43 : decode cX13_take 43 = .ok (.aload_n 0, 1) := dk_42 (dk_at dksX13_take_1 21 rfl rfl)
theorem dX13_take_44 : decode cX13_take 44 = .ok (.getfield 444, 3) := dk_180 1 188 (dk_at dksX13_take_2 0 rfl rfl)
theorem dX13_take_47 : decode cX13_take 47 = .ok (.iload_n 2, 1) := dk_28 (dk_at dksX13_take_2 3 rfl rfl)
theorem dX13_take_48 : decode cX13_take 48 = .ok (.isub, 1) := dk_100 (dk_at dksX13_take_2 4 rfl rfl)
theorem dX13_take_49 : decode cX13_take 49 = .ok (.bipush 10, 2) := dk_16 10 (dk_at dksX13_take_2 5 rfl rfl)
theorem dX13_take_51 : decode cX13_take 51 = .ok (.imul, 1) := dk_104 (dk_at dksX13_take_2 7 rfl rfl)
theorem dX13_take_52 : decode cX13_take 52 = .ok (.if_icmp .le 7, 3) := dk_164 0 7 (dk_at dksX13_take_2 8 rfl rfl)
theorem dX13_take_55 : decode cX13_take 55 = .ok (.iconst 1, 1) := dk_4 (dk_at dksX13_take_2 11 rfl rfl)
theorem dX13_take_56 : decode cX13_take 56 = .ok (.goto 4, 3) := dk_167 0 4 (dk_at dksX13_take_2 12 rfl rfl)
theorem dX13_take_59 : decode cX13_take 59 = .ok (.iconst 0, 1) := dk_3 (dk_at dksX13_take_2 15 rfl rfl)
theorem dX13_take_60 : decode cX13_take 60 = .ok (.ireturn, 1) := dk_172 (dk_at dksX13_take_2 16 rfl rfl)
abbrev cX13_choice : ByteArray := prog_24_method_97_code
def yX13_choice : MethodName := ⟨RX13, "choice", "(II)I"⟩
def dkwX13_choice_2 : List UInt8 := [29, 167, 0, 21, 28, 42, 180, 1, 209, 162, 0, 12, 42, 180, 0, 167, 28, 46, 167, 0, 4, 2, 172]
abbrev dktX13_choice_2 : List UInt8 := dkwX13_choice_2 ++ []
def dkwX13_choice_1 : List UInt8 := [16, 11, 46, 4, 160, 0, 5, 2, 172, 42, 27, 182, 1, 215, 62, 29, 155, 0, 8, 28, 2, 160, 0, 7]
abbrev dktX13_choice_1 : List UInt8 := dkwX13_choice_1 ++ dktX13_choice_2
def dkwX13_choice_0 : List UInt8 := [42, 3, 181, 0, 1, 27, 4, 16, 6, 184, 1, 91, 153, 0, 19, 28, 2, 161, 0, 14, 42, 180, 0, 115]
abbrev dktX13_choice_0 : List UInt8 := dkwX13_choice_0 ++ dktX13_choice_1
theorem dksX13_choice_0 : cX13_choice.data.toList.drop 0 = dktX13_choice_0 := by decide +kernel
theorem dksX13_choice_1 : cX13_choice.data.toList.drop 24 = dktX13_choice_1 := dk_seg dksX13_choice_0 24 rfl rfl
theorem dksX13_choice_2 : cX13_choice.data.toList.drop 48 = dktX13_choice_2 := dk_seg dksX13_choice_1 24 rfl rfl
theorem dX13_choice_0 : decode cX13_choice 0 = .ok (.aload_n 0, 1) := dk_42 (dk_at dksX13_choice_0 0 rfl rfl)
theorem dX13_choice_1 : decode cX13_choice 1 = .ok (.iconst 0, 1) := dk_3 (dk_at dksX13_choice_0 1 rfl rfl)
theorem dX13_choice_2 : decode cX13_choice 2 = .ok (.putfield 1, 3) := dk_181 0 1 (dk_at dksX13_choice_0 2 rfl rfl)
theorem dX13_choice_5 : decode cX13_choice 5 = .ok (.iload_n 1, 1) := dk_27 (dk_at dksX13_choice_0 5 rfl rfl)
theorem dX13_choice_6 : decode cX13_choice 6 = .ok (.iconst 1, 1) := dk_4 (dk_at dksX13_choice_0 6 rfl rfl)
theorem dX13_choice_7 : decode cX13_choice 7 = .ok (.bipush 6, 2) := dk_16 6 (dk_at dksX13_choice_0 7 rfl rfl)
theorem dX13_choice_9 : decode cX13_choice 9 = .ok (.invokestatic 347, 3) := dk_184 1 91 (dk_at dksX13_choice_0 9 rfl rfl)
theorem dX13_choice_12 : decode cX13_choice 12 = .ok (.ifCond .eq 19, 3) := dk_153 0 19 (dk_at dksX13_choice_0 12 rfl rfl)
theorem dX13_choice_15 : decode cX13_choice 15 = .ok (.iload_n 2, 1) := dk_28 (dk_at dksX13_choice_0 15 rfl rfl)
theorem dX13_choice_16 : decode cX13_choice 16 = .ok (.iconst (-1), 1) := dk_2 (dk_at dksX13_choice_0 16 rfl rfl)
theorem dX13_choice_17 : decode cX13_choice 17 = .ok (.if_icmp .lt 14, 3) := dk_161 0 14 (dk_at dksX13_choice_0 17 rfl rfl)
theorem dX13_choice_20 : decode cX13_choice 20 = .ok (.aload_n 0, 1) := dk_42 (dk_at dksX13_choice_0 20 rfl rfl)
theorem dX13_choice_21 : decode cX13_choice 21 = .ok (.getfield 115, 3) := dk_180 0 115 (dk_at dksX13_choice_0 21 rfl rfl)
theorem dX13_choice_24 : decode cX13_choice 24 = .ok (.bipush 11, 2) := dk_16 11 (dk_at dksX13_choice_1 0 rfl rfl)
theorem dX13_choice_26 : decode cX13_choice 26 = .ok (.iaload, 1) := dk_46 (dk_at dksX13_choice_1 2 rfl rfl)
theorem dX13_choice_27 : decode cX13_choice 27 = .ok (.iconst 1, 1) := dk_4 (dk_at dksX13_choice_1 3 rfl rfl)
theorem dX13_choice_28 : decode cX13_choice 28 = .ok (.if_icmp .ne 5, 3) := dk_160 0 5 (dk_at dksX13_choice_1 4 rfl rfl)
theorem dX13_choice_31 : decode cX13_choice 31 = .ok (.iconst (-1), 1) := dk_2 (dk_at dksX13_choice_1 7 rfl rfl)
theorem dX13_choice_32 : decode cX13_choice 32 = .ok (.ireturn, 1) := dk_172 (dk_at dksX13_choice_1 8 rfl rfl)
theorem dX13_choice_33 : decode cX13_choice 33 = .ok (.aload_n 0, 1) := dk_42 (dk_at dksX13_choice_1 9 rfl rfl)
theorem dX13_choice_34 : decode cX13_choice 34 = .ok (.iload_n 1, 1) := dk_27 (dk_at dksX13_choice_1 10 rfl rfl)
theorem dX13_choice_35 : decode cX13_choice 35 = .ok (.invokevirtual 471, 3) := dk_182 1 215 (dk_at dksX13_choice_1 11 rfl rfl)
theorem dX13_choice_38 : decode cX13_choice 38 = .ok (.istore_n 3, 1) := dk_62 (dk_at dksX13_choice_1 14 rfl rfl)
theorem dX13_choice_39 : decode cX13_choice 39 = .ok (.iload_n 3, 1) := dk_29 (dk_at dksX13_choice_1 15 rfl rfl)
theorem dX13_choice_40 : decode cX13_choice 40 = .ok (.ifCond .lt 8, 3) := dk_155 0 8 (dk_at dksX13_choice_1 16 rfl rfl)
theorem dX13_choice_43 : decode cX13_choice 43 = .ok (.iload_n 2, 1) := dk_28 (dk_at dksX13_choice_1 19 rfl rfl)
theorem dX13_choice_44 : decode cX13_choice 44 = .ok (.iconst (-1), 1) := dk_2 (dk_at dksX13_choice_1 20 rfl rfl)
theorem dX13_choice_45 : decode cX13_choice 45 = .ok (.if_icmp .ne 7, 3) := dk_160 0 7 (dk_at dksX13_choice_1 21 rfl rfl)
theorem dX13_choice_48 : decode cX13_choice 48 = .ok (.iload_n 3, 1) := dk_29 (dk_at dksX13_choice_2 0 rfl rfl)
theorem dX13_choice_49 : decode cX13_choice 49 = .ok (.goto 21, 3) := dk_167 0 21 (dk_at dksX13_choice_2 1 rfl rfl)
theorem dX13_choice_52 : decode cX13_choice 52 = .ok (.iload_n 2, 1) := dk_28 (dk_at dksX13_choice_2 4 rfl rfl)
theorem dX13_choice_53 : decode cX13_choice 53 = .ok (.aload_n 0, 1) := dk_42 (dk_at dksX13_choice_2 5 rfl rfl)
theorem dX13_choice_54 : decode cX13_choice 54 = .ok (.getfield 465, 3) := dk_180 1 209 (dk_at dksX13_choice_2 6 rfl rfl)
theorem dX13_choice_57 : decode cX13_choice 57 = .ok (.if_icmp .ge 12, 3) := dk_162 0 12 (dk_at dksX13_choice_2 9 rfl rfl)
theorem dX13_choice_60 : decode cX13_choice 60 = .ok (.aload_n 0, 1) := dk_42 (dk_at dksX13_choice_2 12 rfl rfl)
theorem dX13_choice_61 : decode cX13_choice 61 = .ok (.getfield 167, 3) := dk_180 0 167 (dk_at dksX13_choice_2 13 rfl rfl)
theorem dX13_choice_64 : decode cX13_choice 64 = .ok (.iload_n 2, 1) := dk_28 (dk_at dksX13_choice_2 16 rfl rfl)
theorem dX13_choice_65 : decode cX13_choice 65 = .ok (.iaload, 1) := dk_46 (dk_at dksX13_choice_2 17 rfl rfl)
theorem dX13_choice_66 : decode cX13_choice 66 = .ok (.goto 4, 3) := dk_167 0 4 (dk_at dksX13_choice_2 18 rfl rfl)
theorem dX13_choice_69 : decode cX13_choice 69 = .ok (.iconst (-1), 1) := dk_2 (dk_at dksX13_choice_2 21 rfl rfl)
theorem dX13_choice_70 : decode cX13_choice 70 = .ok (.ireturn, 1) := dk_172 (dk_at dksX13_choice_2 22 rfl rfl)
abbrev cX13_findChoice : ByteArray := prog_24_method_96_code
def yX13_findChoice : MethodName := ⟨RX13, "findChoice", "(I)I"⟩
def dkwX13_findChoice_1 : List UInt8 := [182, 1, 212, 153, 0, 5, 28, 172, 132, 2, 1, 167, 255, 223, 2, 172]
abbrev dktX13_findChoice_1 : List UInt8 := dkwX13_findChoice_1 ++ []
def dkwX13_findChoice_0 : List UInt8 := [3, 61, 28, 27, 163, 0, 34, 42, 3, 17, 37, 188, 17, 0, 164, 182, 1, 52, 42, 17, 37, 188, 28, 3]
abbrev dktX13_findChoice_0 : List UInt8 := dkwX13_findChoice_0 ++ dktX13_findChoice_1
theorem dksX13_findChoice_0 : cX13_findChoice.data.toList.drop 0 = dktX13_findChoice_0 := by decide +kernel
theorem dksX13_findChoice_1 : cX13_findChoice.data.toList.drop 24 = dktX13_findChoice_1 := dk_seg dksX13_findChoice_0 24 rfl rfl
theorem dX13_findChoice_0 : decode cX13_findChoice 0 = .ok (.iconst 0, 1) := dk_3 (dk_at dksX13_findChoice_0 0 rfl rfl)
theorem dX13_findChoice_1 : decode cX13_findChoice 1 = .ok (.istore_n 2, 1) := dk_61 (dk_at dksX13_findChoice_0 1 rfl rfl)
theorem dX13_findChoice_2 : decode cX13_findChoice 2 = .ok (.iload_n 2, 1) := dk_28 (dk_at dksX13_findChoice_0 2 rfl rfl)
theorem dX13_findChoice_3 : decode cX13_findChoice 3 = .ok (.iload_n 1, 1) := dk_27 (dk_at dksX13_findChoice_0 3 rfl rfl)
theorem dX13_findChoice_4 : decode cX13_findChoice 4 = .ok (.if_icmp .gt 34, 3) := dk_163 0 34 (dk_at dksX13_findChoice_0 4 rfl rfl)
theorem dX13_findChoice_7 : decode cX13_findChoice 7 = .ok (.aload_n 0, 1) := dk_42 (dk_at dksX13_findChoice_0 7 rfl rfl)
theorem dX13_findChoice_8 : decode cX13_findChoice 8 = .ok (.iconst 0, 1) := dk_3 (dk_at dksX13_findChoice_0 8 rfl rfl)
theorem dX13_findChoice_9 : decode cX13_findChoice 9 = .ok (.sipush 9660, 3) := dk_17 37 188 (dk_at dksX13_findChoice_0 9 rfl rfl)
theorem dX13_findChoice_12 : decode cX13_findChoice 12 = .ok (.sipush 164, 3) := dk_17 0 164 (dk_at dksX13_findChoice_0 12 rfl rfl)
theorem dX13_findChoice_15 : decode cX13_findChoice 15 = .ok (.invokevirtual 308, 3) := dk_182 1 52 (dk_at dksX13_findChoice_0 15 rfl rfl)
theorem dX13_findChoice_18 : decode cX13_findChoice 18 = .ok (.aload_n 0, 1) := dk_42 (dk_at dksX13_findChoice_0 18 rfl rfl)
theorem dX13_findChoice_19 : decode cX13_findChoice 19 = .ok (.sipush 9660, 3) := dk_17 37 188 (dk_at dksX13_findChoice_0 19 rfl rfl)
theorem dX13_findChoice_22 : decode cX13_findChoice 22 = .ok (.iload_n 2, 1) := dk_28 (dk_at dksX13_findChoice_0 22 rfl rfl)
theorem dX13_findChoice_23 : decode cX13_findChoice 23 = .ok (.iconst 0, 1) := dk_3 (dk_at dksX13_findChoice_0 23 rfl rfl)
theorem dX13_findChoice_24 : decode cX13_findChoice 24 = .ok (.invokevirtual 468, 3) := dk_182 1 212 (dk_at dksX13_findChoice_1 0 rfl rfl)
theorem dX13_findChoice_27 : decode cX13_findChoice 27 = .ok (.ifCond .eq 5, 3) := dk_153 0 5 (dk_at dksX13_findChoice_1 3 rfl rfl)
theorem dX13_findChoice_30 : decode cX13_findChoice 30 = .ok (.iload_n 2, 1) := dk_28 (dk_at dksX13_findChoice_1 6 rfl rfl)
theorem dX13_findChoice_31 : decode cX13_findChoice 31 = .ok (.ireturn, 1) := dk_172 (dk_at dksX13_findChoice_1 7 rfl rfl)
theorem dX13_findChoice_32 : decode cX13_findChoice 32 = .ok (.iinc 2 1, 3) := dk_132 2 1 (dk_at dksX13_findChoice_1 8 rfl rfl)
theorem dX13_findChoice_35 : decode cX13_findChoice 35 = .ok (.goto (-33), 3) := dk_167 255 223 (dk_at dksX13_findChoice_1 11 rfl rfl)
theorem dX13_findChoice_38 : decode cX13_findChoice 38 = .ok (.iconst (-1), 1) := dk_2 (dk_at dksX13_findChoice_1 14 rfl rfl)
theorem dX13_findChoice_39 : decode cX13_findChoice 39 = .ok (.ireturn, 1) := dk_172 (dk_at dksX13_findChoice_1 15 rfl rfl)
abbrev cX13_canWin : ByteArray := prog_24_method_95_code
def yX13_canWin : MethodName := ⟨RX13, "canWin", "(III)Z"⟩
def dkwX13_canWin_8 : List UInt8 := [182, 1, 212, 153, 0, 5, 4, 172, 132, 5, 1, 167, 255, 158, 3, 172]
abbrev dktX13_canWin_8 : List UInt8 := dkwX13_canWin_8 ++ []
def dkwX13_canWin_7 : List UInt8 := [79, 42, 27, 17, 1, 204, 96, 28, 4, 100, 21, 4, 153, 0, 9, 29, 4, 96, 167, 0, 4, 29]
abbrev dktX13_canWin_7 : List UInt8 := dkwX13_canWin_7 ++ dktX13_canWin_8
def dkwX13_canWin_6 : List UInt8 := [167, 0, 9, 42, 180, 0, 85, 4, 46, 182, 1, 85, 21, 4, 153, 0, 11, 42, 180, 0, 164, 29, 21, 5]
abbrev dktX13_canWin_6 : List UInt8 := dkwX13_canWin_6 ++ dktX13_canWin_7
def dkwX13_canWin_5 : List UInt8 := [17, 1, 204, 96, 17, 0, 164, 182, 1, 52, 42, 27, 17, 1, 204, 96, 21, 4, 153, 0, 8, 21, 5]
abbrev dktX13_canWin_5 : List UInt8 := dkwX13_canWin_5 ++ dktX13_canWin_6
def dkwX13_canWin_4 : List UInt8 := [54, 4, 3, 54, 5, 21, 5, 21, 4, 153, 0, 7, 8, 167, 0, 4, 4, 162, 0, 89, 42, 27, 27]
abbrev dktX13_canWin_4 : List UInt8 := dkwX13_canWin_4 ++ dktX13_canWin_5
def dkwX13_canWin_3 : List UInt8 := [3, 172, 28, 154, 0, 5, 3, 172, 42, 180, 0, 115, 27, 8, 96, 46, 154, 0, 7, 4, 167, 0, 4, 3]
abbrev dktX13_canWin_3 : List UInt8 := dkwX13_canWin_3 ++ dktX13_canWin_4
def dkwX13_canWin_2 : List UInt8 := [167, 255, 221, 42, 29, 181, 1, 209, 42, 180, 0, 115, 27, 16, 8, 96, 46, 154, 0, 7, 4, 167, 0, 4]
abbrev dktX13_canWin_2 : List UInt8 := dkwX13_canWin_2 ++ dktX13_canWin_3
def dkwX13_canWin_1 : List UInt8 := [96, 46, 154, 0, 23, 42, 180, 0, 167, 21, 4, 42, 180, 0, 164, 21, 4, 46, 79, 132, 4, 1]
abbrev dktX13_canWin_1 : List UInt8 := dkwX13_canWin_1 ++ dktX13_canWin_2
def dkwX13_canWin_0 : List UInt8 := [42, 27, 182, 1, 206, 154, 0, 67, 3, 54, 4, 21, 4, 29, 162, 0, 35, 42, 180, 0, 115, 27, 16, 8]
abbrev dktX13_canWin_0 : List UInt8 := dkwX13_canWin_0 ++ dktX13_canWin_1
theorem dksX13_canWin_0 : cX13_canWin.data.toList.drop 0 = dktX13_canWin_0 := by decide +kernel
theorem dksX13_canWin_1 : cX13_canWin.data.toList.drop 24 = dktX13_canWin_1 := dk_seg dksX13_canWin_0 24 rfl rfl
theorem dksX13_canWin_2 : cX13_canWin.data.toList.drop 46 = dktX13_canWin_2 := dk_seg dksX13_canWin_1 22 rfl rfl
theorem dksX13_canWin_3 : cX13_canWin.data.toList.drop 70 = dktX13_canWin_3 := dk_seg dksX13_canWin_2 24 rfl rfl
theorem dksX13_canWin_4 : cX13_canWin.data.toList.drop 94 = dktX13_canWin_4 := dk_seg dksX13_canWin_3 24 rfl rfl
theorem dksX13_canWin_5 : cX13_canWin.data.toList.drop 117 = dktX13_canWin_5 := dk_seg dksX13_canWin_4 23 rfl rfl
theorem dksX13_canWin_6 : cX13_canWin.data.toList.drop 140 = dktX13_canWin_6 := dk_seg dksX13_canWin_5 23 rfl rfl
theorem dksX13_canWin_7 : cX13_canWin.data.toList.drop 164 = dktX13_canWin_7 := dk_seg dksX13_canWin_6 24 rfl rfl
theorem dksX13_canWin_8 : cX13_canWin.data.toList.drop 186 = dktX13_canWin_8 := dk_seg dksX13_canWin_7 22 rfl rfl
theorem dX13_canWin_0 : decode cX13_canWin 0 = .ok (.aload_n 0, 1) := dk_42 (dk_at dksX13_canWin_0 0 rfl rfl)
theorem dX13_canWin_1 : decode cX13_canWin 1 = .ok (.iload_n 1, 1) := dk_27 (dk_at dksX13_canWin_0 1 rfl rfl)
theorem dX13_canWin_2 : decode cX13_canWin 2 = .ok (.invokevirtual 462, 3) := dk_182 1 206 (dk_at dksX13_canWin_0 2 rfl rfl)
theorem dX13_canWin_5 : decode cX13_canWin 5 = .ok (.ifCond .ne 67, 3) := dk_154 0 67 (dk_at dksX13_canWin_0 5 rfl rfl)
theorem dX13_canWin_8 : decode cX13_canWin 8 = .ok (.iconst 0, 1) := dk_3 (dk_at dksX13_canWin_0 8 rfl rfl)
theorem dX13_canWin_9 : decode cX13_canWin 9 = .ok (.istore 4, 2) := dk_54 4 (dk_at dksX13_canWin_0 9 rfl rfl)
theorem dX13_canWin_11 : decode cX13_canWin 11 = .ok (.iload 4, 2) := dk_21 4 (dk_at dksX13_canWin_0 11 rfl rfl)
theorem dX13_canWin_13 : decode cX13_canWin 13 = .ok (.iload_n 3, 1) := dk_29 (dk_at dksX13_canWin_0 13 rfl rfl)
theorem dX13_canWin_14 : decode cX13_canWin 14 = .ok (.if_icmp .ge 35, 3) := dk_162 0 35 (dk_at dksX13_canWin_0 14 rfl rfl)
theorem dX13_canWin_17 : decode cX13_canWin 17 = .ok (.aload_n 0, 1) := dk_42 (dk_at dksX13_canWin_0 17 rfl rfl)
theorem dX13_canWin_18 : decode cX13_canWin 18 = .ok (.getfield 115, 3) := dk_180 0 115 (dk_at dksX13_canWin_0 18 rfl rfl)
theorem dX13_canWin_21 : decode cX13_canWin 21 = .ok (.iload_n 1, 1) := dk_27 (dk_at dksX13_canWin_0 21 rfl rfl)
theorem dX13_canWin_22 : decode cX13_canWin 22 = .ok (.bipush 8, 2) := dk_16 8 (dk_at dksX13_canWin_0 22 rfl rfl)
theorem dX13_canWin_24 : decode cX13_canWin 24 = .ok (.iadd, 1) := dk_96 (dk_at dksX13_canWin_1 0 rfl rfl)
theorem dX13_canWin_25 : decode cX13_canWin 25 = .ok (.iaload, 1) := dk_46 (dk_at dksX13_canWin_1 1 rfl rfl)
theorem dX13_canWin_26 : decode cX13_canWin 26 = .ok (.ifCond .ne 23, 3) := dk_154 0 23 (dk_at dksX13_canWin_1 2 rfl rfl)
theorem dX13_canWin_29 : decode cX13_canWin 29 = .ok (.aload_n 0, 1) := dk_42 (dk_at dksX13_canWin_1 5 rfl rfl)
theorem dX13_canWin_30 : decode cX13_canWin 30 = .ok (.getfield 167, 3) := dk_180 0 167 (dk_at dksX13_canWin_1 6 rfl rfl)
theorem dX13_canWin_33 : decode cX13_canWin 33 = .ok (.iload 4, 2) := dk_21 4 (dk_at dksX13_canWin_1 9 rfl rfl)
theorem dX13_canWin_35 : decode cX13_canWin 35 = .ok (.aload_n 0, 1) := dk_42 (dk_at dksX13_canWin_1 11 rfl rfl)
theorem dX13_canWin_36 : decode cX13_canWin 36 = .ok (.getfield 164, 3) := dk_180 0 164 (dk_at dksX13_canWin_1 12 rfl rfl)
theorem dX13_canWin_39 : decode cX13_canWin 39 = .ok (.iload 4, 2) := dk_21 4 (dk_at dksX13_canWin_1 15 rfl rfl)
theorem dX13_canWin_41 : decode cX13_canWin 41 = .ok (.iaload, 1) := dk_46 (dk_at dksX13_canWin_1 17 rfl rfl)
theorem dX13_canWin_42 : decode cX13_canWin 42 = .ok (.iastore, 1) := dk_79 (dk_at dksX13_canWin_1 18 rfl rfl)
theorem dX13_canWin_43 : decode cX13_canWin 43 = .ok (.iinc 4 1, 3) := dk_132 4 1 (dk_at dksX13_canWin_1 19 rfl rfl)
theorem dX13_canWin_46 : decode cX13_canWin 46 = .ok (.goto (-35), 3) := dk_167 255 221 (dk_at dksX13_canWin_2 0 rfl rfl)
theorem dX13_canWin_49 : decode cX13_canWin 49 = .ok (.aload_n 0, 1) := dk_42 (dk_at dksX13_canWin_2 3 rfl rfl)
theorem dX13_canWin_50 : decode cX13_canWin 50 = .ok (.iload_n 3, 1) := dk_29 (dk_at dksX13_canWin_2 4 rfl rfl)
theorem dX13_canWin_51 : decode cX13_canWin 51 = .ok (.putfield 465, 3) := dk_181 1 209 (dk_at dksX13_canWin_2 5 rfl rfl)
theorem dX13_canWin_54 : decode cX13_canWin 54 = .ok (.aload_n 0, 1) := dk_42 (dk_at dksX13_canWin_2 8 rfl rfl)
theorem dX13_canWin_55 : decode cX13_canWin 55 = .ok (.getfield 115, 3) := dk_180 0 115 (dk_at dksX13_canWin_2 9 rfl rfl)
theorem dX13_canWin_58 : decode cX13_canWin 58 = .ok (.iload_n 1, 1) := dk_27 (dk_at dksX13_canWin_2 12 rfl rfl)
theorem dX13_canWin_59 : decode cX13_canWin 59 = .ok (.bipush 8, 2) := dk_16 8 (dk_at dksX13_canWin_2 13 rfl rfl)
theorem dX13_canWin_61 : decode cX13_canWin 61 = .ok (.iadd, 1) := dk_96 (dk_at dksX13_canWin_2 15 rfl rfl)
theorem dX13_canWin_62 : decode cX13_canWin 62 = .ok (.iaload, 1) := dk_46 (dk_at dksX13_canWin_2 16 rfl rfl)
theorem dX13_canWin_63 : decode cX13_canWin 63 = .ok (.ifCond .ne 7, 3) := dk_154 0 7 (dk_at dksX13_canWin_2 17 rfl rfl)
theorem dX13_canWin_66 : decode cX13_canWin 66 = .ok (.iconst 1, 1) := dk_4 (dk_at dksX13_canWin_2 20 rfl rfl)
theorem dX13_canWin_67 : decode cX13_canWin 67 = .ok (.goto 4, 3) := dk_167 0 4 (dk_at dksX13_canWin_2 21 rfl rfl)
theorem dX13_canWin_70 : decode cX13_canWin 70 = .ok (.iconst 0, 1) := dk_3 (dk_at dksX13_canWin_3 0 rfl rfl)
theorem dX13_canWin_71 : decode cX13_canWin 71 = .ok (.ireturn, 1) := dk_172 (dk_at dksX13_canWin_3 1 rfl rfl)
theorem dX13_canWin_72 : decode cX13_canWin 72 = .ok (.iload_n 2, 1) := dk_28 (dk_at dksX13_canWin_3 2 rfl rfl)
theorem dX13_canWin_73 : decode cX13_canWin 73 = .ok (.ifCond .ne 5, 3) := dk_154 0 5 (dk_at dksX13_canWin_3 3 rfl rfl)
theorem dX13_canWin_76 : decode cX13_canWin 76 = .ok (.iconst 0, 1) := dk_3 (dk_at dksX13_canWin_3 6 rfl rfl)
theorem dX13_canWin_77 : decode cX13_canWin 77 = .ok (.ireturn, 1) := dk_172 (dk_at dksX13_canWin_3 7 rfl rfl)
theorem dX13_canWin_78 : decode cX13_canWin 78 = .ok (.aload_n 0, 1) := dk_42 (dk_at dksX13_canWin_3 8 rfl rfl)
theorem dX13_canWin_79 : decode cX13_canWin 79 = .ok (.getfield 115, 3) := dk_180 0 115 (dk_at dksX13_canWin_3 9 rfl rfl)
theorem dX13_canWin_82 : decode cX13_canWin 82 = .ok (.iload_n 1, 1) := dk_27 (dk_at dksX13_canWin_3 12 rfl rfl)
theorem dX13_canWin_83 : decode cX13_canWin 83 = .ok (.iconst 5, 1) := dk_8 (dk_at dksX13_canWin_3 13 rfl rfl)
theorem dX13_canWin_84 : decode cX13_canWin 84 = .ok (.iadd, 1) := dk_96 (dk_at dksX13_canWin_3 14 rfl rfl)
theorem dX13_canWin_85 : decode cX13_canWin 85 = .ok (.iaload, 1) := dk_46 (dk_at dksX13_canWin_3 15 rfl rfl)
theorem dX13_canWin_86 : decode cX13_canWin 86 = .ok (.ifCond .ne 7, 3) := dk_154 0 7 (dk_at dksX13_canWin_3 16 rfl rfl)
theorem dX13_canWin_89 : decode cX13_canWin 89 = .ok (.iconst 1, 1) := dk_4 (dk_at dksX13_canWin_3 19 rfl rfl)
theorem dX13_canWin_90 : decode cX13_canWin 90 = .ok (.goto 4, 3) := dk_167 0 4 (dk_at dksX13_canWin_3 20 rfl rfl)
theorem dX13_canWin_93 : decode cX13_canWin 93 = .ok (.iconst 0, 1) := dk_3 (dk_at dksX13_canWin_3 23 rfl rfl)
theorem dX13_canWin_94 : decode cX13_canWin 94 = .ok (.istore 4, 2) := dk_54 4 (dk_at dksX13_canWin_4 0 rfl rfl)
theorem dX13_canWin_96 : decode cX13_canWin 96 = .ok (.iconst 0, 1) := dk_3 (dk_at dksX13_canWin_4 2 rfl rfl)
theorem dX13_canWin_97 : decode cX13_canWin 97 = .ok (.istore 5, 2) := dk_54 5 (dk_at dksX13_canWin_4 3 rfl rfl)
theorem dX13_canWin_99 : decode cX13_canWin 99 = .ok (.iload 5, 2) := dk_21 5 (dk_at dksX13_canWin_4 5 rfl rfl)
theorem dX13_canWin_101 : decode cX13_canWin 101 = .ok (.iload 4, 2) := dk_21 4 (dk_at dksX13_canWin_4 7 rfl rfl)
theorem dX13_canWin_103 : decode cX13_canWin 103 = .ok (.ifCond .eq 7, 3) := dk_153 0 7 (dk_at dksX13_canWin_4 9 rfl rfl)
theorem dX13_canWin_106 : decode cX13_canWin 106 = .ok (.iconst 5, 1) := dk_8 (dk_at dksX13_canWin_4 12 rfl rfl)
theorem dX13_canWin_107 : decode cX13_canWin 107 = .ok (.goto 4, 3) := dk_167 0 4 (dk_at dksX13_canWin_4 13 rfl rfl)
theorem dX13_canWin_110 : decode cX13_canWin 110 = .ok (.iconst 1, 1) := dk_4 (dk_at dksX13_canWin_4 16 rfl rfl)
theorem dX13_canWin_111 : decode cX13_canWin 111 = .ok (.if_icmp .ge 89, 3) := dk_162 0 89 (dk_at dksX13_canWin_4 17 rfl rfl)
theorem dX13_canWin_114 : decode cX13_canWin 114 = .ok (.aload_n 0, 1) := dk_42 (dk_at dksX13_canWin_4 20 rfl rfl)
theorem dX13_canWin_115 : decode cX13_canWin 115 = .ok (.iload_n 1, 1) := dk_27 (dk_at dksX13_canWin_4 21 rfl rfl)
theorem dX13_canWin_116 : decode cX13_canWin 116 = .ok (.iload_n 1, 1) := dk_27 (dk_at dksX13_canWin_4 22 rfl rfl)
theorem dX13_canWin_117 : decode cX13_canWin 117 = .ok (.sipush 460, 3) := dk_17 1 204 (dk_at dksX13_canWin_5 0 rfl rfl)
theorem dX13_canWin_120 : decode cX13_canWin 120 = .ok (.iadd, 1) := dk_96 (dk_at dksX13_canWin_5 3 rfl rfl)
theorem dX13_canWin_121 : decode cX13_canWin 121 = .ok (.sipush 164, 3) := dk_17 0 164 (dk_at dksX13_canWin_5 4 rfl rfl)
theorem dX13_canWin_124 : decode cX13_canWin 124 = .ok (.invokevirtual 308, 3) := dk_182 1 52 (dk_at dksX13_canWin_5 7 rfl rfl)
theorem dX13_canWin_127 : decode cX13_canWin 127 = .ok (.aload_n 0, 1) := dk_42 (dk_at dksX13_canWin_5 10 rfl rfl)
theorem dX13_canWin_128 : decode cX13_canWin 128 = .ok (.iload_n 1, 1) := dk_27 (dk_at dksX13_canWin_5 11 rfl rfl)
theorem dX13_canWin_129 : decode cX13_canWin 129 = .ok (.sipush 460, 3) := dk_17 1 204 (dk_at dksX13_canWin_5 12 rfl rfl)
theorem dX13_canWin_132 : decode cX13_canWin 132 = .ok (.iadd, 1) := dk_96 (dk_at dksX13_canWin_5 15 rfl rfl)
theorem dX13_canWin_133 : decode cX13_canWin 133 = .ok (.iload 4, 2) := dk_21 4 (dk_at dksX13_canWin_5 16 rfl rfl)
theorem dX13_canWin_135 : decode cX13_canWin 135 = .ok (.ifCond .eq 8, 3) := dk_153 0 8 (dk_at dksX13_canWin_5 18 rfl rfl)
theorem dX13_canWin_138 : decode cX13_canWin 138 = .ok (.iload 5, 2) := dk_21 5 (dk_at dksX13_canWin_5 21 rfl rfl)
theorem dX13_canWin_140 : decode cX13_canWin 140 = .ok (.goto 9, 3) := dk_167 0 9 (dk_at dksX13_canWin_6 0 rfl rfl)
theorem dX13_canWin_143 : decode cX13_canWin 143 = .ok (.aload_n 0, 1) := dk_42 (dk_at dksX13_canWin_6 3 rfl rfl)
theorem dX13_canWin_144 : decode cX13_canWin 144 = .ok (.getfield 85, 3) := dk_180 0 85 (dk_at dksX13_canWin_6 4 rfl rfl)
theorem dX13_canWin_147 : decode cX13_canWin 147 = .ok (.iconst 1, 1) := dk_4 (dk_at dksX13_canWin_6 7 rfl rfl)
theorem dX13_canWin_148 : decode cX13_canWin 148 = .ok (.iaload, 1) := dk_46 (dk_at dksX13_canWin_6 8 rfl rfl)
theorem dX13_canWin_149 : decode cX13_canWin 149 = .ok (.invokevirtual 341, 3) := dk_182 1 85 (dk_at dksX13_canWin_6 9 rfl rfl)
theorem dX13_canWin_152 : decode cX13_canWin 152 = .ok (.iload 4, 2) := dk_21 4 (dk_at dksX13_canWin_6 12 rfl rfl)
theorem dX13_canWin_154 : decode cX13_canWin 154 = .ok (.ifCond .eq 11, 3) := dk_153 0 11 (dk_at dksX13_canWin_6 14 rfl rfl)
theorem dX13_canWin_157 : decode cX13_canWin 157 = .ok (.aload_n 0, 1) := dk_42 (dk_at dksX13_canWin_6 17 rfl rfl)
theorem dX13_canWin_158 : decode cX13_canWin 158 = .ok (.getfield 164, 3) := dk_180 0 164 (dk_at dksX13_canWin_6 18 rfl rfl)
theorem dX13_canWin_161 : decode cX13_canWin 161 = .ok (.iload_n 3, 1) := dk_29 (dk_at dksX13_canWin_6 21 rfl rfl)
theorem dX13_canWin_162 : decode cX13_canWin 162 = .ok (.iload 5, 2) := dk_21 5 (dk_at dksX13_canWin_6 22 rfl rfl)
theorem dX13_canWin_164 : decode cX13_canWin 164 = .ok (.iastore, 1) := dk_79 (dk_at dksX13_canWin_7 0 rfl rfl)
theorem dX13_canWin_165 : decode cX13_canWin 165 = .ok (.aload_n 0, 1) := dk_42 (dk_at dksX13_canWin_7 1 rfl rfl)
theorem dX13_canWin_166 : decode cX13_canWin 166 = .ok (.iload_n 1, 1) := dk_27 (dk_at dksX13_canWin_7 2 rfl rfl)
theorem dX13_canWin_167 : decode cX13_canWin 167 = .ok (.sipush 460, 3) := dk_17 1 204 (dk_at dksX13_canWin_7 3 rfl rfl)
theorem dX13_canWin_170 : decode cX13_canWin 170 = .ok (.iadd, 1) := dk_96 (dk_at dksX13_canWin_7 6 rfl rfl)
theorem dX13_canWin_171 : decode cX13_canWin 171 = .ok (.iload_n 2, 1) := dk_28 (dk_at dksX13_canWin_7 7 rfl rfl)
theorem dX13_canWin_172 : decode cX13_canWin 172 = .ok (.iconst 1, 1) := dk_4 (dk_at dksX13_canWin_7 8 rfl rfl)
theorem dX13_canWin_173 : decode cX13_canWin 173 = .ok (.isub, 1) := dk_100 (dk_at dksX13_canWin_7 9 rfl rfl)
theorem dX13_canWin_174 : decode cX13_canWin 174 = .ok (.iload 4, 2) := dk_21 4 (dk_at dksX13_canWin_7 10 rfl rfl)
theorem dX13_canWin_176 : decode cX13_canWin 176 = .ok (.ifCond .eq 9, 3) := dk_153 0 9 (dk_at dksX13_canWin_7 12 rfl rfl)
theorem dX13_canWin_179 : decode cX13_canWin 179 = .ok (.iload_n 3, 1) := dk_29 (dk_at dksX13_canWin_7 15 rfl rfl)
theorem dX13_canWin_180 : decode cX13_canWin 180 = .ok (.iconst 1, 1) := dk_4 (dk_at dksX13_canWin_7 16 rfl rfl)
theorem dX13_canWin_181 : decode cX13_canWin 181 = .ok (.iadd, 1) := dk_96 (dk_at dksX13_canWin_7 17 rfl rfl)
theorem dX13_canWin_182 : decode cX13_canWin 182 = .ok (.goto 4, 3) := dk_167 0 4 (dk_at dksX13_canWin_7 18 rfl rfl)
theorem dX13_canWin_185 : decode cX13_canWin 185 = .ok (.iload_n 3, 1) := dk_29 (dk_at dksX13_canWin_7 21 rfl rfl)
theorem dX13_canWin_186 : decode cX13_canWin 186 = .ok (.invokevirtual 468, 3) := dk_182 1 212 (dk_at dksX13_canWin_8 0 rfl rfl)
theorem dX13_canWin_189 : decode cX13_canWin 189 = .ok (.ifCond .eq 5, 3) := dk_153 0 5 (dk_at dksX13_canWin_8 3 rfl rfl)
theorem dX13_canWin_192 : decode cX13_canWin 192 = .ok (.iconst 1, 1) := dk_4 (dk_at dksX13_canWin_8 6 rfl rfl)
theorem dX13_canWin_193 : decode cX13_canWin 193 = .ok (.ireturn, 1) := dk_172 (dk_at dksX13_canWin_8 7 rfl rfl)
theorem dX13_canWin_194 : decode cX13_canWin 194 = .ok (.iinc 5 1, 3) := dk_132 5 1 (dk_at dksX13_canWin_8 8 rfl rfl)
theorem dX13_canWin_197 : decode cX13_canWin 197 = .ok (.goto (-98), 3) := dk_167 255 158 (dk_at dksX13_canWin_8 11 rfl rfl)
theorem dX13_canWin_200 : decode cX13_canWin 200 = .ok (.iconst 0, 1) := dk_3 (dk_at dksX13_canWin_8 14 rfl rfl)
theorem dX13_canWin_201 : decode cX13_canWin 201 = .ok (.ireturn, 1) := dk_172 (dk_at dksX13_canWin_8 15 rfl rfl)
abbrev cX13_goesToHeap : ByteArray := prog_24_method_94_code
def yX13_goesToHeap : MethodName := ⟨RX13, "goesToHeap", "(I)Z"⟩
def dkwX13_goesToHeap_1 : List UInt8 := [172]
abbrev dktX13_goesToHeap_1 : List UInt8 := dkwX13_goesToHeap_1 ++ []
def dkwX13_goesToHeap_0 : List UInt8 := [3, 61, 28, 154, 0, 20, 42, 27, 182, 1, 104, 154, 0, 12, 42, 27, 182, 1, 79, 61, 167, 255, 238, 28]
abbrev dktX13_goesToHeap_0 : List UInt8 := dkwX13_goesToHeap_0 ++ dktX13_goesToHeap_1
theorem dksX13_goesToHeap_0 : cX13_goesToHeap.data.toList.drop 0 = dktX13_goesToHeap_0 := by decide +kernel
theorem dksX13_goesToHeap_1 : cX13_goesToHeap.data.toList.drop 24 = dktX13_goesToHeap_1 := dk_seg dksX13_goesToHeap_0 24 rfl rfl
theorem dX13_goesToHeap_0 : decode cX13_goesToHeap 0 = .ok (.iconst 0, 1) := dk_3 (dk_at dksX13_goesToHeap_0 0 rfl rfl)
theorem dX13_goesToHeap_1 : decode cX13_goesToHeap 1 = .ok (.istore_n 2, 1) := dk_61 (dk_at dksX13_goesToHeap_0 1 rfl rfl)
theorem dX13_goesToHeap_2 : decode cX13_goesToHeap 2 = .ok (.iload_n 2, 1) := dk_28 (dk_at dksX13_goesToHeap_0 2 rfl rfl)
theorem dX13_goesToHeap_3 : decode cX13_goesToHeap 3 = .ok (.ifCond .ne 20, 3) := dk_154 0 20 (dk_at dksX13_goesToHeap_0 3 rfl rfl)
theorem dX13_goesToHeap_6 : decode cX13_goesToHeap 6 = .ok (.aload_n 0, 1) := dk_42 (dk_at dksX13_goesToHeap_0 6 rfl rfl)
theorem dX13_goesToHeap_7 : decode cX13_goesToHeap 7 = .ok (.iload_n 1, 1) := dk_27 (dk_at dksX13_goesToHeap_0 7 rfl rfl)
theorem dX13_goesToHeap_8 : decode cX13_goesToHeap 8 = .ok (.invokevirtual 360, 3) := dk_182 1 104 (dk_at dksX13_goesToHeap_0 8 rfl rfl)
theorem dX13_goesToHeap_11 : decode cX13_goesToHeap 11 = .ok (.ifCond .ne 12, 3) := dk_154 0 12 (dk_at dksX13_goesToHeap_0 11 rfl rfl)
theorem dX13_goesToHeap_14 : decode cX13_goesToHeap 14 = .ok (.aload_n 0, 1) := dk_42 (dk_at dksX13_goesToHeap_0 14 rfl rfl)
theorem dX13_goesToHeap_15 : decode cX13_goesToHeap 15 = .ok (.iload_n 1, 1) := dk_27 (dk_at dksX13_goesToHeap_0 15 rfl rfl)
theorem dX13_goesToHeap_16 : decode cX13_goesToHeap 16 = .ok (.invokevirtual 335, 3) := dk_182 1 79 (dk_at dksX13_goesToHeap_0 16 rfl rfl)
theorem dX13_goesToHeap_19 : decode cX13_goesToHeap 19 = .ok (.istore_n 2, 1) := dk_61 (dk_at dksX13_goesToHeap_0 19 rfl rfl)
theorem dX13_goesToHeap_20 : decode cX13_goesToHeap 20 = .ok (.goto (-18), 3) := dk_167 255 238 (dk_at dksX13_goesToHeap_0 20 rfl rfl)
theorem dX13_goesToHeap_23 : decode cX13_goesToHeap 23 = .ok (.iload_n 2, 1) := dk_28 (dk_at dksX13_goesToHeap_0 23 rfl rfl)
theorem dX13_goesToHeap_24 : decode cX13_goesToHeap 24 = .ok (.ireturn, 1) := dk_172 (dk_at dksX13_goesToHeap_1 0 rfl rfl)
abbrev cX13_both_2 : ByteArray := prog_24_method_99_code
def yX13_both_2 : MethodName := ⟨RX13, "both", "(I)I"⟩
def dkwX13_both_2_2 : List UInt8 := [153, 0, 7, 4, 167, 0, 4, 3, 172]
abbrev dktX13_both_2_2 : List UInt8 := dkwX13_both_2_2 ++ []
def dkwX13_both_2_1 : List UInt8 := [160, 0, 5, 2, 172, 42, 3, 17, 37, 188, 17, 0, 164, 182, 1, 52, 42, 17, 37, 188, 27, 182, 1, 218]
abbrev dktX13_both_2_1 : List UInt8 := dkwX13_both_2_1 ++ dktX13_both_2_2
def dkwX13_both_2_0 : List UInt8 := [42, 3, 181, 0, 1, 27, 4, 7, 184, 1, 91, 153, 0, 14, 42, 180, 0, 115, 16, 11, 46, 4]
abbrev dktX13_both_2_0 : List UInt8 := dkwX13_both_2_0 ++ dktX13_both_2_1
theorem dksX13_both_2_0 : cX13_both_2.data.toList.drop 0 = dktX13_both_2_0 := by decide +kernel
theorem dksX13_both_2_1 : cX13_both_2.data.toList.drop 22 = dktX13_both_2_1 := dk_seg dksX13_both_2_0 22 rfl rfl
theorem dksX13_both_2_2 : cX13_both_2.data.toList.drop 46 = dktX13_both_2_2 := dk_seg dksX13_both_2_1 24 rfl rfl
theorem dX13_both_2_0 : decode cX13_both_2 0 = .ok (.aload_n 0, 1) := dk_42 (dk_at dksX13_both_2_0 0 rfl rfl)
theorem dX13_both_2_1 : decode cX13_both_2 1 = .ok (.iconst 0, 1) := dk_3 (dk_at dksX13_both_2_0 1 rfl rfl)
theorem dX13_both_2_2 : decode cX13_both_2 2 = .ok (.putfield 1, 3) := dk_181 0 1 (dk_at dksX13_both_2_0 2 rfl rfl)
theorem dX13_both_2_5 : decode cX13_both_2 5 = .ok (.iload_n 1, 1) := dk_27 (dk_at dksX13_both_2_0 5 rfl rfl)
theorem dX13_both_2_6 : decode cX13_both_2 6 = .ok (.iconst 1, 1) := dk_4 (dk_at dksX13_both_2_0 6 rfl rfl)
theorem dX13_both_2_7 : decode cX13_both_2 7 = .ok (.iconst 4, 1) := dk_7 (dk_at dksX13_both_2_0 7 rfl rfl)
theorem dX13_both_2_8 : decode cX13_both_2 8 = .ok (.invokestatic 347, 3) := dk_184 1 91 (dk_at dksX13_both_2_0 8 rfl rfl)
theorem dX13_both_2_11 : decode cX13_both_2 11 = .ok (.ifCond .eq 14, 3) := dk_153 0 14 (dk_at dksX13_both_2_0 11 rfl rfl)
theorem dX13_both_2_14 : decode cX13_both_2 14 = .ok (.aload_n 0, 1) := dk_42 (dk_at dksX13_both_2_0 14 rfl rfl)
theorem dX13_both_2_15 : decode cX13_both_2 15 = .ok (.getfield 115, 3) := dk_180 0 115 (dk_at dksX13_both_2_0 15 rfl rfl)
theorem dX13_both_2_18 : decode cX13_both_2 18 = .ok (.bipush 11, 2) := dk_16 11 (dk_at dksX13_both_2_0 18 rfl rfl)
theorem dX13_both_2_20 : decode cX13_both_2 20 = .ok (.iaload, 1) := dk_46 (dk_at dksX13_both_2_0 20 rfl rfl)
theorem dX13_both_2_21 : decode cX13_both_2 21 = .ok (.iconst 1, 1) := dk_4 (dk_at dksX13_both_2_0 21 rfl rfl)
theorem dX13_both_2_22 : decode cX13_both_2 22 = .ok (.if_icmp .ne 5, 3) := dk_160 0 5 (dk_at dksX13_both_2_1 0 rfl rfl)
theorem dX13_both_2_25 : decode cX13_both_2 25 = .ok (.iconst (-1), 1) := dk_2 (dk_at dksX13_both_2_1 3 rfl rfl)
theorem dX13_both_2_26 : decode cX13_both_2 26 = .ok (.ireturn, 1) := dk_172 (dk_at dksX13_both_2_1 4 rfl rfl)
theorem dX13_both_2_27 : decode cX13_both_2 27 = .ok (.aload_n 0, 1) := dk_42 (dk_at dksX13_both_2_1 5 rfl rfl)
theorem dX13_both_2_28 : decode cX13_both_2 28 = .ok (.iconst 0, 1) := dk_3 (dk_at dksX13_both_2_1 6 rfl rfl)
theorem dX13_both_2_29 : decode cX13_both_2 29 = .ok (.sipush 9660, 3) := dk_17 37 188 (dk_at dksX13_both_2_1 7 rfl rfl)
theorem dX13_both_2_32 : decode cX13_both_2 32 = .ok (.sipush 164, 3) := dk_17 0 164 (dk_at dksX13_both_2_1 10 rfl rfl)
theorem dX13_both_2_35 : decode cX13_both_2 35 = .ok (.invokevirtual 308, 3) := dk_182 1 52 (dk_at dksX13_both_2_1 13 rfl rfl)
theorem dX13_both_2_38 : decode cX13_both_2 38 = .ok (.aload_n 0, 1) := dk_42 (dk_at dksX13_both_2_1 16 rfl rfl)
theorem dX13_both_2_39 : decode cX13_both_2 39 = .ok (.sipush 9660, 3) := dk_17 37 188 (dk_at dksX13_both_2_1 17 rfl rfl)
theorem dX13_both_2_42 : decode cX13_both_2 42 = .ok (.iload_n 1, 1) := dk_27 (dk_at dksX13_both_2_1 20 rfl rfl)
theorem dX13_both_2_43 : decode cX13_both_2 43 = .ok (.invokevirtual 474, 3) := dk_182 1 218 (dk_at dksX13_both_2_1 21 rfl rfl)
theorem dX13_both_2_46 : decode cX13_both_2 46 = .ok (.ifCond .eq 7, 3) := dk_153 0 7 (dk_at dksX13_both_2_2 0 rfl rfl)
theorem dX13_both_2_49 : decode cX13_both_2 49 = .ok (.iconst 1, 1) := dk_4 (dk_at dksX13_both_2_2 3 rfl rfl)
theorem dX13_both_2_50 : decode cX13_both_2 50 = .ok (.goto 4, 3) := dk_167 0 4 (dk_at dksX13_both_2_2 4 rfl rfl)
theorem dX13_both_2_53 : decode cX13_both_2 53 = .ok (.iconst 0, 1) := dk_3 (dk_at dksX13_both_2_2 7 rfl rfl)
theorem dX13_both_2_54 : decode cX13_both_2 54 = .ok (.ireturn, 1) := dk_172 (dk_at dksX13_both_2_2 8 rfl rfl)
abbrev cX13_mustWin : ByteArray := prog_24_method_98_code
def yX13_mustWin : MethodName := ⟨RX13, "mustWin", "(II)Z"⟩
def dkwX13_mustWin_5 : List UInt8 := [167, 255, 199, 21, 4, 172]
abbrev dktX13_mustWin_5 : List UInt8 := dkwX13_mustWin_5 ++ []
def dkwX13_mustWin_4 : List UInt8 := [96, 21, 5, 182, 1, 85, 42, 27, 17, 1, 204, 96, 28, 4, 100, 182, 1, 218, 54, 4, 132, 5, 1]
abbrev dktX13_mustWin_4 : List UInt8 := dkwX13_mustWin_4 ++ dktX13_mustWin_5
def dkwX13_mustWin_3 : List UInt8 := [21, 4, 29, 159, 0, 47, 42, 27, 27, 17, 1, 204, 96, 17, 0, 164, 182, 1, 52, 42, 27, 17, 1, 204]
abbrev dktX13_mustWin_3 : List UInt8 := dkwX13_mustWin_3 ++ dktX13_mustWin_4
def dkwX13_mustWin_2 : List UInt8 := [154, 0, 7, 4, 167, 0, 4, 3, 54, 4, 3, 54, 5, 21, 5, 8, 162, 0, 57, 28, 158, 0, 53]
abbrev dktX13_mustWin_2 : List UInt8 := dkwX13_mustWin_2 ++ dktX13_mustWin_3
def dkwX13_mustWin_1 : List UInt8 := [3, 172, 42, 180, 0, 115, 27, 8, 96, 46, 154, 0, 7, 4, 167, 0, 4, 3, 62, 28, 158, 0, 11, 29]
abbrev dktX13_mustWin_1 : List UInt8 := dkwX13_mustWin_1 ++ dktX13_mustWin_2
def dkwX13_mustWin_0 : List UInt8 := [42, 27, 182, 1, 206, 154, 0, 21, 42, 180, 0, 115, 27, 16, 8, 96, 46, 154, 0, 7, 4, 167, 0, 4]
abbrev dktX13_mustWin_0 : List UInt8 := dkwX13_mustWin_0 ++ dktX13_mustWin_1
theorem dksX13_mustWin_0 : cX13_mustWin.data.toList.drop 0 = dktX13_mustWin_0 := by decide +kernel
theorem dksX13_mustWin_1 : cX13_mustWin.data.toList.drop 24 = dktX13_mustWin_1 := dk_seg dksX13_mustWin_0 24 rfl rfl
theorem dksX13_mustWin_2 : cX13_mustWin.data.toList.drop 48 = dktX13_mustWin_2 := dk_seg dksX13_mustWin_1 24 rfl rfl
theorem dksX13_mustWin_3 : cX13_mustWin.data.toList.drop 71 = dktX13_mustWin_3 := dk_seg dksX13_mustWin_2 23 rfl rfl
theorem dksX13_mustWin_4 : cX13_mustWin.data.toList.drop 95 = dktX13_mustWin_4 := dk_seg dksX13_mustWin_3 24 rfl rfl
theorem dksX13_mustWin_5 : cX13_mustWin.data.toList.drop 118 = dktX13_mustWin_5 := dk_seg dksX13_mustWin_4 23 rfl rfl
theorem dX13_mustWin_0 : decode cX13_mustWin 0 = .ok (.aload_n 0, 1) := dk_42 (dk_at dksX13_mustWin_0 0 rfl rfl)
theorem dX13_mustWin_1 : decode cX13_mustWin 1 = .ok (.iload_n 1, 1) := dk_27 (dk_at dksX13_mustWin_0 1 rfl rfl)
theorem dX13_mustWin_2 : decode cX13_mustWin 2 = .ok (.invokevirtual 462, 3) := dk_182 1 206 (dk_at dksX13_mustWin_0 2 rfl rfl)
theorem dX13_mustWin_5 : decode cX13_mustWin 5 = .ok (.ifCond .ne 21, 3) := dk_154 0 21 (dk_at dksX13_mustWin_0 5 rfl rfl)
theorem dX13_mustWin_8 : decode cX13_mustWin 8 = .ok (.aload_n 0, 1) := dk_42 (dk_at dksX13_mustWin_0 8 rfl rfl)
theorem dX13_mustWin_9 : decode cX13_mustWin 9 = .ok (.getfield 115, 3) := dk_180 0 115 (dk_at dksX13_mustWin_0 9 rfl rfl)
theorem dX13_mustWin_12 : decode cX13_mustWin 12 = .ok (.iload_n 1, 1) := dk_27 (dk_at dksX13_mustWin_0 12 rfl rfl)
theorem dX13_mustWin_13 : decode cX13_mustWin 13 = .ok (.bipush 8, 2) := dk_16 8 (dk_at dksX13_mustWin_0 13 rfl rfl)
theorem dX13_mustWin_15 : decode cX13_mustWin 15 = .ok (.iadd, 1) := dk_96 (dk_at dksX13_mustWin_0 15 rfl rfl)
theorem dX13_mustWin_16 : decode cX13_mustWin 16 = .ok (.iaload, 1) := dk_46 (dk_at dksX13_mustWin_0 16 rfl rfl)
theorem dX13_mustWin_17 : decode cX13_mustWin 17 = .ok (.ifCond .ne 7, 3) := dk_154 0 7 (dk_at dksX13_mustWin_0 17 rfl rfl)
theorem dX13_mustWin_20 : decode cX13_mustWin 20 = .ok (.iconst 1, 1) := dk_4 (dk_at dksX13_mustWin_0 20 rfl rfl)
theorem dX13_mustWin_21 : decode cX13_mustWin 21 = .ok (.goto 4, 3) := dk_167 0 4 (dk_at dksX13_mustWin_0 21 rfl rfl)
theorem dX13_mustWin_24 : decode cX13_mustWin 24 = .ok (.iconst 0, 1) := dk_3 (dk_at dksX13_mustWin_1 0 rfl rfl)
theorem dX13_mustWin_25 : decode cX13_mustWin 25 = .ok (.ireturn, 1) := dk_172 (dk_at dksX13_mustWin_1 1 rfl rfl)
theorem dX13_mustWin_26 : decode cX13_mustWin 26 = .ok (.aload_n 0, 1) := dk_42 (dk_at dksX13_mustWin_1 2 rfl rfl)
theorem dX13_mustWin_27 : decode cX13_mustWin 27 = .ok (.getfield 115, 3) := dk_180 0 115 (dk_at dksX13_mustWin_1 3 rfl rfl)
theorem dX13_mustWin_30 : decode cX13_mustWin 30 = .ok (.iload_n 1, 1) := dk_27 (dk_at dksX13_mustWin_1 6 rfl rfl)
theorem dX13_mustWin_31 : decode cX13_mustWin 31 = .ok (.iconst 5, 1) := dk_8 (dk_at dksX13_mustWin_1 7 rfl rfl)
theorem dX13_mustWin_32 : decode cX13_mustWin 32 = .ok (.iadd, 1) := dk_96 (dk_at dksX13_mustWin_1 8 rfl rfl)
theorem dX13_mustWin_33 : decode cX13_mustWin 33 = .ok (.iaload, 1) := dk_46 (dk_at dksX13_mustWin_1 9 rfl rfl)
theorem dX13_mustWin_34 : decode cX13_mustWin 34 = .ok (.ifCond .ne 7, 3) := dk_154 0 7 (dk_at dksX13_mustWin_1 10 rfl rfl)
theorem dX13_mustWin_37 : decode cX13_mustWin 37 = .ok (.iconst 1, 1) := dk_4 (dk_at dksX13_mustWin_1 13 rfl rfl)
theorem dX13_mustWin_38 : decode cX13_mustWin 38 = .ok (.goto 4, 3) := dk_167 0 4 (dk_at dksX13_mustWin_1 14 rfl rfl)
theorem dX13_mustWin_41 : decode cX13_mustWin 41 = .ok (.iconst 0, 1) := dk_3 (dk_at dksX13_mustWin_1 17 rfl rfl)
theorem dX13_mustWin_42 : decode cX13_mustWin 42 = .ok (.istore_n 3, 1) := dk_62 (dk_at dksX13_mustWin_1 18 rfl rfl)
theorem dX13_mustWin_43 : decode cX13_mustWin 43 = .ok (.iload_n 2, 1) := dk_28 (dk_at dksX13_mustWin_1 19 rfl rfl)
theorem dX13_mustWin_44 : decode cX13_mustWin 44 = .ok (.ifCond .le 11, 3) := dk_158 0 11 (dk_at dksX13_mustWin_1 20 rfl rfl)
theorem dX13_mustWin_47 : decode cX13_mustWin 47 = .ok (.iload_n 3, 1) := dk_29 (dk_at dksX13_mustWin_1 23 rfl rfl)
theorem dX13_mustWin_48 : decode cX13_mustWin 48 = .ok (.ifCond .ne 7, 3) := dk_154 0 7 (dk_at dksX13_mustWin_2 0 rfl rfl)
theorem dX13_mustWin_51 : decode cX13_mustWin 51 = .ok (.iconst 1, 1) := dk_4 (dk_at dksX13_mustWin_2 3 rfl rfl)
theorem dX13_mustWin_52 : decode cX13_mustWin 52 = .ok (.goto 4, 3) := dk_167 0 4 (dk_at dksX13_mustWin_2 4 rfl rfl)
theorem dX13_mustWin_55 : decode cX13_mustWin 55 = .ok (.iconst 0, 1) := dk_3 (dk_at dksX13_mustWin_2 7 rfl rfl)
theorem dX13_mustWin_56 : decode cX13_mustWin 56 = .ok (.istore 4, 2) := dk_54 4 (dk_at dksX13_mustWin_2 8 rfl rfl)
theorem dX13_mustWin_58 : decode cX13_mustWin 58 = .ok (.iconst 0, 1) := dk_3 (dk_at dksX13_mustWin_2 10 rfl rfl)
theorem dX13_mustWin_59 : decode cX13_mustWin 59 = .ok (.istore 5, 2) := dk_54 5 (dk_at dksX13_mustWin_2 11 rfl rfl)
theorem dX13_mustWin_61 : decode cX13_mustWin 61 = .ok (.iload 5, 2) := dk_21 5 (dk_at dksX13_mustWin_2 13 rfl rfl)
theorem dX13_mustWin_63 : decode cX13_mustWin 63 = .ok (.iconst 5, 1) := dk_8 (dk_at dksX13_mustWin_2 15 rfl rfl)
theorem dX13_mustWin_64 : decode cX13_mustWin 64 = .ok (.if_icmp .ge 57, 3) := dk_162 0 57 (dk_at dksX13_mustWin_2 16 rfl rfl)
theorem dX13_mustWin_67 : decode cX13_mustWin 67 = .ok (.iload_n 2, 1) := dk_28 (dk_at dksX13_mustWin_2 19 rfl rfl)
theorem dX13_mustWin_68 : decode cX13_mustWin 68 = .ok (.ifCond .le 53, 3) := dk_158 0 53 (dk_at dksX13_mustWin_2 20 rfl rfl)
theorem dX13_mustWin_71 : decode cX13_mustWin 71 = .ok (.iload 4, 2) := dk_21 4 (dk_at dksX13_mustWin_3 0 rfl rfl)
theorem dX13_mustWin_73 : decode cX13_mustWin 73 = .ok (.iload_n 3, 1) := dk_29 (dk_at dksX13_mustWin_3 2 rfl rfl)
theorem dX13_mustWin_74 : decode cX13_mustWin 74 = .ok (.if_icmp .eq 47, 3) := dk_159 0 47 (dk_at dksX13_mustWin_3 3 rfl rfl)
theorem dX13_mustWin_77 : decode cX13_mustWin 77 = .ok (.aload_n 0, 1) := dk_42 (dk_at dksX13_mustWin_3 6 rfl rfl)
theorem dX13_mustWin_78 : decode cX13_mustWin 78 = .ok (.iload_n 1, 1) := dk_27 (dk_at dksX13_mustWin_3 7 rfl rfl)
theorem dX13_mustWin_79 : decode cX13_mustWin 79 = .ok (.iload_n 1, 1) := dk_27 (dk_at dksX13_mustWin_3 8 rfl rfl)
theorem dX13_mustWin_80 : decode cX13_mustWin 80 = .ok (.sipush 460, 3) := dk_17 1 204 (dk_at dksX13_mustWin_3 9 rfl rfl)
theorem dX13_mustWin_83 : decode cX13_mustWin 83 = .ok (.iadd, 1) := dk_96 (dk_at dksX13_mustWin_3 12 rfl rfl)
theorem dX13_mustWin_84 : decode cX13_mustWin 84 = .ok (.sipush 164, 3) := dk_17 0 164 (dk_at dksX13_mustWin_3 13 rfl rfl)
theorem dX13_mustWin_87 : decode cX13_mustWin 87 = .ok (.invokevirtual 308, 3) := dk_182 1 52 (dk_at dksX13_mustWin_3 16 rfl rfl)
theorem dX13_mustWin_90 : decode cX13_mustWin 90 = .ok (.aload_n 0, 1) := dk_42 (dk_at dksX13_mustWin_3 19 rfl rfl)
theorem dX13_mustWin_91 : decode cX13_mustWin 91 = .ok (.iload_n 1, 1) := dk_27 (dk_at dksX13_mustWin_3 20 rfl rfl)
theorem dX13_mustWin_92 : decode cX13_mustWin 92 = .ok (.sipush 460, 3) := dk_17 1 204 (dk_at dksX13_mustWin_3 21 rfl rfl)
theorem dX13_mustWin_95 : decode cX13_mustWin 95 = .ok (.iadd, 1) := dk_96 (dk_at dksX13_mustWin_4 0 rfl rfl)
theorem dX13_mustWin_96 : decode cX13_mustWin 96 = .ok (.iload 5, 2) := dk_21 5 (dk_at dksX13_mustWin_4 1 rfl rfl)
theorem dX13_mustWin_98 : decode cX13_mustWin 98 = .ok (.invokevirtual 341, 3) := dk_182 1 85 (dk_at dksX13_mustWin_4 3 rfl rfl)
theorem dX13_mustWin_101 : decode cX13_mustWin 101 = .ok (.aload_n 0, 1) := dk_42 (dk_at dksX13_mustWin_4 6 rfl rfl)
theorem dX13_mustWin_102 : decode cX13_mustWin 102 = .ok (.iload_n 1, 1) := dk_27 (dk_at dksX13_mustWin_4 7 rfl rfl)
theorem dX13_mustWin_103 : decode cX13_mustWin 103 = .ok (.sipush 460, 3) := dk_17 1 204 (dk_at dksX13_mustWin_4 8 rfl rfl)
theorem dX13_mustWin_106 : decode cX13_mustWin 106 = .ok (.iadd, 1) := dk_96 (dk_at dksX13_mustWin_4 11 rfl rfl)
theorem dX13_mustWin_107 : decode cX13_mustWin 107 = .ok (.iload_n 2, 1) := dk_28 (dk_at dksX13_mustWin_4 12 rfl rfl)
theorem dX13_mustWin_108 : decode cX13_mustWin 108 = .ok (.iconst 1, 1) := dk_4 (dk_at dksX13_mustWin_4 13 rfl rfl)
theorem dX13_mustWin_109 : decode cX13_mustWin 109 = .ok (.isub, 1) := dk_100 (dk_at dksX13_mustWin_4 14 rfl rfl)
theorem dX13_mustWin_110 : decode cX13_mustWin 110 = .ok (.invokevirtual 474, 3) := dk_182 1 218 (dk_at dksX13_mustWin_4 15 rfl rfl)
theorem dX13_mustWin_113 : decode cX13_mustWin 113 = .ok (.istore 4, 2) := dk_54 4 (dk_at dksX13_mustWin_4 18 rfl rfl)
theorem dX13_mustWin_115 : decode cX13_mustWin 115 = .ok (.iinc 5 1, 3) := dk_132 5 1 (dk_at dksX13_mustWin_4 20 rfl rfl)
theorem dX13_mustWin_118 : decode cX13_mustWin 118 = .ok (.goto (-57), 3) := dk_167 255 199 (dk_at dksX13_mustWin_5 0 rfl rfl)
theorem dX13_mustWin_121 : decode cX13_mustWin 121 = .ok (.iload 4, 2) := dk_21 4 (dk_at dksX13_mustWin_5 3 rfl rfl)
theorem dX13_mustWin_123 : decode cX13_mustWin 123 = .ok (.ireturn, 1) := dk_172 (dk_at dksX13_mustWin_5 5 rfl rfl)
abbrev cX13_opening : ByteArray := prog_24_method_101_code
def yX13_opening : MethodName := ⟨RX13, "opening", "(I)I"⟩
def dkwX13_opening_3 : List UInt8 := [3, 54, 4, 28, 21, 4, 153, 0, 7, 4, 167, 0, 4, 3, 96, 61, 132, 3, 1, 167, 255, 189, 28, 172]
abbrev dktX13_opening_3 : List UInt8 := dkwX13_opening_3 ++ []
def dkwX13_opening_2 : List UInt8 := [180, 0, 85, 16, 22, 16, 15, 29, 104, 96, 16, 14, 96, 46, 27, 4, 100, 160, 0, 7, 4, 167, 0, 4]
abbrev dktX13_opening_2 : List UInt8 := dkwX13_opening_2 ++ dktX13_opening_3
def dkwX13_opening_1 : List UInt8 := [180, 0, 85, 16, 21, 46, 162, 0, 62, 42, 29, 182, 1, 222, 153, 0, 32, 27, 153, 0, 24, 42]
abbrev dktX13_opening_1 : List UInt8 := dkwX13_opening_1 ++ dktX13_opening_2
def dkwX13_opening_0 : List UInt8 := [42, 3, 181, 0, 1, 27, 3, 6, 184, 1, 91, 154, 0, 5, 2, 172, 3, 61, 3, 62, 29, 42]
abbrev dktX13_opening_0 : List UInt8 := dkwX13_opening_0 ++ dktX13_opening_1
theorem dksX13_opening_0 : cX13_opening.data.toList.drop 0 = dktX13_opening_0 := by decide +kernel
theorem dksX13_opening_1 : cX13_opening.data.toList.drop 22 = dktX13_opening_1 := dk_seg dksX13_opening_0 22 rfl rfl
theorem dksX13_opening_2 : cX13_opening.data.toList.drop 44 = dktX13_opening_2 := dk_seg dksX13_opening_1 22 rfl rfl
theorem dksX13_opening_3 : cX13_opening.data.toList.drop 68 = dktX13_opening_3 := dk_seg dksX13_opening_2 24 rfl rfl
theorem dX13_opening_0 : decode cX13_opening 0 = .ok (.aload_n 0, 1) := dk_42 (dk_at dksX13_opening_0 0 rfl rfl)
theorem dX13_opening_1 : decode cX13_opening 1 = .ok (.iconst 0, 1) := dk_3 (dk_at dksX13_opening_0 1 rfl rfl)
theorem dX13_opening_2 : decode cX13_opening 2 = .ok (.putfield 1, 3) := dk_181 0 1 (dk_at dksX13_opening_0 2 rfl rfl)
theorem dX13_opening_5 : decode cX13_opening 5 = .ok (.iload_n 1, 1) := dk_27 (dk_at dksX13_opening_0 5 rfl rfl)
theorem dX13_opening_6 : decode cX13_opening 6 = .ok (.iconst 0, 1) := dk_3 (dk_at dksX13_opening_0 6 rfl rfl)
theorem dX13_opening_7 : decode cX13_opening 7 = .ok (.iconst 3, 1) := dk_6 (dk_at dksX13_opening_0 7 rfl rfl)
theorem dX13_opening_8 : decode cX13_opening 8 = .ok (.invokestatic 347, 3) := dk_184 1 91 (dk_at dksX13_opening_0 8 rfl rfl)
theorem dX13_opening_11 : decode cX13_opening 11 = .ok (.ifCond .ne 5, 3) := dk_154 0 5 (dk_at dksX13_opening_0 11 rfl rfl)
theorem dX13_opening_14 : decode cX13_opening 14 = .ok (.iconst (-1), 1) := dk_2 (dk_at dksX13_opening_0 14 rfl rfl)
theorem dX13_opening_15 : decode cX13_opening 15 = .ok (.ireturn, 1) := dk_172 (dk_at dksX13_opening_0 15 rfl rfl)
theorem dX13_opening_16 : decode cX13_opening 16 = .ok (.iconst 0, 1) := dk_3 (dk_at dksX13_opening_0 16 rfl rfl)
theorem dX13_opening_17 : decode cX13_opening 17 = .ok (.istore_n 2, 1) := dk_61 (dk_at dksX13_opening_0 17 rfl rfl)
theorem dX13_opening_18 : decode cX13_opening 18 = .ok (.iconst 0, 1) := dk_3 (dk_at dksX13_opening_0 18 rfl rfl)
theorem dX13_opening_19 : decode cX13_opening 19 = .ok (.istore_n 3, 1) := dk_62 (dk_at dksX13_opening_0 19 rfl rfl)
theorem dX13_opening_20 : decode cX13_opening 20 = .ok (.iload_n 3, 1) := dk_29 (dk_at dksX13_opening_0 20 rfl rfl)
theorem dX13_opening_21 : decode cX13_opening 21 = .ok (.aload_n 0, 1) := dk_42 (dk_at dksX13_opening_0 21 rfl rfl)
theorem dX13_opening_22 : decode cX13_opening 22 = .ok (.getfield 85, 3) := dk_180 0 85 (dk_at dksX13_opening_1 0 rfl rfl)
theorem dX13_opening_25 : decode cX13_opening 25 = .ok (.bipush 21, 2) := dk_16 21 (dk_at dksX13_opening_1 3 rfl rfl)
theorem dX13_opening_27 : decode cX13_opening 27 = .ok (.iaload, 1) := dk_46 (dk_at dksX13_opening_1 5 rfl rfl)
theorem dX13_opening_28 : decode cX13_opening 28 = .ok (.if_icmp .ge 62, 3) := dk_162 0 62 (dk_at dksX13_opening_1 6 rfl rfl)
theorem dX13_opening_31 : decode cX13_opening 31 = .ok (.aload_n 0, 1) := dk_42 (dk_at dksX13_opening_1 9 rfl rfl)
theorem dX13_opening_32 : decode cX13_opening 32 = .ok (.iload_n 3, 1) := dk_29 (dk_at dksX13_opening_1 10 rfl rfl)
theorem dX13_opening_33 : decode cX13_opening 33 = .ok (.invokevirtual 478, 3) := dk_182 1 222 (dk_at dksX13_opening_1 11 rfl rfl)
theorem dX13_opening_36 : decode cX13_opening 36 = .ok (.ifCond .eq 32, 3) := dk_153 0 32 (dk_at dksX13_opening_1 14 rfl rfl)
theorem dX13_opening_39 : decode cX13_opening 39 = .ok (.iload_n 1, 1) := dk_27 (dk_at dksX13_opening_1 17 rfl rfl)
theorem dX13_opening_40 : decode cX13_opening 40 = .ok (.ifCond .eq 24, 3) := dk_153 0 24 (dk_at dksX13_opening_1 18 rfl rfl)
theorem dX13_opening_43 : decode cX13_opening 43 = .ok (.aload_n 0, 1) := dk_42 (dk_at dksX13_opening_1 21 rfl rfl)
theorem dX13_opening_44 : decode cX13_opening 44 = .ok (.getfield 85, 3) := dk_180 0 85 (dk_at dksX13_opening_2 0 rfl rfl)
theorem dX13_opening_47 : decode cX13_opening 47 = .ok (.bipush 22, 2) := dk_16 22 (dk_at dksX13_opening_2 3 rfl rfl)
theorem dX13_opening_49 : decode cX13_opening 49 = .ok (.bipush 15, 2) := dk_16 15 (dk_at dksX13_opening_2 5 rfl rfl)
theorem dX13_opening_51 : decode cX13_opening 51 = .ok (.iload_n 3, 1) := dk_29 (dk_at dksX13_opening_2 7 rfl rfl)
theorem dX13_opening_52 : decode cX13_opening 52 = .ok (.imul, 1) := dk_104 (dk_at dksX13_opening_2 8 rfl rfl)
theorem dX13_opening_53 : decode cX13_opening 53 = .ok (.iadd, 1) := dk_96 (dk_at dksX13_opening_2 9 rfl rfl)
theorem dX13_opening_54 : decode cX13_opening 54 = .ok (.bipush 14, 2) := dk_16 14 (dk_at dksX13_opening_2 10 rfl rfl)
theorem dX13_opening_56 : decode cX13_opening 56 = .ok (.iadd, 1) := dk_96 (dk_at dksX13_opening_2 12 rfl rfl)
theorem dX13_opening_57 : decode cX13_opening 57 = .ok (.iaload, 1) := dk_46 (dk_at dksX13_opening_2 13 rfl rfl)
theorem dX13_opening_58 : decode cX13_opening 58 = .ok (.iload_n 1, 1) := dk_27 (dk_at dksX13_opening_2 14 rfl rfl)
theorem dX13_opening_59 : decode cX13_opening 59 = .ok (.iconst 1, 1) := dk_4 (dk_at dksX13_opening_2 15 rfl rfl)
theorem dX13_opening_60 : decode cX13_opening 60 = .ok (.isub, 1) := dk_100 (dk_at dksX13_opening_2 16 rfl rfl)
theorem dX13_opening_61 : decode cX13_opening 61 = .ok (.if_icmp .ne 7, 3) := dk_160 0 7 (dk_at dksX13_opening_2 17 rfl rfl)
theorem dX13_opening_64 : decode cX13_opening 64 = .ok (.iconst 1, 1) := dk_4 (dk_at dksX13_opening_2 20 rfl rfl)
theorem dX13_opening_65 : decode cX13_opening 65 = .ok (.goto 4, 3) := dk_167 0 4 (dk_at dksX13_opening_2 21 rfl rfl)
theorem dX13_opening_68 : decode cX13_opening 68 = .ok (.iconst 0, 1) := dk_3 (dk_at dksX13_opening_3 0 rfl rfl)
theorem dX13_opening_69 : decode cX13_opening 69 = .ok (.istore 4, 2) := dk_54 4 (dk_at dksX13_opening_3 1 rfl rfl)
theorem dX13_opening_71 : decode cX13_opening 71 = .ok (.iload_n 2, 1) := dk_28 (dk_at dksX13_opening_3 3 rfl rfl)
theorem dX13_opening_72 : decode cX13_opening 72 = .ok (.iload 4, 2) := dk_21 4 (dk_at dksX13_opening_3 4 rfl rfl)
theorem dX13_opening_74 : decode cX13_opening 74 = .ok (.ifCond .eq 7, 3) := dk_153 0 7 (dk_at dksX13_opening_3 6 rfl rfl)
theorem dX13_opening_77 : decode cX13_opening 77 = .ok (.iconst 1, 1) := dk_4 (dk_at dksX13_opening_3 9 rfl rfl)
theorem dX13_opening_78 : decode cX13_opening 78 = .ok (.goto 4, 3) := dk_167 0 4 (dk_at dksX13_opening_3 10 rfl rfl)
theorem dX13_opening_81 : decode cX13_opening 81 = .ok (.iconst 0, 1) := dk_3 (dk_at dksX13_opening_3 13 rfl rfl)
theorem dX13_opening_82 : decode cX13_opening 82 = .ok (.iadd, 1) := dk_96 (dk_at dksX13_opening_3 14 rfl rfl)
theorem dX13_opening_83 : decode cX13_opening 83 = .ok (.istore_n 2, 1) := dk_61 (dk_at dksX13_opening_3 15 rfl rfl)
theorem dX13_opening_84 : decode cX13_opening 84 = .ok (.iinc 3 1, 3) := dk_132 3 1 (dk_at dksX13_opening_3 16 rfl rfl)
theorem dX13_opening_87 : decode cX13_opening 87 = .ok (.goto (-67), 3) := dk_167 255 189 (dk_at dksX13_opening_3 19 rfl rfl)
theorem dX13_opening_90 : decode cX13_opening 90 = .ok (.iload_n 2, 1) := dk_28 (dk_at dksX13_opening_3 22 rfl rfl)
theorem dX13_opening_91 : decode cX13_opening 91 = .ok (.ireturn, 1) := dk_172 (dk_at dksX13_opening_3 23 rfl rfl)
abbrev cX13_fitsOpening : ByteArray := prog_24_method_100_code
def yX13_fitsOpening : MethodName := ⟨RX13, "fitsOpening", "(I)Z"⟩
def dkwX13_fitsOpening_5 : List UInt8 := [167, 255, 143, 28, 172]
abbrev dktX13_fitsOpening_5 : List UInt8 := dkwX13_fitsOpening_5 ++ []
def dkwX13_fitsOpening_4 : List UInt8 := [21, 5, 96, 46, 160, 0, 7, 4, 167, 0, 4, 3, 61, 132, 5, 1, 167, 255, 200, 132, 3, 1]
abbrev dktX13_fitsOpening_4 : List UInt8 := dkwX13_fitsOpening_4 ++ dktX13_fitsOpening_5
def dkwX13_fitsOpening_3 : List UInt8 := [42, 180, 0, 85, 21, 4, 4, 96, 21, 5, 96, 46, 42, 180, 0, 115, 17, 0, 212, 16, 24, 29, 104, 96]
abbrev dktX13_fitsOpening_3 : List UInt8 := dkwX13_fitsOpening_3 ++ dktX13_fitsOpening_4
def dkwX13_fitsOpening_2 : List UInt8 := [167, 0, 4, 3, 61, 3, 54, 5, 21, 5, 42, 180, 0, 85, 21, 4, 46, 162, 0, 50, 28, 153, 0, 46]
abbrev dktX13_fitsOpening_2 : List UInt8 := dkwX13_fitsOpening_2 ++ dktX13_fitsOpening_3
def dkwX13_fitsOpening_1 : List UInt8 := [153, 0, 26, 42, 180, 0, 85, 21, 4, 46, 42, 180, 0, 115, 16, 16, 29, 96, 46, 163, 0, 7, 4]
abbrev dktX13_fitsOpening_1 : List UInt8 := dkwX13_fitsOpening_1 ++ dktX13_fitsOpening_2
def dkwX13_fitsOpening_0 : List UInt8 := [4, 61, 3, 62, 29, 5, 162, 0, 114, 16, 22, 16, 15, 27, 104, 96, 16, 7, 29, 104, 96, 54, 4, 28]
abbrev dktX13_fitsOpening_0 : List UInt8 := dkwX13_fitsOpening_0 ++ dktX13_fitsOpening_1
theorem dksX13_fitsOpening_0 : cX13_fitsOpening.data.toList.drop 0 = dktX13_fitsOpening_0 := by decide +kernel
theorem dksX13_fitsOpening_1 : cX13_fitsOpening.data.toList.drop 24 = dktX13_fitsOpening_1 := dk_seg dksX13_fitsOpening_0 24 rfl rfl
theorem dksX13_fitsOpening_2 : cX13_fitsOpening.data.toList.drop 47 = dktX13_fitsOpening_2 := dk_seg dksX13_fitsOpening_1 23 rfl rfl
theorem dksX13_fitsOpening_3 : cX13_fitsOpening.data.toList.drop 71 = dktX13_fitsOpening_3 := dk_seg dksX13_fitsOpening_2 24 rfl rfl
theorem dksX13_fitsOpening_4 : cX13_fitsOpening.data.toList.drop 95 = dktX13_fitsOpening_4 := dk_seg dksX13_fitsOpening_3 24 rfl rfl
theorem dksX13_fitsOpening_5 : cX13_fitsOpening.data.toList.drop 117 = dktX13_fitsOpening_5 := dk_seg dksX13_fitsOpening_4 22 rfl rfl
theorem dX13_fitsOpening_0 : decode cX13_fitsOpening 0 = .ok (.iconst 1, 1) := dk_4 (dk_at dksX13_fitsOpening_0 0 rfl rfl)
theorem dX13_fitsOpening_1 : decode cX13_fitsOpening 1 = .ok (.istore_n 2, 1) := dk_61 (dk_at dksX13_fitsOpening_0 1 rfl rfl)
theorem dX13_fitsOpening_2 : decode cX13_fitsOpening 2 = .ok (.iconst 0, 1) := dk_3 (dk_at dksX13_fitsOpening_0 2 rfl rfl)
theorem dX13_fitsOpening_3 : decode cX13_fitsOpening 3 = .ok (.istore_n 3, 1) := dk_62 (dk_at dksX13_fitsOpening_0 3 rfl rfl)
theorem dX13_fitsOpening_4 : decode cX13_fitsOpening 4 = .ok (.iload_n 3, 1) := dk_29 (dk_at dksX13_fitsOpening_0 4 rfl rfl)
theorem dX13_fitsOpening_5 : decode cX13_fitsOpening 5 = .ok (.iconst 2, 1) := dk_5 (dk_at dksX13_fitsOpening_0 5 rfl rfl)
theorem dX13_fitsOpening_6 : decode cX13_fitsOpening 6 = .ok (.if_icmp .ge 114, 3) := dk_162 0 114 (dk_at dksX13_fitsOpening_0 6 rfl rfl)
theorem dX13_fitsOpening_9 : decode cX13_fitsOpening 9 = .ok (.bipush 22, 2) := dk_16 22 (dk_at dksX13_fitsOpening_0 9 rfl rfl)
theorem dX13_fitsOpening_11 : decode cX13_fitsOpening 11 = .ok (.bipush 15, 2) := dk_16 15 (dk_at dksX13_fitsOpening_0 11 rfl rfl)
theorem dX13_fitsOpening_13 : decode cX13_fitsOpening 13 = .ok (.iload_n 1, 1) := dk_27 (dk_at dksX13_fitsOpening_0 13 rfl rfl)
theorem dX13_fitsOpening_14 : decode cX13_fitsOpening 14 = .ok (.imul, 1) := dk_104 (dk_at dksX13_fitsOpening_0 14 rfl rfl)
theorem dX13_fitsOpening_15 : decode cX13_fitsOpening 15 = .ok (.iadd, 1) := dk_96 (dk_at dksX13_fitsOpening_0 15 rfl rfl)
theorem dX13_fitsOpening_16 : decode cX13_fitsOpening 16 = .ok (.bipush 7, 2) := dk_16 7 (dk_at dksX13_fitsOpening_0 16 rfl rfl)
theorem dX13_fitsOpening_18 : decode cX13_fitsOpening 18 = .ok (.iload_n 3, 1) := dk_29 (dk_at dksX13_fitsOpening_0 18 rfl rfl)
theorem dX13_fitsOpening_19 : decode cX13_fitsOpening 19 = .ok (.imul, 1) := dk_104 (dk_at dksX13_fitsOpening_0 19 rfl rfl)
theorem dX13_fitsOpening_20 : decode cX13_fitsOpening 20 = .ok (.iadd, 1) := dk_96 (dk_at dksX13_fitsOpening_0 20 rfl rfl)
theorem dX13_fitsOpening_21 : decode cX13_fitsOpening 21 = .ok (.istore 4, 2) := dk_54 4 (dk_at dksX13_fitsOpening_0 21 rfl rfl)
theorem dX13_fitsOpening_23 : decode cX13_fitsOpening 23 = .ok (.iload_n 2, 1) := dk_28 (dk_at dksX13_fitsOpening_0 23 rfl rfl)
theorem dX13_fitsOpening_24 : decode cX13_fitsOpening 24 = .ok (.ifCond .eq 26, 3) := dk_153 0 26 (dk_at dksX13_fitsOpening_1 0 rfl rfl)
theorem dX13_fitsOpening_27 : decode cX13_fitsOpening 27 = .ok (.aload_n 0, 1) := dk_42 (dk_at dksX13_fitsOpening_1 3 rfl rfl)
theorem dX13_fitsOpening_28 : decode cX13_fitsOpening 28 = .ok (.getfield 85, 3) := dk_180 0 85 (dk_at dksX13_fitsOpening_1 4 rfl rfl)
theorem dX13_fitsOpening_31 : decode cX13_fitsOpening 31 = .ok (.iload 4, 2) := dk_21 4 (dk_at dksX13_fitsOpening_1 7 rfl rfl)
theorem dX13_fitsOpening_33 : decode cX13_fitsOpening 33 = .ok (.iaload, 1) := dk_46 (dk_at dksX13_fitsOpening_1 9 rfl rfl)
theorem dX13_fitsOpening_34 : decode cX13_fitsOpening 34 = .ok (.aload_n 0, 1) := dk_42 (dk_at dksX13_fitsOpening_1 10 rfl rfl)
theorem dX13_fitsOpening_35 : decode cX13_fitsOpening 35 = .ok (.getfield 115, 3) := dk_180 0 115 (dk_at dksX13_fitsOpening_1 11 rfl rfl)
theorem dX13_fitsOpening_38 : decode cX13_fitsOpening 38 = .ok (.bipush 16, 2) := dk_16 16 (dk_at dksX13_fitsOpening_1 14 rfl rfl)
theorem dX13_fitsOpening_40 : decode cX13_fitsOpening 40 = .ok (.iload_n 3, 1) := dk_29 (dk_at dksX13_fitsOpening_1 16 rfl rfl)
theorem dX13_fitsOpening_41 : decode cX13_fitsOpening 41 = .ok (.iadd, 1) := dk_96 (dk_at dksX13_fitsOpening_1 17 rfl rfl)
theorem dX13_fitsOpening_42 : decode cX13_fitsOpening 42 = .ok (.iaload, 1) := dk_46 (dk_at dksX13_fitsOpening_1 18 rfl rfl)
theorem dX13_fitsOpening_43 : decode cX13_fitsOpening 43 = .ok (.if_icmp .gt 7, 3) := dk_163 0 7 (dk_at dksX13_fitsOpening_1 19 rfl rfl)
theorem dX13_fitsOpening_46 : decode cX13_fitsOpening 46 = .ok (.iconst 1, 1) := dk_4 (dk_at dksX13_fitsOpening_1 22 rfl rfl)
theorem dX13_fitsOpening_47 : decode cX13_fitsOpening 47 = .ok (.goto 4, 3) := dk_167 0 4 (dk_at dksX13_fitsOpening_2 0 rfl rfl)
theorem dX13_fitsOpening_50 : decode cX13_fitsOpening 50 = .ok (.iconst 0, 1) := dk_3 (dk_at dksX13_fitsOpening_2 3 rfl rfl)
theorem dX13_fitsOpening_51 : decode cX13_fitsOpening 51 = .ok (.istore_n 2, 1) := dk_61 (dk_at dksX13_fitsOpening_2 4 rfl rfl)
theorem dX13_fitsOpening_52 : decode cX13_fitsOpening 52 = .ok (.iconst 0, 1) := dk_3 (dk_at dksX13_fitsOpening_2 5 rfl rfl)
theorem dX13_fitsOpening_53 : decode cX13_fitsOpening 53 = .ok (.istore 5, 2) := dk_54 5 (dk_at dksX13_fitsOpening_2 6 rfl rfl)
theorem dX13_fitsOpening_55 : decode cX13_fitsOpening 55 = .ok (.iload 5, 2) := dk_21 5 (dk_at dksX13_fitsOpening_2 8 rfl rfl)
theorem dX13_fitsOpening_57 : decode cX13_fitsOpening 57 = .ok (.aload_n 0, 1) := dk_42 (dk_at dksX13_fitsOpening_2 10 rfl rfl)
theorem dX13_fitsOpening_58 : decode cX13_fitsOpening 58 = .ok (.getfield 85, 3) := dk_180 0 85 (dk_at dksX13_fitsOpening_2 11 rfl rfl)
theorem dX13_fitsOpening_61 : decode cX13_fitsOpening 61 = .ok (.iload 4, 2) := dk_21 4 (dk_at dksX13_fitsOpening_2 14 rfl rfl)
theorem dX13_fitsOpening_63 : decode cX13_fitsOpening 63 = .ok (.iaload, 1) := dk_46 (dk_at dksX13_fitsOpening_2 16 rfl rfl)
theorem dX13_fitsOpening_64 : decode cX13_fitsOpening 64 = .ok (.if_icmp .ge 50, 3) := dk_162 0 50 (dk_at dksX13_fitsOpening_2 17 rfl rfl)
theorem dX13_fitsOpening_67 : decode cX13_fitsOpening 67 = .ok (.iload_n 2, 1) := dk_28 (dk_at dksX13_fitsOpening_2 20 rfl rfl)
theorem dX13_fitsOpening_68 : decode cX13_fitsOpening 68 = .ok (.ifCond .eq 46, 3) := dk_153 0 46 (dk_at dksX13_fitsOpening_2 21 rfl rfl)
theorem dX13_fitsOpening_71 : decode cX13_fitsOpening 71 = .ok (.aload_n 0, 1) := dk_42 (dk_at dksX13_fitsOpening_3 0 rfl rfl)
theorem dX13_fitsOpening_72 : decode cX13_fitsOpening 72 = .ok (.getfield 85, 3) := dk_180 0 85 (dk_at dksX13_fitsOpening_3 1 rfl rfl)
theorem dX13_fitsOpening_75 : decode cX13_fitsOpening 75 = .ok (.iload 4, 2) := dk_21 4 (dk_at dksX13_fitsOpening_3 4 rfl rfl)
theorem dX13_fitsOpening_77 : decode cX13_fitsOpening 77 = .ok (.iconst 1, 1) := dk_4 (dk_at dksX13_fitsOpening_3 6 rfl rfl)
theorem dX13_fitsOpening_78 : decode cX13_fitsOpening 78 = .ok (.iadd, 1) := dk_96 (dk_at dksX13_fitsOpening_3 7 rfl rfl)
theorem dX13_fitsOpening_79 : decode cX13_fitsOpening 79 = .ok (.iload 5, 2) := dk_21 5 (dk_at dksX13_fitsOpening_3 8 rfl rfl)
theorem dX13_fitsOpening_81 : decode cX13_fitsOpening 81 = .ok (.iadd, 1) := dk_96 (dk_at dksX13_fitsOpening_3 10 rfl rfl)
theorem dX13_fitsOpening_82 : decode cX13_fitsOpening 82 = .ok (.iaload, 1) := dk_46 (dk_at dksX13_fitsOpening_3 11 rfl rfl)
theorem dX13_fitsOpening_83 : decode cX13_fitsOpening 83 = .ok (.aload_n 0, 1) := dk_42 (dk_at dksX13_fitsOpening_3 12 rfl rfl)
theorem dX13_fitsOpening_84 : decode cX13_fitsOpening 84 = .ok (.getfield 115, 3) := dk_180 0 115 (dk_at dksX13_fitsOpening_3 13 rfl rfl)
theorem dX13_fitsOpening_87 : decode cX13_fitsOpening 87 = .ok (.sipush 212, 3) := dk_17 0 212 (dk_at dksX13_fitsOpening_3 16 rfl rfl)
theorem dX13_fitsOpening_90 : decode cX13_fitsOpening 90 = .ok (.bipush 24, 2) := dk_16 24 (dk_at dksX13_fitsOpening_3 19 rfl rfl)
theorem dX13_fitsOpening_92 : decode cX13_fitsOpening 92 = .ok (.iload_n 3, 1) := dk_29 (dk_at dksX13_fitsOpening_3 21 rfl rfl)
theorem dX13_fitsOpening_93 : decode cX13_fitsOpening 93 = .ok (.imul, 1) := dk_104 (dk_at dksX13_fitsOpening_3 22 rfl rfl)
theorem dX13_fitsOpening_94 : decode cX13_fitsOpening 94 = .ok (.iadd, 1) := dk_96 (dk_at dksX13_fitsOpening_3 23 rfl rfl)
theorem dX13_fitsOpening_95 : decode cX13_fitsOpening 95 = .ok (.iload 5, 2) := dk_21 5 (dk_at dksX13_fitsOpening_4 0 rfl rfl)
theorem dX13_fitsOpening_97 : decode cX13_fitsOpening 97 = .ok (.iadd, 1) := dk_96 (dk_at dksX13_fitsOpening_4 2 rfl rfl)
theorem dX13_fitsOpening_98 : decode cX13_fitsOpening 98 = .ok (.iaload, 1) := dk_46 (dk_at dksX13_fitsOpening_4 3 rfl rfl)
theorem dX13_fitsOpening_99 : decode cX13_fitsOpening 99 = .ok (.if_icmp .ne 7, 3) := dk_160 0 7 (dk_at dksX13_fitsOpening_4 4 rfl rfl)
theorem dX13_fitsOpening_102 : decode cX13_fitsOpening 102 = .ok (.iconst 1, 1) := dk_4 (dk_at dksX13_fitsOpening_4 7 rfl rfl)
theorem dX13_fitsOpening_103 : decode cX13_fitsOpening 103 = .ok (.goto 4, 3) := dk_167 0 4 (dk_at dksX13_fitsOpening_4 8 rfl rfl)
theorem dX13_fitsOpening_106 : decode cX13_fitsOpening 106 = .ok (.iconst 0, 1) := dk_3 (dk_at dksX13_fitsOpening_4 11 rfl rfl)
theorem dX13_fitsOpening_107 : decode cX13_fitsOpening 107 = .ok (.istore_n 2, 1) := dk_61 (dk_at dksX13_fitsOpening_4 12 rfl rfl)
theorem dX13_fitsOpening_108 : decode cX13_fitsOpening 108 = .ok (.iinc 5 1, 3) := dk_132 5 1 (dk_at dksX13_fitsOpening_4 13 rfl rfl)
theorem dX13_fitsOpening_111 : decode cX13_fitsOpening 111 = .ok (.goto (-56), 3) := dk_167 255 200 (dk_at dksX13_fitsOpening_4 16 rfl rfl)
theorem dX13_fitsOpening_114 : decode cX13_fitsOpening 114 = .ok (.iinc 3 1, 3) := dk_132 3 1 (dk_at dksX13_fitsOpening_4 19 rfl rfl)
theorem dX13_fitsOpening_117 : decode cX13_fitsOpening 117 = .ok (.goto (-113), 3) := dk_167 255 143 (dk_at dksX13_fitsOpening_5 0 rfl rfl)
theorem dX13_fitsOpening_120 : decode cX13_fitsOpening 120 = .ok (.iload_n 2, 1) := dk_28 (dk_at dksX13_fitsOpening_5 3 rfl rfl)
theorem dX13_fitsOpening_121 : decode cX13_fitsOpening 121 = .ok (.ireturn, 1) := dk_172 (dk_at dksX13_fitsOpening_5 4 rfl rfl)
abbrev cX13_comes : ByteArray := prog_24_method_102_code
def yX13_comes : MethodName := ⟨RX13, "comes", "(I)I"⟩
def dkwX13_comes_3 : List UInt8 := [180, 0, 115, 16, 13, 92, 46, 4, 96, 79, 42, 180, 0, 115, 16, 13, 46, 172]
abbrev dktX13_comes_3 : List UInt8 := dkwX13_comes_3 ++ []
def dkwX13_comes_2 : List UInt8 := [46, 160, 0, 5, 2, 172, 42, 180, 0, 115, 17, 1, 188, 42, 180, 0, 115, 16, 13, 46, 96, 27, 79, 42]
abbrev dktX13_comes_2 : List UInt8 := dkwX13_comes_2 ++ dktX13_comes_3
def dkwX13_comes_1 : List UInt8 := [180, 0, 115, 16, 13, 46, 16, 12, 159, 0, 20, 42, 180, 0, 115, 16, 13, 46, 42, 180, 0, 115, 16, 14]
abbrev dktX13_comes_1 : List UInt8 := dkwX13_comes_1 ++ dktX13_comes_2
def dkwX13_comes_0 : List UInt8 := [42, 3, 181, 0, 1, 42, 27, 182, 1, 88, 153, 0, 42, 42, 180, 0, 115, 16, 14, 46, 153, 0, 32, 42]
abbrev dktX13_comes_0 : List UInt8 := dkwX13_comes_0 ++ dktX13_comes_1
theorem dksX13_comes_0 : cX13_comes.data.toList.drop 0 = dktX13_comes_0 := by decide +kernel
theorem dksX13_comes_1 : cX13_comes.data.toList.drop 24 = dktX13_comes_1 := dk_seg dksX13_comes_0 24 rfl rfl
theorem dksX13_comes_2 : cX13_comes.data.toList.drop 48 = dktX13_comes_2 := dk_seg dksX13_comes_1 24 rfl rfl
theorem dksX13_comes_3 : cX13_comes.data.toList.drop 72 = dktX13_comes_3 := dk_seg dksX13_comes_2 24 rfl rfl
theorem dX13_comes_0 : decode cX13_comes 0 = .ok (.aload_n 0, 1) := dk_42 (dk_at dksX13_comes_0 0 rfl rfl)
theorem dX13_comes_1 : decode cX13_comes 1 = .ok (.iconst 0, 1) := dk_3 (dk_at dksX13_comes_0 1 rfl rfl)
theorem dX13_comes_2 : decode cX13_comes 2 = .ok (.putfield 1, 3) := dk_181 0 1 (dk_at dksX13_comes_0 2 rfl rfl)
theorem dX13_comes_5 : decode cX13_comes 5 = .ok (.aload_n 0, 1) := dk_42 (dk_at dksX13_comes_0 5 rfl rfl)
theorem dX13_comes_6 : decode cX13_comes 6 = .ok (.iload_n 1, 1) := dk_27 (dk_at dksX13_comes_0 6 rfl rfl)
theorem dX13_comes_7 : decode cX13_comes 7 = .ok (.invokevirtual 344, 3) := dk_182 1 88 (dk_at dksX13_comes_0 7 rfl rfl)
theorem dX13_comes_10 : decode cX13_comes 10 = .ok (.ifCond .eq 42, 3) := dk_153 0 42 (dk_at dksX13_comes_0 10 rfl rfl)
theorem dX13_comes_13 : decode cX13_comes 13 = .ok (.aload_n 0, 1) := dk_42 (dk_at dksX13_comes_0 13 rfl rfl)
theorem dX13_comes_14 : decode cX13_comes 14 = .ok (.getfield 115, 3) := dk_180 0 115 (dk_at dksX13_comes_0 14 rfl rfl)
theorem dX13_comes_17 : decode cX13_comes 17 = .ok (.bipush 14, 2) := dk_16 14 (dk_at dksX13_comes_0 17 rfl rfl)
theorem dX13_comes_19 : decode cX13_comes 19 = .ok (.iaload, 1) := dk_46 (dk_at dksX13_comes_0 19 rfl rfl)
theorem dX13_comes_20 : decode cX13_comes 20 = .ok (.ifCond .eq 32, 3) := dk_153 0 32 (dk_at dksX13_comes_0 20 rfl rfl)
theorem dX13_comes_23 : decode cX13_comes 23 = .ok (.aload_n 0, 1) := dk_42 (dk_at dksX13_comes_0 23 rfl rfl)
theorem dX13_comes_24 : decode cX13_comes 24 = .ok (.getfield 115, 3) := dk_180 0 115 (dk_at dksX13_comes_1 0 rfl rfl)
theorem dX13_comes_27 : decode cX13_comes 27 = .ok (.bipush 13, 2) := dk_16 13 (dk_at dksX13_comes_1 3 rfl rfl)
theorem dX13_comes_29 : decode cX13_comes 29 = .ok (.iaload, 1) := dk_46 (dk_at dksX13_comes_1 5 rfl rfl)
theorem dX13_comes_30 : decode cX13_comes 30 = .ok (.bipush 12, 2) := dk_16 12 (dk_at dksX13_comes_1 6 rfl rfl)
theorem dX13_comes_32 : decode cX13_comes 32 = .ok (.if_icmp .eq 20, 3) := dk_159 0 20 (dk_at dksX13_comes_1 8 rfl rfl)
theorem dX13_comes_35 : decode cX13_comes 35 = .ok (.aload_n 0, 1) := dk_42 (dk_at dksX13_comes_1 11 rfl rfl)
theorem dX13_comes_36 : decode cX13_comes 36 = .ok (.getfield 115, 3) := dk_180 0 115 (dk_at dksX13_comes_1 12 rfl rfl)
theorem dX13_comes_39 : decode cX13_comes 39 = .ok (.bipush 13, 2) := dk_16 13 (dk_at dksX13_comes_1 15 rfl rfl)
theorem dX13_comes_41 : decode cX13_comes 41 = .ok (.iaload, 1) := dk_46 (dk_at dksX13_comes_1 17 rfl rfl)
theorem dX13_comes_42 : decode cX13_comes 42 = .ok (.aload_n 0, 1) := dk_42 (dk_at dksX13_comes_1 18 rfl rfl)
theorem dX13_comes_43 : decode cX13_comes 43 = .ok (.getfield 115, 3) := dk_180 0 115 (dk_at dksX13_comes_1 19 rfl rfl)
theorem dX13_comes_46 : decode cX13_comes 46 = .ok (.bipush 14, 2) := dk_16 14 (dk_at dksX13_comes_1 22 rfl rfl)
theorem dX13_comes_48 : decode cX13_comes 48 = .ok (.iaload, 1) := dk_46 (dk_at dksX13_comes_2 0 rfl rfl)
theorem dX13_comes_49 : decode cX13_comes 49 = .ok (.if_icmp .ne 5, 3) := dk_160 0 5 (dk_at dksX13_comes_2 1 rfl rfl)
theorem dX13_comes_52 : decode cX13_comes 52 = .ok (.iconst (-1), 1) := dk_2 (dk_at dksX13_comes_2 4 rfl rfl)
theorem dX13_comes_53 : decode cX13_comes 53 = .ok (.ireturn, 1) := dk_172 (dk_at dksX13_comes_2 5 rfl rfl)
theorem dX13_comes_54 : decode cX13_comes 54 = .ok (.aload_n 0, 1) := dk_42 (dk_at dksX13_comes_2 6 rfl rfl)
theorem dX13_comes_55 : decode cX13_comes 55 = .ok (.getfield 115, 3) := dk_180 0 115 (dk_at dksX13_comes_2 7 rfl rfl)
theorem dX13_comes_58 : decode cX13_comes 58 = .ok (.sipush 444, 3) := dk_17 1 188 (dk_at dksX13_comes_2 10 rfl rfl)
theorem dX13_comes_61 : decode cX13_comes 61 = .ok (.aload_n 0, 1) := dk_42 (dk_at dksX13_comes_2 13 rfl rfl)
theorem dX13_comes_62 : decode cX13_comes 62 = .ok (.getfield 115, 3) := dk_180 0 115 (dk_at dksX13_comes_2 14 rfl rfl)
theorem dX13_comes_65 : decode cX13_comes 65 = .ok (.bipush 13, 2) := dk_16 13 (dk_at dksX13_comes_2 17 rfl rfl)
theorem dX13_comes_67 : decode cX13_comes 67 = .ok (.iaload, 1) := dk_46 (dk_at dksX13_comes_2 19 rfl rfl)
theorem dX13_comes_68 : decode cX13_comes 68 = .ok (.iadd, 1) := dk_96 (dk_at dksX13_comes_2 20 rfl rfl)
theorem dX13_comes_69 : decode cX13_comes 69 = .ok (.iload_n 1, 1) := dk_27 (dk_at dksX13_comes_2 21 rfl rfl)
theorem dX13_comes_70 : decode cX13_comes 70 = .ok (.iastore, 1) := dk_79 (dk_at dksX13_comes_2 22 rfl rfl)
theorem dX13_comes_71 : decode cX13_comes 71 = .ok (.aload_n 0, 1) := dk_42 (dk_at dksX13_comes_2 23 rfl rfl)
theorem dX13_comes_72 : decode cX13_comes 72 = .ok (.getfield 115, 3) := dk_180 0 115 (dk_at dksX13_comes_3 0 rfl rfl)
theorem dX13_comes_75 : decode cX13_comes 75 = .ok (.bipush 13, 2) := dk_16 13 (dk_at dksX13_comes_3 3 rfl rfl)
theorem dX13_comes_77 : decode cX13_comes 77 = .ok (.dup2, 1) := dk_92 (dk_at dksX13_comes_3 5 rfl rfl)
theorem dX13_comes_78 : decode cX13_comes 78 = .ok (.iaload, 1) := dk_46 (dk_at dksX13_comes_3 6 rfl rfl)
theorem dX13_comes_79 : decode cX13_comes 79 = .ok (.iconst 1, 1) := dk_4 (dk_at dksX13_comes_3 7 rfl rfl)
theorem dX13_comes_80 : decode cX13_comes 80 = .ok (.iadd, 1) := dk_96 (dk_at dksX13_comes_3 8 rfl rfl)
theorem dX13_comes_81 : decode cX13_comes 81 = .ok (.iastore, 1) := dk_79 (dk_at dksX13_comes_3 9 rfl rfl)
theorem dX13_comes_82 : decode cX13_comes 82 = .ok (.aload_n 0, 1) := dk_42 (dk_at dksX13_comes_3 10 rfl rfl)
theorem dX13_comes_83 : decode cX13_comes 83 = .ok (.getfield 115, 3) := dk_180 0 115 (dk_at dksX13_comes_3 11 rfl rfl)
theorem dX13_comes_86 : decode cX13_comes 86 = .ok (.bipush 13, 2) := dk_16 13 (dk_at dksX13_comes_3 14 rfl rfl)
theorem dX13_comes_88 : decode cX13_comes 88 = .ok (.iaload, 1) := dk_46 (dk_at dksX13_comes_3 16 rfl rfl)
theorem dX13_comes_89 : decode cX13_comes 89 = .ok (.ireturn, 1) := dk_172 (dk_at dksX13_comes_3 17 rfl rfl)
abbrev cX13_orders : ByteArray := prog_24_method_103_code
def yX13_orders : MethodName := ⟨RX13, "orders", "()I"⟩
def dkwX13_orders_5 : List UInt8 := [60, 132, 2, 1, 167, 255, 158, 27, 172]
abbrev dktX13_orders_5 : List UInt8 := dkwX13_orders_5 ++ []
def dkwX13_orders_4 : List UInt8 := [167, 0, 4, 3, 62, 132, 4, 1, 167, 255, 210, 27, 29, 153, 0, 9, 4, 28, 120, 167, 0, 4, 3, 128]
abbrev dktX13_orders_4 : List UInt8 := dkwX13_orders_4 ++ dktX13_orders_5
def dkwX13_orders_3 : List UInt8 := [42, 180, 0, 125, 21, 4, 46, 42, 180, 0, 115, 17, 1, 188, 21, 4, 96, 46, 160, 0, 7, 4]
abbrev dktX13_orders_3 : List UInt8 := dkwX13_orders_3 ++ dktX13_orders_4
def dkwX13_orders_2 : List UInt8 := [182, 1, 73, 4, 62, 3, 54, 4, 21, 4, 42, 180, 0, 115, 16, 13, 46, 162, 0, 40, 29, 153, 0, 28]
abbrev dktX13_orders_2 : List UInt8 := dkwX13_orders_2 ++ dktX13_orders_3
def dkwX13_orders_1 : List UInt8 := [8, 162, 0, 99, 42, 180, 0, 1, 154, 0, 92, 42, 17, 0, 164, 42, 180, 0, 115, 16, 14, 46, 28]
abbrev dktX13_orders_1 : List UInt8 := dkwX13_orders_1 ++ dktX13_orders_2
def dkwX13_orders_0 : List UInt8 := [42, 42, 180, 0, 115, 16, 14, 46, 158, 0, 7, 3, 167, 0, 4, 4, 181, 0, 1, 3, 60, 3, 61, 28]
abbrev dktX13_orders_0 : List UInt8 := dkwX13_orders_0 ++ dktX13_orders_1
theorem dksX13_orders_0 : cX13_orders.data.toList.drop 0 = dktX13_orders_0 := by decide +kernel
theorem dksX13_orders_1 : cX13_orders.data.toList.drop 24 = dktX13_orders_1 := dk_seg dksX13_orders_0 24 rfl rfl
theorem dksX13_orders_2 : cX13_orders.data.toList.drop 47 = dktX13_orders_2 := dk_seg dksX13_orders_1 23 rfl rfl
theorem dksX13_orders_3 : cX13_orders.data.toList.drop 71 = dktX13_orders_3 := dk_seg dksX13_orders_2 24 rfl rfl
theorem dksX13_orders_4 : cX13_orders.data.toList.drop 93 = dktX13_orders_4 := dk_seg dksX13_orders_3 22 rfl rfl
theorem dksX13_orders_5 : cX13_orders.data.toList.drop 117 = dktX13_orders_5 := dk_seg dksX13_orders_4 24 rfl rfl
theorem dX13_orders_0 : decode cX13_orders 0 = .ok (.aload_n 0, 1) := dk_42 (dk_at dksX13_orders_0 0 rfl rfl)
theorem dX13_orders_1 : decode cX13_orders 1 = .ok (.aload_n 0, 1) := dk_42 (dk_at dksX13_orders_0 1 rfl rfl)
theorem dX13_orders_2 : decode cX13_orders 2 = .ok (.getfield 115, 3) := dk_180 0 115 (dk_at dksX13_orders_0 2 rfl rfl)
theorem dX13_orders_5 : decode cX13_orders 5 = .ok (.bipush 14, 2) := dk_16 14 (dk_at dksX13_orders_0 5 rfl rfl)
theorem dX13_orders_7 : decode cX13_orders 7 = .ok (.iaload, 1) := dk_46 (dk_at dksX13_orders_0 7 rfl rfl)
theorem dX13_orders_8 : decode cX13_orders 8 = .ok (.ifCond .le 7, 3) := dk_158 0 7 (dk_at dksX13_orders_0 8 rfl rfl)
theorem dX13_orders_11 : decode cX13_orders 11 = .ok (.iconst 0, 1) := dk_3 (dk_at dksX13_orders_0 11 rfl rfl)
theorem dX13_orders_12 : decode cX13_orders 12 = .ok (.goto 4, 3) := dk_167 0 4 (dk_at dksX13_orders_0 12 rfl rfl)
theorem dX13_orders_15 : decode cX13_orders 15 = .ok (.iconst 1, 1) := dk_4 (dk_at dksX13_orders_0 15 rfl rfl)
theorem dX13_orders_16 : decode cX13_orders 16 = .ok (.putfield 1, 3) := dk_181 0 1 (dk_at dksX13_orders_0 16 rfl rfl)
theorem dX13_orders_19 : decode cX13_orders 19 = .ok (.iconst 0, 1) := dk_3 (dk_at dksX13_orders_0 19 rfl rfl)
theorem dX13_orders_20 : decode cX13_orders 20 = .ok (.istore_n 1, 1) := dk_60 (dk_at dksX13_orders_0 20 rfl rfl)
theorem dX13_orders_21 : decode cX13_orders 21 = .ok (.iconst 0, 1) := dk_3 (dk_at dksX13_orders_0 21 rfl rfl)
theorem dX13_orders_22 : decode cX13_orders 22 = .ok (.istore_n 2, 1) := dk_61 (dk_at dksX13_orders_0 22 rfl rfl)
theorem dX13_orders_23 : decode cX13_orders 23 = .ok (.iload_n 2, 1) := dk_28 (dk_at dksX13_orders_0 23 rfl rfl)
theorem dX13_orders_24 : decode cX13_orders 24 = .ok (.iconst 5, 1) := dk_8 (dk_at dksX13_orders_1 0 rfl rfl)
theorem dX13_orders_25 : decode cX13_orders 25 = .ok (.if_icmp .ge 99, 3) := dk_162 0 99 (dk_at dksX13_orders_1 1 rfl rfl)
theorem dX13_orders_28 : decode cX13_orders 28 = .ok (.aload_n 0, 1) := dk_42 (dk_at dksX13_orders_1 4 rfl rfl)
theorem dX13_orders_29 : decode cX13_orders 29 = .ok (.getfield 1, 3) := dk_180 0 1 (dk_at dksX13_orders_1 5 rfl rfl)
theorem dX13_orders_32 : decode cX13_orders 32 = .ok (.ifCond .ne 92, 3) := dk_154 0 92 (dk_at dksX13_orders_1 8 rfl rfl)
theorem dX13_orders_35 : decode cX13_orders 35 = .ok (.aload_n 0, 1) := dk_42 (dk_at dksX13_orders_1 11 rfl rfl)
theorem dX13_orders_36 : decode cX13_orders 36 = .ok (.sipush 164, 3) := dk_17 0 164 (dk_at dksX13_orders_1 12 rfl rfl)
theorem dX13_orders_39 : decode cX13_orders 39 = .ok (.aload_n 0, 1) := dk_42 (dk_at dksX13_orders_1 15 rfl rfl)
theorem dX13_orders_40 : decode cX13_orders 40 = .ok (.getfield 115, 3) := dk_180 0 115 (dk_at dksX13_orders_1 16 rfl rfl)
theorem dX13_orders_43 : decode cX13_orders 43 = .ok (.bipush 14, 2) := dk_16 14 (dk_at dksX13_orders_1 19 rfl rfl)
theorem dX13_orders_45 : decode cX13_orders 45 = .ok (.iaload, 1) := dk_46 (dk_at dksX13_orders_1 21 rfl rfl)
theorem dX13_orders_46 : decode cX13_orders 46 = .ok (.iload_n 2, 1) := dk_28 (dk_at dksX13_orders_1 22 rfl rfl)
theorem dX13_orders_47 : decode cX13_orders 47 = .ok (.invokevirtual 329, 3) := dk_182 1 73 (dk_at dksX13_orders_2 0 rfl rfl)
theorem dX13_orders_50 : decode cX13_orders 50 = .ok (.iconst 1, 1) := dk_4 (dk_at dksX13_orders_2 3 rfl rfl)
theorem dX13_orders_51 : decode cX13_orders 51 = .ok (.istore_n 3, 1) := dk_62 (dk_at dksX13_orders_2 4 rfl rfl)
theorem dX13_orders_52 : decode cX13_orders 52 = .ok (.iconst 0, 1) := dk_3 (dk_at dksX13_orders_2 5 rfl rfl)
theorem dX13_orders_53 : decode cX13_orders 53 = .ok (.istore 4, 2) := dk_54 4 (dk_at dksX13_orders_2 6 rfl rfl)
theorem dX13_orders_55 : decode cX13_orders 55 = .ok (.iload 4, 2) := dk_21 4 (dk_at dksX13_orders_2 8 rfl rfl)
theorem dX13_orders_57 : decode cX13_orders 57 = .ok (.aload_n 0, 1) := dk_42 (dk_at dksX13_orders_2 10 rfl rfl)
theorem dX13_orders_58 : decode cX13_orders 58 = .ok (.getfield 115, 3) := dk_180 0 115 (dk_at dksX13_orders_2 11 rfl rfl)
theorem dX13_orders_61 : decode cX13_orders 61 = .ok (.bipush 13, 2) := dk_16 13 (dk_at dksX13_orders_2 14 rfl rfl)
theorem dX13_orders_63 : decode cX13_orders 63 = .ok (.iaload, 1) := dk_46 (dk_at dksX13_orders_2 16 rfl rfl)
theorem dX13_orders_64 : decode cX13_orders 64 = .ok (.if_icmp .ge 40, 3) := dk_162 0 40 (dk_at dksX13_orders_2 17 rfl rfl)
theorem dX13_orders_67 : decode cX13_orders 67 = .ok (.iload_n 3, 1) := dk_29 (dk_at dksX13_orders_2 20 rfl rfl)
theorem dX13_orders_68 : decode cX13_orders 68 = .ok (.ifCond .eq 28, 3) := dk_153 0 28 (dk_at dksX13_orders_2 21 rfl rfl)
theorem dX13_orders_71 : decode cX13_orders 71 = .ok (.aload_n 0, 1) := dk_42 (dk_at dksX13_orders_3 0 rfl rfl)
theorem dX13_orders_72 : decode cX13_orders 72 = .ok (.getfield 125, 3) := dk_180 0 125 (dk_at dksX13_orders_3 1 rfl rfl)
theorem dX13_orders_75 : decode cX13_orders 75 = .ok (.iload 4, 2) := dk_21 4 (dk_at dksX13_orders_3 4 rfl rfl)
theorem dX13_orders_77 : decode cX13_orders 77 = .ok (.iaload, 1) := dk_46 (dk_at dksX13_orders_3 6 rfl rfl)
theorem dX13_orders_78 : decode cX13_orders 78 = .ok (.aload_n 0, 1) := dk_42 (dk_at dksX13_orders_3 7 rfl rfl)
theorem dX13_orders_79 : decode cX13_orders 79 = .ok (.getfield 115, 3) := dk_180 0 115 (dk_at dksX13_orders_3 8 rfl rfl)
theorem dX13_orders_82 : decode cX13_orders 82 = .ok (.sipush 444, 3) := dk_17 1 188 (dk_at dksX13_orders_3 11 rfl rfl)
theorem dX13_orders_85 : decode cX13_orders 85 = .ok (.iload 4, 2) := dk_21 4 (dk_at dksX13_orders_3 14 rfl rfl)
theorem dX13_orders_87 : decode cX13_orders 87 = .ok (.iadd, 1) := dk_96 (dk_at dksX13_orders_3 16 rfl rfl)
theorem dX13_orders_88 : decode cX13_orders 88 = .ok (.iaload, 1) := dk_46 (dk_at dksX13_orders_3 17 rfl rfl)
theorem dX13_orders_89 : decode cX13_orders 89 = .ok (.if_icmp .ne 7, 3) := dk_160 0 7 (dk_at dksX13_orders_3 18 rfl rfl)
theorem dX13_orders_92 : decode cX13_orders 92 = .ok (.iconst 1, 1) := dk_4 (dk_at dksX13_orders_3 21 rfl rfl)
theorem dX13_orders_93 : decode cX13_orders 93 = .ok (.goto 4, 3) := dk_167 0 4 (dk_at dksX13_orders_4 0 rfl rfl)
theorem dX13_orders_96 : decode cX13_orders 96 = .ok (.iconst 0, 1) := dk_3 (dk_at dksX13_orders_4 3 rfl rfl)
theorem dX13_orders_97 : decode cX13_orders 97 = .ok (.istore_n 3, 1) := dk_62 (dk_at dksX13_orders_4 4 rfl rfl)
theorem dX13_orders_98 : decode cX13_orders 98 = .ok (.iinc 4 1, 3) := dk_132 4 1 (dk_at dksX13_orders_4 5 rfl rfl)
theorem dX13_orders_101 : decode cX13_orders 101 = .ok (.goto (-46), 3) := dk_167 255 210 (dk_at dksX13_orders_4 8 rfl rfl)
theorem dX13_orders_104 : decode cX13_orders 104 = .ok (.iload_n 1, 1) := dk_27 (dk_at dksX13_orders_4 11 rfl rfl)
theorem dX13_orders_105 : decode cX13_orders 105 = .ok (.iload_n 3, 1) := dk_29 (dk_at dksX13_orders_4 12 rfl rfl)
theorem dX13_orders_106 : decode cX13_orders 106 = .ok (.ifCond .eq 9, 3) := dk_153 0 9 (dk_at dksX13_orders_4 13 rfl rfl)
theorem dX13_orders_109 : decode cX13_orders 109 = .ok (.iconst 1, 1) := dk_4 (dk_at dksX13_orders_4 16 rfl rfl)
theorem dX13_orders_110 : decode cX13_orders 110 = .ok (.iload_n 2, 1) := dk_28 (dk_at dksX13_orders_4 17 rfl rfl)
theorem dX13_orders_111 : decode cX13_orders 111 = .ok (.ishl, 1) := dk_120 (dk_at dksX13_orders_4 18 rfl rfl)
theorem dX13_orders_112 : decode cX13_orders 112 = .ok (.goto 4, 3) := dk_167 0 4 (dk_at dksX13_orders_4 19 rfl rfl)
theorem dX13_orders_115 : decode cX13_orders 115 = .ok (.iconst 0, 1) := dk_3 (dk_at dksX13_orders_4 22 rfl rfl)
theorem dX13_orders_116 : decode cX13_orders 116 = .ok (.ior, 1) := dk_128 (dk_at dksX13_orders_4 23 rfl rfl)
theorem dX13_orders_117 : decode cX13_orders 117 = .ok (.istore_n 1, 1) := dk_60 (dk_at dksX13_orders_5 0 rfl rfl)
theorem dX13_orders_118 : decode cX13_orders 118 = .ok (.iinc 2 1, 3) := dk_132 2 1 (dk_at dksX13_orders_5 1 rfl rfl)
theorem dX13_orders_121 : decode cX13_orders 121 = .ok (.goto (-98), 3) := dk_167 255 158 (dk_at dksX13_orders_5 4 rfl rfl)
theorem dX13_orders_124 : decode cX13_orders 124 = .ok (.iload_n 1, 1) := dk_27 (dk_at dksX13_orders_5 7 rfl rfl)
theorem dX13_orders_125 : decode cX13_orders 125 = .ok (.ireturn, 1) := dk_172 (dk_at dksX13_orders_5 8 rfl rfl)
abbrev cX13_clear : ByteArray := prog_24_method_104_code
def yX13_clear : MethodName := ⟨RX13, "clear", "()Z"⟩
def dkwX13_clear_0 : List UInt8 := [42, 3, 181, 0, 1, 42, 180, 0, 115, 16, 13, 3, 79, 4, 172]
abbrev dktX13_clear_0 : List UInt8 := dkwX13_clear_0 ++ []
theorem dksX13_clear_0 : cX13_clear.data.toList.drop 0 = dktX13_clear_0 := by decide +kernel
theorem dX13_clear_0 : decode cX13_clear 0 = .ok (.aload_n 0, 1) := dk_42 (dk_at dksX13_clear_0 0 rfl rfl)
theorem dX13_clear_1 : decode cX13_clear 1 = .ok (.iconst 0, 1) := dk_3 (dk_at dksX13_clear_0 1 rfl rfl)
theorem dX13_clear_2 : decode cX13_clear 2 = .ok (.putfield 1, 3) := dk_181 0 1 (dk_at dksX13_clear_0 2 rfl rfl)
theorem dX13_clear_5 : decode cX13_clear 5 = .ok (.aload_n 0, 1) := dk_42 (dk_at dksX13_clear_0 5 rfl rfl)
theorem dX13_clear_6 : decode cX13_clear 6 = .ok (.getfield 115, 3) := dk_180 0 115 (dk_at dksX13_clear_0 6 rfl rfl)
theorem dX13_clear_9 : decode cX13_clear 9 = .ok (.bipush 13, 2) := dk_16 13 (dk_at dksX13_clear_0 9 rfl rfl)
theorem dX13_clear_11 : decode cX13_clear 11 = .ok (.iconst 0, 1) := dk_3 (dk_at dksX13_clear_0 11 rfl rfl)
theorem dX13_clear_12 : decode cX13_clear 12 = .ok (.iastore, 1) := dk_79 (dk_at dksX13_clear_0 12 rfl rfl)
theorem dX13_clear_13 : decode cX13_clear 13 = .ok (.iconst 1, 1) := dk_4 (dk_at dksX13_clear_0 13 rfl rfl)
theorem dX13_clear_14 : decode cX13_clear 14 = .ok (.ireturn, 1) := dk_172 (dk_at dksX13_clear_0 14 rfl rfl)
abbrev cX13_drawn : ByteArray := prog_24_method_107_code
def yX13_drawn : MethodName := ⟨RX13, "drawn", "(I)Z"⟩
def dkwX13_drawn_4 : List UInt8 := [100, 42, 180, 0, 149, 29, 46, 79, 132, 3, 1, 167, 255, 219, 42, 182, 1, 27, 4, 172]
abbrev dktX13_drawn_4 : List UInt8 := dkwX13_drawn_4 ++ []
def dkwX13_drawn_3 : List UInt8 := [180, 1, 150, 162, 0, 35, 42, 180, 0, 100, 29, 28, 162, 0, 7, 29, 167, 0, 9, 16, 24, 29, 96, 28]
abbrev dktX13_drawn_3 : List UInt8 := dkwX13_drawn_3 ++ dktX13_drawn_4
def dkwX13_drawn_2 : List UInt8 := [180, 0, 103, 3, 28, 79, 42, 180, 0, 103, 4, 42, 180, 1, 150, 28, 100, 79, 3, 62, 29, 42]
abbrev dktX13_drawn_2 : List UInt8 := dkwX13_drawn_2 ++ dktX13_drawn_3
def dkwX13_drawn_1 : List UInt8 := [3, 172, 42, 27, 133, 181, 1, 225, 42, 182, 1, 240, 42, 180, 1, 150, 4, 96, 5, 108, 61, 42]
abbrev dktX13_drawn_1 : List UInt8 := dkwX13_drawn_1 ++ dktX13_drawn_2
def dkwX13_drawn_0 : List UInt8 := [42, 3, 181, 0, 1, 27, 3, 17, 39, 15, 184, 1, 91, 153, 0, 11, 42, 3, 182, 1, 11, 154, 0, 5]
abbrev dktX13_drawn_0 : List UInt8 := dkwX13_drawn_0 ++ dktX13_drawn_1
theorem dksX13_drawn_0 : cX13_drawn.data.toList.drop 0 = dktX13_drawn_0 := by decide +kernel
theorem dksX13_drawn_1 : cX13_drawn.data.toList.drop 24 = dktX13_drawn_1 := dk_seg dksX13_drawn_0 24 rfl rfl
theorem dksX13_drawn_2 : cX13_drawn.data.toList.drop 46 = dktX13_drawn_2 := dk_seg dksX13_drawn_1 22 rfl rfl
theorem dksX13_drawn_3 : cX13_drawn.data.toList.drop 68 = dktX13_drawn_3 := dk_seg dksX13_drawn_2 22 rfl rfl
theorem dksX13_drawn_4 : cX13_drawn.data.toList.drop 92 = dktX13_drawn_4 := dk_seg dksX13_drawn_3 24 rfl rfl
theorem dX13_drawn_0 : decode cX13_drawn 0 = .ok (.aload_n 0, 1) := dk_42 (dk_at dksX13_drawn_0 0 rfl rfl)
theorem dX13_drawn_1 : decode cX13_drawn 1 = .ok (.iconst 0, 1) := dk_3 (dk_at dksX13_drawn_0 1 rfl rfl)
theorem dX13_drawn_2 : decode cX13_drawn 2 = .ok (.putfield 1, 3) := dk_181 0 1 (dk_at dksX13_drawn_0 2 rfl rfl)
theorem dX13_drawn_5 : decode cX13_drawn 5 = .ok (.iload_n 1, 1) := dk_27 (dk_at dksX13_drawn_0 5 rfl rfl)
theorem dX13_drawn_6 : decode cX13_drawn 6 = .ok (.iconst 0, 1) := dk_3 (dk_at dksX13_drawn_0 6 rfl rfl)
theorem dX13_drawn_7 : decode cX13_drawn 7 = .ok (.sipush 9999, 3) := dk_17 39 15 (dk_at dksX13_drawn_0 7 rfl rfl)
theorem dX13_drawn_10 : decode cX13_drawn 10 = .ok (.invokestatic 347, 3) := dk_184 1 91 (dk_at dksX13_drawn_0 10 rfl rfl)
theorem dX13_drawn_13 : decode cX13_drawn 13 = .ok (.ifCond .eq 11, 3) := dk_153 0 11 (dk_at dksX13_drawn_0 13 rfl rfl)
theorem dX13_drawn_16 : decode cX13_drawn 16 = .ok (.aload_n 0, 1) := dk_42 (dk_at dksX13_drawn_0 16 rfl rfl)
theorem dX13_drawn_17 : decode cX13_drawn 17 = .ok (.iconst 0, 1) := dk_3 (dk_at dksX13_drawn_0 17 rfl rfl)
theorem dX13_drawn_18 : decode cX13_drawn 18 = .ok (.invokevirtual 267, 3) := dk_182 1 11 (dk_at dksX13_drawn_0 18 rfl rfl)
theorem dX13_drawn_21 : decode cX13_drawn 21 = .ok (.ifCond .ne 5, 3) := dk_154 0 5 (dk_at dksX13_drawn_0 21 rfl rfl)
theorem dX13_drawn_24 : decode cX13_drawn 24 = .ok (.iconst 0, 1) := dk_3 (dk_at dksX13_drawn_1 0 rfl rfl)
theorem dX13_drawn_25 : decode cX13_drawn 25 = .ok (.ireturn, 1) := dk_172 (dk_at dksX13_drawn_1 1 rfl rfl)
theorem dX13_drawn_26 : decode cX13_drawn 26 = .ok (.aload_n 0, 1) := dk_42 (dk_at dksX13_drawn_1 2 rfl rfl)
theorem dX13_drawn_27 : decode cX13_drawn 27 = .ok (.iload_n 1, 1) := dk_27 (dk_at dksX13_drawn_1 3 rfl rfl)
theorem dX13_drawn_28 : decode cX13_drawn 28 = .ok (.i2l, 1) := dk_133 (dk_at dksX13_drawn_1 4 rfl rfl)
theorem dX13_drawn_29 : decode cX13_drawn 29 = .ok (.putfield 481, 3) := dk_181 1 225 (dk_at dksX13_drawn_1 5 rfl rfl)
theorem dX13_drawn_32 : decode cX13_drawn 32 = .ok (.aload_n 0, 1) := dk_42 (dk_at dksX13_drawn_1 8 rfl rfl)
theorem dX13_drawn_33 : decode cX13_drawn 33 = .ok (.invokevirtual 496, 3) := dk_182 1 240 (dk_at dksX13_drawn_1 9 rfl rfl)
theorem dX13_drawn_36 : decode cX13_drawn 36 = .ok (.aload_n 0, 1) := dk_42 (dk_at dksX13_drawn_1 12 rfl rfl)
theorem dX13_drawn_37 : decode cX13_drawn 37 = .ok (.getfield 406, 3) := dk_180 1 150 (dk_at dksX13_drawn_1 13 rfl rfl)
theorem dX13_drawn_40 : decode cX13_drawn 40 = .ok (.iconst 1, 1) := dk_4 (dk_at dksX13_drawn_1 16 rfl rfl)
theorem dX13_drawn_41 : decode cX13_drawn 41 = .ok (.iadd, 1) := dk_96 (dk_at dksX13_drawn_1 17 rfl rfl)
theorem dX13_drawn_42 : decode cX13_drawn 42 = .ok (.iconst 2, 1) := dk_5 (dk_at dksX13_drawn_1 18 rfl rfl)
theorem dX13_drawn_43 : decode cX13_drawn 43 = .ok (.idiv, 1) := dk_108 (dk_at dksX13_drawn_1 19 rfl rfl)
theorem dX13_drawn_44 : decode cX13_drawn 44 = .ok (.istore_n 2, 1) := dk_61 (dk_at dksX13_drawn_1 20 rfl rfl)
theorem dX13_drawn_45 : decode cX13_drawn 45 = .ok (.aload_n 0, 1) := dk_42 (dk_at dksX13_drawn_1 21 rfl rfl)
theorem dX13_drawn_46 : decode cX13_drawn 46 = .ok (.getfield 103, 3) := dk_180 0 103 (dk_at dksX13_drawn_2 0 rfl rfl)
theorem dX13_drawn_49 : decode cX13_drawn 49 = .ok (.iconst 0, 1) := dk_3 (dk_at dksX13_drawn_2 3 rfl rfl)
theorem dX13_drawn_50 : decode cX13_drawn 50 = .ok (.iload_n 2, 1) := dk_28 (dk_at dksX13_drawn_2 4 rfl rfl)
theorem dX13_drawn_51 : decode cX13_drawn 51 = .ok (.iastore, 1) := dk_79 (dk_at dksX13_drawn_2 5 rfl rfl)
theorem dX13_drawn_52 : decode cX13_drawn 52 = .ok (.aload_n 0, 1) := dk_42 (dk_at dksX13_drawn_2 6 rfl rfl)
theorem dX13_drawn_53 : decode cX13_drawn 53 = .ok (.getfield 103, 3) := dk_180 0 103 (dk_at dksX13_drawn_2 7 rfl rfl)
theorem dX13_drawn_56 : decode cX13_drawn 56 = .ok (.iconst 1, 1) := dk_4 (dk_at dksX13_drawn_2 10 rfl rfl)
theorem dX13_drawn_57 : decode cX13_drawn 57 = .ok (.aload_n 0, 1) := dk_42 (dk_at dksX13_drawn_2 11 rfl rfl)
theorem dX13_drawn_58 : decode cX13_drawn 58 = .ok (.getfield 406, 3) := dk_180 1 150 (dk_at dksX13_drawn_2 12 rfl rfl)
theorem dX13_drawn_61 : decode cX13_drawn 61 = .ok (.iload_n 2, 1) := dk_28 (dk_at dksX13_drawn_2 15 rfl rfl)
theorem dX13_drawn_62 : decode cX13_drawn 62 = .ok (.isub, 1) := dk_100 (dk_at dksX13_drawn_2 16 rfl rfl)
theorem dX13_drawn_63 : decode cX13_drawn 63 = .ok (.iastore, 1) := dk_79 (dk_at dksX13_drawn_2 17 rfl rfl)
theorem dX13_drawn_64 : decode cX13_drawn 64 = .ok (.iconst 0, 1) := dk_3 (dk_at dksX13_drawn_2 18 rfl rfl)
theorem dX13_drawn_65 : decode cX13_drawn 65 = .ok (.istore_n 3, 1) := dk_62 (dk_at dksX13_drawn_2 19 rfl rfl)
theorem dX13_drawn_66 : decode cX13_drawn 66 = .ok (.iload_n 3, 1) := dk_29 (dk_at dksX13_drawn_2 20 rfl rfl)
theorem dX13_drawn_67 : decode cX13_drawn 67 = .ok (.aload_n 0, 1) := dk_42 (dk_at dksX13_drawn_2 21 rfl rfl)
theorem dX13_drawn_68 : decode cX13_drawn 68 = .ok (.getfield 406, 3) := dk_180 1 150 (dk_at dksX13_drawn_3 0 rfl rfl)
theorem dX13_drawn_71 : decode cX13_drawn 71 = .ok (.if_icmp .ge 35, 3) := dk_162 0 35 (dk_at dksX13_drawn_3 3 rfl rfl)
theorem dX13_drawn_74 : decode cX13_drawn 74 = .ok (.aload_n 0, 1) := dk_42 (dk_at dksX13_drawn_3 6 rfl rfl)
theorem dX13_drawn_75 : decode cX13_drawn 75 = .ok (.getfield 100, 3) := dk_180 0 100 (dk_at dksX13_drawn_3 7 rfl rfl)
theorem dX13_drawn_78 : decode cX13_drawn 78 = .ok (.iload_n 3, 1) := dk_29 (dk_at dksX13_drawn_3 10 rfl rfl)
theorem dX13_drawn_79 : decode cX13_drawn 79 = .ok (.iload_n 2, 1) := dk_28 (dk_at dksX13_drawn_3 11 rfl rfl)
theorem dX13_drawn_80 : decode cX13_drawn 80 = .ok (.if_icmp .ge 7, 3) := dk_162 0 7 (dk_at dksX13_drawn_3 12 rfl rfl)
theorem dX13_drawn_83 : decode cX13_drawn 83 = .ok (.iload_n 3, 1) := dk_29 (dk_at dksX13_drawn_3 15 rfl rfl)
theorem dX13_drawn_84 : decode cX13_drawn 84 = .ok (.goto 9, 3) := dk_167 0 9 (dk_at dksX13_drawn_3 16 rfl rfl)
theorem dX13_drawn_87 : decode cX13_drawn 87 = .ok (.bipush 24, 2) := dk_16 24 (dk_at dksX13_drawn_3 19 rfl rfl)
theorem dX13_drawn_89 : decode cX13_drawn 89 = .ok (.iload_n 3, 1) := dk_29 (dk_at dksX13_drawn_3 21 rfl rfl)
theorem dX13_drawn_90 : decode cX13_drawn 90 = .ok (.iadd, 1) := dk_96 (dk_at dksX13_drawn_3 22 rfl rfl)
theorem dX13_drawn_91 : decode cX13_drawn 91 = .ok (.iload_n 2, 1) := dk_28 (dk_at dksX13_drawn_3 23 rfl rfl)
theorem dX13_drawn_92 : decode cX13_drawn 92 = .ok (.isub, 1) := dk_100 (dk_at dksX13_drawn_4 0 rfl rfl)
theorem dX13_drawn_93 : decode cX13_drawn 93 = .ok (.aload_n 0, 1) := dk_42 (dk_at dksX13_drawn_4 1 rfl rfl)
theorem dX13_drawn_94 : decode cX13_drawn 94 = .ok (.getfield 149, 3) := dk_180 0 149 (dk_at dksX13_drawn_4 2 rfl rfl)
theorem dX13_drawn_97 : decode cX13_drawn 97 = .ok (.iload_n 3, 1) := dk_29 (dk_at dksX13_drawn_4 5 rfl rfl)
theorem dX13_drawn_98 : decode cX13_drawn 98 = .ok (.iaload, 1) := dk_46 (dk_at dksX13_drawn_4 6 rfl rfl)
theorem dX13_drawn_99 : decode cX13_drawn 99 = .ok (.iastore, 1) := dk_79 (dk_at dksX13_drawn_4 7 rfl rfl)
theorem dX13_drawn_100 : decode cX13_drawn 100 = .ok (.iinc 3 1, 3) := dk_132 3 1 (dk_at dksX13_drawn_4 8 rfl rfl)
theorem dX13_drawn_103 : decode cX13_drawn 103 = .ok (.goto (-37), 3) := dk_167 255 219 (dk_at dksX13_drawn_4 11 rfl rfl)
theorem dX13_drawn_106 : decode cX13_drawn 106 = .ok (.aload_n 0, 1) := dk_42 (dk_at dksX13_drawn_4 14 rfl rfl)
theorem dX13_drawn_107 : decode cX13_drawn 107 = .ok (.invokevirtual 283, 3) := dk_182 1 27 (dk_at dksX13_drawn_4 15 rfl rfl)
theorem dX13_drawn_110 : decode cX13_drawn 110 = .ok (.iconst 1, 1) := dk_4 (dk_at dksX13_drawn_4 18 rfl rfl)
theorem dX13_drawn_111 : decode cX13_drawn 111 = .ok (.ireturn, 1) := dk_172 (dk_at dksX13_drawn_4 19 rfl rfl)
abbrev cX13_drawsPack : ByteArray := prog_24_method_106_code
def yX13_drawsPack : MethodName := ⟨RX13, "drawsPack", "()V"⟩
def dkwX13_drawsPack_1 : List UInt8 := [182, 1, 237, 184, 1, 155, 132, 1, 255, 167, 255, 234, 177]
abbrev dktX13_drawsPack_1 : List UInt8 := dkwX13_drawsPack_1 ++ []
def dkwX13_drawsPack_0 : List UInt8 := [42, 182, 1, 159, 42, 180, 1, 150, 4, 100, 60, 27, 158, 0, 24, 42, 180, 0, 149, 27, 42, 27, 4, 96]
abbrev dktX13_drawsPack_0 : List UInt8 := dkwX13_drawsPack_0 ++ dktX13_drawsPack_1
theorem dksX13_drawsPack_0 : cX13_drawsPack.data.toList.drop 0 = dktX13_drawsPack_0 := by decide +kernel
theorem dksX13_drawsPack_1 : cX13_drawsPack.data.toList.drop 24 = dktX13_drawsPack_1 := dk_seg dksX13_drawsPack_0 24 rfl rfl
theorem dX13_drawsPack_0 : decode cX13_drawsPack 0 = .ok (.aload_n 0, 1) := dk_42 (dk_at dksX13_drawsPack_0 0 rfl rfl)
theorem dX13_drawsPack_1 : decode cX13_drawsPack 1 = .ok (.invokevirtual 415, 3) := dk_182 1 159 (dk_at dksX13_drawsPack_0 1 rfl rfl)
theorem dX13_drawsPack_4 : decode cX13_drawsPack 4 = .ok (.aload_n 0, 1) := dk_42 (dk_at dksX13_drawsPack_0 4 rfl rfl)
theorem dX13_drawsPack_5 : decode cX13_drawsPack 5 = .ok (.getfield 406, 3) := dk_180 1 150 (dk_at dksX13_drawsPack_0 5 rfl rfl)
theorem dX13_drawsPack_8 : decode cX13_drawsPack 8 = .ok (.iconst 1, 1) := dk_4 (dk_at dksX13_drawsPack_0 8 rfl rfl)
theorem dX13_drawsPack_9 : decode cX13_drawsPack 9 = .ok (.isub, 1) := dk_100 (dk_at dksX13_drawsPack_0 9 rfl rfl)
theorem dX13_drawsPack_10 : decode cX13_drawsPack 10 = .ok (.istore_n 1, 1) := dk_60 (dk_at dksX13_drawsPack_0 10 rfl rfl)
theorem dX13_drawsPack_11 : decode cX13_drawsPack 11 = .ok (.iload_n 1, 1) := dk_27 (dk_at dksX13_drawsPack_0 11 rfl rfl)
theorem dX13_drawsPack_12 : decode cX13_drawsPack 12 = .ok (.ifCond .le 24, 3) := dk_158 0 24 (dk_at dksX13_drawsPack_0 12 rfl rfl)
theorem dX13_drawsPack_15 : decode cX13_drawsPack 15 = .ok (.aload_n 0, 1) := dk_42 (dk_at dksX13_drawsPack_0 15 rfl rfl)
theorem dX13_drawsPack_16 : decode cX13_drawsPack 16 = .ok (.getfield 149, 3) := dk_180 0 149 (dk_at dksX13_drawsPack_0 16 rfl rfl)
theorem dX13_drawsPack_19 : decode cX13_drawsPack 19 = .ok (.iload_n 1, 1) := dk_27 (dk_at dksX13_drawsPack_0 19 rfl rfl)
theorem dX13_drawsPack_20 : decode cX13_drawsPack 20 = .ok (.aload_n 0, 1) := dk_42 (dk_at dksX13_drawsPack_0 20 rfl rfl)
theorem dX13_drawsPack_21 : decode cX13_drawsPack 21 = .ok (.iload_n 1, 1) := dk_27 (dk_at dksX13_drawsPack_0 21 rfl rfl)
theorem dX13_drawsPack_22 : decode cX13_drawsPack 22 = .ok (.iconst 1, 1) := dk_4 (dk_at dksX13_drawsPack_0 22 rfl rfl)
theorem dX13_drawsPack_23 : decode cX13_drawsPack 23 = .ok (.iadd, 1) := dk_96 (dk_at dksX13_drawsPack_0 23 rfl rfl)
theorem dX13_drawsPack_24 : decode cX13_drawsPack 24 = .ok (.invokevirtual 493, 3) := dk_182 1 237 (dk_at dksX13_drawsPack_1 0 rfl rfl)
theorem dX13_drawsPack_27 : decode cX13_drawsPack 27 = .ok (.invokestatic 411, 3) := dk_184 1 155 (dk_at dksX13_drawsPack_1 3 rfl rfl)
theorem dX13_drawsPack_30 : decode cX13_drawsPack 30 = .ok (.iinc 1 (-1), 3) := dk_132 1 255 (dk_at dksX13_drawsPack_1 6 rfl rfl)
theorem dX13_drawsPack_33 : decode cX13_drawsPack 33 = .ok (.goto (-22), 3) := dk_167 255 234 (dk_at dksX13_drawsPack_1 9 rfl rfl)
theorem dX13_drawsPack_36 : decode cX13_drawsPack 36 = .ok (.return_, 1) := dk_177 (dk_at dksX13_drawsPack_1 12 rfl rfl)
abbrev cX13_draw : ByteArray := prog_24_method_105_code
def yX13_draw : MethodName := ⟨RX13, "draw", "(I)I"⟩
def dkwX13_draw_1 : List UInt8 := [20, 1, 235, 109, 27, 133, 113, 136, 172]
abbrev dktX13_draw_1 : List UInt8 := dkwX13_draw_1 ++ []
def dkwX13_draw_0 : List UInt8 := [42, 42, 180, 1, 225, 20, 1, 229, 105, 20, 1, 231, 97, 20, 1, 233, 113, 181, 1, 225, 42, 180, 1, 225]
abbrev dktX13_draw_0 : List UInt8 := dkwX13_draw_0 ++ dktX13_draw_1
theorem dksX13_draw_0 : cX13_draw.data.toList.drop 0 = dktX13_draw_0 := by decide +kernel
theorem dksX13_draw_1 : cX13_draw.data.toList.drop 24 = dktX13_draw_1 := dk_seg dksX13_draw_0 24 rfl rfl
theorem dX13_draw_0 : decode cX13_draw 0 = .ok (.aload_n 0, 1) := dk_42 (dk_at dksX13_draw_0 0 rfl rfl)
theorem dX13_draw_1 : decode cX13_draw 1 = .ok (.aload_n 0, 1) := dk_42 (dk_at dksX13_draw_0 1 rfl rfl)
theorem dX13_draw_2 : decode cX13_draw 2 = .ok (.getfield 481, 3) := dk_180 1 225 (dk_at dksX13_draw_0 2 rfl rfl)
theorem dX13_draw_5 : decode cX13_draw 5 = .ok (.ldc2_w 485, 3) := dk_20 1 229 (dk_at dksX13_draw_0 5 rfl rfl)
theorem dX13_draw_8 : decode cX13_draw 8 = .ok (.lmul, 1) := dk_105 (dk_at dksX13_draw_0 8 rfl rfl)
theorem dX13_draw_9 : decode cX13_draw 9 = .ok (.ldc2_w 487, 3) := dk_20 1 231 (dk_at dksX13_draw_0 9 rfl rfl)
theorem dX13_draw_12 : decode cX13_draw 12 = .ok (.ladd, 1) := dk_97 (dk_at dksX13_draw_0 12 rfl rfl)
theorem dX13_draw_13 : decode cX13_draw 13 = .ok (.ldc2_w 489, 3) := dk_20 1 233 (dk_at dksX13_draw_0 13 rfl rfl)
theorem dX13_draw_16 : decode cX13_draw 16 = .ok (.lrem, 1) := dk_113 (dk_at dksX13_draw_0 16 rfl rfl)
theorem dX13_draw_17 : decode cX13_draw 17 = .ok (.putfield 481, 3) := dk_181 1 225 (dk_at dksX13_draw_0 17 rfl rfl)
theorem dX13_draw_20 : decode cX13_draw 20 = .ok (.aload_n 0, 1) := dk_42 (dk_at dksX13_draw_0 20 rfl rfl)
theorem dX13_draw_21 : decode cX13_draw 21 = .ok (.getfield 481, 3) := dk_180 1 225 (dk_at dksX13_draw_0 21 rfl rfl)
theorem dX13_draw_24 : decode cX13_draw 24 = .ok (.ldc2_w 491, 3) := dk_20 1 235 (dk_at dksX13_draw_1 0 rfl rfl)
theorem dX13_draw_27 : decode cX13_draw 27 = .ok (.ldiv, 1) := dk_109 (dk_at dksX13_draw_1 3 rfl rfl)
theorem dX13_draw_28 : decode cX13_draw 28 = .ok (.iload_n 1, 1) := dk_27 (dk_at dksX13_draw_1 4 rfl rfl)
theorem dX13_draw_29 : decode cX13_draw 29 = .ok (.i2l, 1) := dk_133 (dk_at dksX13_draw_1 5 rfl rfl)
theorem dX13_draw_30 : decode cX13_draw 30 = .ok (.lrem, 1) := dk_113 (dk_at dksX13_draw_1 6 rfl rfl)
theorem dX13_draw_31 : decode cX13_draw 31 = .ok (.l2i, 1) := dk_136 (dk_at dksX13_draw_1 7 rfl rfl)
theorem dX13_draw_32 : decode cX13_draw 32 = .ok (.ireturn, 1) := dk_172 (dk_at dksX13_draw_1 8 rfl rfl)
abbrev cX13_games : ByteArray := prog_24_method_109_code
def yX13_games : MethodName := ⟨RX13, "games", "(III)I"⟩
def dkwX13_games_5 : List UInt8 := [132, 6, 1, 167, 255, 197, 29, 6, 160, 0, 8, 21, 5, 167, 0, 5, 21, 4, 172]
abbrev dktX13_games_5 : List UInt8 := dkwX13_games_5 ++ []
def dkwX13_games_4 : List UInt8 := [162, 0, 19, 42, 180, 1, 132, 21, 5, 164, 0, 10, 42, 180, 1, 132, 167, 0, 5, 21, 5, 54, 5]
abbrev dktX13_games_4 : List UInt8 := dkwX13_games_4 ++ dktX13_games_5
def dkwX13_games_3 : List UInt8 := [21, 4, 42, 180, 1, 138, 29, 160, 0, 7, 4, 167, 0, 4, 3, 96, 54, 4, 42, 180, 1, 138, 5]
abbrev dktX13_games_3 : List UInt8 := dkwX13_games_3 ++ dktX13_games_4
def dkwX13_games_2 : List UInt8 := [133, 181, 1, 225, 3, 54, 4, 3, 54, 5, 3, 54, 6, 21, 6, 28, 162, 0, 59, 42, 182, 1, 243]
abbrev dktX13_games_2 : List UInt8 := dkwX13_games_2 ++ dktX13_games_3
def dkwX13_games_1 : List UInt8 := [153, 0, 20, 29, 3, 6, 184, 1, 91, 153, 0, 11, 42, 3, 182, 1, 11, 154, 0, 5, 2, 172, 42, 27]
abbrev dktX13_games_1 : List UInt8 := dkwX13_games_1 ++ dktX13_games_2
def dkwX13_games_0 : List UInt8 := [42, 3, 181, 0, 1, 27, 3, 17, 39, 15, 184, 1, 91, 153, 0, 30, 28, 4, 16, 50, 184, 1, 91]
abbrev dktX13_games_0 : List UInt8 := dkwX13_games_0 ++ dktX13_games_1
theorem dksX13_games_0 : cX13_games.data.toList.drop 0 = dktX13_games_0 := by decide +kernel
theorem dksX13_games_1 : cX13_games.data.toList.drop 23 = dktX13_games_1 := dk_seg dksX13_games_0 23 rfl rfl
theorem dksX13_games_2 : cX13_games.data.toList.drop 47 = dktX13_games_2 := dk_seg dksX13_games_1 24 rfl rfl
theorem dksX13_games_3 : cX13_games.data.toList.drop 70 = dktX13_games_3 := dk_seg dksX13_games_2 23 rfl rfl
theorem dksX13_games_4 : cX13_games.data.toList.drop 93 = dktX13_games_4 := dk_seg dksX13_games_3 23 rfl rfl
theorem dksX13_games_5 : cX13_games.data.toList.drop 116 = dktX13_games_5 := dk_seg dksX13_games_4 23 rfl rfl
theorem dX13_games_0 : decode cX13_games 0 = .ok (.aload_n 0, 1) := dk_42 (dk_at dksX13_games_0 0 rfl rfl)
theorem dX13_games_1 : decode cX13_games 1 = .ok (.iconst 0, 1) := dk_3 (dk_at dksX13_games_0 1 rfl rfl)
theorem dX13_games_2 : decode cX13_games 2 = .ok (.putfield 1, 3) := dk_181 0 1 (dk_at dksX13_games_0 2 rfl rfl)
theorem dX13_games_5 : decode cX13_games 5 = .ok (.iload_n 1, 1) := dk_27 (dk_at dksX13_games_0 5 rfl rfl)
theorem dX13_games_6 : decode cX13_games 6 = .ok (.iconst 0, 1) := dk_3 (dk_at dksX13_games_0 6 rfl rfl)
theorem dX13_games_7 : decode cX13_games 7 = .ok (.sipush 9999, 3) := dk_17 39 15 (dk_at dksX13_games_0 7 rfl rfl)
theorem dX13_games_10 : decode cX13_games 10 = .ok (.invokestatic 347, 3) := dk_184 1 91 (dk_at dksX13_games_0 10 rfl rfl)
theorem dX13_games_13 : decode cX13_games 13 = .ok (.ifCond .eq 30, 3) := dk_153 0 30 (dk_at dksX13_games_0 13 rfl rfl)
theorem dX13_games_16 : decode cX13_games 16 = .ok (.iload_n 2, 1) := dk_28 (dk_at dksX13_games_0 16 rfl rfl)
theorem dX13_games_17 : decode cX13_games 17 = .ok (.iconst 1, 1) := dk_4 (dk_at dksX13_games_0 17 rfl rfl)
theorem dX13_games_18 : decode cX13_games 18 = .ok (.bipush 50, 2) := dk_16 50 (dk_at dksX13_games_0 18 rfl rfl)
theorem dX13_games_20 : decode cX13_games 20 = .ok (.invokestatic 347, 3) := dk_184 1 91 (dk_at dksX13_games_0 20 rfl rfl)
theorem dX13_games_23 : decode cX13_games 23 = .ok (.ifCond .eq 20, 3) := dk_153 0 20 (dk_at dksX13_games_1 0 rfl rfl)
theorem dX13_games_26 : decode cX13_games 26 = .ok (.iload_n 3, 1) := dk_29 (dk_at dksX13_games_1 3 rfl rfl)
theorem dX13_games_27 : decode cX13_games 27 = .ok (.iconst 0, 1) := dk_3 (dk_at dksX13_games_1 4 rfl rfl)
theorem dX13_games_28 : decode cX13_games 28 = .ok (.iconst 3, 1) := dk_6 (dk_at dksX13_games_1 5 rfl rfl)
theorem dX13_games_29 : decode cX13_games 29 = .ok (.invokestatic 347, 3) := dk_184 1 91 (dk_at dksX13_games_1 6 rfl rfl)
theorem dX13_games_32 : decode cX13_games 32 = .ok (.ifCond .eq 11, 3) := dk_153 0 11 (dk_at dksX13_games_1 9 rfl rfl)
theorem dX13_games_35 : decode cX13_games 35 = .ok (.aload_n 0, 1) := dk_42 (dk_at dksX13_games_1 12 rfl rfl)
theorem dX13_games_36 : decode cX13_games 36 = .ok (.iconst 0, 1) := dk_3 (dk_at dksX13_games_1 13 rfl rfl)
theorem dX13_games_37 : decode cX13_games 37 = .ok (.invokevirtual 267, 3) := dk_182 1 11 (dk_at dksX13_games_1 14 rfl rfl)
theorem dX13_games_40 : decode cX13_games 40 = .ok (.ifCond .ne 5, 3) := dk_154 0 5 (dk_at dksX13_games_1 17 rfl rfl)
theorem dX13_games_43 : decode cX13_games 43 = .ok (.iconst (-1), 1) := dk_2 (dk_at dksX13_games_1 20 rfl rfl)
theorem dX13_games_44 : decode cX13_games 44 = .ok (.ireturn, 1) := dk_172 (dk_at dksX13_games_1 21 rfl rfl)
theorem dX13_games_45 : decode cX13_games 45 = .ok (.aload_n 0, 1) := dk_42 (dk_at dksX13_games_1 22 rfl rfl)
theorem dX13_games_46 : decode cX13_games 46 = .ok (.iload_n 1, 1) := dk_27 (dk_at dksX13_games_1 23 rfl rfl)
theorem dX13_games_47 : decode cX13_games 47 = .ok (.i2l, 1) := dk_133 (dk_at dksX13_games_2 0 rfl rfl)
theorem dX13_games_48 : decode cX13_games 48 = .ok (.putfield 481, 3) := dk_181 1 225 (dk_at dksX13_games_2 1 rfl rfl)
theorem dX13_games_51 : decode cX13_games 51 = .ok (.iconst 0, 1) := dk_3 (dk_at dksX13_games_2 4 rfl rfl)
theorem dX13_games_52 : decode cX13_games 52 = .ok (.istore 4, 2) := dk_54 4 (dk_at dksX13_games_2 5 rfl rfl)
theorem dX13_games_54 : decode cX13_games 54 = .ok (.iconst 0, 1) := dk_3 (dk_at dksX13_games_2 7 rfl rfl)
theorem dX13_games_55 : decode cX13_games 55 = .ok (.istore 5, 2) := dk_54 5 (dk_at dksX13_games_2 8 rfl rfl)
theorem dX13_games_57 : decode cX13_games 57 = .ok (.iconst 0, 1) := dk_3 (dk_at dksX13_games_2 10 rfl rfl)
theorem dX13_games_58 : decode cX13_games 58 = .ok (.istore 6, 2) := dk_54 6 (dk_at dksX13_games_2 11 rfl rfl)
theorem dX13_games_60 : decode cX13_games 60 = .ok (.iload 6, 2) := dk_21 6 (dk_at dksX13_games_2 13 rfl rfl)
theorem dX13_games_62 : decode cX13_games 62 = .ok (.iload_n 2, 1) := dk_28 (dk_at dksX13_games_2 15 rfl rfl)
theorem dX13_games_63 : decode cX13_games 63 = .ok (.if_icmp .ge 59, 3) := dk_162 0 59 (dk_at dksX13_games_2 16 rfl rfl)
theorem dX13_games_66 : decode cX13_games 66 = .ok (.aload_n 0, 1) := dk_42 (dk_at dksX13_games_2 19 rfl rfl)
theorem dX13_games_67 : decode cX13_games 67 = .ok (.invokevirtual 499, 3) := dk_182 1 243 (dk_at dksX13_games_2 20 rfl rfl)
theorem dX13_games_70 : decode cX13_games 70 = .ok (.iload 4, 2) := dk_21 4 (dk_at dksX13_games_3 0 rfl rfl)
theorem dX13_games_72 : decode cX13_games 72 = .ok (.aload_n 0, 1) := dk_42 (dk_at dksX13_games_3 2 rfl rfl)
theorem dX13_games_73 : decode cX13_games 73 = .ok (.getfield 394, 3) := dk_180 1 138 (dk_at dksX13_games_3 3 rfl rfl)
theorem dX13_games_76 : decode cX13_games 76 = .ok (.iload_n 3, 1) := dk_29 (dk_at dksX13_games_3 6 rfl rfl)
theorem dX13_games_77 : decode cX13_games 77 = .ok (.if_icmp .ne 7, 3) := dk_160 0 7 (dk_at dksX13_games_3 7 rfl rfl)
theorem dX13_games_80 : decode cX13_games 80 = .ok (.iconst 1, 1) := dk_4 (dk_at dksX13_games_3 10 rfl rfl)
theorem dX13_games_81 : decode cX13_games 81 = .ok (.goto 4, 3) := dk_167 0 4 (dk_at dksX13_games_3 11 rfl rfl)
theorem dX13_games_84 : decode cX13_games 84 = .ok (.iconst 0, 1) := dk_3 (dk_at dksX13_games_3 14 rfl rfl)
theorem dX13_games_85 : decode cX13_games 85 = .ok (.iadd, 1) := dk_96 (dk_at dksX13_games_3 15 rfl rfl)
theorem dX13_games_86 : decode cX13_games 86 = .ok (.istore 4, 2) := dk_54 4 (dk_at dksX13_games_3 16 rfl rfl)
theorem dX13_games_88 : decode cX13_games 88 = .ok (.aload_n 0, 1) := dk_42 (dk_at dksX13_games_3 18 rfl rfl)
theorem dX13_games_89 : decode cX13_games 89 = .ok (.getfield 394, 3) := dk_180 1 138 (dk_at dksX13_games_3 19 rfl rfl)
theorem dX13_games_92 : decode cX13_games 92 = .ok (.iconst 2, 1) := dk_5 (dk_at dksX13_games_3 22 rfl rfl)
theorem dX13_games_93 : decode cX13_games 93 = .ok (.if_icmp .ge 19, 3) := dk_162 0 19 (dk_at dksX13_games_4 0 rfl rfl)
theorem dX13_games_96 : decode cX13_games 96 = .ok (.aload_n 0, 1) := dk_42 (dk_at dksX13_games_4 3 rfl rfl)
theorem dX13_games_97 : decode cX13_games 97 = .ok (.getfield 388, 3) := dk_180 1 132 (dk_at dksX13_games_4 4 rfl rfl)
theorem dX13_games_100 : decode cX13_games 100 = .ok (.iload 5, 2) := dk_21 5 (dk_at dksX13_games_4 7 rfl rfl)
theorem dX13_games_102 : decode cX13_games 102 = .ok (.if_icmp .le 10, 3) := dk_164 0 10 (dk_at dksX13_games_4 9 rfl rfl)
theorem dX13_games_105 : decode cX13_games 105 = .ok (.aload_n 0, 1) := dk_42 (dk_at dksX13_games_4 12 rfl rfl)
theorem dX13_games_106 : decode cX13_games 106 = .ok (.getfield 388, 3) := dk_180 1 132 (dk_at dksX13_games_4 13 rfl rfl)
theorem dX13_games_109 : decode cX13_games 109 = .ok (.goto 5, 3) := dk_167 0 5 (dk_at dksX13_games_4 16 rfl rfl)
theorem dX13_games_112 : decode cX13_games 112 = .ok (.iload 5, 2) := dk_21 5 (dk_at dksX13_games_4 19 rfl rfl)
theorem dX13_games_114 : decode cX13_games 114 = .ok (.istore 5, 2) := dk_54 5 (dk_at dksX13_games_4 21 rfl rfl)
theorem dX13_games_116 : decode cX13_games 116 = .ok (.iinc 6 1, 3) := dk_132 6 1 (dk_at dksX13_games_5 0 rfl rfl)
theorem dX13_games_119 : decode cX13_games 119 = .ok (.goto (-59), 3) := dk_167 255 197 (dk_at dksX13_games_5 3 rfl rfl)
theorem dX13_games_122 : decode cX13_games 122 = .ok (.iload_n 3, 1) := dk_29 (dk_at dksX13_games_5 6 rfl rfl)
theorem dX13_games_123 : decode cX13_games 123 = .ok (.iconst 3, 1) := dk_6 (dk_at dksX13_games_5 7 rfl rfl)
theorem dX13_games_124 : decode cX13_games 124 = .ok (.if_icmp .ne 8, 3) := dk_160 0 8 (dk_at dksX13_games_5 8 rfl rfl)
theorem dX13_games_127 : decode cX13_games 127 = .ok (.iload 5, 2) := dk_21 5 (dk_at dksX13_games_5 11 rfl rfl)
theorem dX13_games_129 : decode cX13_games 129 = .ok (.goto 5, 3) := dk_167 0 5 (dk_at dksX13_games_5 13 rfl rfl)
theorem dX13_games_132 : decode cX13_games 132 = .ok (.iload 4, 2) := dk_21 4 (dk_at dksX13_games_5 16 rfl rfl)
theorem dX13_games_134 : decode cX13_games 134 = .ok (.ireturn, 1) := dk_172 (dk_at dksX13_games_5 18 rfl rfl)
abbrev cX13_runsDrawn : ByteArray := prog_24_method_108_code
def yX13_runsDrawn : MethodName := ⟨RX13, "runsDrawn", "()V"⟩
def dkwX13_runsDrawn_1 : List UInt8 := [17, 37, 188, 2, 182, 1, 144, 177]
abbrev dktX13_runsDrawn_1 : List UInt8 := dkwX13_runsDrawn_1 ++ []
def dkwX13_runsDrawn_0 : List UInt8 := [42, 182, 1, 240, 42, 42, 180, 0, 149, 42, 180, 1, 150, 42, 180, 0, 85, 5, 46, 182, 1, 169, 42]
abbrev dktX13_runsDrawn_0 : List UInt8 := dkwX13_runsDrawn_0 ++ dktX13_runsDrawn_1
theorem dksX13_runsDrawn_0 : cX13_runsDrawn.data.toList.drop 0 = dktX13_runsDrawn_0 := by decide +kernel
theorem dksX13_runsDrawn_1 : cX13_runsDrawn.data.toList.drop 23 = dktX13_runsDrawn_1 := dk_seg dksX13_runsDrawn_0 23 rfl rfl
theorem dX13_runsDrawn_0 : decode cX13_runsDrawn 0 = .ok (.aload_n 0, 1) := dk_42 (dk_at dksX13_runsDrawn_0 0 rfl rfl)
theorem dX13_runsDrawn_1 : decode cX13_runsDrawn 1 = .ok (.invokevirtual 496, 3) := dk_182 1 240 (dk_at dksX13_runsDrawn_0 1 rfl rfl)
theorem dX13_runsDrawn_4 : decode cX13_runsDrawn 4 = .ok (.aload_n 0, 1) := dk_42 (dk_at dksX13_runsDrawn_0 4 rfl rfl)
theorem dX13_runsDrawn_5 : decode cX13_runsDrawn 5 = .ok (.aload_n 0, 1) := dk_42 (dk_at dksX13_runsDrawn_0 5 rfl rfl)
theorem dX13_runsDrawn_6 : decode cX13_runsDrawn 6 = .ok (.getfield 149, 3) := dk_180 0 149 (dk_at dksX13_runsDrawn_0 6 rfl rfl)
theorem dX13_runsDrawn_9 : decode cX13_runsDrawn 9 = .ok (.aload_n 0, 1) := dk_42 (dk_at dksX13_runsDrawn_0 9 rfl rfl)
theorem dX13_runsDrawn_10 : decode cX13_runsDrawn 10 = .ok (.getfield 406, 3) := dk_180 1 150 (dk_at dksX13_runsDrawn_0 10 rfl rfl)
theorem dX13_runsDrawn_13 : decode cX13_runsDrawn 13 = .ok (.aload_n 0, 1) := dk_42 (dk_at dksX13_runsDrawn_0 13 rfl rfl)
theorem dX13_runsDrawn_14 : decode cX13_runsDrawn 14 = .ok (.getfield 85, 3) := dk_180 0 85 (dk_at dksX13_runsDrawn_0 14 rfl rfl)
theorem dX13_runsDrawn_17 : decode cX13_runsDrawn 17 = .ok (.iconst 2, 1) := dk_5 (dk_at dksX13_runsDrawn_0 17 rfl rfl)
theorem dX13_runsDrawn_18 : decode cX13_runsDrawn 18 = .ok (.iaload, 1) := dk_46 (dk_at dksX13_runsDrawn_0 18 rfl rfl)
theorem dX13_runsDrawn_19 : decode cX13_runsDrawn 19 = .ok (.invokevirtual 425, 3) := dk_182 1 169 (dk_at dksX13_runsDrawn_0 19 rfl rfl)
theorem dX13_runsDrawn_22 : decode cX13_runsDrawn 22 = .ok (.aload_n 0, 1) := dk_42 (dk_at dksX13_runsDrawn_0 22 rfl rfl)
theorem dX13_runsDrawn_23 : decode cX13_runsDrawn 23 = .ok (.sipush 9660, 3) := dk_17 37 188 (dk_at dksX13_runsDrawn_1 0 rfl rfl)
theorem dX13_runsDrawn_26 : decode cX13_runsDrawn 26 = .ok (.iconst (-1), 1) := dk_2 (dk_at dksX13_runsDrawn_1 3 rfl rfl)
theorem dX13_runsDrawn_27 : decode cX13_runsDrawn 27 = .ok (.invokevirtual 400, 3) := dk_182 1 144 (dk_at dksX13_runsDrawn_1 4 rfl rfl)
theorem dX13_runsDrawn_30 : decode cX13_runsDrawn 30 = .ok (.return_, 1) := dk_177 (dk_at dksX13_runsDrawn_1 7 rfl rfl)
abbrev cX13_looked : ByteArray := prog_24_method_110_code
def yX13_looked : MethodName := ⟨RX13, "looked", "(III)I"⟩
def dkwX13_looked_4 : List UInt8 := [167, 0, 4, 2, 172, 132, 4, 1, 167, 255, 206, 2, 172]
abbrev dktX13_looked_4 : List UInt8 := dkwX13_looked_4 ++ []
def dkwX13_looked_3 : List UInt8 := [160, 0, 8, 21, 4, 167, 0, 21, 29, 42, 180, 1, 150, 162, 0, 12, 42, 180, 0, 149, 29, 46]
abbrev dktX13_looked_3 : List UInt8 := dkwX13_looked_3 ++ dktX13_looked_4
def dkwX13_looked_2 : List UInt8 := [3, 54, 4, 21, 4, 28, 162, 0, 50, 42, 182, 1, 243, 42, 180, 1, 138, 5, 160, 0, 32, 29, 2]
abbrev dktX13_looked_2 : List UInt8 := dkwX13_looked_2 ++ dktX13_looked_3
def dkwX13_looked_1 : List UInt8 := [153, 0, 16, 29, 2, 161, 0, 11, 42, 3, 182, 1, 11, 154, 0, 5, 2, 172, 42, 27, 133, 181, 1, 225]
abbrev dktX13_looked_1 : List UInt8 := dkwX13_looked_1 ++ dktX13_looked_2
def dkwX13_looked_0 : List UInt8 := [42, 3, 181, 0, 1, 27, 3, 17, 39, 15, 184, 1, 91, 153, 0, 27, 28, 4, 17, 0, 200, 184, 1, 91]
abbrev dktX13_looked_0 : List UInt8 := dkwX13_looked_0 ++ dktX13_looked_1
theorem dksX13_looked_0 : cX13_looked.data.toList.drop 0 = dktX13_looked_0 := by decide +kernel
theorem dksX13_looked_1 : cX13_looked.data.toList.drop 24 = dktX13_looked_1 := dk_seg dksX13_looked_0 24 rfl rfl
theorem dksX13_looked_2 : cX13_looked.data.toList.drop 48 = dktX13_looked_2 := dk_seg dksX13_looked_1 24 rfl rfl
theorem dksX13_looked_3 : cX13_looked.data.toList.drop 71 = dktX13_looked_3 := dk_seg dksX13_looked_2 23 rfl rfl
theorem dksX13_looked_4 : cX13_looked.data.toList.drop 93 = dktX13_looked_4 := dk_seg dksX13_looked_3 22 rfl rfl
theorem dX13_looked_0 : decode cX13_looked 0 = .ok (.aload_n 0, 1) := dk_42 (dk_at dksX13_looked_0 0 rfl rfl)
theorem dX13_looked_1 : decode cX13_looked 1 = .ok (.iconst 0, 1) := dk_3 (dk_at dksX13_looked_0 1 rfl rfl)
theorem dX13_looked_2 : decode cX13_looked 2 = .ok (.putfield 1, 3) := dk_181 0 1 (dk_at dksX13_looked_0 2 rfl rfl)
theorem dX13_looked_5 : decode cX13_looked 5 = .ok (.iload_n 1, 1) := dk_27 (dk_at dksX13_looked_0 5 rfl rfl)
theorem dX13_looked_6 : decode cX13_looked 6 = .ok (.iconst 0, 1) := dk_3 (dk_at dksX13_looked_0 6 rfl rfl)
theorem dX13_looked_7 : decode cX13_looked 7 = .ok (.sipush 9999, 3) := dk_17 39 15 (dk_at dksX13_looked_0 7 rfl rfl)
theorem dX13_looked_10 : decode cX13_looked 10 = .ok (.invokestatic 347, 3) := dk_184 1 91 (dk_at dksX13_looked_0 10 rfl rfl)
theorem dX13_looked_13 : decode cX13_looked 13 = .ok (.ifCond .eq 27, 3) := dk_153 0 27 (dk_at dksX13_looked_0 13 rfl rfl)
theorem dX13_looked_16 : decode cX13_looked 16 = .ok (.iload_n 2, 1) := dk_28 (dk_at dksX13_looked_0 16 rfl rfl)
theorem dX13_looked_17 : decode cX13_looked 17 = .ok (.iconst 1, 1) := dk_4 (dk_at dksX13_looked_0 17 rfl rfl)
theorem dX13_looked_18 : decode cX13_looked 18 = .ok (.sipush 200, 3) := dk_17 0 200 (dk_at dksX13_looked_0 18 rfl rfl)
theorem dX13_looked_21 : decode cX13_looked 21 = .ok (.invokestatic 347, 3) := dk_184 1 91 (dk_at dksX13_looked_0 21 rfl rfl)
theorem dX13_looked_24 : decode cX13_looked 24 = .ok (.ifCond .eq 16, 3) := dk_153 0 16 (dk_at dksX13_looked_1 0 rfl rfl)
theorem dX13_looked_27 : decode cX13_looked 27 = .ok (.iload_n 3, 1) := dk_29 (dk_at dksX13_looked_1 3 rfl rfl)
theorem dX13_looked_28 : decode cX13_looked 28 = .ok (.iconst (-1), 1) := dk_2 (dk_at dksX13_looked_1 4 rfl rfl)
theorem dX13_looked_29 : decode cX13_looked 29 = .ok (.if_icmp .lt 11, 3) := dk_161 0 11 (dk_at dksX13_looked_1 5 rfl rfl)
theorem dX13_looked_32 : decode cX13_looked 32 = .ok (.aload_n 0, 1) := dk_42 (dk_at dksX13_looked_1 8 rfl rfl)
theorem dX13_looked_33 : decode cX13_looked 33 = .ok (.iconst 0, 1) := dk_3 (dk_at dksX13_looked_1 9 rfl rfl)
theorem dX13_looked_34 : decode cX13_looked 34 = .ok (.invokevirtual 267, 3) := dk_182 1 11 (dk_at dksX13_looked_1 10 rfl rfl)
theorem dX13_looked_37 : decode cX13_looked 37 = .ok (.ifCond .ne 5, 3) := dk_154 0 5 (dk_at dksX13_looked_1 13 rfl rfl)
theorem dX13_looked_40 : decode cX13_looked 40 = .ok (.iconst (-1), 1) := dk_2 (dk_at dksX13_looked_1 16 rfl rfl)
theorem dX13_looked_41 : decode cX13_looked 41 = .ok (.ireturn, 1) := dk_172 (dk_at dksX13_looked_1 17 rfl rfl)
theorem dX13_looked_42 : decode cX13_looked 42 = .ok (.aload_n 0, 1) := dk_42 (dk_at dksX13_looked_1 18 rfl rfl)
theorem dX13_looked_43 : decode cX13_looked 43 = .ok (.iload_n 1, 1) := dk_27 (dk_at dksX13_looked_1 19 rfl rfl)
theorem dX13_looked_44 : decode cX13_looked 44 = .ok (.i2l, 1) := dk_133 (dk_at dksX13_looked_1 20 rfl rfl)
theorem dX13_looked_45 : decode cX13_looked 45 = .ok (.putfield 481, 3) := dk_181 1 225 (dk_at dksX13_looked_1 21 rfl rfl)
theorem dX13_looked_48 : decode cX13_looked 48 = .ok (.iconst 0, 1) := dk_3 (dk_at dksX13_looked_2 0 rfl rfl)
theorem dX13_looked_49 : decode cX13_looked 49 = .ok (.istore 4, 2) := dk_54 4 (dk_at dksX13_looked_2 1 rfl rfl)
theorem dX13_looked_51 : decode cX13_looked 51 = .ok (.iload 4, 2) := dk_21 4 (dk_at dksX13_looked_2 3 rfl rfl)
theorem dX13_looked_53 : decode cX13_looked 53 = .ok (.iload_n 2, 1) := dk_28 (dk_at dksX13_looked_2 5 rfl rfl)
theorem dX13_looked_54 : decode cX13_looked 54 = .ok (.if_icmp .ge 50, 3) := dk_162 0 50 (dk_at dksX13_looked_2 6 rfl rfl)
theorem dX13_looked_57 : decode cX13_looked 57 = .ok (.aload_n 0, 1) := dk_42 (dk_at dksX13_looked_2 9 rfl rfl)
theorem dX13_looked_58 : decode cX13_looked 58 = .ok (.invokevirtual 499, 3) := dk_182 1 243 (dk_at dksX13_looked_2 10 rfl rfl)
theorem dX13_looked_61 : decode cX13_looked 61 = .ok (.aload_n 0, 1) := dk_42 (dk_at dksX13_looked_2 13 rfl rfl)
theorem dX13_looked_62 : decode cX13_looked 62 = .ok (.getfield 394, 3) := dk_180 1 138 (dk_at dksX13_looked_2 14 rfl rfl)
theorem dX13_looked_65 : decode cX13_looked 65 = .ok (.iconst 2, 1) := dk_5 (dk_at dksX13_looked_2 17 rfl rfl)
theorem dX13_looked_66 : decode cX13_looked 66 = .ok (.if_icmp .ne 32, 3) := dk_160 0 32 (dk_at dksX13_looked_2 18 rfl rfl)
theorem dX13_looked_69 : decode cX13_looked 69 = .ok (.iload_n 3, 1) := dk_29 (dk_at dksX13_looked_2 21 rfl rfl)
theorem dX13_looked_70 : decode cX13_looked 70 = .ok (.iconst (-1), 1) := dk_2 (dk_at dksX13_looked_2 22 rfl rfl)
theorem dX13_looked_71 : decode cX13_looked 71 = .ok (.if_icmp .ne 8, 3) := dk_160 0 8 (dk_at dksX13_looked_3 0 rfl rfl)
theorem dX13_looked_74 : decode cX13_looked 74 = .ok (.iload 4, 2) := dk_21 4 (dk_at dksX13_looked_3 3 rfl rfl)
theorem dX13_looked_76 : decode cX13_looked 76 = .ok (.goto 21, 3) := dk_167 0 21 (dk_at dksX13_looked_3 5 rfl rfl)
theorem dX13_looked_79 : decode cX13_looked 79 = .ok (.iload_n 3, 1) := dk_29 (dk_at dksX13_looked_3 8 rfl rfl)
theorem dX13_looked_80 : decode cX13_looked 80 = .ok (.aload_n 0, 1) := dk_42 (dk_at dksX13_looked_3 9 rfl rfl)
theorem dX13_looked_81 : decode cX13_looked 81 = .ok (.getfield 406, 3) := dk_180 1 150 (dk_at dksX13_looked_3 10 rfl rfl)
theorem dX13_looked_84 : decode cX13_looked 84 = .ok (.if_icmp .ge 12, 3) := dk_162 0 12 (dk_at dksX13_looked_3 13 rfl rfl)
theorem dX13_looked_87 : decode cX13_looked 87 = .ok (.aload_n 0, 1) := dk_42 (dk_at dksX13_looked_3 16 rfl rfl)
theorem dX13_looked_88 : decode cX13_looked 88 = .ok (.getfield 149, 3) := dk_180 0 149 (dk_at dksX13_looked_3 17 rfl rfl)
theorem dX13_looked_91 : decode cX13_looked 91 = .ok (.iload_n 3, 1) := dk_29 (dk_at dksX13_looked_3 20 rfl rfl)
theorem dX13_looked_92 : decode cX13_looked 92 = .ok (.iaload, 1) := dk_46 (dk_at dksX13_looked_3 21 rfl rfl)
theorem dX13_looked_93 : decode cX13_looked 93 = .ok (.goto 4, 3) := dk_167 0 4 (dk_at dksX13_looked_4 0 rfl rfl)
theorem dX13_looked_96 : decode cX13_looked 96 = .ok (.iconst (-1), 1) := dk_2 (dk_at dksX13_looked_4 3 rfl rfl)
theorem dX13_looked_97 : decode cX13_looked 97 = .ok (.ireturn, 1) := dk_172 (dk_at dksX13_looked_4 4 rfl rfl)
theorem dX13_looked_98 : decode cX13_looked 98 = .ok (.iinc 4 1, 3) := dk_132 4 1 (dk_at dksX13_looked_4 5 rfl rfl)
theorem dX13_looked_101 : decode cX13_looked 101 = .ok (.goto (-50), 3) := dk_167 255 206 (dk_at dksX13_looked_4 8 rfl rfl)
theorem dX13_looked_104 : decode cX13_looked 104 = .ok (.iconst (-1), 1) := dk_2 (dk_at dksX13_looked_4 11 rfl rfl)
theorem dX13_looked_105 : decode cX13_looked 105 = .ok (.ireturn, 1) := dk_172 (dk_at dksX13_looked_4 12 rfl rfl)
abbrev cX13_mark : ByteArray := prog_24_method_111_code
def yX13_mark : MethodName := ⟨RX13, "mark", "(IZ)Z"⟩
def dkwX13_mark_3 : List UInt8 := [17, 1, 204, 182, 1, 52, 4, 172]
abbrev dktX13_mark_3 : List UInt8 := dkwX13_mark_3 ++ []
def dkwX13_mark_2 : List UInt8 := [42, 3, 181, 0, 237, 167, 0, 25, 42, 180, 0, 118, 27, 4, 84, 42, 3, 17, 1, 204, 4, 27, 96, 104]
abbrev dktX13_mark_2 : List UInt8 := dkwX13_mark_2 ++ dktX13_mark_3
def dkwX13_mark_1 : List UInt8 := [154, 0, 5, 3, 172, 28, 153, 0, 26, 42, 17, 1, 204, 4, 27, 96, 104, 3, 17, 1, 204, 182, 1, 52]
abbrev dktX13_mark_1 : List UInt8 := dkwX13_mark_1 ++ dktX13_mark_2
def dkwX13_mark_0 : List UInt8 := [42, 3, 181, 0, 1, 27, 3, 6, 184, 1, 91, 153, 0, 16, 28, 153, 0, 14, 42, 180, 0, 118, 27, 51]
abbrev dktX13_mark_0 : List UInt8 := dkwX13_mark_0 ++ dktX13_mark_1
theorem dksX13_mark_0 : cX13_mark.data.toList.drop 0 = dktX13_mark_0 := by decide +kernel
theorem dksX13_mark_1 : cX13_mark.data.toList.drop 24 = dktX13_mark_1 := dk_seg dksX13_mark_0 24 rfl rfl
theorem dksX13_mark_2 : cX13_mark.data.toList.drop 48 = dktX13_mark_2 := dk_seg dksX13_mark_1 24 rfl rfl
theorem dksX13_mark_3 : cX13_mark.data.toList.drop 72 = dktX13_mark_3 := dk_seg dksX13_mark_2 24 rfl rfl
theorem dX13_mark_0 : decode cX13_mark 0 = .ok (.aload_n 0, 1) := dk_42 (dk_at dksX13_mark_0 0 rfl rfl)
theorem dX13_mark_1 : decode cX13_mark 1 = .ok (.iconst 0, 1) := dk_3 (dk_at dksX13_mark_0 1 rfl rfl)
theorem dX13_mark_2 : decode cX13_mark 2 = .ok (.putfield 1, 3) := dk_181 0 1 (dk_at dksX13_mark_0 2 rfl rfl)
theorem dX13_mark_5 : decode cX13_mark 5 = .ok (.iload_n 1, 1) := dk_27 (dk_at dksX13_mark_0 5 rfl rfl)
theorem dX13_mark_6 : decode cX13_mark 6 = .ok (.iconst 0, 1) := dk_3 (dk_at dksX13_mark_0 6 rfl rfl)
theorem dX13_mark_7 : decode cX13_mark 7 = .ok (.iconst 3, 1) := dk_6 (dk_at dksX13_mark_0 7 rfl rfl)
theorem dX13_mark_8 : decode cX13_mark 8 = .ok (.invokestatic 347, 3) := dk_184 1 91 (dk_at dksX13_mark_0 8 rfl rfl)
theorem dX13_mark_11 : decode cX13_mark 11 = .ok (.ifCond .eq 16, 3) := dk_153 0 16 (dk_at dksX13_mark_0 11 rfl rfl)
theorem dX13_mark_14 : decode cX13_mark 14 = .ok (.iload_n 2, 1) := dk_28 (dk_at dksX13_mark_0 14 rfl rfl)
theorem dX13_mark_15 : decode cX13_mark 15 = .ok (.ifCond .eq 14, 3) := dk_153 0 14 (dk_at dksX13_mark_0 15 rfl rfl)
theorem dX13_mark_18 : decode cX13_mark 18 = .ok (.aload_n 0, 1) := dk_42 (dk_at dksX13_mark_0 18 rfl rfl)
theorem dX13_mark_19 : decode cX13_mark 19 = .ok (.getfield 118, 3) := dk_180 0 118 (dk_at dksX13_mark_0 19 rfl rfl)
theorem dX13_mark_22 : decode cX13_mark 22 = .ok (.iload_n 1, 1) := dk_27 (dk_at dksX13_mark_0 22 rfl rfl)
theorem dX13_mark_23 : decode cX13_mark 23 = .ok (.baload, 1) := dk_51 (dk_at dksX13_mark_0 23 rfl rfl)
theorem dX13_mark_24 : decode cX13_mark 24 = .ok (.ifCond .ne 5, 3) := dk_154 0 5 (dk_at dksX13_mark_1 0 rfl rfl)
theorem dX13_mark_27 : decode cX13_mark 27 = .ok (.iconst 0, 1) := dk_3 (dk_at dksX13_mark_1 3 rfl rfl)
theorem dX13_mark_28 : decode cX13_mark 28 = .ok (.ireturn, 1) := dk_172 (dk_at dksX13_mark_1 4 rfl rfl)
theorem dX13_mark_29 : decode cX13_mark 29 = .ok (.iload_n 2, 1) := dk_28 (dk_at dksX13_mark_1 5 rfl rfl)
theorem dX13_mark_30 : decode cX13_mark 30 = .ok (.ifCond .eq 26, 3) := dk_153 0 26 (dk_at dksX13_mark_1 6 rfl rfl)
theorem dX13_mark_33 : decode cX13_mark 33 = .ok (.aload_n 0, 1) := dk_42 (dk_at dksX13_mark_1 9 rfl rfl)
theorem dX13_mark_34 : decode cX13_mark 34 = .ok (.sipush 460, 3) := dk_17 1 204 (dk_at dksX13_mark_1 10 rfl rfl)
theorem dX13_mark_37 : decode cX13_mark 37 = .ok (.iconst 1, 1) := dk_4 (dk_at dksX13_mark_1 13 rfl rfl)
theorem dX13_mark_38 : decode cX13_mark 38 = .ok (.iload_n 1, 1) := dk_27 (dk_at dksX13_mark_1 14 rfl rfl)
theorem dX13_mark_39 : decode cX13_mark 39 = .ok (.iadd, 1) := dk_96 (dk_at dksX13_mark_1 15 rfl rfl)
theorem dX13_mark_40 : decode cX13_mark 40 = .ok (.imul, 1) := dk_104 (dk_at dksX13_mark_1 16 rfl rfl)
theorem dX13_mark_41 : decode cX13_mark 41 = .ok (.iconst 0, 1) := dk_3 (dk_at dksX13_mark_1 17 rfl rfl)
theorem dX13_mark_42 : decode cX13_mark 42 = .ok (.sipush 460, 3) := dk_17 1 204 (dk_at dksX13_mark_1 18 rfl rfl)
theorem dX13_mark_45 : decode cX13_mark 45 = .ok (.invokevirtual 308, 3) := dk_182 1 52 (dk_at dksX13_mark_1 21 rfl rfl)
theorem dX13_mark_48 : decode cX13_mark 48 = .ok (.aload_n 0, 1) := dk_42 (dk_at dksX13_mark_2 0 rfl rfl)
theorem dX13_mark_49 : decode cX13_mark 49 = .ok (.iconst 0, 1) := dk_3 (dk_at dksX13_mark_2 1 rfl rfl)
theorem dX13_mark_50 : decode cX13_mark 50 = .ok (.putfield 237, 3) := dk_181 0 237 (dk_at dksX13_mark_2 2 rfl rfl)
theorem dX13_mark_53 : decode cX13_mark 53 = .ok (.goto 25, 3) := dk_167 0 25 (dk_at dksX13_mark_2 5 rfl rfl)
theorem dX13_mark_56 : decode cX13_mark 56 = .ok (.aload_n 0, 1) := dk_42 (dk_at dksX13_mark_2 8 rfl rfl)
theorem dX13_mark_57 : decode cX13_mark 57 = .ok (.getfield 118, 3) := dk_180 0 118 (dk_at dksX13_mark_2 9 rfl rfl)
theorem dX13_mark_60 : decode cX13_mark 60 = .ok (.iload_n 1, 1) := dk_27 (dk_at dksX13_mark_2 12 rfl rfl)
theorem dX13_mark_61 : decode cX13_mark 61 = .ok (.iconst 1, 1) := dk_4 (dk_at dksX13_mark_2 13 rfl rfl)
theorem dX13_mark_62 : decode cX13_mark 62 = .ok (.bastore, 1) := dk_84 (dk_at dksX13_mark_2 14 rfl rfl)
theorem dX13_mark_63 : decode cX13_mark 63 = .ok (.aload_n 0, 1) := dk_42 (dk_at dksX13_mark_2 15 rfl rfl)
theorem dX13_mark_64 : decode cX13_mark 64 = .ok (.iconst 0, 1) := dk_3 (dk_at dksX13_mark_2 16 rfl rfl)
theorem dX13_mark_65 : decode cX13_mark 65 = .ok (.sipush 460, 3) := dk_17 1 204 (dk_at dksX13_mark_2 17 rfl rfl)
theorem dX13_mark_68 : decode cX13_mark 68 = .ok (.iconst 1, 1) := dk_4 (dk_at dksX13_mark_2 20 rfl rfl)
theorem dX13_mark_69 : decode cX13_mark 69 = .ok (.iload_n 1, 1) := dk_27 (dk_at dksX13_mark_2 21 rfl rfl)
theorem dX13_mark_70 : decode cX13_mark 70 = .ok (.iadd, 1) := dk_96 (dk_at dksX13_mark_2 22 rfl rfl)
theorem dX13_mark_71 : decode cX13_mark 71 = .ok (.imul, 1) := dk_104 (dk_at dksX13_mark_2 23 rfl rfl)
theorem dX13_mark_72 : decode cX13_mark 72 = .ok (.sipush 460, 3) := dk_17 1 204 (dk_at dksX13_mark_3 0 rfl rfl)
theorem dX13_mark_75 : decode cX13_mark 75 = .ok (.invokevirtual 308, 3) := dk_182 1 52 (dk_at dksX13_mark_3 3 rfl rfl)
theorem dX13_mark_78 : decode cX13_mark 78 = .ok (.iconst 1, 1) := dk_4 (dk_at dksX13_mark_3 6 rfl rfl)
theorem dX13_mark_79 : decode cX13_mark 79 = .ok (.ireturn, 1) := dk_172 (dk_at dksX13_mark_3 7 rfl rfl)
abbrev cX13_count : ByteArray := prog_24_method_112_code
def yX13_count : MethodName := ⟨RX13, "count", "(I)I"⟩
def dkwX13_count_8 : List UInt8 := [180, 0, 11, 172, 2, 172]
abbrev dktX13_count_8 : List UInt8 := dkwX13_count_8 ++ []
def dkwX13_count_7 : List UInt8 := [16, 13, 46, 172, 42, 180, 0, 237, 172, 42, 180, 0, 85, 6, 46, 172, 42, 180, 0, 85, 4, 46, 172, 42]
abbrev dktX13_count_7 : List UInt8 := dkwX13_count_7 ++ dktX13_count_8
def dkwX13_count_6 : List UInt8 := [16, 9, 46, 172, 42, 180, 0, 115, 16, 10, 46, 172, 42, 180, 0, 85, 16, 21, 46, 172, 42, 180, 0, 115]
abbrev dktX13_count_6 : List UInt8 := dkwX13_count_6 ++ dktX13_count_7
def dkwX13_count_5 : List UInt8 := [16, 6, 46, 172, 42, 180, 0, 115, 16, 7, 46, 172, 42, 180, 0, 115, 16, 8, 46, 172, 42, 180, 0, 115]
abbrev dktX13_count_5 : List UInt8 := dkwX13_count_5 ++ dktX13_count_6
def dkwX13_count_4 : List UInt8 := [180, 0, 115, 7, 46, 158, 0, 12, 42, 180, 0, 115, 8, 46, 167, 0, 4, 2, 172, 42, 180, 0, 115]
abbrev dktX13_count_4 : List UInt8 := dkwX13_count_4 ++ dktX13_count_5
def dkwX13_count_3 : List UInt8 := [172, 42, 180, 0, 115, 5, 46, 172, 42, 180, 0, 115, 6, 46, 172, 42, 180, 0, 115, 7, 46, 172, 42]
abbrev dktX13_count_3 : List UInt8 := dkwX13_count_3 ++ dktX13_count_4
def dkwX13_count_2 : List UInt8 := [42, 182, 1, 56, 172, 42, 3, 182, 1, 11, 172, 42, 180, 0, 115, 3, 46, 172, 42, 180, 0, 115, 4, 46]
abbrev dktX13_count_2 : List UInt8 := dkwX13_count_2 ++ dktX13_count_3
def dkwX13_count_1 : List UInt8 := [170, 0, 0, 0, 0, 236, 0, 0, 0, 0, 0, 0, 0, 18, 0, 0, 0, 90, 0, 0, 0, 95, 0, 0, 0, 101, 0, 0, 0, 108, 0, 0, 0, 115, 0, 0, 0, 122, 0, 0, 0, 129, 0, 0, 0, 136, 0, 0, 0, 156, 0, 0, 0, 164, 0, 0, 0, 172, 0, 0, 0, 180, 0, 0, 0, 188, 0, 0, 0, 196, 0, 0, 0, 204, 0, 0, 0, 212, 0, 0, 0, 217, 0, 0, 0, 224, 0, 0, 0, 231]
abbrev dktX13_count_1 : List UInt8 := dkwX13_count_1 ++ dktX13_count_2
def dkwX13_count_0 : List UInt8 := [42, 3, 181, 0, 1, 27]
abbrev dktX13_count_0 : List UInt8 := dkwX13_count_0 ++ dktX13_count_1
theorem dksX13_count_0 : cX13_count.data.toList.drop 0 = dktX13_count_0 := by decide +kernel
theorem dksX13_count_1 : cX13_count.data.toList.drop 6 = dktX13_count_1 := dk_seg dksX13_count_0 6 rfl rfl
theorem dksX13_count_2 : cX13_count.data.toList.drop 96 = dktX13_count_2 := dk_seg dksX13_count_1 90 rfl rfl
theorem dksX13_count_3 : cX13_count.data.toList.drop 120 = dktX13_count_3 := dk_seg dksX13_count_2 24 rfl rfl
theorem dksX13_count_4 : cX13_count.data.toList.drop 143 = dktX13_count_4 := dk_seg dksX13_count_3 23 rfl rfl
theorem dksX13_count_5 : cX13_count.data.toList.drop 166 = dktX13_count_5 := dk_seg dksX13_count_4 23 rfl rfl
theorem dksX13_count_6 : cX13_count.data.toList.drop 190 = dktX13_count_6 := dk_seg dksX13_count_5 24 rfl rfl
theorem dksX13_count_7 : cX13_count.data.toList.drop 214 = dktX13_count_7 := dk_seg dksX13_count_6 24 rfl rfl
theorem dksX13_count_8 : cX13_count.data.toList.drop 238 = dktX13_count_8 := dk_seg dksX13_count_7 24 rfl rfl
theorem dX13_count_0 : decode cX13_count 0 = .ok (.aload_n 0, 1) := dk_42 (dk_at dksX13_count_0 0 rfl rfl)
theorem dX13_count_1 : decode cX13_count 1 = .ok (.iconst 0, 1) := dk_3 (dk_at dksX13_count_0 1 rfl rfl)
theorem dX13_count_2 : decode cX13_count 2 = .ok (.putfield 1, 3) := dk_181 0 1 (dk_at dksX13_count_0 2 rfl rfl)
theorem dX13_count_5 : decode cX13_count 5 = .ok (.iload_n 1, 1) := dk_27 (dk_at dksX13_count_0 5 rfl rfl)
theorem dX13_count_6 : decode cX13_count 6 = .ok (.tableswitch 236 0 18 #[90, 95, 101, 108, 115, 122, 129, 136, 156, 164, 172, 180, 188, 196, 204, 212, 217, 224, 231], 90) := by decide +kernel
theorem dX13_count_96 : decode cX13_count 96 = .ok (.aload_n 0, 1) := dk_42 (dk_at dksX13_count_2 0 rfl rfl)
theorem dX13_count_97 : decode cX13_count 97 = .ok (.invokevirtual 312, 3) := dk_182 1 56 (dk_at dksX13_count_2 1 rfl rfl)
theorem dX13_count_100 : decode cX13_count 100 = .ok (.ireturn, 1) := dk_172 (dk_at dksX13_count_2 4 rfl rfl)
theorem dX13_count_101 : decode cX13_count 101 = .ok (.aload_n 0, 1) := dk_42 (dk_at dksX13_count_2 5 rfl rfl)
theorem dX13_count_102 : decode cX13_count 102 = .ok (.iconst 0, 1) := dk_3 (dk_at dksX13_count_2 6 rfl rfl)
theorem dX13_count_103 : decode cX13_count 103 = .ok (.invokevirtual 267, 3) := dk_182 1 11 (dk_at dksX13_count_2 7 rfl rfl)
theorem dX13_count_106 : decode cX13_count 106 = .ok (.ireturn, 1) := dk_172 (dk_at dksX13_count_2 10 rfl rfl)
theorem dX13_count_107 : decode cX13_count 107 = .ok (.aload_n 0, 1) := dk_42 (dk_at dksX13_count_2 11 rfl rfl)
theorem dX13_count_108 : decode cX13_count 108 = .ok (.getfield 115, 3) := dk_180 0 115 (dk_at dksX13_count_2 12 rfl rfl)
theorem dX13_count_111 : decode cX13_count 111 = .ok (.iconst 0, 1) := dk_3 (dk_at dksX13_count_2 15 rfl rfl)
theorem dX13_count_112 : decode cX13_count 112 = .ok (.iaload, 1) := dk_46 (dk_at dksX13_count_2 16 rfl rfl)
theorem dX13_count_113 : decode cX13_count 113 = .ok (.ireturn, 1) := dk_172 (dk_at dksX13_count_2 17 rfl rfl)
theorem dX13_count_114 : decode cX13_count 114 = .ok (.aload_n 0, 1) := dk_42 (dk_at dksX13_count_2 18 rfl rfl)
theorem dX13_count_115 : decode cX13_count 115 = .ok (.getfield 115, 3) := dk_180 0 115 (dk_at dksX13_count_2 19 rfl rfl)
theorem dX13_count_118 : decode cX13_count 118 = .ok (.iconst 1, 1) := dk_4 (dk_at dksX13_count_2 22 rfl rfl)
theorem dX13_count_119 : decode cX13_count 119 = .ok (.iaload, 1) := dk_46 (dk_at dksX13_count_2 23 rfl rfl)
theorem dX13_count_120 : decode cX13_count 120 = .ok (.ireturn, 1) := dk_172 (dk_at dksX13_count_3 0 rfl rfl)
theorem dX13_count_121 : decode cX13_count 121 = .ok (.aload_n 0, 1) := dk_42 (dk_at dksX13_count_3 1 rfl rfl)
theorem dX13_count_122 : decode cX13_count 122 = .ok (.getfield 115, 3) := dk_180 0 115 (dk_at dksX13_count_3 2 rfl rfl)
theorem dX13_count_125 : decode cX13_count 125 = .ok (.iconst 2, 1) := dk_5 (dk_at dksX13_count_3 5 rfl rfl)
theorem dX13_count_126 : decode cX13_count 126 = .ok (.iaload, 1) := dk_46 (dk_at dksX13_count_3 6 rfl rfl)
theorem dX13_count_127 : decode cX13_count 127 = .ok (.ireturn, 1) := dk_172 (dk_at dksX13_count_3 7 rfl rfl)
theorem dX13_count_128 : decode cX13_count 128 = .ok (.aload_n 0, 1) := dk_42 (dk_at dksX13_count_3 8 rfl rfl)
theorem dX13_count_129 : decode cX13_count 129 = .ok (.getfield 115, 3) := dk_180 0 115 (dk_at dksX13_count_3 9 rfl rfl)
theorem dX13_count_132 : decode cX13_count 132 = .ok (.iconst 3, 1) := dk_6 (dk_at dksX13_count_3 12 rfl rfl)
theorem dX13_count_133 : decode cX13_count 133 = .ok (.iaload, 1) := dk_46 (dk_at dksX13_count_3 13 rfl rfl)
theorem dX13_count_134 : decode cX13_count 134 = .ok (.ireturn, 1) := dk_172 (dk_at dksX13_count_3 14 rfl rfl)
theorem dX13_count_135 : decode cX13_count 135 = .ok (.aload_n 0, 1) := dk_42 (dk_at dksX13_count_3 15 rfl rfl)
theorem dX13_count_136 : decode cX13_count 136 = .ok (.getfield 115, 3) := dk_180 0 115 (dk_at dksX13_count_3 16 rfl rfl)
theorem dX13_count_139 : decode cX13_count 139 = .ok (.iconst 4, 1) := dk_7 (dk_at dksX13_count_3 19 rfl rfl)
theorem dX13_count_140 : decode cX13_count 140 = .ok (.iaload, 1) := dk_46 (dk_at dksX13_count_3 20 rfl rfl)
theorem dX13_count_141 : decode cX13_count 141 = .ok (.ireturn, 1) := dk_172 (dk_at dksX13_count_3 21 rfl rfl)
theorem dX13_count_142 : decode cX13_count 142 = .ok (.aload_n 0, 1) := dk_42 (dk_at dksX13_count_3 22 rfl rfl)
theorem dX13_count_143 : decode cX13_count 143 = .ok (.getfield 115, 3) := dk_180 0 115 (dk_at dksX13_count_4 0 rfl rfl)
theorem dX13_count_146 : decode cX13_count 146 = .ok (.iconst 4, 1) := dk_7 (dk_at dksX13_count_4 3 rfl rfl)
theorem dX13_count_147 : decode cX13_count 147 = .ok (.iaload, 1) := dk_46 (dk_at dksX13_count_4 4 rfl rfl)
theorem dX13_count_148 : decode cX13_count 148 = .ok (.ifCond .le 12, 3) := dk_158 0 12 (dk_at dksX13_count_4 5 rfl rfl)
theorem dX13_count_151 : decode cX13_count 151 = .ok (.aload_n 0, 1) := dk_42 (dk_at dksX13_count_4 8 rfl rfl)
theorem dX13_count_152 : decode cX13_count 152 = .ok (.getfield 115, 3) := dk_180 0 115 (dk_at dksX13_count_4 9 rfl rfl)
theorem dX13_count_155 : decode cX13_count 155 = .ok (.iconst 5, 1) := dk_8 (dk_at dksX13_count_4 12 rfl rfl)
theorem dX13_count_156 : decode cX13_count 156 = .ok (.iaload, 1) := dk_46 (dk_at dksX13_count_4 13 rfl rfl)
theorem dX13_count_157 : decode cX13_count 157 = .ok (.goto 4, 3) := dk_167 0 4 (dk_at dksX13_count_4 14 rfl rfl)
theorem dX13_count_160 : decode cX13_count 160 = .ok (.iconst (-1), 1) := dk_2 (dk_at dksX13_count_4 17 rfl rfl)
theorem dX13_count_161 : decode cX13_count 161 = .ok (.ireturn, 1) := dk_172 (dk_at dksX13_count_4 18 rfl rfl)
theorem dX13_count_162 : decode cX13_count 162 = .ok (.aload_n 0, 1) := dk_42 (dk_at dksX13_count_4 19 rfl rfl)
theorem dX13_count_163 : decode cX13_count 163 = .ok (.getfield 115, 3) := dk_180 0 115 (dk_at dksX13_count_4 20 rfl rfl)
theorem dX13_count_166 : decode cX13_count 166 = .ok (.bipush 6, 2) := dk_16 6 (dk_at dksX13_count_5 0 rfl rfl)
theorem dX13_count_168 : decode cX13_count 168 = .ok (.iaload, 1) := dk_46 (dk_at dksX13_count_5 2 rfl rfl)
theorem dX13_count_169 : decode cX13_count 169 = .ok (.ireturn, 1) := dk_172 (dk_at dksX13_count_5 3 rfl rfl)
theorem dX13_count_170 : decode cX13_count 170 = .ok (.aload_n 0, 1) := dk_42 (dk_at dksX13_count_5 4 rfl rfl)
theorem dX13_count_171 : decode cX13_count 171 = .ok (.getfield 115, 3) := dk_180 0 115 (dk_at dksX13_count_5 5 rfl rfl)
theorem dX13_count_174 : decode cX13_count 174 = .ok (.bipush 7, 2) := dk_16 7 (dk_at dksX13_count_5 8 rfl rfl)
theorem dX13_count_176 : decode cX13_count 176 = .ok (.iaload, 1) := dk_46 (dk_at dksX13_count_5 10 rfl rfl)
theorem dX13_count_177 : decode cX13_count 177 = .ok (.ireturn, 1) := dk_172 (dk_at dksX13_count_5 11 rfl rfl)
theorem dX13_count_178 : decode cX13_count 178 = .ok (.aload_n 0, 1) := dk_42 (dk_at dksX13_count_5 12 rfl rfl)
theorem dX13_count_179 : decode cX13_count 179 = .ok (.getfield 115, 3) := dk_180 0 115 (dk_at dksX13_count_5 13 rfl rfl)
theorem dX13_count_182 : decode cX13_count 182 = .ok (.bipush 8, 2) := dk_16 8 (dk_at dksX13_count_5 16 rfl rfl)
theorem dX13_count_184 : decode cX13_count 184 = .ok (.iaload, 1) := dk_46 (dk_at dksX13_count_5 18 rfl rfl)
theorem dX13_count_185 : decode cX13_count 185 = .ok (.ireturn, 1) := dk_172 (dk_at dksX13_count_5 19 rfl rfl)
theorem dX13_count_186 : decode cX13_count 186 = .ok (.aload_n 0, 1) := dk_42 (dk_at dksX13_count_5 20 rfl rfl)
theorem dX13_count_187 : decode cX13_count 187 = .ok (.getfield 115, 3) := dk_180 0 115 (dk_at dksX13_count_5 21 rfl rfl)
theorem dX13_count_190 : decode cX13_count 190 = .ok (.bipush 9, 2) := dk_16 9 (dk_at dksX13_count_6 0 rfl rfl)
theorem dX13_count_192 : decode cX13_count 192 = .ok (.iaload, 1) := dk_46 (dk_at dksX13_count_6 2 rfl rfl)
theorem dX13_count_193 : decode cX13_count 193 = .ok (.ireturn, 1) := dk_172 (dk_at dksX13_count_6 3 rfl rfl)
theorem dX13_count_194 : decode cX13_count 194 = .ok (.aload_n 0, 1) := dk_42 (dk_at dksX13_count_6 4 rfl rfl)
theorem dX13_count_195 : decode cX13_count 195 = .ok (.getfield 115, 3) := dk_180 0 115 (dk_at dksX13_count_6 5 rfl rfl)
theorem dX13_count_198 : decode cX13_count 198 = .ok (.bipush 10, 2) := dk_16 10 (dk_at dksX13_count_6 8 rfl rfl)
theorem dX13_count_200 : decode cX13_count 200 = .ok (.iaload, 1) := dk_46 (dk_at dksX13_count_6 10 rfl rfl)
theorem dX13_count_201 : decode cX13_count 201 = .ok (.ireturn, 1) := dk_172 (dk_at dksX13_count_6 11 rfl rfl)
theorem dX13_count_202 : decode cX13_count 202 = .ok (.aload_n 0, 1) := dk_42 (dk_at dksX13_count_6 12 rfl rfl)
theorem dX13_count_203 : decode cX13_count 203 = .ok (.getfield 85, 3) := dk_180 0 85 (dk_at dksX13_count_6 13 rfl rfl)
theorem dX13_count_206 : decode cX13_count 206 = .ok (.bipush 21, 2) := dk_16 21 (dk_at dksX13_count_6 16 rfl rfl)
theorem dX13_count_208 : decode cX13_count 208 = .ok (.iaload, 1) := dk_46 (dk_at dksX13_count_6 18 rfl rfl)
theorem dX13_count_209 : decode cX13_count 209 = .ok (.ireturn, 1) := dk_172 (dk_at dksX13_count_6 19 rfl rfl)
theorem dX13_count_210 : decode cX13_count 210 = .ok (.aload_n 0, 1) := dk_42 (dk_at dksX13_count_6 20 rfl rfl)
theorem dX13_count_211 : decode cX13_count 211 = .ok (.getfield 115, 3) := dk_180 0 115 (dk_at dksX13_count_6 21 rfl rfl)
theorem dX13_count_214 : decode cX13_count 214 = .ok (.bipush 13, 2) := dk_16 13 (dk_at dksX13_count_7 0 rfl rfl)
theorem dX13_count_216 : decode cX13_count 216 = .ok (.iaload, 1) := dk_46 (dk_at dksX13_count_7 2 rfl rfl)
theorem dX13_count_217 : decode cX13_count 217 = .ok (.ireturn, 1) := dk_172 (dk_at dksX13_count_7 3 rfl rfl)
theorem dX13_count_218 : decode cX13_count 218 = .ok (.aload_n 0, 1) := dk_42 (dk_at dksX13_count_7 4 rfl rfl)
theorem dX13_count_219 : decode cX13_count 219 = .ok (.getfield 237, 3) := dk_180 0 237 (dk_at dksX13_count_7 5 rfl rfl)
theorem dX13_count_222 : decode cX13_count 222 = .ok (.ireturn, 1) := dk_172 (dk_at dksX13_count_7 8 rfl rfl)
theorem dX13_count_223 : decode cX13_count 223 = .ok (.aload_n 0, 1) := dk_42 (dk_at dksX13_count_7 9 rfl rfl)
theorem dX13_count_224 : decode cX13_count 224 = .ok (.getfield 85, 3) := dk_180 0 85 (dk_at dksX13_count_7 10 rfl rfl)
theorem dX13_count_227 : decode cX13_count 227 = .ok (.iconst 3, 1) := dk_6 (dk_at dksX13_count_7 13 rfl rfl)
theorem dX13_count_228 : decode cX13_count 228 = .ok (.iaload, 1) := dk_46 (dk_at dksX13_count_7 14 rfl rfl)
theorem dX13_count_229 : decode cX13_count 229 = .ok (.ireturn, 1) := dk_172 (dk_at dksX13_count_7 15 rfl rfl)
theorem dX13_count_230 : decode cX13_count 230 = .ok (.aload_n 0, 1) := dk_42 (dk_at dksX13_count_7 16 rfl rfl)
theorem dX13_count_231 : decode cX13_count 231 = .ok (.getfield 85, 3) := dk_180 0 85 (dk_at dksX13_count_7 17 rfl rfl)
theorem dX13_count_234 : decode cX13_count 234 = .ok (.iconst 1, 1) := dk_4 (dk_at dksX13_count_7 20 rfl rfl)
theorem dX13_count_235 : decode cX13_count 235 = .ok (.iaload, 1) := dk_46 (dk_at dksX13_count_7 21 rfl rfl)
theorem dX13_count_236 : decode cX13_count 236 = .ok (.ireturn, 1) := dk_172 (dk_at dksX13_count_7 22 rfl rfl)
theorem dX13_count_237 : decode cX13_count 237 = .ok (.aload_n 0, 1) := dk_42 (dk_at dksX13_count_7 23 rfl rfl)
theorem dX13_count_238 : decode cX13_count 238 = .ok (.getfield 11, 3) := dk_180 0 11 (dk_at dksX13_count_8 0 rfl rfl)
theorem dX13_count_241 : decode cX13_count 241 = .ok (.ireturn, 1) := dk_172 (dk_at dksX13_count_8 3 rfl rfl)
theorem dX13_count_242 : decode cX13_count 242 = .ok (.iconst (-1), 1) := dk_2 (dk_at dksX13_count_8 4 rfl rfl)
theorem dX13_count_243 : decode cX13_count 243 = .ok (.ireturn, 1) := dk_172 (dk_at dksX13_count_8 5 rfl rfl)
theorem q137 : (Jvm.Cond.initialized "BeggarHeapsModel") ∈ lw_all := lw_g (lw_at lw_m1 16 rfl) rfl
theorem q1145 : (Jvm.Cond.selects "BeggarHeapsModel" ({ cls := "java/lang/Object", name := "getClass", desc := "()Ljava/lang/Class;" } : Jvm.MethodName) ({ cls := "java/lang/Object", name := "getClass", desc := "()Ljava/lang/Class;" } : Jvm.MethodName)) ∈ lw_all := lw_g (lw_at lw_m5 64 rfl) rfl
theorem q1709 : (Jvm.Cond.instanceMethod ({ cls := "BeggarHeapsModel", name := "thrown", desc := "()I" } : Jvm.MethodName)) ∈ lw_all := lw_g (lw_at lw_m7 148 rfl) rfl
theorem q1710 : (Jvm.Cond.selects "BeggarHeapsModel" ({ cls := "BeggarHeapsModel", name := "thrown", desc := "()I" } : Jvm.MethodName) ({ cls := "BeggarHeapsModel", name := "thrown", desc := "()I" } : Jvm.MethodName)) ∈ lw_all := lw_g (lw_at lw_m7 149 rfl) rfl
theorem q1711 : (Jvm.Cond.code ({ cls := "BeggarHeapsModel", name := "thrown", desc := "()I" } : Jvm.MethodName) prog_24_method_1_code (1 : Nat) (Option.some Jvm.ClassFile.FieldType.int)) ∈ lw_all := lw_g (lw_at lw_m7 150 rfl) rfl
theorem q1713 : (Jvm.Cond.instanceMethod ({ cls := "BeggarHeapsModel", name := "feed", desc := "(JJJ)I" } : Jvm.MethodName)) ∈ lw_all := lw_g (lw_at lw_m7 152 rfl) rfl
theorem q1714 : (Jvm.Cond.selects "BeggarHeapsModel" ({ cls := "BeggarHeapsModel", name := "feed", desc := "(JJJ)I" } : Jvm.MethodName) ({ cls := "BeggarHeapsModel", name := "feed", desc := "(JJJ)I" } : Jvm.MethodName)) ∈ lw_all := lw_g (lw_at lw_m7 153 rfl) rfl
theorem q1715 : (Jvm.Cond.code ({ cls := "BeggarHeapsModel", name := "feed", desc := "(JJJ)I" } : Jvm.MethodName) prog_24_method_2_code (7 : Nat) (Option.some Jvm.ClassFile.FieldType.int)) ∈ lw_all := lw_g (lw_at lw_m7 154 rfl) rfl
theorem q1716 : (Jvm.Cond.methodLink "BeggarHeapsModel" (7 : Nat) ({ cls := "BeggarHeapsModel", name := "lay", desc := "(J)V" } : Jvm.MethodName)) ∈ lw_all := lw_g (lw_at lw_m7 155 rfl) rfl
theorem q1717 : (Jvm.Cond.privateMethod ({ cls := "BeggarHeapsModel", name := "lay", desc := "(J)V" } : Jvm.MethodName)) ∈ lw_tbl := lw_at lw_m7 156 rfl
theorem q1718 : (Jvm.Cond.instanceMethod ({ cls := "BeggarHeapsModel", name := "lay", desc := "(J)V" } : Jvm.MethodName)) ∈ lw_all := lw_g (lw_at lw_m7 157 rfl) rfl
theorem q1719 : (Jvm.Cond.instantiable "BeggarHeapsModel" (56 : Nat)) ∈ lw_all := lw_g (lw_at lw_m7 158 rfl) rfl
theorem q1720 : (Jvm.Cond.code ({ cls := "BeggarHeapsModel", name := "lay", desc := "(J)V" } : Jvm.MethodName) prog_24_method_3_code (5 : Nat) (Option.none : Option Jvm.ClassFile.FieldType)) ∈ lw_all := lw_g (lw_at lw_m7 159 rfl) rfl
theorem q1723 : (Jvm.Cond.instanceMethod ({ cls := "BeggarHeapsModel", name := "<init>", desc := "()V" } : Jvm.MethodName)) ∈ lw_all := lw_g (lw_at lw_m7 162 rfl) rfl
theorem q1724 : (Jvm.Cond.code ({ cls := "BeggarHeapsModel", name := "<init>", desc := "()V" } : Jvm.MethodName) prog_24_method_4_code (1 : Nat) (Option.none : Option Jvm.ClassFile.FieldType)) ∈ lw_all := lw_g (lw_at lw_m7 163 rfl) rfl
theorem q1725 : (Jvm.Cond.methodLink "BeggarHeapsModel" (18 : Nat) ({ cls := "java/lang/Object", name := "<init>", desc := "()V" } : Jvm.MethodName)) ∈ lw_all := lw_g (lw_at lw_m7 164 rfl) rfl
theorem q1726 : (Jvm.Cond.constantLong "BeggarHeapsModel" (34 : Nat) (570026 : Int64)) ∈ lw_all := lw_g (lw_at lw_m7 165 rfl) rfl
theorem q1727 : (Jvm.Cond.constantLong "BeggarHeapsModel" (36 : Nat) (812761 : Int64)) ∈ lw_all := lw_g (lw_at lw_m7 166 rfl) rfl
theorem q1728 : (Jvm.Cond.constantLong "BeggarHeapsModel" (38 : Nat) (811939 : Int64)) ∈ lw_all := lw_g (lw_at lw_m7 167 rfl) rfl
theorem q1729 : (Jvm.Cond.constantLong "BeggarHeapsModel" (40 : Nat) (16490 : Int64)) ∈ lw_all := lw_g (lw_at lw_m7 168 rfl) rfl
theorem q1730 : (Jvm.Cond.constantLong "BeggarHeapsModel" (42 : Nat) (11726208 : Int64)) ∈ lw_all := lw_g (lw_at lw_m7 169 rfl) rfl
theorem q1731 : (Jvm.Cond.constantLong "BeggarHeapsModel" (44 : Nat) (2943 : Int64)) ∈ lw_all := lw_g (lw_at lw_m7 170 rfl) rfl
theorem q1732 : (Jvm.Cond.constantLong "BeggarHeapsModel" (46 : Nat) (22963959 : Int64)) ∈ lw_all := lw_g (lw_at lw_m7 171 rfl) rfl
theorem q1733 : (Jvm.Cond.constantLong "BeggarHeapsModel" (48 : Nat) (40072202 : Int64)) ∈ lw_all := lw_g (lw_at lw_m7 172 rfl) rfl
theorem q1734 : (Jvm.Cond.constantLong "BeggarHeapsModel" (50 : Nat) (1996799 : Int64)) ∈ lw_all := lw_g (lw_at lw_m7 173 rfl) rfl
theorem q1735 : (Jvm.Cond.constantLong "BeggarHeapsModel" (52 : Nat) (417812 : Int64)) ∈ lw_all := lw_g (lw_at lw_m7 174 rfl) rfl
theorem q1736 : (Jvm.Cond.constantLong "BeggarHeapsModel" (54 : Nat) (17006 : Int64)) ∈ lw_all := lw_g (lw_at lw_m7 175 rfl) rfl
theorem q1737 : (Jvm.Cond.constantLong "BeggarHeapsModel" (56 : Nat) (557263975 : Int64)) ∈ lw_all := lw_g (lw_at lw_m7 176 rfl) rfl
theorem q1738 : (Jvm.Cond.constantLong "BeggarHeapsModel" (58 : Nat) (614923 : Int64)) ∈ lw_all := lw_g (lw_at lw_m7 177 rfl) rfl
theorem q1739 : (Jvm.Cond.constantLong "BeggarHeapsModel" (60 : Nat) (34200674 : Int64)) ∈ lw_all := lw_g (lw_at lw_m7 178 rfl) rfl
theorem q1740 : (Jvm.Cond.constantLong "BeggarHeapsModel" (62 : Nat) (999049827 : Int64)) ∈ lw_all := lw_g (lw_at lw_m7 179 rfl) rfl
theorem q1741 : (Jvm.Cond.constantLong "BeggarHeapsModel" (64 : Nat) (39605492240 : Int64)) ∈ lw_all := lw_g (lw_at lw_m7 180 rfl) rfl
theorem q1742 : (Jvm.Cond.constantLong "BeggarHeapsModel" (66 : Nat) (32056 : Int64)) ∈ lw_all := lw_g (lw_at lw_m7 181 rfl) rfl
theorem q1743 : (Jvm.Cond.constantLong "BeggarHeapsModel" (68 : Nat) (19741 : Int64)) ∈ lw_all := lw_g (lw_at lw_m7 182 rfl) rfl
theorem q1744 : (Jvm.Cond.constantLong "BeggarHeapsModel" (70 : Nat) (1891 : Int64)) ∈ lw_all := lw_g (lw_at lw_m7 183 rfl) rfl
theorem q1745 : (Jvm.Cond.constantLong "BeggarHeapsModel" (72 : Nat) (573 : Int64)) ∈ lw_all := lw_g (lw_at lw_m7 184 rfl) rfl
theorem q1746 : (Jvm.Cond.constantLong "BeggarHeapsModel" (74 : Nat) (2286271 : Int64)) ∈ lw_all := lw_g (lw_at lw_m7 185 rfl) rfl
theorem q1747 : (Jvm.Cond.constantLong "BeggarHeapsModel" (76 : Nat) (679695 : Int64)) ∈ lw_all := lw_g (lw_at lw_m7 186 rfl) rfl
theorem q1748 : (Jvm.Cond.constantLong "BeggarHeapsModel" (78 : Nat) (15248533 : Int64)) ∈ lw_all := lw_g (lw_at lw_m7 187 rfl) rfl
theorem q1749 : (Jvm.Cond.constantLong "BeggarHeapsModel" (80 : Nat) (38572112 : Int64)) ∈ lw_all := lw_g (lw_at lw_m7 188 rfl) rfl
theorem q1750 : (Jvm.Cond.methodLink "BeggarHeapsModel" (170 : Nat) ({ cls := "BeggarHeapsModel", name := "standsAsAlways", desc := "(I)V" } : Jvm.MethodName)) ∈ lw_all := lw_g (lw_at lw_m7 189 rfl) rfl
theorem q1751 : (Jvm.Cond.privateMethod ({ cls := "BeggarHeapsModel", name := "standsAsAlways", desc := "(I)V" } : Jvm.MethodName)) ∈ lw_tbl := lw_at lw_m7 190 rfl
theorem q1752 : (Jvm.Cond.instanceMethod ({ cls := "BeggarHeapsModel", name := "standsAsAlways", desc := "(I)V" } : Jvm.MethodName)) ∈ lw_all := lw_g (lw_at lw_m7 191 rfl) rfl
theorem q1753 : (Jvm.Cond.code ({ cls := "BeggarHeapsModel", name := "standsAsAlways", desc := "(I)V" } : Jvm.MethodName) prog_24_method_18_code (3 : Nat) (Option.none : Option Jvm.ClassFile.FieldType)) ∈ lw_all := lw_g (lw_at lw_m7 192 rfl) rfl
theorem q1754 : (Jvm.Cond.methodLink "BeggarHeapsModel" (174 : Nat) ({ cls := "BeggarHeapsModel", name := "begins", desc := "(I)V" } : Jvm.MethodName)) ∈ lw_all := lw_g (lw_at lw_m7 193 rfl) rfl
theorem q1755 : (Jvm.Cond.privateMethod ({ cls := "BeggarHeapsModel", name := "begins", desc := "(I)V" } : Jvm.MethodName)) ∈ lw_tbl := lw_at lw_m7 194 rfl
theorem q1756 : (Jvm.Cond.instanceMethod ({ cls := "BeggarHeapsModel", name := "begins", desc := "(I)V" } : Jvm.MethodName)) ∈ lw_all := lw_g (lw_at lw_m7 195 rfl) rfl
theorem q1757 : (Jvm.Cond.code ({ cls := "BeggarHeapsModel", name := "begins", desc := "(I)V" } : Jvm.MethodName) prog_24_method_45_code (4 : Nat) (Option.none : Option Jvm.ClassFile.FieldType)) ∈ lw_all := lw_g (lw_at lw_m7 196 rfl) rfl
theorem q1758 : (Jvm.Cond.fieldLink "BeggarHeapsModel" (1 : Nat) "BeggarHeapsModel" "thrown" "I") ∈ lw_all := lw_g (lw_at lw_m7 197 rfl) rfl
theorem q1759 : (Jvm.Cond.fieldLink "BeggarHeapsModel" (14 : Nat) "BeggarHeapsModel" "tape" "[I") ∈ lw_all := lw_g (lw_at lw_m7 198 rfl) rfl
theorem q1760 : (Jvm.Cond.fieldLink "BeggarHeapsModel" (11 : Nat) "BeggarHeapsModel" "taped" "I") ∈ lw_all := lw_g (lw_at lw_m7 199 rfl) rfl
theorem q1761 : (Jvm.Cond.fieldLink "BeggarHeapsModel" (181 : Nat) "BeggarHeapsModel" "size" "I") ∈ lw_all := lw_g (lw_at lw_m7 200 rfl) rfl
theorem q1762 : (Jvm.Cond.fieldLink "BeggarHeapsModel" (24 : Nat) "BeggarHeapsModel" "sort" "[I") ∈ lw_all := lw_g (lw_at lw_m7 201 rfl) rfl
theorem q1763 : (Jvm.Cond.fieldLink "BeggarHeapsModel" (27 : Nat) "BeggarHeapsModel" "place" "[I") ∈ lw_all := lw_g (lw_at lw_m7 202 rfl) rfl
theorem q1764 : (Jvm.Cond.fieldLink "BeggarHeapsModel" (30 : Nat) "BeggarHeapsModel" "value" "[J") ∈ lw_all := lw_g (lw_at lw_m7 203 rfl) rfl
theorem q1765 : (Jvm.Cond.fieldLink "BeggarHeapsModel" (200 : Nat) "BeggarHeapsModel" "at" "I") ∈ lw_all := lw_g (lw_at lw_m7 204 rfl) rfl
theorem q1766 : (Jvm.Cond.fieldLink "BeggarHeapsModel" (203 : Nat) "BeggarHeapsModel" "fault" "I") ∈ lw_all := lw_g (lw_at lw_m7 205 rfl) rfl
theorem q1767 : (Jvm.Cond.fieldLink "BeggarHeapsModel" (82 : Nat) "BeggarHeapsModel" "words" "[J") ∈ lw_all := lw_g (lw_at lw_m7 206 rfl) rfl
theorem q1768 : (Jvm.Cond.fieldLink "BeggarHeapsModel" (85 : Nat) "BeggarHeapsModel" "tables" "[I") ∈ lw_all := lw_g (lw_at lw_m7 207 rfl) rfl
theorem q1769 : (Jvm.Cond.fieldLink "BeggarHeapsModel" (88 : Nat) "BeggarHeapsModel" "op" "[I") ∈ lw_all := lw_g (lw_at lw_m7 208 rfl) rfl
theorem q1770 : (Jvm.Cond.fieldLink "BeggarHeapsModel" (91 : Nat) "BeggarHeapsModel" "arg" "[I") ∈ lw_all := lw_g (lw_at lw_m7 209 rfl) rfl
theorem q1771 : (Jvm.Cond.fieldLink "BeggarHeapsModel" (225 : Nat) "BeggarHeapsModel" "codes" "I") ∈ lw_all := lw_g (lw_at lw_m7 210 rfl) rfl
theorem q1772 : (Jvm.Cond.fieldLink "BeggarHeapsModel" (94 : Nat) "BeggarHeapsModel" "names" "[J") ∈ lw_all := lw_g (lw_at lw_m7 211 rfl) rfl
theorem q1773 : (Jvm.Cond.fieldLink "BeggarHeapsModel" (97 : Nat) "BeggarHeapsModel" "readNames" "[J") ∈ lw_all := lw_g (lw_at lw_m7 212 rfl) rfl
theorem q1774 : (Jvm.Cond.fieldLink "BeggarHeapsModel" (228 : Nat) "BeggarHeapsModel" "told" "I") ∈ lw_all := lw_g (lw_at lw_m7 213 rfl) rfl
theorem q1775 : (Jvm.Cond.fieldLink "BeggarHeapsModel" (100 : Nat) "BeggarHeapsModel" "readCards" "[I") ∈ lw_all := lw_g (lw_at lw_m7 214 rfl) rfl
theorem q1776 : (Jvm.Cond.fieldLink "BeggarHeapsModel" (103 : Nat) "BeggarHeapsModel" "readMany" "[I") ∈ lw_all := lw_g (lw_at lw_m7 215 rfl) rfl
theorem q1777 : (Jvm.Cond.fieldLink "BeggarHeapsModel" (106 : Nat) "BeggarHeapsModel" "readBook" "[I") ∈ lw_all := lw_g (lw_at lw_m7 216 rfl) rfl
theorem q1778 : (Jvm.Cond.fieldLink "BeggarHeapsModel" (109 : Nat) "BeggarHeapsModel" "facts" "[I") ∈ lw_all := lw_g (lw_at lw_m7 217 rfl) rfl
theorem q1779 : (Jvm.Cond.fieldLink "BeggarHeapsModel" (112 : Nat) "BeggarHeapsModel" "pile" "[I") ∈ lw_all := lw_g (lw_at lw_m7 218 rfl) rfl
theorem q1780 : (Jvm.Cond.fieldLink "BeggarHeapsModel" (115 : Nat) "BeggarHeapsModel" "state" "[I") ∈ lw_all := lw_g (lw_at lw_m7 219 rfl) rfl
theorem q1781 : (Jvm.Cond.fieldLink "BeggarHeapsModel" (237 : Nat) "BeggarHeapsModel" "undos" "I") ∈ lw_all := lw_g (lw_at lw_m7 220 rfl) rfl
theorem q1782 : (Jvm.Cond.fieldLink "BeggarHeapsModel" (118 : Nat) "BeggarHeapsModel" "isMarked" "[Z") ∈ lw_all := lw_g (lw_at lw_m7 221 rfl) rfl
theorem q1783 : (Jvm.Cond.fieldLink "BeggarHeapsModel" (122 : Nat) "BeggarHeapsModel" "lawKind" "I") ∈ lw_all := lw_g (lw_at lw_m7 222 rfl) rfl
theorem q1784 : (Jvm.Cond.fieldLink "BeggarHeapsModel" (316 : Nat) "BeggarHeapsModel" "lawPays" "I") ∈ lw_all := lw_g (lw_at lw_m7 223 rfl) rfl
theorem q1785 : (Jvm.Cond.fieldLink "BeggarHeapsModel" (125 : Nat) "BeggarHeapsModel" "laid" "[I") ∈ lw_all := lw_g (lw_at lw_m7 224 rfl) rfl
theorem q1786 : (Jvm.Cond.fieldLink "BeggarHeapsModel" (128 : Nat) "BeggarHeapsModel" "keyA" "[J") ∈ lw_all := lw_g (lw_at lw_m7 225 rfl) rfl
theorem q1787 : (Jvm.Cond.fieldLink "BeggarHeapsModel" (131 : Nat) "BeggarHeapsModel" "keyB" "[J") ∈ lw_all := lw_g (lw_at lw_m7 226 rfl) rfl
theorem q1788 : (Jvm.Cond.fieldLink "BeggarHeapsModel" (134 : Nat) "BeggarHeapsModel" "keyC" "[J") ∈ lw_all := lw_g (lw_at lw_m7 227 rfl) rfl
theorem q1789 : (Jvm.Cond.fieldLink "BeggarHeapsModel" (137 : Nat) "BeggarHeapsModel" "when" "[I") ∈ lw_all := lw_g (lw_at lw_m7 228 rfl) rfl
theorem q1790 : (Jvm.Cond.fieldLink "BeggarHeapsModel" (140 : Nat) "BeggarHeapsModel" "heapsThen" "[I") ∈ lw_all := lw_g (lw_at lw_m7 229 rfl) rfl
theorem q1791 : (Jvm.Cond.fieldLink "BeggarHeapsModel" (143 : Nat) "BeggarHeapsModel" "behind" "[I") ∈ lw_all := lw_g (lw_at lw_m7 230 rfl) rfl
theorem q1792 : (Jvm.Cond.fieldLink "BeggarHeapsModel" (146 : Nat) "BeggarHeapsModel" "heads" "[I") ∈ lw_all := lw_g (lw_at lw_m7 231 rfl) rfl
theorem q1793 : (Jvm.Cond.fieldLink "BeggarHeapsModel" (382 : Nat) "BeggarHeapsModel" "keysMany" "I") ∈ lw_all := lw_g (lw_at lw_m7 232 rfl) rfl
theorem q1794 : (Jvm.Cond.fieldLink "BeggarHeapsModel" (394 : Nat) "BeggarHeapsModel" "end" "I") ∈ lw_all := lw_g (lw_at lw_m7 233 rfl) rfl
theorem q1795 : (Jvm.Cond.fieldLink "BeggarHeapsModel" (388 : Nat) "BeggarHeapsModel" "endTurns" "I") ∈ lw_all := lw_g (lw_at lw_m7 234 rfl) rfl
theorem q1796 : (Jvm.Cond.fieldLink "BeggarHeapsModel" (391 : Nat) "BeggarHeapsModel" "endHeaps" "I") ∈ lw_all := lw_g (lw_at lw_m7 235 rfl) rfl
theorem q1797 : (Jvm.Cond.fieldLink "BeggarHeapsModel" (385 : Nat) "BeggarHeapsModel" "endRound" "I") ∈ lw_all := lw_g (lw_at lw_m7 236 rfl) rfl
theorem q1798 : (Jvm.Cond.fieldLink "BeggarHeapsModel" (149 : Nat) "BeggarHeapsModel" "cards0" "[I") ∈ lw_all := lw_g (lw_at lw_m7 237 rfl) rfl
theorem q1799 : (Jvm.Cond.fieldLink "BeggarHeapsModel" (406 : Nat) "BeggarHeapsModel" "cardsMany" "I") ∈ lw_all := lw_g (lw_at lw_m7 238 rfl) rfl
theorem q1800 : (Jvm.Cond.fieldLink "BeggarHeapsModel" (152 : Nat) "BeggarHeapsModel" "allEnds" "[I") ∈ lw_all := lw_g (lw_at lw_m7 239 rfl) rfl
theorem q1801 : (Jvm.Cond.fieldLink "BeggarHeapsModel" (155 : Nat) "BeggarHeapsModel" "allTurns" "[I") ∈ lw_all := lw_g (lw_at lw_m8 0 rfl) rfl
theorem q1802 : (Jvm.Cond.fieldLink "BeggarHeapsModel" (422 : Nat) "BeggarHeapsModel" "allMany" "I") ∈ lw_all := lw_g (lw_at lw_m8 1 rfl) rfl
theorem q1803 : (Jvm.Cond.fieldLink "BeggarHeapsModel" (240 : Nat) "BeggarHeapsModel" "isCounted" "Z") ∈ lw_all := lw_g (lw_at lw_m8 2 rfl) rfl
theorem q1804 : (Jvm.Cond.fieldLink "BeggarHeapsModel" (158 : Nat) "BeggarHeapsModel" "placesOf" "[I") ∈ lw_all := lw_g (lw_at lw_m8 3 rfl) rfl
theorem q1805 : (Jvm.Cond.fieldLink "BeggarHeapsModel" (161 : Nat) "BeggarHeapsModel" "hidden" "[I") ∈ lw_all := lw_g (lw_at lw_m8 4 rfl) rfl
theorem q1806 : (Jvm.Cond.fieldLink "BeggarHeapsModel" (438 : Nat) "BeggarHeapsModel" "hiddenMany" "I") ∈ lw_all := lw_g (lw_at lw_m8 5 rfl) rfl
theorem q1807 : (Jvm.Cond.fieldLink "BeggarHeapsModel" (447 : Nat) "BeggarHeapsModel" "leftOdds" "I") ∈ lw_all := lw_g (lw_at lw_m8 6 rfl) rfl
theorem q1808 : (Jvm.Cond.fieldLink "BeggarHeapsModel" (450 : Nat) "BeggarHeapsModel" "rightOdds" "I") ∈ lw_all := lw_g (lw_at lw_m8 7 rfl) rfl
theorem q1809 : (Jvm.Cond.fieldLink "BeggarHeapsModel" (444 : Nat) "BeggarHeapsModel" "allOdds" "I") ∈ lw_all := lw_g (lw_at lw_m8 8 rfl) rfl
theorem q1810 : (Jvm.Cond.fieldLink "BeggarHeapsModel" (164 : Nat) "BeggarHeapsModel" "chosen" "[I") ∈ lw_all := lw_g (lw_at lw_m8 9 rfl) rfl
theorem q1811 : (Jvm.Cond.fieldLink "BeggarHeapsModel" (167 : Nat) "BeggarHeapsModel" "bestChosen" "[I") ∈ lw_all := lw_g (lw_at lw_m8 10 rfl) rfl
theorem q1812 : (Jvm.Cond.fieldLink "BeggarHeapsModel" (465 : Nat) "BeggarHeapsModel" "bestMany" "I") ∈ lw_all := lw_g (lw_at lw_m8 11 rfl) rfl
theorem q1813 : (Jvm.Cond.fieldLink "BeggarHeapsModel" (481 : Nat) "BeggarHeapsModel" "g" "J") ∈ lw_all := lw_g (lw_at lw_m8 12 rfl) rfl
theorem q1814 : (Jvm.Cond.lays "BeggarHeapsModel" "BeggarHeapsModel" "thrown" "I") ∈ lw_all := lw_g (lw_at lw_m8 13 rfl) rfl
theorem q1815 : (Jvm.Cond.soleField "BeggarHeapsModel" "thrown") ∈ lw_all := lw_g (lw_at lw_m8 14 rfl) rfl
theorem q1816 : (Jvm.Cond.laysFinal "BeggarHeapsModel" "BeggarHeapsModel" "tape" "[I") ∈ lw_all := lw_g (lw_at lw_m8 15 rfl) rfl
theorem q1817 : (Jvm.Cond.soleField "BeggarHeapsModel" "tape") ∈ lw_all := lw_g (lw_at lw_m8 16 rfl) rfl
theorem q1818 : (Jvm.Cond.lays "BeggarHeapsModel" "BeggarHeapsModel" "taped" "I") ∈ lw_all := lw_g (lw_at lw_m8 17 rfl) rfl
theorem q1819 : (Jvm.Cond.soleField "BeggarHeapsModel" "taped") ∈ lw_all := lw_g (lw_at lw_m8 18 rfl) rfl
theorem q1820 : (Jvm.Cond.lays "BeggarHeapsModel" "BeggarHeapsModel" "size" "I") ∈ lw_all := lw_g (lw_at lw_m8 19 rfl) rfl
theorem q1821 : (Jvm.Cond.soleField "BeggarHeapsModel" "size") ∈ lw_all := lw_g (lw_at lw_m8 20 rfl) rfl
theorem q1822 : (Jvm.Cond.laysFinal "BeggarHeapsModel" "BeggarHeapsModel" "sort" "[I") ∈ lw_all := lw_g (lw_at lw_m8 21 rfl) rfl
theorem q1823 : (Jvm.Cond.soleField "BeggarHeapsModel" "sort") ∈ lw_all := lw_g (lw_at lw_m8 22 rfl) rfl
theorem q1824 : (Jvm.Cond.laysFinal "BeggarHeapsModel" "BeggarHeapsModel" "place" "[I") ∈ lw_all := lw_g (lw_at lw_m8 23 rfl) rfl
theorem q1825 : (Jvm.Cond.soleField "BeggarHeapsModel" "place") ∈ lw_all := lw_g (lw_at lw_m8 24 rfl) rfl
theorem q1826 : (Jvm.Cond.laysFinal "BeggarHeapsModel" "BeggarHeapsModel" "value" "[J") ∈ lw_all := lw_g (lw_at lw_m8 25 rfl) rfl
theorem q1827 : (Jvm.Cond.soleField "BeggarHeapsModel" "value") ∈ lw_all := lw_g (lw_at lw_m8 26 rfl) rfl
theorem q1828 : (Jvm.Cond.lays "BeggarHeapsModel" "BeggarHeapsModel" "at" "I") ∈ lw_all := lw_g (lw_at lw_m8 27 rfl) rfl
theorem q1829 : (Jvm.Cond.soleField "BeggarHeapsModel" "at") ∈ lw_all := lw_g (lw_at lw_m8 28 rfl) rfl
theorem q1830 : (Jvm.Cond.lays "BeggarHeapsModel" "BeggarHeapsModel" "fault" "I") ∈ lw_all := lw_g (lw_at lw_m8 29 rfl) rfl
theorem q1831 : (Jvm.Cond.soleField "BeggarHeapsModel" "fault") ∈ lw_all := lw_g (lw_at lw_m8 30 rfl) rfl
theorem q1832 : (Jvm.Cond.laysFinal "BeggarHeapsModel" "BeggarHeapsModel" "words" "[J") ∈ lw_all := lw_g (lw_at lw_m8 31 rfl) rfl
theorem q1833 : (Jvm.Cond.soleField "BeggarHeapsModel" "words") ∈ lw_all := lw_g (lw_at lw_m8 32 rfl) rfl
theorem q1834 : (Jvm.Cond.laysFinal "BeggarHeapsModel" "BeggarHeapsModel" "tables" "[I") ∈ lw_all := lw_g (lw_at lw_m8 33 rfl) rfl
theorem q1835 : (Jvm.Cond.soleField "BeggarHeapsModel" "tables") ∈ lw_all := lw_g (lw_at lw_m8 34 rfl) rfl
theorem q1836 : (Jvm.Cond.laysFinal "BeggarHeapsModel" "BeggarHeapsModel" "op" "[I") ∈ lw_all := lw_g (lw_at lw_m8 35 rfl) rfl
theorem q1837 : (Jvm.Cond.soleField "BeggarHeapsModel" "op") ∈ lw_all := lw_g (lw_at lw_m8 36 rfl) rfl
theorem q1838 : (Jvm.Cond.laysFinal "BeggarHeapsModel" "BeggarHeapsModel" "arg" "[I") ∈ lw_all := lw_g (lw_at lw_m8 37 rfl) rfl
theorem q1839 : (Jvm.Cond.soleField "BeggarHeapsModel" "arg") ∈ lw_all := lw_g (lw_at lw_m8 38 rfl) rfl
theorem q1840 : (Jvm.Cond.lays "BeggarHeapsModel" "BeggarHeapsModel" "codes" "I") ∈ lw_all := lw_g (lw_at lw_m8 39 rfl) rfl
theorem q1841 : (Jvm.Cond.soleField "BeggarHeapsModel" "codes") ∈ lw_all := lw_g (lw_at lw_m8 40 rfl) rfl
theorem q1842 : (Jvm.Cond.laysFinal "BeggarHeapsModel" "BeggarHeapsModel" "names" "[J") ∈ lw_all := lw_g (lw_at lw_m8 41 rfl) rfl
theorem q1843 : (Jvm.Cond.soleField "BeggarHeapsModel" "names") ∈ lw_all := lw_g (lw_at lw_m8 42 rfl) rfl
theorem q1844 : (Jvm.Cond.laysFinal "BeggarHeapsModel" "BeggarHeapsModel" "readNames" "[J") ∈ lw_all := lw_g (lw_at lw_m8 43 rfl) rfl
theorem q1845 : (Jvm.Cond.soleField "BeggarHeapsModel" "readNames") ∈ lw_all := lw_g (lw_at lw_m8 44 rfl) rfl
theorem q1846 : (Jvm.Cond.lays "BeggarHeapsModel" "BeggarHeapsModel" "told" "I") ∈ lw_all := lw_g (lw_at lw_m8 45 rfl) rfl
theorem q1847 : (Jvm.Cond.soleField "BeggarHeapsModel" "told") ∈ lw_all := lw_g (lw_at lw_m8 46 rfl) rfl
theorem q1848 : (Jvm.Cond.laysFinal "BeggarHeapsModel" "BeggarHeapsModel" "readCards" "[I") ∈ lw_all := lw_g (lw_at lw_m8 47 rfl) rfl
theorem q1849 : (Jvm.Cond.soleField "BeggarHeapsModel" "readCards") ∈ lw_all := lw_g (lw_at lw_m8 48 rfl) rfl
theorem q1850 : (Jvm.Cond.laysFinal "BeggarHeapsModel" "BeggarHeapsModel" "readMany" "[I") ∈ lw_all := lw_g (lw_at lw_m8 49 rfl) rfl
theorem q1851 : (Jvm.Cond.soleField "BeggarHeapsModel" "readMany") ∈ lw_all := lw_g (lw_at lw_m8 50 rfl) rfl
theorem q1852 : (Jvm.Cond.laysFinal "BeggarHeapsModel" "BeggarHeapsModel" "readBook" "[I") ∈ lw_all := lw_g (lw_at lw_m8 51 rfl) rfl
theorem q1853 : (Jvm.Cond.soleField "BeggarHeapsModel" "readBook") ∈ lw_all := lw_g (lw_at lw_m8 52 rfl) rfl
theorem q1854 : (Jvm.Cond.laysFinal "BeggarHeapsModel" "BeggarHeapsModel" "facts" "[I") ∈ lw_all := lw_g (lw_at lw_m8 53 rfl) rfl
theorem q1855 : (Jvm.Cond.soleField "BeggarHeapsModel" "facts") ∈ lw_all := lw_g (lw_at lw_m8 54 rfl) rfl
theorem q1856 : (Jvm.Cond.laysFinal "BeggarHeapsModel" "BeggarHeapsModel" "pile" "[I") ∈ lw_all := lw_g (lw_at lw_m8 55 rfl) rfl
theorem q1857 : (Jvm.Cond.soleField "BeggarHeapsModel" "pile") ∈ lw_all := lw_g (lw_at lw_m8 56 rfl) rfl
theorem q1858 : (Jvm.Cond.laysFinal "BeggarHeapsModel" "BeggarHeapsModel" "state" "[I") ∈ lw_all := lw_g (lw_at lw_m8 57 rfl) rfl
theorem q1859 : (Jvm.Cond.soleField "BeggarHeapsModel" "state") ∈ lw_all := lw_g (lw_at lw_m8 58 rfl) rfl
theorem q1860 : (Jvm.Cond.lays "BeggarHeapsModel" "BeggarHeapsModel" "undos" "I") ∈ lw_all := lw_g (lw_at lw_m8 59 rfl) rfl
theorem q1861 : (Jvm.Cond.soleField "BeggarHeapsModel" "undos") ∈ lw_all := lw_g (lw_at lw_m8 60 rfl) rfl
theorem q1862 : (Jvm.Cond.laysFinal "BeggarHeapsModel" "BeggarHeapsModel" "isMarked" "[Z") ∈ lw_all := lw_g (lw_at lw_m8 61 rfl) rfl
theorem q1863 : (Jvm.Cond.soleField "BeggarHeapsModel" "isMarked") ∈ lw_all := lw_g (lw_at lw_m8 62 rfl) rfl
theorem q1864 : (Jvm.Cond.lays "BeggarHeapsModel" "BeggarHeapsModel" "lawKind" "I") ∈ lw_all := lw_g (lw_at lw_m8 63 rfl) rfl
theorem q1865 : (Jvm.Cond.soleField "BeggarHeapsModel" "lawKind") ∈ lw_all := lw_g (lw_at lw_m8 64 rfl) rfl
theorem q1866 : (Jvm.Cond.lays "BeggarHeapsModel" "BeggarHeapsModel" "lawPays" "I") ∈ lw_all := lw_g (lw_at lw_m8 65 rfl) rfl
theorem q1867 : (Jvm.Cond.soleField "BeggarHeapsModel" "lawPays") ∈ lw_all := lw_g (lw_at lw_m8 66 rfl) rfl
theorem q1868 : (Jvm.Cond.laysFinal "BeggarHeapsModel" "BeggarHeapsModel" "laid" "[I") ∈ lw_all := lw_g (lw_at lw_m8 67 rfl) rfl
theorem q1869 : (Jvm.Cond.soleField "BeggarHeapsModel" "laid") ∈ lw_all := lw_g (lw_at lw_m8 68 rfl) rfl
theorem q1870 : (Jvm.Cond.laysFinal "BeggarHeapsModel" "BeggarHeapsModel" "keyA" "[J") ∈ lw_all := lw_g (lw_at lw_m8 69 rfl) rfl
theorem q1871 : (Jvm.Cond.soleField "BeggarHeapsModel" "keyA") ∈ lw_all := lw_g (lw_at lw_m8 70 rfl) rfl
theorem q1872 : (Jvm.Cond.laysFinal "BeggarHeapsModel" "BeggarHeapsModel" "keyB" "[J") ∈ lw_all := lw_g (lw_at lw_m8 71 rfl) rfl
theorem q1873 : (Jvm.Cond.soleField "BeggarHeapsModel" "keyB") ∈ lw_all := lw_g (lw_at lw_m8 72 rfl) rfl
theorem q1874 : (Jvm.Cond.laysFinal "BeggarHeapsModel" "BeggarHeapsModel" "keyC" "[J") ∈ lw_all := lw_g (lw_at lw_m8 73 rfl) rfl
theorem q1875 : (Jvm.Cond.soleField "BeggarHeapsModel" "keyC") ∈ lw_all := lw_g (lw_at lw_m8 74 rfl) rfl
theorem q1876 : (Jvm.Cond.laysFinal "BeggarHeapsModel" "BeggarHeapsModel" "when" "[I") ∈ lw_all := lw_g (lw_at lw_m8 75 rfl) rfl
theorem q1877 : (Jvm.Cond.soleField "BeggarHeapsModel" "when") ∈ lw_all := lw_g (lw_at lw_m8 76 rfl) rfl
theorem q1878 : (Jvm.Cond.laysFinal "BeggarHeapsModel" "BeggarHeapsModel" "heapsThen" "[I") ∈ lw_all := lw_g (lw_at lw_m8 77 rfl) rfl
theorem q1879 : (Jvm.Cond.soleField "BeggarHeapsModel" "heapsThen") ∈ lw_all := lw_g (lw_at lw_m8 78 rfl) rfl
theorem q1880 : (Jvm.Cond.laysFinal "BeggarHeapsModel" "BeggarHeapsModel" "behind" "[I") ∈ lw_all := lw_g (lw_at lw_m8 79 rfl) rfl
theorem q1881 : (Jvm.Cond.soleField "BeggarHeapsModel" "behind") ∈ lw_all := lw_g (lw_at lw_m8 80 rfl) rfl
theorem q1882 : (Jvm.Cond.laysFinal "BeggarHeapsModel" "BeggarHeapsModel" "heads" "[I") ∈ lw_all := lw_g (lw_at lw_m8 81 rfl) rfl
theorem q1883 : (Jvm.Cond.soleField "BeggarHeapsModel" "heads") ∈ lw_all := lw_g (lw_at lw_m8 82 rfl) rfl
theorem q1884 : (Jvm.Cond.lays "BeggarHeapsModel" "BeggarHeapsModel" "keysMany" "I") ∈ lw_all := lw_g (lw_at lw_m8 83 rfl) rfl
theorem q1885 : (Jvm.Cond.soleField "BeggarHeapsModel" "keysMany") ∈ lw_all := lw_g (lw_at lw_m8 84 rfl) rfl
theorem q1886 : (Jvm.Cond.lays "BeggarHeapsModel" "BeggarHeapsModel" "end" "I") ∈ lw_all := lw_g (lw_at lw_m8 85 rfl) rfl
theorem q1887 : (Jvm.Cond.soleField "BeggarHeapsModel" "end") ∈ lw_all := lw_g (lw_at lw_m8 86 rfl) rfl
theorem q1888 : (Jvm.Cond.lays "BeggarHeapsModel" "BeggarHeapsModel" "endTurns" "I") ∈ lw_all := lw_g (lw_at lw_m8 87 rfl) rfl
theorem q1889 : (Jvm.Cond.soleField "BeggarHeapsModel" "endTurns") ∈ lw_all := lw_g (lw_at lw_m8 88 rfl) rfl
theorem q1890 : (Jvm.Cond.lays "BeggarHeapsModel" "BeggarHeapsModel" "endHeaps" "I") ∈ lw_all := lw_g (lw_at lw_m8 89 rfl) rfl
theorem q1891 : (Jvm.Cond.soleField "BeggarHeapsModel" "endHeaps") ∈ lw_all := lw_g (lw_at lw_m8 90 rfl) rfl
theorem q1892 : (Jvm.Cond.lays "BeggarHeapsModel" "BeggarHeapsModel" "endRound" "I") ∈ lw_all := lw_g (lw_at lw_m8 91 rfl) rfl
theorem q1893 : (Jvm.Cond.soleField "BeggarHeapsModel" "endRound") ∈ lw_all := lw_g (lw_at lw_m8 92 rfl) rfl
theorem q1894 : (Jvm.Cond.laysFinal "BeggarHeapsModel" "BeggarHeapsModel" "cards0" "[I") ∈ lw_all := lw_g (lw_at lw_m8 93 rfl) rfl
theorem q1895 : (Jvm.Cond.soleField "BeggarHeapsModel" "cards0") ∈ lw_all := lw_g (lw_at lw_m8 94 rfl) rfl
theorem q1896 : (Jvm.Cond.lays "BeggarHeapsModel" "BeggarHeapsModel" "cardsMany" "I") ∈ lw_all := lw_g (lw_at lw_m8 95 rfl) rfl
theorem q1897 : (Jvm.Cond.soleField "BeggarHeapsModel" "cardsMany") ∈ lw_all := lw_g (lw_at lw_m8 96 rfl) rfl
theorem q1898 : (Jvm.Cond.laysFinal "BeggarHeapsModel" "BeggarHeapsModel" "allEnds" "[I") ∈ lw_all := lw_g (lw_at lw_m8 97 rfl) rfl
theorem q1899 : (Jvm.Cond.soleField "BeggarHeapsModel" "allEnds") ∈ lw_all := lw_g (lw_at lw_m8 98 rfl) rfl
theorem q1900 : (Jvm.Cond.laysFinal "BeggarHeapsModel" "BeggarHeapsModel" "allTurns" "[I") ∈ lw_all := lw_g (lw_at lw_m8 99 rfl) rfl
theorem q1901 : (Jvm.Cond.soleField "BeggarHeapsModel" "allTurns") ∈ lw_all := lw_g (lw_at lw_m8 100 rfl) rfl
theorem q1902 : (Jvm.Cond.lays "BeggarHeapsModel" "BeggarHeapsModel" "allMany" "I") ∈ lw_all := lw_g (lw_at lw_m8 101 rfl) rfl
theorem q1903 : (Jvm.Cond.soleField "BeggarHeapsModel" "allMany") ∈ lw_all := lw_g (lw_at lw_m8 102 rfl) rfl
theorem q1904 : (Jvm.Cond.lays "BeggarHeapsModel" "BeggarHeapsModel" "isCounted" "Z") ∈ lw_all := lw_g (lw_at lw_m8 103 rfl) rfl
theorem q1905 : (Jvm.Cond.soleField "BeggarHeapsModel" "isCounted") ∈ lw_all := lw_g (lw_at lw_m8 104 rfl) rfl
theorem q1906 : (Jvm.Cond.laysFinal "BeggarHeapsModel" "BeggarHeapsModel" "placesOf" "[I") ∈ lw_all := lw_g (lw_at lw_m8 105 rfl) rfl
theorem q1907 : (Jvm.Cond.soleField "BeggarHeapsModel" "placesOf") ∈ lw_all := lw_g (lw_at lw_m8 106 rfl) rfl
theorem q1908 : (Jvm.Cond.laysFinal "BeggarHeapsModel" "BeggarHeapsModel" "hidden" "[I") ∈ lw_all := lw_g (lw_at lw_m8 107 rfl) rfl
theorem q1909 : (Jvm.Cond.soleField "BeggarHeapsModel" "hidden") ∈ lw_all := lw_g (lw_at lw_m8 108 rfl) rfl
theorem q1910 : (Jvm.Cond.lays "BeggarHeapsModel" "BeggarHeapsModel" "hiddenMany" "I") ∈ lw_all := lw_g (lw_at lw_m8 109 rfl) rfl
theorem q1911 : (Jvm.Cond.soleField "BeggarHeapsModel" "hiddenMany") ∈ lw_all := lw_g (lw_at lw_m8 110 rfl) rfl
theorem q1912 : (Jvm.Cond.lays "BeggarHeapsModel" "BeggarHeapsModel" "leftOdds" "I") ∈ lw_all := lw_g (lw_at lw_m8 111 rfl) rfl
theorem q1913 : (Jvm.Cond.soleField "BeggarHeapsModel" "leftOdds") ∈ lw_all := lw_g (lw_at lw_m8 112 rfl) rfl
theorem q1914 : (Jvm.Cond.lays "BeggarHeapsModel" "BeggarHeapsModel" "rightOdds" "I") ∈ lw_all := lw_g (lw_at lw_m8 113 rfl) rfl
theorem q1915 : (Jvm.Cond.soleField "BeggarHeapsModel" "rightOdds") ∈ lw_all := lw_g (lw_at lw_m8 114 rfl) rfl
theorem q1916 : (Jvm.Cond.lays "BeggarHeapsModel" "BeggarHeapsModel" "allOdds" "I") ∈ lw_all := lw_g (lw_at lw_m8 115 rfl) rfl
theorem q1917 : (Jvm.Cond.soleField "BeggarHeapsModel" "allOdds") ∈ lw_all := lw_g (lw_at lw_m8 116 rfl) rfl
theorem q1918 : (Jvm.Cond.laysFinal "BeggarHeapsModel" "BeggarHeapsModel" "chosen" "[I") ∈ lw_all := lw_g (lw_at lw_m8 117 rfl) rfl
theorem q1919 : (Jvm.Cond.soleField "BeggarHeapsModel" "chosen") ∈ lw_all := lw_g (lw_at lw_m8 118 rfl) rfl
theorem q1920 : (Jvm.Cond.laysFinal "BeggarHeapsModel" "BeggarHeapsModel" "bestChosen" "[I") ∈ lw_all := lw_g (lw_at lw_m8 119 rfl) rfl
theorem q1921 : (Jvm.Cond.soleField "BeggarHeapsModel" "bestChosen") ∈ lw_all := lw_g (lw_at lw_m8 120 rfl) rfl
theorem q1922 : (Jvm.Cond.lays "BeggarHeapsModel" "BeggarHeapsModel" "bestMany" "I") ∈ lw_all := lw_g (lw_at lw_m8 121 rfl) rfl
theorem q1923 : (Jvm.Cond.soleField "BeggarHeapsModel" "bestMany") ∈ lw_all := lw_g (lw_at lw_m8 122 rfl) rfl
theorem q1924 : (Jvm.Cond.lays "BeggarHeapsModel" "BeggarHeapsModel" "g" "J") ∈ lw_all := lw_g (lw_at lw_m8 123 rfl) rfl
theorem q1925 : (Jvm.Cond.soleField "BeggarHeapsModel" "g") ∈ lw_all := lw_g (lw_at lw_m8 124 rfl) rfl
theorem q1926 : (Jvm.Cond.superclass "BeggarHeapsModel" "java/lang/Object") ∈ lw_all := lw_g (lw_at lw_m8 125 rfl) rfl
theorem q1928 : (Jvm.Cond.instanceMethod ({ cls := "BeggarHeapsModel", name := "table", desc := "()I" } : Jvm.MethodName)) ∈ lw_all := lw_g (lw_at lw_m8 127 rfl) rfl
theorem q1929 : (Jvm.Cond.selects "BeggarHeapsModel" ({ cls := "BeggarHeapsModel", name := "table", desc := "()I" } : Jvm.MethodName) ({ cls := "BeggarHeapsModel", name := "table", desc := "()I" } : Jvm.MethodName)) ∈ lw_all := lw_g (lw_at lw_m8 128 rfl) rfl
theorem q1930 : (Jvm.Cond.code ({ cls := "BeggarHeapsModel", name := "table", desc := "()I" } : Jvm.MethodName) prog_24_method_24_code (2 : Nat) (Option.some Jvm.ClassFile.FieldType.int)) ∈ lw_all := lw_g (lw_at lw_m8 129 rfl) rfl
theorem q1931 : (Jvm.Cond.methodLink "BeggarHeapsModel" (222 : Nat) ({ cls := "BeggarHeapsModel", name := "cutAll", desc := "()V" } : Jvm.MethodName)) ∈ lw_all := lw_g (lw_at lw_m8 130 rfl) rfl
theorem q1932 : (Jvm.Cond.privateMethod ({ cls := "BeggarHeapsModel", name := "cutAll", desc := "()V" } : Jvm.MethodName)) ∈ lw_tbl := lw_at lw_m8 131 rfl
theorem q1933 : (Jvm.Cond.instanceMethod ({ cls := "BeggarHeapsModel", name := "cutAll", desc := "()V" } : Jvm.MethodName)) ∈ lw_all := lw_g (lw_at lw_m8 132 rfl) rfl
theorem q1934 : (Jvm.Cond.code ({ cls := "BeggarHeapsModel", name := "cutAll", desc := "()V" } : Jvm.MethodName) prog_24_method_9_code (7 : Nat) (Option.none : Option Jvm.ClassFile.FieldType)) ∈ lw_all := lw_g (lw_at lw_m8 133 rfl) rfl
theorem q1935 : (Jvm.Cond.methodLink "BeggarHeapsModel" (177 : Nat) ({ cls := "BeggarHeapsModel", name := "isLetter", desc := "(I)Z" } : Jvm.MethodName)) ∈ lw_all := lw_g (lw_at lw_m8 134 rfl) rfl
theorem q1936 : (Jvm.Cond.static ({ cls := "BeggarHeapsModel", name := "isLetter", desc := "(I)Z" } : Jvm.MethodName)) ∈ lw_all := lw_g (lw_at lw_m8 135 rfl) rfl
theorem q1937 : (Jvm.Cond.code ({ cls := "BeggarHeapsModel", name := "isLetter", desc := "(I)Z" } : Jvm.MethodName) prog_24_method_5_code (1 : Nat) (Option.some Jvm.ClassFile.FieldType.boolean)) ∈ lw_all := lw_g (lw_at lw_m8 136 rfl) rfl
theorem q1938 : (Jvm.Cond.constantLong "BeggarHeapsModel" (184 : Nat) (37 : Int64)) ∈ lw_all := lw_g (lw_at lw_m8 137 rfl) rfl
theorem q1939 : (Jvm.Cond.methodLink "BeggarHeapsModel" (186 : Nat) ({ cls := "BeggarHeapsModel", name := "rank", desc := "(I)I" } : Jvm.MethodName)) ∈ lw_all := lw_g (lw_at lw_m8 138 rfl) rfl
theorem q1940 : (Jvm.Cond.static ({ cls := "BeggarHeapsModel", name := "rank", desc := "(I)I" } : Jvm.MethodName)) ∈ lw_all := lw_g (lw_at lw_m8 139 rfl) rfl
theorem q1941 : (Jvm.Cond.code ({ cls := "BeggarHeapsModel", name := "rank", desc := "(I)I" } : Jvm.MethodName) prog_24_method_7_code (1 : Nat) (Option.some Jvm.ClassFile.FieldType.int)) ∈ lw_all := lw_g (lw_at lw_m8 140 rfl) rfl
theorem q1942 : (Jvm.Cond.methodLink "BeggarHeapsModel" (190 : Nat) ({ cls := "BeggarHeapsModel", name := "isDigit", desc := "(I)Z" } : Jvm.MethodName)) ∈ lw_all := lw_g (lw_at lw_m8 141 rfl) rfl
theorem q1943 : (Jvm.Cond.static ({ cls := "BeggarHeapsModel", name := "isDigit", desc := "(I)Z" } : Jvm.MethodName)) ∈ lw_all := lw_g (lw_at lw_m8 142 rfl) rfl
theorem q1944 : (Jvm.Cond.code ({ cls := "BeggarHeapsModel", name := "isDigit", desc := "(I)Z" } : Jvm.MethodName) prog_24_method_6_code (1 : Nat) (Option.some Jvm.ClassFile.FieldType.boolean)) ∈ lw_all := lw_g (lw_at lw_m8 143 rfl) rfl
theorem q1945 : (Jvm.Cond.constantLong "BeggarHeapsModel" (193 : Nat) (10 : Int64)) ∈ lw_all := lw_g (lw_at lw_m8 144 rfl) rfl
theorem q1946 : (Jvm.Cond.constantLong "BeggarHeapsModel" (195 : Nat) (48 : Int64)) ∈ lw_all := lw_g (lw_at lw_m8 145 rfl) rfl
theorem q1947 : (Jvm.Cond.methodLink "BeggarHeapsModel" (197 : Nat) ({ cls := "BeggarHeapsModel", name := "isSignOf", desc := "(I)Z" } : Jvm.MethodName)) ∈ lw_all := lw_g (lw_at lw_m8 146 rfl) rfl
theorem q1948 : (Jvm.Cond.static ({ cls := "BeggarHeapsModel", name := "isSignOf", desc := "(I)Z" } : Jvm.MethodName)) ∈ lw_all := lw_g (lw_at lw_m8 147 rfl) rfl
theorem q1949 : (Jvm.Cond.code ({ cls := "BeggarHeapsModel", name := "isSignOf", desc := "(I)Z" } : Jvm.MethodName) prog_24_method_8_code (1 : Nat) (Option.some Jvm.ClassFile.FieldType.boolean)) ∈ lw_all := lw_g (lw_at lw_m8 148 rfl) rfl
theorem q1950 : (Jvm.Cond.methodLink "BeggarHeapsModel" (231 : Nat) ({ cls := "BeggarHeapsModel", name := "readLine", desc := "()V" } : Jvm.MethodName)) ∈ lw_all := lw_g (lw_at lw_m8 149 rfl) rfl
theorem q1951 : (Jvm.Cond.privateMethod ({ cls := "BeggarHeapsModel", name := "readLine", desc := "()V" } : Jvm.MethodName)) ∈ lw_tbl := lw_at lw_m8 150 rfl
theorem q1952 : (Jvm.Cond.instanceMethod ({ cls := "BeggarHeapsModel", name := "readLine", desc := "()V" } : Jvm.MethodName)) ∈ lw_all := lw_g (lw_at lw_m8 151 rfl) rfl
theorem q1953 : (Jvm.Cond.code ({ cls := "BeggarHeapsModel", name := "readLine", desc := "()V" } : Jvm.MethodName) prog_24_method_25_code (1 : Nat) (Option.none : Option Jvm.ClassFile.FieldType)) ∈ lw_all := lw_g (lw_at lw_m8 152 rfl) rfl
theorem q1954 : (Jvm.Cond.methodLink "BeggarHeapsModel" (212 : Nat) ({ cls := "BeggarHeapsModel", name := "isWord", desc := "(I)Z" } : Jvm.MethodName)) ∈ lw_all := lw_g (lw_at lw_m8 153 rfl) rfl
theorem q1955 : (Jvm.Cond.privateMethod ({ cls := "BeggarHeapsModel", name := "isWord", desc := "(I)Z" } : Jvm.MethodName)) ∈ lw_tbl := lw_at lw_m8 154 rfl
theorem q1956 : (Jvm.Cond.instanceMethod ({ cls := "BeggarHeapsModel", name := "isWord", desc := "(I)Z" } : Jvm.MethodName)) ∈ lw_all := lw_g (lw_at lw_m8 155 rfl) rfl
theorem q1957 : (Jvm.Cond.code ({ cls := "BeggarHeapsModel", name := "isWord", desc := "(I)Z" } : Jvm.MethodName) prog_24_method_12_code (2 : Nat) (Option.some Jvm.ClassFile.FieldType.boolean)) ∈ lw_all := lw_g (lw_at lw_m8 156 rfl) rfl
theorem q1958 : (Jvm.Cond.methodLink "BeggarHeapsModel" (244 : Nat) ({ cls := "BeggarHeapsModel", name := "readKind", desc := "()V" } : Jvm.MethodName)) ∈ lw_all := lw_g (lw_at lw_m8 157 rfl) rfl
theorem q1959 : (Jvm.Cond.privateMethod ({ cls := "BeggarHeapsModel", name := "readKind", desc := "()V" } : Jvm.MethodName)) ∈ lw_tbl := lw_at lw_m8 158 rfl
theorem q1960 : (Jvm.Cond.instanceMethod ({ cls := "BeggarHeapsModel", name := "readKind", desc := "()V" } : Jvm.MethodName)) ∈ lw_all := lw_g (lw_at lw_m8 159 rfl) rfl
theorem q1961 : (Jvm.Cond.code ({ cls := "BeggarHeapsModel", name := "readKind", desc := "()V" } : Jvm.MethodName) prog_24_method_26_code (2 : Nat) (Option.none : Option Jvm.ClassFile.FieldType)) ∈ lw_all := lw_g (lw_at lw_m8 160 rfl) rfl
theorem q1962 : (Jvm.Cond.methodLink "BeggarHeapsModel" (209 : Nat) ({ cls := "BeggarHeapsModel", name := "wrong", desc := "(I)V" } : Jvm.MethodName)) ∈ lw_all := lw_g (lw_at lw_m8 161 rfl) rfl
theorem q1963 : (Jvm.Cond.privateMethod ({ cls := "BeggarHeapsModel", name := "wrong", desc := "(I)V" } : Jvm.MethodName)) ∈ lw_tbl := lw_at lw_m8 162 rfl
theorem q1964 : (Jvm.Cond.instanceMethod ({ cls := "BeggarHeapsModel", name := "wrong", desc := "(I)V" } : Jvm.MethodName)) ∈ lw_all := lw_g (lw_at lw_m8 163 rfl) rfl
theorem q1965 : (Jvm.Cond.code ({ cls := "BeggarHeapsModel", name := "wrong", desc := "(I)V" } : Jvm.MethodName) prog_24_method_10_code (2 : Nat) (Option.none : Option Jvm.ClassFile.FieldType)) ∈ lw_all := lw_g (lw_at lw_m8 164 rfl) rfl
theorem q1966 : (Jvm.Cond.methodLink "BeggarHeapsModel" (253 : Nat) ({ cls := "BeggarHeapsModel", name := "isName", desc := "()Z" } : Jvm.MethodName)) ∈ lw_all := lw_g (lw_at lw_m8 165 rfl) rfl
theorem q1967 : (Jvm.Cond.privateMethod ({ cls := "BeggarHeapsModel", name := "isName", desc := "()Z" } : Jvm.MethodName)) ∈ lw_tbl := lw_at lw_m8 166 rfl
theorem q1968 : (Jvm.Cond.instanceMethod ({ cls := "BeggarHeapsModel", name := "isName", desc := "()Z" } : Jvm.MethodName)) ∈ lw_all := lw_g (lw_at lw_m8 167 rfl) rfl
theorem q1969 : (Jvm.Cond.code ({ cls := "BeggarHeapsModel", name := "isName", desc := "()Z" } : Jvm.MethodName) prog_24_method_20_code (3 : Nat) (Option.some Jvm.ClassFile.FieldType.boolean)) ∈ lw_all := lw_g (lw_at lw_m8 168 rfl) rfl
theorem q1970 : (Jvm.Cond.methodLink "BeggarHeapsModel" (257 : Nat) ({ cls := "BeggarHeapsModel", name := "find", desc := "([JI)I" } : Jvm.MethodName)) ∈ lw_all := lw_g (lw_at lw_m8 169 rfl) rfl
theorem q1971 : (Jvm.Cond.privateMethod ({ cls := "BeggarHeapsModel", name := "find", desc := "([JI)I" } : Jvm.MethodName)) ∈ lw_tbl := lw_at lw_m8 170 rfl
theorem q1972 : (Jvm.Cond.instanceMethod ({ cls := "BeggarHeapsModel", name := "find", desc := "([JI)I" } : Jvm.MethodName)) ∈ lw_all := lw_g (lw_at lw_m8 171 rfl) rfl
theorem q1973 : (Jvm.Cond.code ({ cls := "BeggarHeapsModel", name := "find", desc := "([JI)I" } : Jvm.MethodName) prog_24_method_21_code (4 : Nat) (Option.some Jvm.ClassFile.FieldType.int)) ∈ lw_all := lw_g (lw_at lw_m8 172 rfl) rfl
theorem q1974 : (Jvm.Cond.methodLink "BeggarHeapsModel" (261 : Nat) ({ cls := "BeggarHeapsModel", name := "takeWord", desc := "(I)V" } : Jvm.MethodName)) ∈ lw_all := lw_g (lw_at lw_m8 173 rfl) rfl
theorem q1975 : (Jvm.Cond.privateMethod ({ cls := "BeggarHeapsModel", name := "takeWord", desc := "(I)V" } : Jvm.MethodName)) ∈ lw_tbl := lw_at lw_m8 174 rfl
theorem q1976 : (Jvm.Cond.instanceMethod ({ cls := "BeggarHeapsModel", name := "takeWord", desc := "(I)V" } : Jvm.MethodName)) ∈ lw_all := lw_g (lw_at lw_m8 175 rfl) rfl
theorem q1977 : (Jvm.Cond.code ({ cls := "BeggarHeapsModel", name := "takeWord", desc := "(I)V" } : Jvm.MethodName) prog_24_method_16_code (2 : Nat) (Option.none : Option Jvm.ClassFile.FieldType)) ∈ lw_all := lw_g (lw_at lw_m8 176 rfl) rfl
theorem q1978 : (Jvm.Cond.methodLink "BeggarHeapsModel" (215 : Nat) ({ cls := "BeggarHeapsModel", name := "hasWord", desc := "(I)Z" } : Jvm.MethodName)) ∈ lw_all := lw_g (lw_at lw_m8 177 rfl) rfl
theorem q1979 : (Jvm.Cond.privateMethod ({ cls := "BeggarHeapsModel", name := "hasWord", desc := "(I)Z" } : Jvm.MethodName)) ∈ lw_tbl := lw_at lw_m8 178 rfl
theorem q1980 : (Jvm.Cond.instanceMethod ({ cls := "BeggarHeapsModel", name := "hasWord", desc := "(I)Z" } : Jvm.MethodName)) ∈ lw_all := lw_g (lw_at lw_m8 179 rfl) rfl
theorem q1981 : (Jvm.Cond.code ({ cls := "BeggarHeapsModel", name := "hasWord", desc := "(I)Z" } : Jvm.MethodName) prog_24_method_15_code (3 : Nat) (Option.some Jvm.ClassFile.FieldType.boolean)) ∈ lw_all := lw_g (lw_at lw_m8 180 rfl) rfl
theorem q1982 : (Jvm.Cond.methodLink "BeggarHeapsModel" (264 : Nat) ({ cls := "BeggarHeapsModel", name := "takeNumber", desc := "(II)I" } : Jvm.MethodName)) ∈ lw_all := lw_g (lw_at lw_m8 181 rfl) rfl
theorem q1983 : (Jvm.Cond.privateMethod ({ cls := "BeggarHeapsModel", name := "takeNumber", desc := "(II)I" } : Jvm.MethodName)) ∈ lw_tbl := lw_at lw_m8 182 rfl
theorem q1984 : (Jvm.Cond.instanceMethod ({ cls := "BeggarHeapsModel", name := "takeNumber", desc := "(II)I" } : Jvm.MethodName)) ∈ lw_all := lw_g (lw_at lw_m8 183 rfl) rfl
theorem q1985 : (Jvm.Cond.code ({ cls := "BeggarHeapsModel", name := "takeNumber", desc := "(II)I" } : Jvm.MethodName) prog_24_method_19_code (3 : Nat) (Option.some Jvm.ClassFile.FieldType.int)) ∈ lw_all := lw_g (lw_at lw_m8 184 rfl) rfl
theorem q1986 : (Jvm.Cond.methodLink "BeggarHeapsModel" (247 : Nat) ({ cls := "BeggarHeapsModel", name := "readPack", desc := "()V" } : Jvm.MethodName)) ∈ lw_all := lw_g (lw_at lw_m8 185 rfl) rfl
theorem q1987 : (Jvm.Cond.privateMethod ({ cls := "BeggarHeapsModel", name := "readPack", desc := "()V" } : Jvm.MethodName)) ∈ lw_tbl := lw_at lw_m8 186 rfl
theorem q1988 : (Jvm.Cond.instanceMethod ({ cls := "BeggarHeapsModel", name := "readPack", desc := "()V" } : Jvm.MethodName)) ∈ lw_all := lw_g (lw_at lw_m8 187 rfl) rfl
theorem q1989 : (Jvm.Cond.code ({ cls := "BeggarHeapsModel", name := "readPack", desc := "()V" } : Jvm.MethodName) prog_24_method_27_code (3 : Nat) (Option.none : Option Jvm.ClassFile.FieldType)) ∈ lw_all := lw_g (lw_at lw_m8 188 rfl) rfl
theorem q1990 : (Jvm.Cond.methodLink "BeggarHeapsModel" (267 : Nat) ({ cls := "BeggarHeapsModel", name := "cards", desc := "(I)I" } : Jvm.MethodName)) ∈ lw_all := lw_g (lw_at lw_m8 189 rfl) rfl
theorem q1991 : (Jvm.Cond.privateMethod ({ cls := "BeggarHeapsModel", name := "cards", desc := "(I)I" } : Jvm.MethodName)) ∈ lw_tbl := lw_at lw_m8 190 rfl
theorem q1992 : (Jvm.Cond.instanceMethod ({ cls := "BeggarHeapsModel", name := "cards", desc := "(I)I" } : Jvm.MethodName)) ∈ lw_all := lw_g (lw_at lw_m8 191 rfl) rfl
theorem q1993 : (Jvm.Cond.code ({ cls := "BeggarHeapsModel", name := "cards", desc := "(I)I" } : Jvm.MethodName) prog_24_method_28_code (4 : Nat) (Option.some Jvm.ClassFile.FieldType.int)) ∈ lw_all := lw_g (lw_at lw_m8 192 rfl) rfl
theorem q1994 : (Jvm.Cond.methodLink "BeggarHeapsModel" (250 : Nat) ({ cls := "BeggarHeapsModel", name := "readOnce", desc := "()V" } : Jvm.MethodName)) ∈ lw_all := lw_g (lw_at lw_m8 193 rfl) rfl
theorem q1995 : (Jvm.Cond.privateMethod ({ cls := "BeggarHeapsModel", name := "readOnce", desc := "()V" } : Jvm.MethodName)) ∈ lw_tbl := lw_at lw_m8 194 rfl
theorem q1996 : (Jvm.Cond.instanceMethod ({ cls := "BeggarHeapsModel", name := "readOnce", desc := "()V" } : Jvm.MethodName)) ∈ lw_all := lw_g (lw_at lw_m8 195 rfl) rfl
theorem q1997 : (Jvm.Cond.code ({ cls := "BeggarHeapsModel", name := "readOnce", desc := "()V" } : Jvm.MethodName) prog_24_method_29_code (2 : Nat) (Option.none : Option Jvm.ClassFile.FieldType)) ∈ lw_all := lw_g (lw_at lw_m8 196 rfl) rfl
theorem q1998 : (Jvm.Cond.methodLink "BeggarHeapsModel" (218 : Nat) ({ cls := "BeggarHeapsModel", name := "wordHere", desc := "(II)I" } : Jvm.MethodName)) ∈ lw_all := lw_g (lw_at lw_m8 197 rfl) rfl
theorem q1999 : (Jvm.Cond.privateMethod ({ cls := "BeggarHeapsModel", name := "wordHere", desc := "(II)I" } : Jvm.MethodName)) ∈ lw_tbl := lw_at lw_m8 198 rfl
theorem q2000 : (Jvm.Cond.instanceMethod ({ cls := "BeggarHeapsModel", name := "wordHere", desc := "(II)I" } : Jvm.MethodName)) ∈ lw_all := lw_g (lw_at lw_m8 199 rfl) rfl
theorem q2001 : (Jvm.Cond.code ({ cls := "BeggarHeapsModel", name := "wordHere", desc := "(II)I" } : Jvm.MethodName) prog_24_method_22_code (5 : Nat) (Option.some Jvm.ClassFile.FieldType.int)) ∈ lw_all := lw_g (lw_at lw_m8 200 rfl) rfl
theorem q2002 : (Jvm.Cond.methodLink "BeggarHeapsModel" (270 : Nat) ({ cls := "BeggarHeapsModel", name := "takeOne", desc := "(II)I" } : Jvm.MethodName)) ∈ lw_all := lw_g (lw_at lw_m8 201 rfl) rfl
theorem q2003 : (Jvm.Cond.privateMethod ({ cls := "BeggarHeapsModel", name := "takeOne", desc := "(II)I" } : Jvm.MethodName)) ∈ lw_tbl := lw_at lw_m8 202 rfl
theorem q2004 : (Jvm.Cond.instanceMethod ({ cls := "BeggarHeapsModel", name := "takeOne", desc := "(II)I" } : Jvm.MethodName)) ∈ lw_all := lw_g (lw_at lw_m8 203 rfl) rfl
theorem q2005 : (Jvm.Cond.code ({ cls := "BeggarHeapsModel", name := "takeOne", desc := "(II)I" } : Jvm.MethodName) prog_24_method_23_code (4 : Nat) (Option.some Jvm.ClassFile.FieldType.int)) ∈ lw_all := lw_g (lw_at lw_m8 204 rfl) rfl
theorem q2006 : (Jvm.Cond.methodLink "BeggarHeapsModel" (273 : Nat) ({ cls := "BeggarHeapsModel", name := "ands", desc := "(I)V" } : Jvm.MethodName)) ∈ lw_all := lw_g (lw_at lw_m8 205 rfl) rfl
theorem q2007 : (Jvm.Cond.privateMethod ({ cls := "BeggarHeapsModel", name := "ands", desc := "(I)V" } : Jvm.MethodName)) ∈ lw_tbl := lw_at lw_m8 206 rfl
theorem q2008 : (Jvm.Cond.instanceMethod ({ cls := "BeggarHeapsModel", name := "ands", desc := "(I)V" } : Jvm.MethodName)) ∈ lw_all := lw_g (lw_at lw_m8 207 rfl) rfl
theorem q2009 : (Jvm.Cond.code ({ cls := "BeggarHeapsModel", name := "ands", desc := "(I)V" } : Jvm.MethodName) prog_24_method_36_code (3 : Nat) (Option.none : Option Jvm.ClassFile.FieldType)) ∈ lw_all := lw_g (lw_at lw_m8 208 rfl) rfl
theorem q2010 : (Jvm.Cond.methodLink "BeggarHeapsModel" (289 : Nat) ({ cls := "BeggarHeapsModel", name := "test", desc := "(I)V" } : Jvm.MethodName)) ∈ lw_all := lw_g (lw_at lw_m8 209 rfl) rfl
theorem q2011 : (Jvm.Cond.privateMethod ({ cls := "BeggarHeapsModel", name := "test", desc := "(I)V" } : Jvm.MethodName)) ∈ lw_tbl := lw_at lw_m8 210 rfl
theorem q2012 : (Jvm.Cond.instanceMethod ({ cls := "BeggarHeapsModel", name := "test", desc := "(I)V" } : Jvm.MethodName)) ∈ lw_all := lw_g (lw_at lw_m8 211 rfl) rfl
theorem q2013 : (Jvm.Cond.code ({ cls := "BeggarHeapsModel", name := "test", desc := "(I)V" } : Jvm.MethodName) prog_24_method_37_code (3 : Nat) (Option.none : Option Jvm.ClassFile.FieldType)) ∈ lw_all := lw_g (lw_at lw_m8 212 rfl) rfl
theorem q2014 : (Jvm.Cond.methodLink "BeggarHeapsModel" (292 : Nat) ({ cls := "BeggarHeapsModel", name := "sums", desc := "(I)V" } : Jvm.MethodName)) ∈ lw_all := lw_g (lw_at lw_m8 213 rfl) rfl
theorem q2015 : (Jvm.Cond.privateMethod ({ cls := "BeggarHeapsModel", name := "sums", desc := "(I)V" } : Jvm.MethodName)) ∈ lw_tbl := lw_at lw_m8 214 rfl
theorem q2016 : (Jvm.Cond.instanceMethod ({ cls := "BeggarHeapsModel", name := "sums", desc := "(I)V" } : Jvm.MethodName)) ∈ lw_all := lw_g (lw_at lw_m8 215 rfl) rfl
theorem q2017 : (Jvm.Cond.code ({ cls := "BeggarHeapsModel", name := "sums", desc := "(I)V" } : Jvm.MethodName) prog_24_method_38_code (3 : Nat) (Option.none : Option Jvm.ClassFile.FieldType)) ∈ lw_all := lw_g (lw_at lw_m8 216 rfl) rfl
theorem q2018 : (Jvm.Cond.methodLink "BeggarHeapsModel" (298 : Nat) ({ cls := "BeggarHeapsModel", name := "products", desc := "(I)V" } : Jvm.MethodName)) ∈ lw_all := lw_g (lw_at lw_m8 217 rfl) rfl
theorem q2019 : (Jvm.Cond.privateMethod ({ cls := "BeggarHeapsModel", name := "products", desc := "(I)V" } : Jvm.MethodName)) ∈ lw_tbl := lw_at lw_m8 218 rfl
theorem q2020 : (Jvm.Cond.instanceMethod ({ cls := "BeggarHeapsModel", name := "products", desc := "(I)V" } : Jvm.MethodName)) ∈ lw_all := lw_g (lw_at lw_m8 219 rfl) rfl
theorem q2021 : (Jvm.Cond.code ({ cls := "BeggarHeapsModel", name := "products", desc := "(I)V" } : Jvm.MethodName) prog_24_method_39_code (2 : Nat) (Option.none : Option Jvm.ClassFile.FieldType)) ∈ lw_all := lw_g (lw_at lw_m8 220 rfl) rfl
theorem q2022 : (Jvm.Cond.methodLink "BeggarHeapsModel" (301 : Nat) ({ cls := "BeggarHeapsModel", name := "takePart", desc := "(I)V" } : Jvm.MethodName)) ∈ lw_all := lw_g (lw_at lw_m8 221 rfl) rfl
theorem q2023 : (Jvm.Cond.privateMethod ({ cls := "BeggarHeapsModel", name := "takePart", desc := "(I)V" } : Jvm.MethodName)) ∈ lw_tbl := lw_at lw_m8 222 rfl
theorem q2024 : (Jvm.Cond.instanceMethod ({ cls := "BeggarHeapsModel", name := "takePart", desc := "(I)V" } : Jvm.MethodName)) ∈ lw_all := lw_g (lw_at lw_m8 223 rfl) rfl
theorem q2025 : (Jvm.Cond.code ({ cls := "BeggarHeapsModel", name := "takePart", desc := "(I)V" } : Jvm.MethodName) prog_24_method_40_code (4 : Nat) (Option.none : Option Jvm.ClassFile.FieldType)) ∈ lw_all := lw_g (lw_at lw_m8 224 rfl) rfl
theorem q2026 : (Jvm.Cond.methodLink "BeggarHeapsModel" (206 : Nat) ({ cls := "BeggarHeapsModel", name := "isSign", desc := "(I)Z" } : Jvm.MethodName)) ∈ lw_all := lw_g (lw_at lw_m8 225 rfl) rfl
theorem q2027 : (Jvm.Cond.privateMethod ({ cls := "BeggarHeapsModel", name := "isSign", desc := "(I)Z" } : Jvm.MethodName)) ∈ lw_tbl := lw_at lw_m8 226 rfl
theorem q2028 : (Jvm.Cond.instanceMethod ({ cls := "BeggarHeapsModel", name := "isSign", desc := "(I)Z" } : Jvm.MethodName)) ∈ lw_all := lw_g (lw_at lw_m8 227 rfl) rfl
theorem q2029 : (Jvm.Cond.code ({ cls := "BeggarHeapsModel", name := "isSign", desc := "(I)Z" } : Jvm.MethodName) prog_24_method_11_code (2 : Nat) (Option.some Jvm.ClassFile.FieldType.boolean)) ∈ lw_all := lw_g (lw_at lw_m8 228 rfl) rfl
theorem q2030 : (Jvm.Cond.methodLink "BeggarHeapsModel" (276 : Nat) ({ cls := "BeggarHeapsModel", name := "emit", desc := "(II)V" } : Jvm.MethodName)) ∈ lw_all := lw_g (lw_at lw_m8 229 rfl) rfl
theorem q2031 : (Jvm.Cond.privateMethod ({ cls := "BeggarHeapsModel", name := "emit", desc := "(II)V" } : Jvm.MethodName)) ∈ lw_tbl := lw_at lw_m8 230 rfl
theorem q2032 : (Jvm.Cond.instanceMethod ({ cls := "BeggarHeapsModel", name := "emit", desc := "(II)V" } : Jvm.MethodName)) ∈ lw_all := lw_g (lw_at lw_m8 231 rfl) rfl
theorem q2033 : (Jvm.Cond.code ({ cls := "BeggarHeapsModel", name := "emit", desc := "(II)V" } : Jvm.MethodName) prog_24_method_35_code (3 : Nat) (Option.none : Option Jvm.ClassFile.FieldType)) ∈ lw_all := lw_g (lw_at lw_m8 232 rfl) rfl
theorem q2034 : (Jvm.Cond.methodLink "BeggarHeapsModel" (295 : Nat) ({ cls := "BeggarHeapsModel", name := "hasSign", desc := "(I)Z" } : Jvm.MethodName)) ∈ lw_all := lw_g (lw_at lw_m8 233 rfl) rfl
theorem q2035 : (Jvm.Cond.privateMethod ({ cls := "BeggarHeapsModel", name := "hasSign", desc := "(I)Z" } : Jvm.MethodName)) ∈ lw_tbl := lw_at lw_m8 234 rfl
theorem q2036 : (Jvm.Cond.instanceMethod ({ cls := "BeggarHeapsModel", name := "hasSign", desc := "(I)Z" } : Jvm.MethodName)) ∈ lw_all := lw_g (lw_at lw_m8 235 rfl) rfl
theorem q2037 : (Jvm.Cond.code ({ cls := "BeggarHeapsModel", name := "hasSign", desc := "(I)Z" } : Jvm.MethodName) prog_24_method_14_code (3 : Nat) (Option.some Jvm.ClassFile.FieldType.boolean)) ∈ lw_all := lw_g (lw_at lw_m8 236 rfl) rfl
theorem q2038 : (Jvm.Cond.methodLink "BeggarHeapsModel" (234 : Nat) ({ cls := "BeggarHeapsModel", name := "takeSign", desc := "(I)V" } : Jvm.MethodName)) ∈ lw_all := lw_g (lw_at lw_m8 237 rfl) rfl
theorem q2039 : (Jvm.Cond.privateMethod ({ cls := "BeggarHeapsModel", name := "takeSign", desc := "(I)V" } : Jvm.MethodName)) ∈ lw_tbl := lw_at lw_m8 238 rfl
theorem q2040 : (Jvm.Cond.instanceMethod ({ cls := "BeggarHeapsModel", name := "takeSign", desc := "(I)V" } : Jvm.MethodName)) ∈ lw_all := lw_g (lw_at lw_m8 239 rfl) rfl
theorem q2041 : (Jvm.Cond.code ({ cls := "BeggarHeapsModel", name := "takeSign", desc := "(I)V" } : Jvm.MethodName) prog_24_method_13_code (2 : Nat) (Option.none : Option Jvm.ClassFile.FieldType)) ∈ lw_all := lw_g (lw_at lw_m9 0 rfl) rfl
theorem q2043 : (Jvm.Cond.instanceMethod ({ cls := "BeggarHeapsModel", name := "deal", desc := "()I" } : Jvm.MethodName)) ∈ lw_all := lw_g (lw_at lw_m9 2 rfl) rfl
theorem q2044 : (Jvm.Cond.selects "BeggarHeapsModel" ({ cls := "BeggarHeapsModel", name := "deal", desc := "()I" } : Jvm.MethodName) ({ cls := "BeggarHeapsModel", name := "deal", desc := "()I" } : Jvm.MethodName)) ∈ lw_all := lw_g (lw_at lw_m9 3 rfl) rfl
theorem q2045 : (Jvm.Cond.code ({ cls := "BeggarHeapsModel", name := "deal", desc := "()I" } : Jvm.MethodName) prog_24_method_31_code (2 : Nat) (Option.some Jvm.ClassFile.FieldType.int)) ∈ lw_all := lw_g (lw_at lw_m9 4 rfl) rfl
theorem q2046 : (Jvm.Cond.methodLink "BeggarHeapsModel" (280 : Nat) ({ cls := "BeggarHeapsModel", name := "readRow", desc := "(II)V" } : Jvm.MethodName)) ∈ lw_all := lw_g (lw_at lw_m9 5 rfl) rfl
theorem q2047 : (Jvm.Cond.privateMethod ({ cls := "BeggarHeapsModel", name := "readRow", desc := "(II)V" } : Jvm.MethodName)) ∈ lw_tbl := lw_at lw_m9 6 rfl
theorem q2048 : (Jvm.Cond.instanceMethod ({ cls := "BeggarHeapsModel", name := "readRow", desc := "(II)V" } : Jvm.MethodName)) ∈ lw_all := lw_g (lw_at lw_m9 7 rfl) rfl
theorem q2049 : (Jvm.Cond.code ({ cls := "BeggarHeapsModel", name := "readRow", desc := "(II)V" } : Jvm.MethodName) prog_24_method_30_code (6 : Nat) (Option.none : Option Jvm.ClassFile.FieldType)) ∈ lw_all := lw_g (lw_at lw_m9 8 rfl) rfl
theorem q2050 : (Jvm.Cond.methodLink "BeggarHeapsModel" (283 : Nat) ({ cls := "BeggarHeapsModel", name := "dealsRead", desc := "()V" } : Jvm.MethodName)) ∈ lw_all := lw_g (lw_at lw_m9 9 rfl) rfl
theorem q2051 : (Jvm.Cond.privateMethod ({ cls := "BeggarHeapsModel", name := "dealsRead", desc := "()V" } : Jvm.MethodName)) ∈ lw_tbl := lw_at lw_m9 10 rfl
theorem q2052 : (Jvm.Cond.instanceMethod ({ cls := "BeggarHeapsModel", name := "dealsRead", desc := "()V" } : Jvm.MethodName)) ∈ lw_all := lw_g (lw_at lw_m9 11 rfl) rfl
theorem q2053 : (Jvm.Cond.code ({ cls := "BeggarHeapsModel", name := "dealsRead", desc := "()V" } : Jvm.MethodName) prog_24_method_32_code (3 : Nat) (Option.none : Option Jvm.ClassFile.FieldType)) ∈ lw_all := lw_g (lw_at lw_m9 12 rfl) rfl
theorem q2055 : (Jvm.Cond.instanceMethod ({ cls := "BeggarHeapsModel", name := "book", desc := "()I" } : Jvm.MethodName)) ∈ lw_all := lw_g (lw_at lw_m9 14 rfl) rfl
theorem q2056 : (Jvm.Cond.selects "BeggarHeapsModel" ({ cls := "BeggarHeapsModel", name := "book", desc := "()I" } : Jvm.MethodName) ({ cls := "BeggarHeapsModel", name := "book", desc := "()I" } : Jvm.MethodName)) ∈ lw_all := lw_g (lw_at lw_m9 15 rfl) rfl
theorem q2057 : (Jvm.Cond.code ({ cls := "BeggarHeapsModel", name := "book", desc := "()I" } : Jvm.MethodName) prog_24_method_33_code (3 : Nat) (Option.some Jvm.ClassFile.FieldType.int)) ∈ lw_all := lw_g (lw_at lw_m9 16 rfl) rfl
theorem q2058 : (Jvm.Cond.methodLink "BeggarHeapsModel" (286 : Nat) ({ cls := "BeggarHeapsModel", name := "readOpening", desc := "(I)V" } : Jvm.MethodName)) ∈ lw_all := lw_g (lw_at lw_m9 17 rfl) rfl
theorem q2059 : (Jvm.Cond.privateMethod ({ cls := "BeggarHeapsModel", name := "readOpening", desc := "(I)V" } : Jvm.MethodName)) ∈ lw_tbl := lw_at lw_m9 18 rfl
theorem q2060 : (Jvm.Cond.instanceMethod ({ cls := "BeggarHeapsModel", name := "readOpening", desc := "(I)V" } : Jvm.MethodName)) ∈ lw_all := lw_g (lw_at lw_m9 19 rfl) rfl
theorem q2061 : (Jvm.Cond.code ({ cls := "BeggarHeapsModel", name := "readOpening", desc := "(I)V" } : Jvm.MethodName) prog_24_method_34_code (5 : Nat) (Option.none : Option Jvm.ClassFile.FieldType)) ∈ lw_all := lw_g (lw_at lw_m9 20 rfl) rfl
theorem q2063 : (Jvm.Cond.instanceMethod ({ cls := "BeggarHeapsModel", name := "kind", desc := "(II)I" } : Jvm.MethodName)) ∈ lw_all := lw_g (lw_at lw_m9 22 rfl) rfl
theorem q2064 : (Jvm.Cond.selects "BeggarHeapsModel" ({ cls := "BeggarHeapsModel", name := "kind", desc := "(II)I" } : Jvm.MethodName) ({ cls := "BeggarHeapsModel", name := "kind", desc := "(II)I" } : Jvm.MethodName)) ∈ lw_all := lw_g (lw_at lw_m9 23 rfl) rfl
theorem q2065 : (Jvm.Cond.code ({ cls := "BeggarHeapsModel", name := "kind", desc := "(II)I" } : Jvm.MethodName) prog_24_method_60_code (3 : Nat) (Option.some Jvm.ClassFile.FieldType.int)) ∈ lw_all := lw_g (lw_at lw_m9 24 rfl) rfl
theorem q2066 : (Jvm.Cond.methodLink "BeggarHeapsModel" (344 : Nat) ({ cls := "BeggarHeapsModel", name := "isKind", desc := "(I)Z" } : Jvm.MethodName)) ∈ lw_all := lw_g (lw_at lw_m9 25 rfl) rfl
theorem q2067 : (Jvm.Cond.privateMethod ({ cls := "BeggarHeapsModel", name := "isKind", desc := "(I)Z" } : Jvm.MethodName)) ∈ lw_tbl := lw_at lw_m9 26 rfl
theorem q2068 : (Jvm.Cond.instanceMethod ({ cls := "BeggarHeapsModel", name := "isKind", desc := "(I)Z" } : Jvm.MethodName)) ∈ lw_all := lw_g (lw_at lw_m9 27 rfl) rfl
theorem q2069 : (Jvm.Cond.code ({ cls := "BeggarHeapsModel", name := "isKind", desc := "(I)Z" } : Jvm.MethodName) prog_24_method_47_code (2 : Nat) (Option.some Jvm.ClassFile.FieldType.boolean)) ∈ lw_all := lw_g (lw_at lw_m9 28 rfl) rfl
theorem q2070 : (Jvm.Cond.methodLink "BeggarHeapsModel" (312 : Nat) ({ cls := "BeggarHeapsModel", name := "kinds", desc := "()I" } : Jvm.MethodName)) ∈ lw_all := lw_g (lw_at lw_m9 29 rfl) rfl
theorem q2071 : (Jvm.Cond.privateMethod ({ cls := "BeggarHeapsModel", name := "kinds", desc := "()I" } : Jvm.MethodName)) ∈ lw_tbl := lw_at lw_m9 30 rfl
theorem q2072 : (Jvm.Cond.instanceMethod ({ cls := "BeggarHeapsModel", name := "kinds", desc := "()I" } : Jvm.MethodName)) ∈ lw_all := lw_g (lw_at lw_m9 31 rfl) rfl
theorem q2073 : (Jvm.Cond.code ({ cls := "BeggarHeapsModel", name := "kinds", desc := "()I" } : Jvm.MethodName) prog_24_method_46_code (1 : Nat) (Option.some Jvm.ClassFile.FieldType.int)) ∈ lw_all := lw_g (lw_at lw_m9 32 rfl) rfl
theorem q2074 : (Jvm.Cond.methodLink "BeggarHeapsModel" (347 : Nat) ({ cls := "BeggarHeapsModel", name := "within", desc := "(III)Z" } : Jvm.MethodName)) ∈ lw_all := lw_g (lw_at lw_m9 33 rfl) rfl
theorem q2075 : (Jvm.Cond.static ({ cls := "BeggarHeapsModel", name := "within", desc := "(III)Z" } : Jvm.MethodName)) ∈ lw_all := lw_g (lw_at lw_m9 34 rfl) rfl
theorem q2076 : (Jvm.Cond.code ({ cls := "BeggarHeapsModel", name := "within", desc := "(III)Z" } : Jvm.MethodName) prog_24_method_17_code (3 : Nat) (Option.some Jvm.ClassFile.FieldType.boolean)) ∈ lw_all := lw_g (lw_at lw_m9 35 rfl) rfl
theorem q2077 : (Jvm.Cond.methodLink "BeggarHeapsModel" (351 : Nat) ({ cls := "BeggarHeapsModel", name := "countOf", desc := "(III)I" } : Jvm.MethodName)) ∈ lw_all := lw_g (lw_at lw_m9 36 rfl) rfl
theorem q2078 : (Jvm.Cond.privateMethod ({ cls := "BeggarHeapsModel", name := "countOf", desc := "(III)I" } : Jvm.MethodName)) ∈ lw_tbl := lw_at lw_m9 37 rfl
theorem q2079 : (Jvm.Cond.instanceMethod ({ cls := "BeggarHeapsModel", name := "countOf", desc := "(III)I" } : Jvm.MethodName)) ∈ lw_all := lw_g (lw_at lw_m9 38 rfl) rfl
theorem q2080 : (Jvm.Cond.code ({ cls := "BeggarHeapsModel", name := "countOf", desc := "(III)I" } : Jvm.MethodName) prog_24_method_59_code (6 : Nat) (Option.some Jvm.ClassFile.FieldType.int)) ∈ lw_all := lw_g (lw_at lw_m9 39 rfl) rfl
theorem q2082 : (Jvm.Cond.instanceMethod ({ cls := "BeggarHeapsModel", name := "card", desc := "(II)I" } : Jvm.MethodName)) ∈ lw_all := lw_g (lw_at lw_m9 41 rfl) rfl
theorem q2083 : (Jvm.Cond.selects "BeggarHeapsModel" ({ cls := "BeggarHeapsModel", name := "card", desc := "(II)I" } : Jvm.MethodName) ({ cls := "BeggarHeapsModel", name := "card", desc := "(II)I" } : Jvm.MethodName)) ∈ lw_all := lw_g (lw_at lw_m9 42 rfl) rfl
theorem q2084 : (Jvm.Cond.code ({ cls := "BeggarHeapsModel", name := "card", desc := "(II)I" } : Jvm.MethodName) prog_24_method_61_code (3 : Nat) (Option.some Jvm.ClassFile.FieldType.int)) ∈ lw_all := lw_g (lw_at lw_m9 43 rfl) rfl
theorem q2085 : (Jvm.Cond.methodLink "BeggarHeapsModel" (354 : Nat) ({ cls := "BeggarHeapsModel", name := "isSide", desc := "(I)Z" } : Jvm.MethodName)) ∈ lw_all := lw_g (lw_at lw_m9 44 rfl) rfl
theorem q2086 : (Jvm.Cond.static ({ cls := "BeggarHeapsModel", name := "isSide", desc := "(I)Z" } : Jvm.MethodName)) ∈ lw_all := lw_g (lw_at lw_m9 45 rfl) rfl
theorem q2087 : (Jvm.Cond.code ({ cls := "BeggarHeapsModel", name := "isSide", desc := "(I)Z" } : Jvm.MethodName) prog_24_method_58_code (1 : Nat) (Option.some Jvm.ClassFile.FieldType.boolean)) ∈ lw_all := lw_g (lw_at lw_m9 46 rfl) rfl
theorem q2089 : (Jvm.Cond.instanceMethod ({ cls := "BeggarHeapsModel", name := "heap", desc := "(I)I" } : Jvm.MethodName)) ∈ lw_all := lw_g (lw_at lw_m9 48 rfl) rfl
theorem q2090 : (Jvm.Cond.selects "BeggarHeapsModel" ({ cls := "BeggarHeapsModel", name := "heap", desc := "(I)I" } : Jvm.MethodName) ({ cls := "BeggarHeapsModel", name := "heap", desc := "(I)I" } : Jvm.MethodName)) ∈ lw_all := lw_g (lw_at lw_m9 49 rfl) rfl
theorem q2091 : (Jvm.Cond.code ({ cls := "BeggarHeapsModel", name := "heap", desc := "(I)I" } : Jvm.MethodName) prog_24_method_62_code (2 : Nat) (Option.some Jvm.ClassFile.FieldType.int)) ∈ lw_all := lw_g (lw_at lw_m9 50 rfl) rfl
theorem q2093 : (Jvm.Cond.instanceMethod ({ cls := "BeggarHeapsModel", name := "taken", desc := "(II)I" } : Jvm.MethodName)) ∈ lw_all := lw_g (lw_at lw_m9 52 rfl) rfl
theorem q2094 : (Jvm.Cond.selects "BeggarHeapsModel" ({ cls := "BeggarHeapsModel", name := "taken", desc := "(II)I" } : Jvm.MethodName) ({ cls := "BeggarHeapsModel", name := "taken", desc := "(II)I" } : Jvm.MethodName)) ∈ lw_all := lw_g (lw_at lw_m9 53 rfl) rfl
theorem q2095 : (Jvm.Cond.code ({ cls := "BeggarHeapsModel", name := "taken", desc := "(II)I" } : Jvm.MethodName) prog_24_method_63_code (3 : Nat) (Option.some Jvm.ClassFile.FieldType.int)) ∈ lw_all := lw_g (lw_at lw_m9 54 rfl) rfl
theorem q2097 : (Jvm.Cond.instanceMethod ({ cls := "BeggarHeapsModel", name := "turn", desc := "(I)I" } : Jvm.MethodName)) ∈ lw_all := lw_g (lw_at lw_m9 56 rfl) rfl
theorem q2098 : (Jvm.Cond.selects "BeggarHeapsModel" ({ cls := "BeggarHeapsModel", name := "turn", desc := "(I)I" } : Jvm.MethodName) ({ cls := "BeggarHeapsModel", name := "turn", desc := "(I)I" } : Jvm.MethodName)) ∈ lw_all := lw_g (lw_at lw_m9 57 rfl) rfl
theorem q2099 : (Jvm.Cond.code ({ cls := "BeggarHeapsModel", name := "turn", desc := "(I)I" } : Jvm.MethodName) prog_24_method_64_code (3 : Nat) (Option.some Jvm.ClassFile.FieldType.int)) ∈ lw_all := lw_g (lw_at lw_m9 58 rfl) rfl
theorem q2100 : (Jvm.Cond.methodLink "BeggarHeapsModel" (357 : Nat) ({ cls := "BeggarHeapsModel", name := "keeps", desc := "()V" } : Jvm.MethodName)) ∈ lw_all := lw_g (lw_at lw_m9 59 rfl) rfl
theorem q2101 : (Jvm.Cond.privateMethod ({ cls := "BeggarHeapsModel", name := "keeps", desc := "()V" } : Jvm.MethodName)) ∈ lw_tbl := lw_at lw_m9 60 rfl
theorem q2102 : (Jvm.Cond.instanceMethod ({ cls := "BeggarHeapsModel", name := "keeps", desc := "()V" } : Jvm.MethodName)) ∈ lw_all := lw_g (lw_at lw_m9 61 rfl) rfl
theorem q2103 : (Jvm.Cond.code ({ cls := "BeggarHeapsModel", name := "keeps", desc := "()V" } : Jvm.MethodName) prog_24_method_44_code (2 : Nat) (Option.none : Option Jvm.ClassFile.FieldType)) ∈ lw_all := lw_g (lw_at lw_m9 62 rfl) rfl
theorem q2104 : (Jvm.Cond.methodLink "BeggarHeapsModel" (308 : Nat) ({ cls := "BeggarHeapsModel", name := "copies", desc := "(III)V" } : Jvm.MethodName)) ∈ lw_all := lw_g (lw_at lw_m9 63 rfl) rfl
theorem q2105 : (Jvm.Cond.privateMethod ({ cls := "BeggarHeapsModel", name := "copies", desc := "(III)V" } : Jvm.MethodName)) ∈ lw_tbl := lw_at lw_m9 64 rfl
theorem q2106 : (Jvm.Cond.instanceMethod ({ cls := "BeggarHeapsModel", name := "copies", desc := "(III)V" } : Jvm.MethodName)) ∈ lw_all := lw_g (lw_at lw_m9 65 rfl) rfl
theorem q2107 : (Jvm.Cond.code ({ cls := "BeggarHeapsModel", name := "copies", desc := "(III)V" } : Jvm.MethodName) prog_24_method_43_code (5 : Nat) (Option.none : Option Jvm.ClassFile.FieldType)) ∈ lw_all := lw_g (lw_at lw_m9 66 rfl) rfl
theorem q2108 : (Jvm.Cond.methodLink "BeggarHeapsModel" (360 : Nat) ({ cls := "BeggarHeapsModel", name := "isWon", desc := "(I)Z" } : Jvm.MethodName)) ∈ lw_all := lw_g (lw_at lw_m9 67 rfl) rfl
theorem q2109 : (Jvm.Cond.privateMethod ({ cls := "BeggarHeapsModel", name := "isWon", desc := "(I)Z" } : Jvm.MethodName)) ∈ lw_tbl := lw_at lw_m9 68 rfl
theorem q2110 : (Jvm.Cond.instanceMethod ({ cls := "BeggarHeapsModel", name := "isWon", desc := "(I)Z" } : Jvm.MethodName)) ∈ lw_all := lw_g (lw_at lw_m9 69 rfl) rfl
theorem q2111 : (Jvm.Cond.code ({ cls := "BeggarHeapsModel", name := "isWon", desc := "(I)Z" } : Jvm.MethodName) prog_24_method_56_code (5 : Nat) (Option.some Jvm.ClassFile.FieldType.boolean)) ∈ lw_all := lw_g (lw_at lw_m9 70 rfl) rfl
theorem q2112 : (Jvm.Cond.methodLink "BeggarHeapsModel" (363 : Nat) ({ cls := "BeggarHeapsModel", name := "plays", desc := "(I)V" } : Jvm.MethodName)) ∈ lw_all := lw_g (lw_at lw_m9 71 rfl) rfl
theorem q2113 : (Jvm.Cond.privateMethod ({ cls := "BeggarHeapsModel", name := "plays", desc := "(I)V" } : Jvm.MethodName)) ∈ lw_tbl := lw_at lw_m9 72 rfl
theorem q2114 : (Jvm.Cond.instanceMethod ({ cls := "BeggarHeapsModel", name := "plays", desc := "(I)V" } : Jvm.MethodName)) ∈ lw_all := lw_g (lw_at lw_m9 73 rfl) rfl
theorem q2115 : (Jvm.Cond.code ({ cls := "BeggarHeapsModel", name := "plays", desc := "(I)V" } : Jvm.MethodName) prog_24_method_57_code (2 : Nat) (Option.none : Option Jvm.ClassFile.FieldType)) ∈ lw_all := lw_g (lw_at lw_m9 74 rfl) rfl
theorem q2116 : (Jvm.Cond.methodLink "BeggarHeapsModel" (335 : Nat) ({ cls := "BeggarHeapsModel", name := "goes", desc := "(I)Z" } : Jvm.MethodName)) ∈ lw_all := lw_g (lw_at lw_m9 75 rfl) rfl
theorem q2117 : (Jvm.Cond.privateMethod ({ cls := "BeggarHeapsModel", name := "goes", desc := "(I)Z" } : Jvm.MethodName)) ∈ lw_tbl := lw_at lw_m9 76 rfl
theorem q2118 : (Jvm.Cond.instanceMethod ({ cls := "BeggarHeapsModel", name := "goes", desc := "(I)Z" } : Jvm.MethodName)) ∈ lw_all := lw_g (lw_at lw_m9 77 rfl) rfl
theorem q2119 : (Jvm.Cond.code ({ cls := "BeggarHeapsModel", name := "goes", desc := "(I)Z" } : Jvm.MethodName) prog_24_method_52_code (4 : Nat) (Option.some Jvm.ClassFile.FieldType.boolean)) ∈ lw_all := lw_g (lw_at lw_m9 78 rfl) rfl
theorem q2120 : (Jvm.Cond.methodLink "BeggarHeapsModel" (326 : Nat) ({ cls := "BeggarHeapsModel", name := "turns", desc := "(I)I" } : Jvm.MethodName)) ∈ lw_all := lw_g (lw_at lw_m9 79 rfl) rfl
theorem q2121 : (Jvm.Cond.privateMethod ({ cls := "BeggarHeapsModel", name := "turns", desc := "(I)I" } : Jvm.MethodName)) ∈ lw_tbl := lw_at lw_m9 80 rfl
theorem q2122 : (Jvm.Cond.instanceMethod ({ cls := "BeggarHeapsModel", name := "turns", desc := "(I)I" } : Jvm.MethodName)) ∈ lw_all := lw_g (lw_at lw_m9 81 rfl) rfl
theorem q2123 : (Jvm.Cond.code ({ cls := "BeggarHeapsModel", name := "turns", desc := "(I)I" } : Jvm.MethodName) prog_24_method_51_code (6 : Nat) (Option.some Jvm.ClassFile.FieldType.int)) ∈ lw_all := lw_g (lw_at lw_m9 82 rfl) rfl
theorem q2124 : (Jvm.Cond.methodLink "BeggarHeapsModel" (323 : Nat) ({ cls := "BeggarHeapsModel", name := "paysOf", desc := "(I)I" } : Jvm.MethodName)) ∈ lw_all := lw_g (lw_at lw_m9 83 rfl) rfl
theorem q2125 : (Jvm.Cond.privateMethod ({ cls := "BeggarHeapsModel", name := "paysOf", desc := "(I)I" } : Jvm.MethodName)) ∈ lw_tbl := lw_at lw_m9 84 rfl
theorem q2126 : (Jvm.Cond.instanceMethod ({ cls := "BeggarHeapsModel", name := "paysOf", desc := "(I)I" } : Jvm.MethodName)) ∈ lw_all := lw_g (lw_at lw_m9 85 rfl) rfl
theorem q2127 : (Jvm.Cond.code ({ cls := "BeggarHeapsModel", name := "paysOf", desc := "(I)I" } : Jvm.MethodName) prog_24_method_48_code (3 : Nat) (Option.some Jvm.ClassFile.FieldType.int)) ∈ lw_all := lw_g (lw_at lw_m9 86 rfl) rfl
theorem q2128 : (Jvm.Cond.methodLink "BeggarHeapsModel" (338 : Nat) ({ cls := "BeggarHeapsModel", name := "orderNow", desc := "(I)I" } : Jvm.MethodName)) ∈ lw_all := lw_g (lw_at lw_m9 87 rfl) rfl
theorem q2129 : (Jvm.Cond.privateMethod ({ cls := "BeggarHeapsModel", name := "orderNow", desc := "(I)I" } : Jvm.MethodName)) ∈ lw_tbl := lw_at lw_m9 88 rfl
theorem q2130 : (Jvm.Cond.instanceMethod ({ cls := "BeggarHeapsModel", name := "orderNow", desc := "(I)I" } : Jvm.MethodName)) ∈ lw_all := lw_g (lw_at lw_m9 89 rfl) rfl
theorem q2131 : (Jvm.Cond.code ({ cls := "BeggarHeapsModel", name := "orderNow", desc := "(I)I" } : Jvm.MethodName) prog_24_method_55_code (3 : Nat) (Option.some Jvm.ClassFile.FieldType.int)) ∈ lw_all := lw_g (lw_at lw_m9 90 rfl) rfl
theorem q2132 : (Jvm.Cond.methodLink "BeggarHeapsModel" (341 : Nat) ({ cls := "BeggarHeapsModel", name := "takes", desc := "(II)V" } : Jvm.MethodName)) ∈ lw_all := lw_g (lw_at lw_m9 91 rfl) rfl
theorem q2133 : (Jvm.Cond.privateMethod ({ cls := "BeggarHeapsModel", name := "takes", desc := "(II)V" } : Jvm.MethodName)) ∈ lw_tbl := lw_at lw_m9 92 rfl
theorem q2134 : (Jvm.Cond.instanceMethod ({ cls := "BeggarHeapsModel", name := "takes", desc := "(II)V" } : Jvm.MethodName)) ∈ lw_all := lw_g (lw_at lw_m9 93 rfl) rfl
theorem q2135 : (Jvm.Cond.code ({ cls := "BeggarHeapsModel", name := "takes", desc := "(II)V" } : Jvm.MethodName) prog_24_method_53_code (7 : Nat) (Option.none : Option Jvm.ClassFile.FieldType)) ∈ lw_all := lw_g (lw_at lw_m9 94 rfl) rfl
theorem q2136 : (Jvm.Cond.methodLink "BeggarHeapsModel" (329 : Nat) ({ cls := "BeggarHeapsModel", name := "lays", desc := "(III)V" } : Jvm.MethodName)) ∈ lw_all := lw_g (lw_at lw_m9 95 rfl) rfl
theorem q2137 : (Jvm.Cond.privateMethod ({ cls := "BeggarHeapsModel", name := "lays", desc := "(III)V" } : Jvm.MethodName)) ∈ lw_tbl := lw_at lw_m9 96 rfl
theorem q2138 : (Jvm.Cond.instanceMethod ({ cls := "BeggarHeapsModel", name := "lays", desc := "(III)V" } : Jvm.MethodName)) ∈ lw_all := lw_g (lw_at lw_m9 97 rfl) rfl
theorem q2139 : (Jvm.Cond.code ({ cls := "BeggarHeapsModel", name := "lays", desc := "(III)V" } : Jvm.MethodName) prog_24_method_49_code (7 : Nat) (Option.none : Option Jvm.ClassFile.FieldType)) ∈ lw_all := lw_g (lw_at lw_m9 98 rfl) rfl
theorem q2140 : (Jvm.Cond.methodLink "BeggarHeapsModel" (319 : Nat) ({ cls := "BeggarHeapsModel", name := "laysSuch", desc := "(IIIII)I" } : Jvm.MethodName)) ∈ lw_all := lw_g (lw_at lw_m9 99 rfl) rfl
theorem q2141 : (Jvm.Cond.privateMethod ({ cls := "BeggarHeapsModel", name := "laysSuch", desc := "(IIIII)I" } : Jvm.MethodName)) ∈ lw_tbl := lw_at lw_m9 100 rfl
theorem q2142 : (Jvm.Cond.instanceMethod ({ cls := "BeggarHeapsModel", name := "laysSuch", desc := "(IIIII)I" } : Jvm.MethodName)) ∈ lw_all := lw_g (lw_at lw_m9 101 rfl) rfl
theorem q2143 : (Jvm.Cond.code ({ cls := "BeggarHeapsModel", name := "laysSuch", desc := "(IIIII)I" } : Jvm.MethodName) prog_24_method_50_code (9 : Nat) (Option.some Jvm.ClassFile.FieldType.int)) ∈ lw_all := lw_g (lw_at lw_m9 102 rfl) rfl
theorem q2144 : (Jvm.Cond.methodLink "BeggarHeapsModel" (332 : Nat) ({ cls := "BeggarHeapsModel", name := "remembers", desc := "(II)V" } : Jvm.MethodName)) ∈ lw_all := lw_g (lw_at lw_m9 103 rfl) rfl
theorem q2145 : (Jvm.Cond.privateMethod ({ cls := "BeggarHeapsModel", name := "remembers", desc := "(II)V" } : Jvm.MethodName)) ∈ lw_tbl := lw_at lw_m9 104 rfl
theorem q2146 : (Jvm.Cond.instanceMethod ({ cls := "BeggarHeapsModel", name := "remembers", desc := "(II)V" } : Jvm.MethodName)) ∈ lw_all := lw_g (lw_at lw_m9 105 rfl) rfl
theorem q2147 : (Jvm.Cond.code ({ cls := "BeggarHeapsModel", name := "remembers", desc := "(II)V" } : Jvm.MethodName) prog_24_method_54_code (6 : Nat) (Option.none : Option Jvm.ClassFile.FieldType)) ∈ lw_all := lw_g (lw_at lw_m9 106 rfl) rfl
theorem q2149 : (Jvm.Cond.instanceMethod ({ cls := "BeggarHeapsModel", name := "slip", desc := "(I)Z" } : Jvm.MethodName)) ∈ lw_all := lw_g (lw_at lw_m9 108 rfl) rfl
theorem q2150 : (Jvm.Cond.selects "BeggarHeapsModel" ({ cls := "BeggarHeapsModel", name := "slip", desc := "(I)Z" } : Jvm.MethodName) ({ cls := "BeggarHeapsModel", name := "slip", desc := "(I)Z" } : Jvm.MethodName)) ∈ lw_all := lw_g (lw_at lw_m9 109 rfl) rfl
theorem q2151 : (Jvm.Cond.code ({ cls := "BeggarHeapsModel", name := "slip", desc := "(I)Z" } : Jvm.MethodName) prog_24_method_65_code (6 : Nat) (Option.some Jvm.ClassFile.FieldType.boolean)) ∈ lw_all := lw_g (lw_at lw_m9 110 rfl) rfl
theorem q2153 : (Jvm.Cond.instanceMethod ({ cls := "BeggarHeapsModel", name := "undo", desc := "()Z" } : Jvm.MethodName)) ∈ lw_all := lw_g (lw_at lw_m9 112 rfl) rfl
theorem q2154 : (Jvm.Cond.selects "BeggarHeapsModel" ({ cls := "BeggarHeapsModel", name := "undo", desc := "()Z" } : Jvm.MethodName) ({ cls := "BeggarHeapsModel", name := "undo", desc := "()Z" } : Jvm.MethodName)) ∈ lw_all := lw_g (lw_at lw_m9 113 rfl) rfl
theorem q2155 : (Jvm.Cond.code ({ cls := "BeggarHeapsModel", name := "undo", desc := "()Z" } : Jvm.MethodName) prog_24_method_66_code (1 : Nat) (Option.some Jvm.ClassFile.FieldType.boolean)) ∈ lw_all := lw_g (lw_at lw_m9 114 rfl) rfl
theorem q2157 : (Jvm.Cond.instanceMethod ({ cls := "BeggarHeapsModel", name := "again", desc := "()Z" } : Jvm.MethodName)) ∈ lw_all := lw_g (lw_at lw_m9 116 rfl) rfl
theorem q2158 : (Jvm.Cond.selects "BeggarHeapsModel" ({ cls := "BeggarHeapsModel", name := "again", desc := "()Z" } : Jvm.MethodName) ({ cls := "BeggarHeapsModel", name := "again", desc := "()Z" } : Jvm.MethodName)) ∈ lw_all := lw_g (lw_at lw_m9 117 rfl) rfl
theorem q2159 : (Jvm.Cond.code ({ cls := "BeggarHeapsModel", name := "again", desc := "()Z" } : Jvm.MethodName) prog_24_method_67_code (1 : Nat) (Option.some Jvm.ClassFile.FieldType.boolean)) ∈ lw_all := lw_g (lw_at lw_m9 118 rfl) rfl
theorem q2161 : (Jvm.Cond.instanceMethod ({ cls := "BeggarHeapsModel", name := "ends", desc := "(I)I" } : Jvm.MethodName)) ∈ lw_all := lw_g (lw_at lw_m9 120 rfl) rfl
theorem q2162 : (Jvm.Cond.selects "BeggarHeapsModel" ({ cls := "BeggarHeapsModel", name := "ends", desc := "(I)I" } : Jvm.MethodName) ({ cls := "BeggarHeapsModel", name := "ends", desc := "(I)I" } : Jvm.MethodName)) ∈ lw_all := lw_g (lw_at lw_m9 121 rfl) rfl
theorem q2163 : (Jvm.Cond.code ({ cls := "BeggarHeapsModel", name := "ends", desc := "(I)I" } : Jvm.MethodName) prog_24_method_72_code (2 : Nat) (Option.some Jvm.ClassFile.FieldType.int)) ∈ lw_all := lw_g (lw_at lw_m9 122 rfl) rfl
theorem q2164 : (Jvm.Cond.methodLink "BeggarHeapsModel" (403 : Nat) ({ cls := "BeggarHeapsModel", name := "runsNow", desc := "()V" } : Jvm.MethodName)) ∈ lw_all := lw_g (lw_at lw_m9 123 rfl) rfl
theorem q2165 : (Jvm.Cond.privateMethod ({ cls := "BeggarHeapsModel", name := "runsNow", desc := "()V" } : Jvm.MethodName)) ∈ lw_tbl := lw_at lw_m9 124 rfl
theorem q2166 : (Jvm.Cond.instanceMethod ({ cls := "BeggarHeapsModel", name := "runsNow", desc := "()V" } : Jvm.MethodName)) ∈ lw_all := lw_g (lw_at lw_m9 125 rfl) rfl
theorem q2167 : (Jvm.Cond.code ({ cls := "BeggarHeapsModel", name := "runsNow", desc := "()V" } : Jvm.MethodName) prog_24_method_71_code (1 : Nat) (Option.none : Option Jvm.ClassFile.FieldType)) ∈ lw_all := lw_g (lw_at lw_m9 126 rfl) rfl
theorem q2168 : (Jvm.Cond.methodLink "BeggarHeapsModel" (400 : Nat) ({ cls := "BeggarHeapsModel", name := "runs", desc := "(II)V" } : Jvm.MethodName)) ∈ lw_all := lw_g (lw_at lw_m9 127 rfl) rfl
theorem q2169 : (Jvm.Cond.privateMethod ({ cls := "BeggarHeapsModel", name := "runs", desc := "(II)V" } : Jvm.MethodName)) ∈ lw_tbl := lw_at lw_m9 128 rfl
theorem q2170 : (Jvm.Cond.instanceMethod ({ cls := "BeggarHeapsModel", name := "runs", desc := "(II)V" } : Jvm.MethodName)) ∈ lw_all := lw_g (lw_at lw_m9 129 rfl) rfl
theorem q2171 : (Jvm.Cond.code ({ cls := "BeggarHeapsModel", name := "runs", desc := "(II)V" } : Jvm.MethodName) prog_24_method_70_code (8 : Nat) (Option.none : Option Jvm.ClassFile.FieldType)) ∈ lw_all := lw_g (lw_at lw_m9 130 rfl) rfl
theorem q2172 : (Jvm.Cond.methodLink "BeggarHeapsModel" (397 : Nat) ({ cls := "BeggarHeapsModel", name := "findKey", desc := "(III)I" } : Jvm.MethodName)) ∈ lw_all := lw_g (lw_at lw_m9 131 rfl) rfl
theorem q2173 : (Jvm.Cond.privateMethod ({ cls := "BeggarHeapsModel", name := "findKey", desc := "(III)I" } : Jvm.MethodName)) ∈ lw_tbl := lw_at lw_m9 132 rfl
theorem q2174 : (Jvm.Cond.instanceMethod ({ cls := "BeggarHeapsModel", name := "findKey", desc := "(III)I" } : Jvm.MethodName)) ∈ lw_all := lw_g (lw_at lw_m9 133 rfl) rfl
theorem q2175 : (Jvm.Cond.code ({ cls := "BeggarHeapsModel", name := "findKey", desc := "(III)I" } : Jvm.MethodName) prog_24_method_69_code (12 : Nat) (Option.some Jvm.ClassFile.FieldType.int)) ∈ lw_all := lw_g (lw_at lw_m9 134 rfl) rfl
theorem q2176 : (Jvm.Cond.methodLink "BeggarHeapsModel" (370 : Nat) ({ cls := "BeggarHeapsModel", name := "keyOf", desc := "(II)J" } : Jvm.MethodName)) ∈ lw_all := lw_g (lw_at lw_m9 135 rfl) rfl
theorem q2177 : (Jvm.Cond.privateMethod ({ cls := "BeggarHeapsModel", name := "keyOf", desc := "(II)J" } : Jvm.MethodName)) ∈ lw_tbl := lw_at lw_m9 136 rfl
theorem q2178 : (Jvm.Cond.instanceMethod ({ cls := "BeggarHeapsModel", name := "keyOf", desc := "(II)J" } : Jvm.MethodName)) ∈ lw_all := lw_g (lw_at lw_m9 137 rfl) rfl
theorem q2179 : (Jvm.Cond.code ({ cls := "BeggarHeapsModel", name := "keyOf", desc := "(II)J" } : Jvm.MethodName) prog_24_method_68_code (8 : Nat) (Option.some Jvm.ClassFile.FieldType.long)) ∈ lw_all := lw_g (lw_at lw_m9 138 rfl) rfl
theorem q2180 : (Jvm.Cond.constantLong "BeggarHeapsModel" (366 : Nat) (8 : Int64)) ∈ lw_all := lw_g (lw_at lw_m9 139 rfl) rfl
theorem q2181 : (Jvm.Cond.constantLong "BeggarHeapsModel" (368 : Nat) (128 : Int64)) ∈ lw_all := lw_g (lw_at lw_m9 140 rfl) rfl
theorem q2182 : (Jvm.Cond.constantLong "BeggarHeapsModel" (374 : Nat) (31 : Int64)) ∈ lw_all := lw_g (lw_at lw_m9 141 rfl) rfl
theorem q2183 : (Jvm.Cond.constantLong "BeggarHeapsModel" (376 : Nat) (17 : Int64)) ∈ lw_all := lw_g (lw_at lw_m9 142 rfl) rfl
theorem q2184 : (Jvm.Cond.constantLong "BeggarHeapsModel" (378 : Nat) (7 : Int64)) ∈ lw_all := lw_g (lw_at lw_m9 143 rfl) rfl
theorem q2185 : (Jvm.Cond.constantLong "BeggarHeapsModel" (380 : Nat) (1023 : Int64)) ∈ lw_all := lw_g (lw_at lw_m9 144 rfl) rfl
theorem q2187 : (Jvm.Cond.instanceMethod ({ cls := "BeggarHeapsModel", name := "all", desc := "(I)I" } : Jvm.MethodName)) ∈ lw_all := lw_g (lw_at lw_m9 146 rfl) rfl
theorem q2188 : (Jvm.Cond.selects "BeggarHeapsModel" ({ cls := "BeggarHeapsModel", name := "all", desc := "(I)I" } : Jvm.MethodName) ({ cls := "BeggarHeapsModel", name := "all", desc := "(I)I" } : Jvm.MethodName)) ∈ lw_all := lw_g (lw_at lw_m9 147 rfl) rfl
theorem q2189 : (Jvm.Cond.code ({ cls := "BeggarHeapsModel", name := "all", desc := "(I)I" } : Jvm.MethodName) prog_24_method_79_code (5 : Nat) (Option.some Jvm.ClassFile.FieldType.int)) ∈ lw_all := lw_g (lw_at lw_m9 148 rfl) rfl
theorem q2190 : (Jvm.Cond.methodLink "BeggarHeapsModel" (432 : Nat) ({ cls := "BeggarHeapsModel", name := "counts", desc := "()Z" } : Jvm.MethodName)) ∈ lw_all := lw_g (lw_at lw_m9 149 rfl) rfl
theorem q2191 : (Jvm.Cond.privateMethod ({ cls := "BeggarHeapsModel", name := "counts", desc := "()Z" } : Jvm.MethodName)) ∈ lw_tbl := lw_at lw_m9 150 rfl
theorem q2192 : (Jvm.Cond.instanceMethod ({ cls := "BeggarHeapsModel", name := "counts", desc := "()Z" } : Jvm.MethodName)) ∈ lw_all := lw_g (lw_at lw_m9 151 rfl) rfl
theorem q2193 : (Jvm.Cond.code ({ cls := "BeggarHeapsModel", name := "counts", desc := "()Z" } : Jvm.MethodName) prog_24_method_78_code (2 : Nat) (Option.some Jvm.ClassFile.FieldType.boolean)) ∈ lw_all := lw_g (lw_at lw_m9 152 rfl) rfl
theorem q2194 : (Jvm.Cond.methodLink "BeggarHeapsModel" (415 : Nat) ({ cls := "BeggarHeapsModel", name := "laysPack", desc := "()V" } : Jvm.MethodName)) ∈ lw_all := lw_g (lw_at lw_m9 153 rfl) rfl
theorem q2195 : (Jvm.Cond.privateMethod ({ cls := "BeggarHeapsModel", name := "laysPack", desc := "()V" } : Jvm.MethodName)) ∈ lw_tbl := lw_at lw_m9 154 rfl
theorem q2196 : (Jvm.Cond.instanceMethod ({ cls := "BeggarHeapsModel", name := "laysPack", desc := "()V" } : Jvm.MethodName)) ∈ lw_all := lw_g (lw_at lw_m9 155 rfl) rfl
theorem q2197 : (Jvm.Cond.code ({ cls := "BeggarHeapsModel", name := "laysPack", desc := "()V" } : Jvm.MethodName) prog_24_method_73_code (3 : Nat) (Option.none : Option Jvm.ClassFile.FieldType)) ∈ lw_all := lw_g (lw_at lw_m9 156 rfl) rfl
theorem q2198 : (Jvm.Cond.methodLink "BeggarHeapsModel" (418 : Nat) ({ cls := "BeggarHeapsModel", name := "rowsOf", desc := "([II)I" } : Jvm.MethodName)) ∈ lw_all := lw_g (lw_at lw_m9 157 rfl) rfl
theorem q2199 : (Jvm.Cond.privateMethod ({ cls := "BeggarHeapsModel", name := "rowsOf", desc := "([II)I" } : Jvm.MethodName)) ∈ lw_tbl := lw_at lw_m9 158 rfl
theorem q2200 : (Jvm.Cond.instanceMethod ({ cls := "BeggarHeapsModel", name := "rowsOf", desc := "([II)I" } : Jvm.MethodName)) ∈ lw_all := lw_g (lw_at lw_m9 159 rfl) rfl
theorem q2201 : (Jvm.Cond.code ({ cls := "BeggarHeapsModel", name := "rowsOf", desc := "([II)I" } : Jvm.MethodName) prog_24_method_74_code (8 : Nat) (Option.some Jvm.ClassFile.FieldType.int)) ∈ lw_all := lw_g (lw_at lw_m9 160 rfl) rfl
theorem q2202 : (Jvm.Cond.constantLong "BeggarHeapsModel" (409 : Nat) (20000 : Int64)) ∈ lw_all := lw_g (lw_at lw_m9 161 rfl) rfl
theorem q2203 : (Jvm.Cond.methodLink "BeggarHeapsModel" (425 : Nat) ({ cls := "BeggarHeapsModel", name := "dealsTrial", desc := "([III)V" } : Jvm.MethodName)) ∈ lw_all := lw_g (lw_at lw_m9 162 rfl) rfl
theorem q2204 : (Jvm.Cond.privateMethod ({ cls := "BeggarHeapsModel", name := "dealsTrial", desc := "([III)V" } : Jvm.MethodName)) ∈ lw_tbl := lw_at lw_m9 163 rfl
theorem q2205 : (Jvm.Cond.instanceMethod ({ cls := "BeggarHeapsModel", name := "dealsTrial", desc := "([III)V" } : Jvm.MethodName)) ∈ lw_all := lw_g (lw_at lw_m9 164 rfl) rfl
theorem q2206 : (Jvm.Cond.code ({ cls := "BeggarHeapsModel", name := "dealsTrial", desc := "([III)V" } : Jvm.MethodName) prog_24_method_77_code (7 : Nat) (Option.none : Option Jvm.ClassFile.FieldType)) ∈ lw_all := lw_g (lw_at lw_m9 165 rfl) rfl
theorem q2207 : (Jvm.Cond.methodLink "BeggarHeapsModel" (428 : Nat) ({ cls := "BeggarHeapsModel", name := "goesNext", desc := "([II)Z" } : Jvm.MethodName)) ∈ lw_all := lw_g (lw_at lw_m9 166 rfl) rfl
theorem q2208 : (Jvm.Cond.privateMethod ({ cls := "BeggarHeapsModel", name := "goesNext", desc := "([II)Z" } : Jvm.MethodName)) ∈ lw_tbl := lw_at lw_m9 167 rfl
theorem q2209 : (Jvm.Cond.instanceMethod ({ cls := "BeggarHeapsModel", name := "goesNext", desc := "([II)Z" } : Jvm.MethodName)) ∈ lw_all := lw_g (lw_at lw_m9 168 rfl) rfl
theorem q2210 : (Jvm.Cond.code ({ cls := "BeggarHeapsModel", name := "goesNext", desc := "([II)Z" } : Jvm.MethodName) prog_24_method_75_code (7 : Nat) (Option.some Jvm.ClassFile.FieldType.boolean)) ∈ lw_all := lw_g (lw_at lw_m9 169 rfl) rfl
theorem q2211 : (Jvm.Cond.methodLink "BeggarHeapsModel" (411 : Nat) ({ cls := "BeggarHeapsModel", name := "swaps", desc := "([III)V" } : Jvm.MethodName)) ∈ lw_all := lw_g (lw_at lw_m9 170 rfl) rfl
theorem q2212 : (Jvm.Cond.static ({ cls := "BeggarHeapsModel", name := "swaps", desc := "([III)V" } : Jvm.MethodName)) ∈ lw_all := lw_g (lw_at lw_m9 171 rfl) rfl
theorem q2213 : (Jvm.Cond.code ({ cls := "BeggarHeapsModel", name := "swaps", desc := "([III)V" } : Jvm.MethodName) prog_24_method_76_code (4 : Nat) (Option.none : Option Jvm.ClassFile.FieldType)) ∈ lw_all := lw_g (lw_at lw_m9 172 rfl) rfl
theorem q2215 : (Jvm.Cond.instanceMethod ({ cls := "BeggarHeapsModel", name := "row", desc := "(II)I" } : Jvm.MethodName)) ∈ lw_all := lw_g (lw_at lw_m9 174 rfl) rfl
theorem q2216 : (Jvm.Cond.selects "BeggarHeapsModel" ({ cls := "BeggarHeapsModel", name := "row", desc := "(II)I" } : Jvm.MethodName) ({ cls := "BeggarHeapsModel", name := "row", desc := "(II)I" } : Jvm.MethodName)) ∈ lw_all := lw_g (lw_at lw_m9 175 rfl) rfl
theorem q2217 : (Jvm.Cond.code ({ cls := "BeggarHeapsModel", name := "row", desc := "(II)I" } : Jvm.MethodName) prog_24_method_80_code (4 : Nat) (Option.some Jvm.ClassFile.FieldType.int)) ∈ lw_all := lw_g (lw_at lw_m9 176 rfl) rfl
theorem q2219 : (Jvm.Cond.instanceMethod ({ cls := "BeggarHeapsModel", name := "beginner", desc := "(I)I" } : Jvm.MethodName)) ∈ lw_all := lw_g (lw_at lw_m9 178 rfl) rfl
theorem q2220 : (Jvm.Cond.selects "BeggarHeapsModel" ({ cls := "BeggarHeapsModel", name := "beginner", desc := "(I)I" } : Jvm.MethodName) ({ cls := "BeggarHeapsModel", name := "beginner", desc := "(I)I" } : Jvm.MethodName)) ∈ lw_all := lw_g (lw_at lw_m9 179 rfl) rfl
theorem q2221 : (Jvm.Cond.code ({ cls := "BeggarHeapsModel", name := "beginner", desc := "(I)I" } : Jvm.MethodName) prog_24_method_81_code (7 : Nat) (Option.some Jvm.ClassFile.FieldType.int)) ∈ lw_all := lw_g (lw_at lw_m9 180 rfl) rfl
theorem q2223 : (Jvm.Cond.instanceMethod ({ cls := "BeggarHeapsModel", name := "worth", desc := "(II)I" } : Jvm.MethodName)) ∈ lw_all := lw_g (lw_at lw_m9 182 rfl) rfl
theorem q2224 : (Jvm.Cond.selects "BeggarHeapsModel" ({ cls := "BeggarHeapsModel", name := "worth", desc := "(II)I" } : Jvm.MethodName) ({ cls := "BeggarHeapsModel", name := "worth", desc := "(II)I" } : Jvm.MethodName)) ∈ lw_all := lw_g (lw_at lw_m9 183 rfl) rfl
theorem q2225 : (Jvm.Cond.code ({ cls := "BeggarHeapsModel", name := "worth", desc := "(II)I" } : Jvm.MethodName) prog_24_method_82_code (9 : Nat) (Option.some Jvm.ClassFile.FieldType.int)) ∈ lw_all := lw_g (lw_at lw_m9 184 rfl) rfl
theorem q2227 : (Jvm.Cond.instanceMethod ({ cls := "BeggarHeapsModel", name := "leads", desc := "(II)I" } : Jvm.MethodName)) ∈ lw_all := lw_g (lw_at lw_m9 186 rfl) rfl
theorem q2228 : (Jvm.Cond.selects "BeggarHeapsModel" ({ cls := "BeggarHeapsModel", name := "leads", desc := "(II)I" } : Jvm.MethodName) ({ cls := "BeggarHeapsModel", name := "leads", desc := "(II)I" } : Jvm.MethodName)) ∈ lw_all := lw_g (lw_at lw_m9 187 rfl) rfl
theorem q2229 : (Jvm.Cond.code ({ cls := "BeggarHeapsModel", name := "leads", desc := "(II)I" } : Jvm.MethodName) prog_24_method_84_code (8 : Nat) (Option.some Jvm.ClassFile.FieldType.int)) ∈ lw_all := lw_g (lw_at lw_m9 188 rfl) rfl
theorem q2230 : (Jvm.Cond.methodLink "BeggarHeapsModel" (435 : Nat) ({ cls := "BeggarHeapsModel", name := "paysIn", desc := "(II)I" } : Jvm.MethodName)) ∈ lw_all := lw_g (lw_at lw_m9 189 rfl) rfl
theorem q2231 : (Jvm.Cond.privateMethod ({ cls := "BeggarHeapsModel", name := "paysIn", desc := "(II)I" } : Jvm.MethodName)) ∈ lw_tbl := lw_at lw_m9 190 rfl
theorem q2232 : (Jvm.Cond.instanceMethod ({ cls := "BeggarHeapsModel", name := "paysIn", desc := "(II)I" } : Jvm.MethodName)) ∈ lw_all := lw_g (lw_at lw_m9 191 rfl) rfl
theorem q2233 : (Jvm.Cond.code ({ cls := "BeggarHeapsModel", name := "paysIn", desc := "(II)I" } : Jvm.MethodName) prog_24_method_83_code (5 : Nat) (Option.some Jvm.ClassFile.FieldType.int)) ∈ lw_all := lw_g (lw_at lw_m9 192 rfl) rfl
theorem q2235 : (Jvm.Cond.instanceMethod ({ cls := "BeggarHeapsModel", name := "laws", desc := "(III)I" } : Jvm.MethodName)) ∈ lw_all := lw_g (lw_at lw_m9 194 rfl) rfl
theorem q2236 : (Jvm.Cond.selects "BeggarHeapsModel" ({ cls := "BeggarHeapsModel", name := "laws", desc := "(III)I" } : Jvm.MethodName) ({ cls := "BeggarHeapsModel", name := "laws", desc := "(III)I" } : Jvm.MethodName)) ∈ lw_all := lw_g (lw_at lw_m9 195 rfl) rfl
theorem q2237 : (Jvm.Cond.code ({ cls := "BeggarHeapsModel", name := "laws", desc := "(III)I" } : Jvm.MethodName) prog_24_method_85_code (10 : Nat) (Option.some Jvm.ClassFile.FieldType.int)) ∈ lw_all := lw_g (lw_at lw_m9 196 rfl) rfl
theorem q2239 : (Jvm.Cond.instanceMethod ({ cls := "BeggarHeapsModel", name := "unseen", desc := "(I)I" } : Jvm.MethodName)) ∈ lw_all := lw_g (lw_at lw_m9 198 rfl) rfl
theorem q2240 : (Jvm.Cond.selects "BeggarHeapsModel" ({ cls := "BeggarHeapsModel", name := "unseen", desc := "(I)I" } : Jvm.MethodName) ({ cls := "BeggarHeapsModel", name := "unseen", desc := "(I)I" } : Jvm.MethodName)) ∈ lw_all := lw_g (lw_at lw_m9 199 rfl) rfl
theorem q2241 : (Jvm.Cond.code ({ cls := "BeggarHeapsModel", name := "unseen", desc := "(I)I" } : Jvm.MethodName) prog_24_method_87_code (4 : Nat) (Option.some Jvm.ClassFile.FieldType.int)) ∈ lw_all := lw_g (lw_at lw_m9 200 rfl) rfl
theorem q2243 : (Jvm.Cond.instanceMethod ({ cls := "BeggarHeapsModel", name := "odds", desc := "(I)I" } : Jvm.MethodName)) ∈ lw_all := lw_g (lw_at lw_m9 202 rfl) rfl
theorem q2244 : (Jvm.Cond.selects "BeggarHeapsModel" ({ cls := "BeggarHeapsModel", name := "odds", desc := "(I)I" } : Jvm.MethodName) ({ cls := "BeggarHeapsModel", name := "odds", desc := "(I)I" } : Jvm.MethodName)) ∈ lw_all := lw_g (lw_at lw_m9 203 rfl) rfl
theorem q2245 : (Jvm.Cond.code ({ cls := "BeggarHeapsModel", name := "odds", desc := "(I)I" } : Jvm.MethodName) prog_24_method_89_code (2 : Nat) (Option.some Jvm.ClassFile.FieldType.int)) ∈ lw_all := lw_g (lw_at lw_m9 204 rfl) rfl
theorem q2246 : (Jvm.Cond.methodLink "BeggarHeapsModel" (453 : Nat) ({ cls := "BeggarHeapsModel", name := "findOdds", desc := "()Z" } : Jvm.MethodName)) ∈ lw_all := lw_g (lw_at lw_m9 205 rfl) rfl
theorem q2247 : (Jvm.Cond.privateMethod ({ cls := "BeggarHeapsModel", name := "findOdds", desc := "()Z" } : Jvm.MethodName)) ∈ lw_tbl := lw_at lw_m9 206 rfl
theorem q2248 : (Jvm.Cond.instanceMethod ({ cls := "BeggarHeapsModel", name := "findOdds", desc := "()Z" } : Jvm.MethodName)) ∈ lw_all := lw_g (lw_at lw_m9 207 rfl) rfl
theorem q2249 : (Jvm.Cond.code ({ cls := "BeggarHeapsModel", name := "findOdds", desc := "()Z" } : Jvm.MethodName) prog_24_method_88_code (3 : Nat) (Option.some Jvm.ClassFile.FieldType.boolean)) ∈ lw_all := lw_g (lw_at lw_m9 208 rfl) rfl
theorem q2250 : (Jvm.Cond.methodLink "BeggarHeapsModel" (441 : Nat) ({ cls := "BeggarHeapsModel", name := "findHidden", desc := "()V" } : Jvm.MethodName)) ∈ lw_all := lw_g (lw_at lw_m9 209 rfl) rfl
theorem q2251 : (Jvm.Cond.privateMethod ({ cls := "BeggarHeapsModel", name := "findHidden", desc := "()V" } : Jvm.MethodName)) ∈ lw_tbl := lw_at lw_m9 210 rfl
theorem q2252 : (Jvm.Cond.instanceMethod ({ cls := "BeggarHeapsModel", name := "findHidden", desc := "()V" } : Jvm.MethodName)) ∈ lw_all := lw_g (lw_at lw_m9 211 rfl) rfl
theorem q2253 : (Jvm.Cond.code ({ cls := "BeggarHeapsModel", name := "findHidden", desc := "()V" } : Jvm.MethodName) prog_24_method_86_code (4 : Nat) (Option.none : Option Jvm.ClassFile.FieldType)) ∈ lw_all := lw_g (lw_at lw_m9 212 rfl) rfl
theorem q2255 : (Jvm.Cond.instanceMethod ({ cls := "BeggarHeapsModel", name := "offer", desc := "()I" } : Jvm.MethodName)) ∈ lw_all := lw_g (lw_at lw_m9 214 rfl) rfl
theorem q2256 : (Jvm.Cond.selects "BeggarHeapsModel" ({ cls := "BeggarHeapsModel", name := "offer", desc := "()I" } : Jvm.MethodName) ({ cls := "BeggarHeapsModel", name := "offer", desc := "()I" } : Jvm.MethodName)) ∈ lw_all := lw_g (lw_at lw_m9 215 rfl) rfl
theorem q2257 : (Jvm.Cond.code ({ cls := "BeggarHeapsModel", name := "offer", desc := "()I" } : Jvm.MethodName) prog_24_method_91_code (1 : Nat) (Option.some Jvm.ClassFile.FieldType.int)) ∈ lw_all := lw_g (lw_at lw_m9 216 rfl) rfl
theorem q2258 : (Jvm.Cond.methodLink "BeggarHeapsModel" (459 : Nat) ({ cls := "BeggarHeapsModel", name := "offerNow", desc := "()I" } : Jvm.MethodName)) ∈ lw_all := lw_g (lw_at lw_m9 217 rfl) rfl
theorem q2259 : (Jvm.Cond.privateMethod ({ cls := "BeggarHeapsModel", name := "offerNow", desc := "()I" } : Jvm.MethodName)) ∈ lw_tbl := lw_at lw_m9 218 rfl
theorem q2260 : (Jvm.Cond.instanceMethod ({ cls := "BeggarHeapsModel", name := "offerNow", desc := "()I" } : Jvm.MethodName)) ∈ lw_all := lw_g (lw_at lw_m9 219 rfl) rfl
theorem q2261 : (Jvm.Cond.code ({ cls := "BeggarHeapsModel", name := "offerNow", desc := "()I" } : Jvm.MethodName) prog_24_method_90_code (2 : Nat) (Option.some Jvm.ClassFile.FieldType.int)) ∈ lw_all := lw_g (lw_at lw_m9 220 rfl) rfl
theorem q2262 : (Jvm.Cond.methodLink "BeggarHeapsModel" (456 : Nat) ({ cls := "BeggarHeapsModel", name := "worthAt", desc := "(I)I" } : Jvm.MethodName)) ∈ lw_all := lw_g (lw_at lw_m9 221 rfl) rfl
theorem q2263 : (Jvm.Cond.privateMethod ({ cls := "BeggarHeapsModel", name := "worthAt", desc := "(I)I" } : Jvm.MethodName)) ∈ lw_tbl := lw_at lw_m9 222 rfl
theorem q2264 : (Jvm.Cond.instanceMethod ({ cls := "BeggarHeapsModel", name := "worthAt", desc := "(I)I" } : Jvm.MethodName)) ∈ lw_all := lw_g (lw_at lw_m9 223 rfl) rfl
theorem q2265 : (Jvm.Cond.code ({ cls := "BeggarHeapsModel", name := "worthAt", desc := "(I)I" } : Jvm.MethodName) prog_24_method_41_code (5 : Nat) (Option.some Jvm.ClassFile.FieldType.int)) ∈ lw_all := lw_g (lw_at lw_m9 224 rfl) rfl
theorem q2266 : (Jvm.Cond.methodLink "BeggarHeapsModel" (304 : Nat) ({ cls := "BeggarHeapsModel", name := "both", desc := "(III)I" } : Jvm.MethodName)) ∈ lw_all := lw_g (lw_at lw_m9 225 rfl) rfl
theorem q2267 : (Jvm.Cond.static ({ cls := "BeggarHeapsModel", name := "both", desc := "(III)I" } : Jvm.MethodName)) ∈ lw_all := lw_g (lw_at lw_m9 226 rfl) rfl
theorem q2268 : (Jvm.Cond.code ({ cls := "BeggarHeapsModel", name := "both", desc := "(III)I" } : Jvm.MethodName) prog_24_method_42_code (3 : Nat) (Option.some Jvm.ClassFile.FieldType.int)) ∈ lw_all := lw_g (lw_at lw_m9 227 rfl) rfl
theorem q2270 : (Jvm.Cond.instanceMethod ({ cls := "BeggarHeapsModel", name := "bet", desc := "(II)I" } : Jvm.MethodName)) ∈ lw_all := lw_g (lw_at lw_m9 229 rfl) rfl
theorem q2271 : (Jvm.Cond.selects "BeggarHeapsModel" ({ cls := "BeggarHeapsModel", name := "bet", desc := "(II)I" } : Jvm.MethodName) ({ cls := "BeggarHeapsModel", name := "bet", desc := "(II)I" } : Jvm.MethodName)) ∈ lw_all := lw_g (lw_at lw_m9 230 rfl) rfl
theorem q2272 : (Jvm.Cond.code ({ cls := "BeggarHeapsModel", name := "bet", desc := "(II)I" } : Jvm.MethodName) prog_24_method_92_code (4 : Nat) (Option.some Jvm.ClassFile.FieldType.int)) ∈ lw_all := lw_g (lw_at lw_m9 231 rfl) rfl
theorem q2274 : (Jvm.Cond.instanceMethod ({ cls := "BeggarHeapsModel", name := "take", desc := "(I)I" } : Jvm.MethodName)) ∈ lw_all := lw_g (lw_at lw_m9 233 rfl) rfl
theorem q2275 : (Jvm.Cond.selects "BeggarHeapsModel" ({ cls := "BeggarHeapsModel", name := "take", desc := "(I)I" } : Jvm.MethodName) ({ cls := "BeggarHeapsModel", name := "take", desc := "(I)I" } : Jvm.MethodName)) ∈ lw_all := lw_g (lw_at lw_m9 234 rfl) rfl
theorem q2276 : (Jvm.Cond.code ({ cls := "BeggarHeapsModel", name := "take", desc := "(I)I" } : Jvm.MethodName) prog_24_method_93_code (3 : Nat) (Option.some Jvm.ClassFile.FieldType.int)) ∈ lw_all := lw_g (lw_at lw_m9 235 rfl) rfl
theorem q2278 : (Jvm.Cond.instanceMethod ({ cls := "BeggarHeapsModel", name := "choice", desc := "(II)I" } : Jvm.MethodName)) ∈ lw_all := lw_g (lw_at lw_m9 237 rfl) rfl
theorem q2279 : (Jvm.Cond.selects "BeggarHeapsModel" ({ cls := "BeggarHeapsModel", name := "choice", desc := "(II)I" } : Jvm.MethodName) ({ cls := "BeggarHeapsModel", name := "choice", desc := "(II)I" } : Jvm.MethodName)) ∈ lw_all := lw_g (lw_at lw_m9 238 rfl) rfl
theorem q2280 : (Jvm.Cond.code ({ cls := "BeggarHeapsModel", name := "choice", desc := "(II)I" } : Jvm.MethodName) prog_24_method_97_code (4 : Nat) (Option.some Jvm.ClassFile.FieldType.int)) ∈ lw_all := lw_g (lw_at lw_m9 239 rfl) rfl
theorem q2281 : (Jvm.Cond.methodLink "BeggarHeapsModel" (471 : Nat) ({ cls := "BeggarHeapsModel", name := "findChoice", desc := "(I)I" } : Jvm.MethodName)) ∈ lw_all := lw_g (lw_at lw_m10 0 rfl) rfl
theorem q2282 : (Jvm.Cond.privateMethod ({ cls := "BeggarHeapsModel", name := "findChoice", desc := "(I)I" } : Jvm.MethodName)) ∈ lw_tbl := lw_at lw_m10 1 rfl
theorem q2283 : (Jvm.Cond.instanceMethod ({ cls := "BeggarHeapsModel", name := "findChoice", desc := "(I)I" } : Jvm.MethodName)) ∈ lw_all := lw_g (lw_at lw_m10 2 rfl) rfl
theorem q2284 : (Jvm.Cond.code ({ cls := "BeggarHeapsModel", name := "findChoice", desc := "(I)I" } : Jvm.MethodName) prog_24_method_96_code (3 : Nat) (Option.some Jvm.ClassFile.FieldType.int)) ∈ lw_all := lw_g (lw_at lw_m10 3 rfl) rfl
theorem q2285 : (Jvm.Cond.methodLink "BeggarHeapsModel" (468 : Nat) ({ cls := "BeggarHeapsModel", name := "canWin", desc := "(III)Z" } : Jvm.MethodName)) ∈ lw_all := lw_g (lw_at lw_m10 4 rfl) rfl
theorem q2286 : (Jvm.Cond.privateMethod ({ cls := "BeggarHeapsModel", name := "canWin", desc := "(III)Z" } : Jvm.MethodName)) ∈ lw_tbl := lw_at lw_m10 5 rfl
theorem q2287 : (Jvm.Cond.instanceMethod ({ cls := "BeggarHeapsModel", name := "canWin", desc := "(III)Z" } : Jvm.MethodName)) ∈ lw_all := lw_g (lw_at lw_m10 6 rfl) rfl
theorem q2288 : (Jvm.Cond.code ({ cls := "BeggarHeapsModel", name := "canWin", desc := "(III)Z" } : Jvm.MethodName) prog_24_method_95_code (6 : Nat) (Option.some Jvm.ClassFile.FieldType.boolean)) ∈ lw_all := lw_g (lw_at lw_m10 7 rfl) rfl
theorem q2289 : (Jvm.Cond.methodLink "BeggarHeapsModel" (462 : Nat) ({ cls := "BeggarHeapsModel", name := "goesToHeap", desc := "(I)Z" } : Jvm.MethodName)) ∈ lw_all := lw_g (lw_at lw_m10 8 rfl) rfl
theorem q2290 : (Jvm.Cond.privateMethod ({ cls := "BeggarHeapsModel", name := "goesToHeap", desc := "(I)Z" } : Jvm.MethodName)) ∈ lw_tbl := lw_at lw_m10 9 rfl
theorem q2291 : (Jvm.Cond.instanceMethod ({ cls := "BeggarHeapsModel", name := "goesToHeap", desc := "(I)Z" } : Jvm.MethodName)) ∈ lw_all := lw_g (lw_at lw_m10 10 rfl) rfl
theorem q2292 : (Jvm.Cond.code ({ cls := "BeggarHeapsModel", name := "goesToHeap", desc := "(I)Z" } : Jvm.MethodName) prog_24_method_94_code (3 : Nat) (Option.some Jvm.ClassFile.FieldType.boolean)) ∈ lw_all := lw_g (lw_at lw_m10 11 rfl) rfl
theorem q2294 : (Jvm.Cond.instanceMethod ({ cls := "BeggarHeapsModel", name := "both", desc := "(I)I" } : Jvm.MethodName)) ∈ lw_all := lw_g (lw_at lw_m10 13 rfl) rfl
theorem q2295 : (Jvm.Cond.selects "BeggarHeapsModel" ({ cls := "BeggarHeapsModel", name := "both", desc := "(I)I" } : Jvm.MethodName) ({ cls := "BeggarHeapsModel", name := "both", desc := "(I)I" } : Jvm.MethodName)) ∈ lw_all := lw_g (lw_at lw_m10 14 rfl) rfl
theorem q2296 : (Jvm.Cond.code ({ cls := "BeggarHeapsModel", name := "both", desc := "(I)I" } : Jvm.MethodName) prog_24_method_99_code (2 : Nat) (Option.some Jvm.ClassFile.FieldType.int)) ∈ lw_all := lw_g (lw_at lw_m10 15 rfl) rfl
theorem q2297 : (Jvm.Cond.methodLink "BeggarHeapsModel" (474 : Nat) ({ cls := "BeggarHeapsModel", name := "mustWin", desc := "(II)Z" } : Jvm.MethodName)) ∈ lw_all := lw_g (lw_at lw_m10 16 rfl) rfl
theorem q2298 : (Jvm.Cond.privateMethod ({ cls := "BeggarHeapsModel", name := "mustWin", desc := "(II)Z" } : Jvm.MethodName)) ∈ lw_tbl := lw_at lw_m10 17 rfl
theorem q2299 : (Jvm.Cond.instanceMethod ({ cls := "BeggarHeapsModel", name := "mustWin", desc := "(II)Z" } : Jvm.MethodName)) ∈ lw_all := lw_g (lw_at lw_m10 18 rfl) rfl
theorem q2300 : (Jvm.Cond.code ({ cls := "BeggarHeapsModel", name := "mustWin", desc := "(II)Z" } : Jvm.MethodName) prog_24_method_98_code (6 : Nat) (Option.some Jvm.ClassFile.FieldType.boolean)) ∈ lw_all := lw_g (lw_at lw_m10 19 rfl) rfl
theorem q2302 : (Jvm.Cond.instanceMethod ({ cls := "BeggarHeapsModel", name := "opening", desc := "(I)I" } : Jvm.MethodName)) ∈ lw_all := lw_g (lw_at lw_m10 21 rfl) rfl
theorem q2303 : (Jvm.Cond.selects "BeggarHeapsModel" ({ cls := "BeggarHeapsModel", name := "opening", desc := "(I)I" } : Jvm.MethodName) ({ cls := "BeggarHeapsModel", name := "opening", desc := "(I)I" } : Jvm.MethodName)) ∈ lw_all := lw_g (lw_at lw_m10 22 rfl) rfl
theorem q2304 : (Jvm.Cond.code ({ cls := "BeggarHeapsModel", name := "opening", desc := "(I)I" } : Jvm.MethodName) prog_24_method_101_code (5 : Nat) (Option.some Jvm.ClassFile.FieldType.int)) ∈ lw_all := lw_g (lw_at lw_m10 23 rfl) rfl
theorem q2305 : (Jvm.Cond.methodLink "BeggarHeapsModel" (478 : Nat) ({ cls := "BeggarHeapsModel", name := "fitsOpening", desc := "(I)Z" } : Jvm.MethodName)) ∈ lw_all := lw_g (lw_at lw_m10 24 rfl) rfl
theorem q2306 : (Jvm.Cond.privateMethod ({ cls := "BeggarHeapsModel", name := "fitsOpening", desc := "(I)Z" } : Jvm.MethodName)) ∈ lw_tbl := lw_at lw_m10 25 rfl
theorem q2307 : (Jvm.Cond.instanceMethod ({ cls := "BeggarHeapsModel", name := "fitsOpening", desc := "(I)Z" } : Jvm.MethodName)) ∈ lw_all := lw_g (lw_at lw_m10 26 rfl) rfl
theorem q2308 : (Jvm.Cond.code ({ cls := "BeggarHeapsModel", name := "fitsOpening", desc := "(I)Z" } : Jvm.MethodName) prog_24_method_100_code (6 : Nat) (Option.some Jvm.ClassFile.FieldType.boolean)) ∈ lw_all := lw_g (lw_at lw_m10 27 rfl) rfl
theorem q2310 : (Jvm.Cond.instanceMethod ({ cls := "BeggarHeapsModel", name := "comes", desc := "(I)I" } : Jvm.MethodName)) ∈ lw_all := lw_g (lw_at lw_m10 29 rfl) rfl
theorem q2311 : (Jvm.Cond.selects "BeggarHeapsModel" ({ cls := "BeggarHeapsModel", name := "comes", desc := "(I)I" } : Jvm.MethodName) ({ cls := "BeggarHeapsModel", name := "comes", desc := "(I)I" } : Jvm.MethodName)) ∈ lw_all := lw_g (lw_at lw_m10 30 rfl) rfl
theorem q2312 : (Jvm.Cond.code ({ cls := "BeggarHeapsModel", name := "comes", desc := "(I)I" } : Jvm.MethodName) prog_24_method_102_code (2 : Nat) (Option.some Jvm.ClassFile.FieldType.int)) ∈ lw_all := lw_g (lw_at lw_m10 31 rfl) rfl
theorem q2314 : (Jvm.Cond.instanceMethod ({ cls := "BeggarHeapsModel", name := "orders", desc := "()I" } : Jvm.MethodName)) ∈ lw_all := lw_g (lw_at lw_m10 33 rfl) rfl
theorem q2315 : (Jvm.Cond.selects "BeggarHeapsModel" ({ cls := "BeggarHeapsModel", name := "orders", desc := "()I" } : Jvm.MethodName) ({ cls := "BeggarHeapsModel", name := "orders", desc := "()I" } : Jvm.MethodName)) ∈ lw_all := lw_g (lw_at lw_m10 34 rfl) rfl
theorem q2316 : (Jvm.Cond.code ({ cls := "BeggarHeapsModel", name := "orders", desc := "()I" } : Jvm.MethodName) prog_24_method_103_code (5 : Nat) (Option.some Jvm.ClassFile.FieldType.int)) ∈ lw_all := lw_g (lw_at lw_m10 35 rfl) rfl
theorem q2318 : (Jvm.Cond.instanceMethod ({ cls := "BeggarHeapsModel", name := "clear", desc := "()Z" } : Jvm.MethodName)) ∈ lw_all := lw_g (lw_at lw_m10 37 rfl) rfl
theorem q2319 : (Jvm.Cond.selects "BeggarHeapsModel" ({ cls := "BeggarHeapsModel", name := "clear", desc := "()Z" } : Jvm.MethodName) ({ cls := "BeggarHeapsModel", name := "clear", desc := "()Z" } : Jvm.MethodName)) ∈ lw_all := lw_g (lw_at lw_m10 38 rfl) rfl
theorem q2320 : (Jvm.Cond.code ({ cls := "BeggarHeapsModel", name := "clear", desc := "()Z" } : Jvm.MethodName) prog_24_method_104_code (1 : Nat) (Option.some Jvm.ClassFile.FieldType.boolean)) ∈ lw_all := lw_g (lw_at lw_m10 39 rfl) rfl
theorem q2322 : (Jvm.Cond.instanceMethod ({ cls := "BeggarHeapsModel", name := "drawn", desc := "(I)Z" } : Jvm.MethodName)) ∈ lw_all := lw_g (lw_at lw_m10 41 rfl) rfl
theorem q2323 : (Jvm.Cond.selects "BeggarHeapsModel" ({ cls := "BeggarHeapsModel", name := "drawn", desc := "(I)Z" } : Jvm.MethodName) ({ cls := "BeggarHeapsModel", name := "drawn", desc := "(I)Z" } : Jvm.MethodName)) ∈ lw_all := lw_g (lw_at lw_m10 42 rfl) rfl
theorem q2324 : (Jvm.Cond.code ({ cls := "BeggarHeapsModel", name := "drawn", desc := "(I)Z" } : Jvm.MethodName) prog_24_method_107_code (4 : Nat) (Option.some Jvm.ClassFile.FieldType.boolean)) ∈ lw_all := lw_g (lw_at lw_m10 43 rfl) rfl
theorem q2325 : (Jvm.Cond.methodLink "BeggarHeapsModel" (496 : Nat) ({ cls := "BeggarHeapsModel", name := "drawsPack", desc := "()V" } : Jvm.MethodName)) ∈ lw_all := lw_g (lw_at lw_m10 44 rfl) rfl
theorem q2326 : (Jvm.Cond.privateMethod ({ cls := "BeggarHeapsModel", name := "drawsPack", desc := "()V" } : Jvm.MethodName)) ∈ lw_tbl := lw_at lw_m10 45 rfl
theorem q2327 : (Jvm.Cond.instanceMethod ({ cls := "BeggarHeapsModel", name := "drawsPack", desc := "()V" } : Jvm.MethodName)) ∈ lw_all := lw_g (lw_at lw_m10 46 rfl) rfl
theorem q2328 : (Jvm.Cond.code ({ cls := "BeggarHeapsModel", name := "drawsPack", desc := "()V" } : Jvm.MethodName) prog_24_method_106_code (2 : Nat) (Option.none : Option Jvm.ClassFile.FieldType)) ∈ lw_all := lw_g (lw_at lw_m10 47 rfl) rfl
theorem q2329 : (Jvm.Cond.methodLink "BeggarHeapsModel" (493 : Nat) ({ cls := "BeggarHeapsModel", name := "draw", desc := "(I)I" } : Jvm.MethodName)) ∈ lw_all := lw_g (lw_at lw_m10 48 rfl) rfl
theorem q2330 : (Jvm.Cond.privateMethod ({ cls := "BeggarHeapsModel", name := "draw", desc := "(I)I" } : Jvm.MethodName)) ∈ lw_tbl := lw_at lw_m10 49 rfl
theorem q2331 : (Jvm.Cond.instanceMethod ({ cls := "BeggarHeapsModel", name := "draw", desc := "(I)I" } : Jvm.MethodName)) ∈ lw_all := lw_g (lw_at lw_m10 50 rfl) rfl
theorem q2332 : (Jvm.Cond.code ({ cls := "BeggarHeapsModel", name := "draw", desc := "(I)I" } : Jvm.MethodName) prog_24_method_105_code (2 : Nat) (Option.some Jvm.ClassFile.FieldType.int)) ∈ lw_all := lw_g (lw_at lw_m10 51 rfl) rfl
theorem q2333 : (Jvm.Cond.constantLong "BeggarHeapsModel" (485 : Nat) (1103515245 : Int64)) ∈ lw_all := lw_g (lw_at lw_m10 52 rfl) rfl
theorem q2334 : (Jvm.Cond.constantLong "BeggarHeapsModel" (487 : Nat) (12345 : Int64)) ∈ lw_all := lw_g (lw_at lw_m10 53 rfl) rfl
theorem q2335 : (Jvm.Cond.constantLong "BeggarHeapsModel" (489 : Nat) (2147483648 : Int64)) ∈ lw_all := lw_g (lw_at lw_m10 54 rfl) rfl
theorem q2336 : (Jvm.Cond.constantLong "BeggarHeapsModel" (491 : Nat) (65536 : Int64)) ∈ lw_all := lw_g (lw_at lw_m10 55 rfl) rfl
theorem q2338 : (Jvm.Cond.instanceMethod ({ cls := "BeggarHeapsModel", name := "games", desc := "(III)I" } : Jvm.MethodName)) ∈ lw_all := lw_g (lw_at lw_m10 57 rfl) rfl
theorem q2339 : (Jvm.Cond.selects "BeggarHeapsModel" ({ cls := "BeggarHeapsModel", name := "games", desc := "(III)I" } : Jvm.MethodName) ({ cls := "BeggarHeapsModel", name := "games", desc := "(III)I" } : Jvm.MethodName)) ∈ lw_all := lw_g (lw_at lw_m10 58 rfl) rfl
theorem q2340 : (Jvm.Cond.code ({ cls := "BeggarHeapsModel", name := "games", desc := "(III)I" } : Jvm.MethodName) prog_24_method_109_code (7 : Nat) (Option.some Jvm.ClassFile.FieldType.int)) ∈ lw_all := lw_g (lw_at lw_m10 59 rfl) rfl
theorem q2341 : (Jvm.Cond.methodLink "BeggarHeapsModel" (499 : Nat) ({ cls := "BeggarHeapsModel", name := "runsDrawn", desc := "()V" } : Jvm.MethodName)) ∈ lw_all := lw_g (lw_at lw_m10 60 rfl) rfl
theorem q2342 : (Jvm.Cond.privateMethod ({ cls := "BeggarHeapsModel", name := "runsDrawn", desc := "()V" } : Jvm.MethodName)) ∈ lw_tbl := lw_at lw_m10 61 rfl
theorem q2343 : (Jvm.Cond.instanceMethod ({ cls := "BeggarHeapsModel", name := "runsDrawn", desc := "()V" } : Jvm.MethodName)) ∈ lw_all := lw_g (lw_at lw_m10 62 rfl) rfl
theorem q2344 : (Jvm.Cond.code ({ cls := "BeggarHeapsModel", name := "runsDrawn", desc := "()V" } : Jvm.MethodName) prog_24_method_108_code (1 : Nat) (Option.none : Option Jvm.ClassFile.FieldType)) ∈ lw_all := lw_g (lw_at lw_m10 63 rfl) rfl
theorem q2346 : (Jvm.Cond.instanceMethod ({ cls := "BeggarHeapsModel", name := "looked", desc := "(III)I" } : Jvm.MethodName)) ∈ lw_all := lw_g (lw_at lw_m10 65 rfl) rfl
theorem q2347 : (Jvm.Cond.selects "BeggarHeapsModel" ({ cls := "BeggarHeapsModel", name := "looked", desc := "(III)I" } : Jvm.MethodName) ({ cls := "BeggarHeapsModel", name := "looked", desc := "(III)I" } : Jvm.MethodName)) ∈ lw_all := lw_g (lw_at lw_m10 66 rfl) rfl
theorem q2348 : (Jvm.Cond.code ({ cls := "BeggarHeapsModel", name := "looked", desc := "(III)I" } : Jvm.MethodName) prog_24_method_110_code (5 : Nat) (Option.some Jvm.ClassFile.FieldType.int)) ∈ lw_all := lw_g (lw_at lw_m10 67 rfl) rfl
theorem q2350 : (Jvm.Cond.instanceMethod ({ cls := "BeggarHeapsModel", name := "mark", desc := "(IZ)Z" } : Jvm.MethodName)) ∈ lw_all := lw_g (lw_at lw_m10 69 rfl) rfl
theorem q2351 : (Jvm.Cond.selects "BeggarHeapsModel" ({ cls := "BeggarHeapsModel", name := "mark", desc := "(IZ)Z" } : Jvm.MethodName) ({ cls := "BeggarHeapsModel", name := "mark", desc := "(IZ)Z" } : Jvm.MethodName)) ∈ lw_all := lw_g (lw_at lw_m10 70 rfl) rfl
theorem q2352 : (Jvm.Cond.code ({ cls := "BeggarHeapsModel", name := "mark", desc := "(IZ)Z" } : Jvm.MethodName) prog_24_method_111_code (3 : Nat) (Option.some Jvm.ClassFile.FieldType.boolean)) ∈ lw_all := lw_g (lw_at lw_m10 71 rfl) rfl
theorem q2354 : (Jvm.Cond.instanceMethod ({ cls := "BeggarHeapsModel", name := "count", desc := "(I)I" } : Jvm.MethodName)) ∈ lw_all := lw_g (lw_at lw_m10 73 rfl) rfl
theorem q2355 : (Jvm.Cond.selects "BeggarHeapsModel" ({ cls := "BeggarHeapsModel", name := "count", desc := "(I)I" } : Jvm.MethodName) ({ cls := "BeggarHeapsModel", name := "count", desc := "(I)I" } : Jvm.MethodName)) ∈ lw_all := lw_g (lw_at lw_m10 74 rfl) rfl
theorem q2356 : (Jvm.Cond.code ({ cls := "BeggarHeapsModel", name := "count", desc := "(I)I" } : Jvm.MethodName) prog_24_method_112_code (2 : Nat) (Option.some Jvm.ClassFile.FieldType.int)) ∈ lw_all := lw_g (lw_at lw_m10 75 rfl) rfl
theorem q2378 : (Jvm.Cond.castable "BeggarHeapsModel" "java/lang/Object") ∈ lw_tbl := lw_at lw_m10 97 rfl
theorem in_X13 : ∀ w ∈ wsX130, w ∈ lw_all := lw_in wsX130 [1814, 1816, 1818, 1820, 1822, 1824, 1826, 1828, 1830, 1832, 1834, 1836, 1838, 1840, 1842, 1844, 1846, 1848, 1850, 1852, 1854, 1856, 1858, 1860, 1862, 1864, 1866, 1868, 1870, 1872, 1874, 1876, 1878, 1880, 1882, 1884, 1886, 1888, 1890, 1892, 1894, 1896, 1898, 1900, 1902, 1904, 1906, 1908, 1910, 1912, 1914, 1916, 1918, 1920, 1922, 1924] (by decide +kernel) (by decide +kernel)
