/-! BeggarHeapsLaw -/
set_option maxRecDepth 100000
def RX0 : String := "BeggarHeapsLaw"
abbrev cX0_orders : ByteArray := method_3_code
def yX0_orders : MethodName := ⟨RX0, "orders", "(LBeggarHeaps;[J)I"⟩
def dkwX0_orders_0 : List UInt8 := [43, 3, 42, 182, 0, 7, 133, 80, 167, 0, 6, 77, 4, 172, 3, 172]
abbrev dktX0_orders_0 : List UInt8 := dkwX0_orders_0 ++ []
theorem dksX0_orders_0 : cX0_orders.data.toList.drop 0 = dktX0_orders_0 := by decide +kernel
theorem dX0_orders_0 : decode cX0_orders 0 = .ok (.aload_n 1, 1) := dk_43 (dk_at dksX0_orders_0 0 rfl rfl)
theorem dX0_orders_1 : decode cX0_orders 1 = .ok (.iconst 0, 1) := dk_3 (dk_at dksX0_orders_0 1 rfl rfl)
theorem dX0_orders_2 : decode cX0_orders 2 = .ok (.aload_n 0, 1) := dk_42 (dk_at dksX0_orders_0 2 rfl rfl)
theorem dX0_orders_3 : decode cX0_orders 3 = .ok (.invokevirtual 7, 3) := dk_182 0 7 (dk_at dksX0_orders_0 3 rfl rfl)
theorem dX0_orders_6 : decode cX0_orders 6 = .ok (.i2l, 1) := dk_133 (dk_at dksX0_orders_0 6 rfl rfl)
theorem dX0_orders_7 : decode cX0_orders 7 = .ok (.lastore, 1) := dk_80 (dk_at dksX0_orders_0 7 rfl rfl)
theorem dX0_orders_8 : decode cX0_orders 8 = .ok (.goto 6, 3) := dk_167 0 6 (dk_at dksX0_orders_0 8 rfl rfl)
theorem dX0_orders_11 : decode cX0_orders 11 = .ok (.astore_n 2, 1) := dk_77 (dk_at dksX0_orders_0 11 rfl rfl)
theorem dX0_orders_12 : decode cX0_orders 12 = .ok (.iconst 1, 1) := dk_4 (dk_at dksX0_orders_0 12 rfl rfl)
theorem dX0_orders_13 : decode cX0_orders 13 = .ok (.ireturn, 1) := dk_172 (dk_at dksX0_orders_0 13 rfl rfl)
theorem dX0_orders_14 : decode cX0_orders 14 = .ok (.iconst 0, 1) := dk_3 (dk_at dksX0_orders_0 14 rfl rfl)
theorem dX0_orders_15 : decode cX0_orders 15 = .ok (.ireturn, 1) := dk_172 (dk_at dksX0_orders_0 15 rfl rfl)
theorem q121 : (Jvm.Cond.initialized "BeggarHeapsLaw") ∈ lw_all := lw_g (lw_at lw_m1 0 rfl) rfl
theorem q164 : (Jvm.Cond.classLink "BeggarHeapsLaw" (8 : Nat) "BeggarHeaps") ∈ lw_all := lw_g (lw_at lw_m1 43 rfl) rfl
theorem q166 : (Jvm.Cond.methodLink "BeggarHeapsLaw" (15 : Nat) ({ cls := "BeggarHeaps", name := "<init>", desc := "()V" } : Jvm.MethodName)) ∈ lw_all := lw_g (lw_at lw_m1 45 rfl) rfl
theorem q576 : (Jvm.Cond.methodLink "BeggarHeapsLaw" (21 : Nat) ({ cls := "BeggarHeaps", name := "feed", desc := "(JJJ)I" } : Jvm.MethodName)) ∈ lw_all := lw_g (lw_at lw_m2 215 rfl) rfl
theorem q580 : (Jvm.Cond.methodLink "BeggarHeapsLaw" (26 : Nat) ({ cls := "BeggarHeaps", name := "table", desc := "()I" } : Jvm.MethodName)) ∈ lw_all := lw_g (lw_at lw_m2 219 rfl) rfl
theorem q1188 : (Jvm.Cond.methodLink "BeggarHeapsLaw" (30 : Nat) ({ cls := "BeggarHeaps", name := "deal", desc := "()I" } : Jvm.MethodName)) ∈ lw_all := lw_g (lw_at lw_m5 107 rfl) rfl
theorem q1207 : (Jvm.Cond.methodLink "BeggarHeapsLaw" (34 : Nat) ({ cls := "BeggarHeaps", name := "book", desc := "()I" } : Jvm.MethodName)) ∈ lw_all := lw_g (lw_at lw_m5 126 rfl) rfl
theorem q1242 : (Jvm.Cond.methodLink "BeggarHeapsLaw" (70 : Nat) ({ cls := "BeggarHeaps", name := "again", desc := "()Z" } : Jvm.MethodName)) ∈ lw_all := lw_g (lw_at lw_m5 161 rfl) rfl
theorem q1246 : (Jvm.Cond.methodLink "BeggarHeapsLaw" (38 : Nat) ({ cls := "BeggarHeaps", name := "kind", desc := "(II)I" } : Jvm.MethodName)) ∈ lw_all := lw_g (lw_at lw_m5 165 rfl) rfl
theorem q1270 : (Jvm.Cond.methodLink "BeggarHeapsLaw" (43 : Nat) ({ cls := "BeggarHeaps", name := "card", desc := "(II)I" } : Jvm.MethodName)) ∈ lw_all := lw_g (lw_at lw_m5 189 rfl) rfl
theorem q1277 : (Jvm.Cond.methodLink "BeggarHeapsLaw" (47 : Nat) ({ cls := "BeggarHeaps", name := "heap", desc := "(I)I" } : Jvm.MethodName)) ∈ lw_all := lw_g (lw_at lw_m5 196 rfl) rfl
theorem q1281 : (Jvm.Cond.methodLink "BeggarHeapsLaw" (52 : Nat) ({ cls := "BeggarHeaps", name := "taken", desc := "(II)I" } : Jvm.MethodName)) ∈ lw_all := lw_g (lw_at lw_m5 200 rfl) rfl
theorem q1287 : (Jvm.Cond.methodLink "BeggarHeapsLaw" (56 : Nat) ({ cls := "BeggarHeaps", name := "turn", desc := "(I)I" } : Jvm.MethodName)) ∈ lw_all := lw_g (lw_at lw_m5 206 rfl) rfl
theorem q1396 : (Jvm.Cond.methodLink "BeggarHeapsLaw" (60 : Nat) ({ cls := "BeggarHeaps", name := "slip", desc := "(I)Z" } : Jvm.MethodName)) ∈ lw_all := lw_g (lw_at lw_m6 75 rfl) rfl
theorem q1402 : (Jvm.Cond.methodLink "BeggarHeapsLaw" (65 : Nat) ({ cls := "BeggarHeaps", name := "undo", desc := "()Z" } : Jvm.MethodName)) ∈ lw_all := lw_g (lw_at lw_m6 81 rfl) rfl
theorem q1406 : (Jvm.Cond.methodLink "BeggarHeapsLaw" (74 : Nat) ({ cls := "BeggarHeaps", name := "ends", desc := "(I)I" } : Jvm.MethodName)) ∈ lw_all := lw_g (lw_at lw_m6 85 rfl) rfl
theorem q1445 : (Jvm.Cond.methodLink "BeggarHeapsLaw" (78 : Nat) ({ cls := "BeggarHeaps", name := "all", desc := "(I)I" } : Jvm.MethodName)) ∈ lw_all := lw_g (lw_at lw_m6 124 rfl) rfl
theorem q1473 : (Jvm.Cond.methodLink "BeggarHeapsLaw" (82 : Nat) ({ cls := "BeggarHeaps", name := "row", desc := "(II)I" } : Jvm.MethodName)) ∈ lw_all := lw_g (lw_at lw_m6 152 rfl) rfl
theorem q1477 : (Jvm.Cond.methodLink "BeggarHeapsLaw" (86 : Nat) ({ cls := "BeggarHeaps", name := "beginner", desc := "(I)I" } : Jvm.MethodName)) ∈ lw_all := lw_g (lw_at lw_m6 156 rfl) rfl
theorem q1481 : (Jvm.Cond.methodLink "BeggarHeapsLaw" (90 : Nat) ({ cls := "BeggarHeaps", name := "worth", desc := "(II)I" } : Jvm.MethodName)) ∈ lw_all := lw_g (lw_at lw_m6 160 rfl) rfl
theorem q1485 : (Jvm.Cond.methodLink "BeggarHeapsLaw" (94 : Nat) ({ cls := "BeggarHeaps", name := "leads", desc := "(II)I" } : Jvm.MethodName)) ∈ lw_all := lw_g (lw_at lw_m6 164 rfl) rfl
theorem q1503 : (Jvm.Cond.methodLink "BeggarHeapsLaw" (98 : Nat) ({ cls := "BeggarHeaps", name := "laws", desc := "(III)I" } : Jvm.MethodName)) ∈ lw_all := lw_g (lw_at lw_m6 182 rfl) rfl
theorem q1511 : (Jvm.Cond.methodLink "BeggarHeapsLaw" (103 : Nat) ({ cls := "BeggarHeaps", name := "unseen", desc := "(I)I" } : Jvm.MethodName)) ∈ lw_all := lw_g (lw_at lw_m6 190 rfl) rfl
theorem q1519 : (Jvm.Cond.methodLink "BeggarHeapsLaw" (107 : Nat) ({ cls := "BeggarHeaps", name := "odds", desc := "(I)I" } : Jvm.MethodName)) ∈ lw_all := lw_g (lw_at lw_m6 198 rfl) rfl
theorem q1527 : (Jvm.Cond.methodLink "BeggarHeapsLaw" (111 : Nat) ({ cls := "BeggarHeaps", name := "offer", desc := "()I" } : Jvm.MethodName)) ∈ lw_all := lw_g (lw_at lw_m6 206 rfl) rfl
theorem q1550 : (Jvm.Cond.methodLink "BeggarHeapsLaw" (115 : Nat) ({ cls := "BeggarHeaps", name := "bet", desc := "(II)I" } : Jvm.MethodName)) ∈ lw_all := lw_g (lw_at lw_m6 229 rfl) rfl
theorem q1573 : (Jvm.Cond.methodLink "BeggarHeapsLaw" (119 : Nat) ({ cls := "BeggarHeaps", name := "take", desc := "(I)I" } : Jvm.MethodName)) ∈ lw_all := lw_g (lw_at lw_m7 12 rfl) rfl
theorem q1577 : (Jvm.Cond.methodLink "BeggarHeapsLaw" (123 : Nat) ({ cls := "BeggarHeaps", name := "choice", desc := "(II)I" } : Jvm.MethodName)) ∈ lw_all := lw_g (lw_at lw_m7 16 rfl) rfl
theorem q1593 : (Jvm.Cond.methodLink "BeggarHeapsLaw" (127 : Nat) ({ cls := "BeggarHeaps", name := "both", desc := "(I)I" } : Jvm.MethodName)) ∈ lw_all := lw_g (lw_at lw_m7 32 rfl) rfl
theorem q1601 : (Jvm.Cond.methodLink "BeggarHeapsLaw" (131 : Nat) ({ cls := "BeggarHeaps", name := "opening", desc := "(I)I" } : Jvm.MethodName)) ∈ lw_all := lw_g (lw_at lw_m7 40 rfl) rfl
theorem q1609 : (Jvm.Cond.methodLink "BeggarHeapsLaw" (135 : Nat) ({ cls := "BeggarHeaps", name := "comes", desc := "(I)I" } : Jvm.MethodName)) ∈ lw_all := lw_g (lw_at lw_m7 48 rfl) rfl
theorem q1613 : (Jvm.Cond.methodLink "BeggarHeapsLaw" (148 : Nat) ({ cls := "BeggarHeaps", name := "clear", desc := "()Z" } : Jvm.MethodName)) ∈ lw_all := lw_g (lw_at lw_m7 52 rfl) rfl
theorem q1617 : (Jvm.Cond.methodLink "BeggarHeapsLaw" (152 : Nat) ({ cls := "BeggarHeaps", name := "drawn", desc := "(I)Z" } : Jvm.MethodName)) ∈ lw_all := lw_g (lw_at lw_m7 56 rfl) rfl
theorem q1634 : (Jvm.Cond.methodLink "BeggarHeapsLaw" (156 : Nat) ({ cls := "BeggarHeaps", name := "games", desc := "(III)I" } : Jvm.MethodName)) ∈ lw_all := lw_g (lw_at lw_m7 73 rfl) rfl
theorem q1638 : (Jvm.Cond.methodLink "BeggarHeapsLaw" (160 : Nat) ({ cls := "BeggarHeaps", name := "looked", desc := "(III)I" } : Jvm.MethodName)) ∈ lw_all := lw_g (lw_at lw_m7 77 rfl) rfl
theorem q1642 : (Jvm.Cond.methodLink "BeggarHeapsLaw" (164 : Nat) ({ cls := "BeggarHeaps", name := "mark", desc := "(IZ)Z" } : Jvm.MethodName)) ∈ lw_all := lw_g (lw_at lw_m7 81 rfl) rfl
theorem q1671 : (Jvm.Cond.methodLink "BeggarHeapsLaw" (169 : Nat) ({ cls := "BeggarHeaps", name := "count", desc := "(I)I" } : Jvm.MethodName)) ∈ lw_all := lw_g (lw_at lw_m7 110 rfl) rfl
theorem q1675 : (Jvm.Cond.methodLink "BeggarHeapsLaw" (139 : Nat) ({ cls := "BeggarHeapsLaw", name := "orders", desc := "(LBeggarHeaps;[J)I" } : Jvm.MethodName)) ∈ lw_all := lw_g (lw_at lw_m7 114 rfl) rfl
theorem q1676 : (Jvm.Cond.static ({ cls := "BeggarHeapsLaw", name := "orders", desc := "(LBeggarHeaps;[J)I" } : Jvm.MethodName)) ∈ lw_all := lw_g (lw_at lw_m7 115 rfl) rfl
theorem q1677 : (Jvm.Cond.codeWith ({ cls := "BeggarHeapsLaw", name := "orders", desc := "(LBeggarHeaps;[J)I" } : Jvm.MethodName) method_3_code (3 : Nat) (Option.some Jvm.ClassFile.FieldType.int) [((0 : Nat), (8 : Nat), (11 : Nat), (13 : Nat))]) ∈ lw_all := lw_g (lw_at lw_m7 116 rfl) rfl
theorem q1678 : (Jvm.Cond.classLink "BeggarHeapsLaw" (13 : Nat) "java/util/NoSuchElementException") ∈ lw_all := lw_g (lw_at lw_m7 117 rfl) rfl
theorem q1679 : (Jvm.Cond.methodLink "BeggarHeapsLaw" (7 : Nat) ({ cls := "BeggarHeaps", name := "orders", desc := "()I" } : Jvm.MethodName)) ∈ lw_all := lw_g (lw_at lw_m7 118 rfl) rfl
theorem q1708 : (Jvm.Cond.methodLink "BeggarHeapsLaw" (145 : Nat) ({ cls := "BeggarHeapsModel", name := "thrown", desc := "()I" } : Jvm.MethodName)) ∈ lw_all := lw_g (lw_at lw_m7 147 rfl) rfl
theorem q1712 : (Jvm.Cond.methodLink "BeggarHeapsLaw" (25 : Nat) ({ cls := "BeggarHeapsModel", name := "feed", desc := "(JJJ)I" } : Jvm.MethodName)) ∈ lw_all := lw_g (lw_at lw_m7 151 rfl) rfl
theorem q1721 : (Jvm.Cond.classLink "BeggarHeapsLaw" (16 : Nat) "BeggarHeapsModel") ∈ lw_all := lw_g (lw_at lw_m7 160 rfl) rfl
theorem q1722 : (Jvm.Cond.methodLink "BeggarHeapsLaw" (18 : Nat) ({ cls := "BeggarHeapsModel", name := "<init>", desc := "()V" } : Jvm.MethodName)) ∈ lw_all := lw_g (lw_at lw_m7 161 rfl) rfl
theorem q1927 : (Jvm.Cond.methodLink "BeggarHeapsLaw" (29 : Nat) ({ cls := "BeggarHeapsModel", name := "table", desc := "()I" } : Jvm.MethodName)) ∈ lw_all := lw_g (lw_at lw_m8 126 rfl) rfl
theorem q2042 : (Jvm.Cond.methodLink "BeggarHeapsLaw" (33 : Nat) ({ cls := "BeggarHeapsModel", name := "deal", desc := "()I" } : Jvm.MethodName)) ∈ lw_all := lw_g (lw_at lw_m9 1 rfl) rfl
theorem q2054 : (Jvm.Cond.methodLink "BeggarHeapsLaw" (37 : Nat) ({ cls := "BeggarHeapsModel", name := "book", desc := "()I" } : Jvm.MethodName)) ∈ lw_all := lw_g (lw_at lw_m9 13 rfl) rfl
theorem q2062 : (Jvm.Cond.methodLink "BeggarHeapsLaw" (42 : Nat) ({ cls := "BeggarHeapsModel", name := "kind", desc := "(II)I" } : Jvm.MethodName)) ∈ lw_all := lw_g (lw_at lw_m9 21 rfl) rfl
theorem q2081 : (Jvm.Cond.methodLink "BeggarHeapsLaw" (46 : Nat) ({ cls := "BeggarHeapsModel", name := "card", desc := "(II)I" } : Jvm.MethodName)) ∈ lw_all := lw_g (lw_at lw_m9 40 rfl) rfl
theorem q2088 : (Jvm.Cond.methodLink "BeggarHeapsLaw" (51 : Nat) ({ cls := "BeggarHeapsModel", name := "heap", desc := "(I)I" } : Jvm.MethodName)) ∈ lw_all := lw_g (lw_at lw_m9 47 rfl) rfl
theorem q2092 : (Jvm.Cond.methodLink "BeggarHeapsLaw" (55 : Nat) ({ cls := "BeggarHeapsModel", name := "taken", desc := "(II)I" } : Jvm.MethodName)) ∈ lw_all := lw_g (lw_at lw_m9 51 rfl) rfl
theorem q2096 : (Jvm.Cond.methodLink "BeggarHeapsLaw" (59 : Nat) ({ cls := "BeggarHeapsModel", name := "turn", desc := "(I)I" } : Jvm.MethodName)) ∈ lw_all := lw_g (lw_at lw_m9 55 rfl) rfl
theorem q2148 : (Jvm.Cond.methodLink "BeggarHeapsLaw" (64 : Nat) ({ cls := "BeggarHeapsModel", name := "slip", desc := "(I)Z" } : Jvm.MethodName)) ∈ lw_all := lw_g (lw_at lw_m9 107 rfl) rfl
theorem q2152 : (Jvm.Cond.methodLink "BeggarHeapsLaw" (69 : Nat) ({ cls := "BeggarHeapsModel", name := "undo", desc := "()Z" } : Jvm.MethodName)) ∈ lw_all := lw_g (lw_at lw_m9 111 rfl) rfl
theorem q2156 : (Jvm.Cond.methodLink "BeggarHeapsLaw" (73 : Nat) ({ cls := "BeggarHeapsModel", name := "again", desc := "()Z" } : Jvm.MethodName)) ∈ lw_all := lw_g (lw_at lw_m9 115 rfl) rfl
theorem q2160 : (Jvm.Cond.methodLink "BeggarHeapsLaw" (77 : Nat) ({ cls := "BeggarHeapsModel", name := "ends", desc := "(I)I" } : Jvm.MethodName)) ∈ lw_all := lw_g (lw_at lw_m9 119 rfl) rfl
theorem q2186 : (Jvm.Cond.methodLink "BeggarHeapsLaw" (81 : Nat) ({ cls := "BeggarHeapsModel", name := "all", desc := "(I)I" } : Jvm.MethodName)) ∈ lw_all := lw_g (lw_at lw_m9 145 rfl) rfl
theorem q2214 : (Jvm.Cond.methodLink "BeggarHeapsLaw" (85 : Nat) ({ cls := "BeggarHeapsModel", name := "row", desc := "(II)I" } : Jvm.MethodName)) ∈ lw_all := lw_g (lw_at lw_m9 173 rfl) rfl
theorem q2218 : (Jvm.Cond.methodLink "BeggarHeapsLaw" (89 : Nat) ({ cls := "BeggarHeapsModel", name := "beginner", desc := "(I)I" } : Jvm.MethodName)) ∈ lw_all := lw_g (lw_at lw_m9 177 rfl) rfl
theorem q2222 : (Jvm.Cond.methodLink "BeggarHeapsLaw" (93 : Nat) ({ cls := "BeggarHeapsModel", name := "worth", desc := "(II)I" } : Jvm.MethodName)) ∈ lw_all := lw_g (lw_at lw_m9 181 rfl) rfl
theorem q2226 : (Jvm.Cond.methodLink "BeggarHeapsLaw" (97 : Nat) ({ cls := "BeggarHeapsModel", name := "leads", desc := "(II)I" } : Jvm.MethodName)) ∈ lw_all := lw_g (lw_at lw_m9 185 rfl) rfl
theorem q2234 : (Jvm.Cond.methodLink "BeggarHeapsLaw" (102 : Nat) ({ cls := "BeggarHeapsModel", name := "laws", desc := "(III)I" } : Jvm.MethodName)) ∈ lw_all := lw_g (lw_at lw_m9 193 rfl) rfl
theorem q2238 : (Jvm.Cond.methodLink "BeggarHeapsLaw" (106 : Nat) ({ cls := "BeggarHeapsModel", name := "unseen", desc := "(I)I" } : Jvm.MethodName)) ∈ lw_all := lw_g (lw_at lw_m9 197 rfl) rfl
theorem q2242 : (Jvm.Cond.methodLink "BeggarHeapsLaw" (110 : Nat) ({ cls := "BeggarHeapsModel", name := "odds", desc := "(I)I" } : Jvm.MethodName)) ∈ lw_all := lw_g (lw_at lw_m9 201 rfl) rfl
theorem q2254 : (Jvm.Cond.methodLink "BeggarHeapsLaw" (114 : Nat) ({ cls := "BeggarHeapsModel", name := "offer", desc := "()I" } : Jvm.MethodName)) ∈ lw_all := lw_g (lw_at lw_m9 213 rfl) rfl
theorem q2269 : (Jvm.Cond.methodLink "BeggarHeapsLaw" (118 : Nat) ({ cls := "BeggarHeapsModel", name := "bet", desc := "(II)I" } : Jvm.MethodName)) ∈ lw_all := lw_g (lw_at lw_m9 228 rfl) rfl
theorem q2273 : (Jvm.Cond.methodLink "BeggarHeapsLaw" (122 : Nat) ({ cls := "BeggarHeapsModel", name := "take", desc := "(I)I" } : Jvm.MethodName)) ∈ lw_all := lw_g (lw_at lw_m9 232 rfl) rfl
theorem q2277 : (Jvm.Cond.methodLink "BeggarHeapsLaw" (126 : Nat) ({ cls := "BeggarHeapsModel", name := "choice", desc := "(II)I" } : Jvm.MethodName)) ∈ lw_all := lw_g (lw_at lw_m9 236 rfl) rfl
theorem q2293 : (Jvm.Cond.methodLink "BeggarHeapsLaw" (130 : Nat) ({ cls := "BeggarHeapsModel", name := "both", desc := "(I)I" } : Jvm.MethodName)) ∈ lw_all := lw_g (lw_at lw_m10 12 rfl) rfl
theorem q2301 : (Jvm.Cond.methodLink "BeggarHeapsLaw" (134 : Nat) ({ cls := "BeggarHeapsModel", name := "opening", desc := "(I)I" } : Jvm.MethodName)) ∈ lw_all := lw_g (lw_at lw_m10 20 rfl) rfl
theorem q2309 : (Jvm.Cond.methodLink "BeggarHeapsLaw" (138 : Nat) ({ cls := "BeggarHeapsModel", name := "comes", desc := "(I)I" } : Jvm.MethodName)) ∈ lw_all := lw_g (lw_at lw_m10 28 rfl) rfl
theorem q2313 : (Jvm.Cond.methodLink "BeggarHeapsLaw" (144 : Nat) ({ cls := "BeggarHeapsModel", name := "orders", desc := "()I" } : Jvm.MethodName)) ∈ lw_all := lw_g (lw_at lw_m10 32 rfl) rfl
theorem q2317 : (Jvm.Cond.methodLink "BeggarHeapsLaw" (151 : Nat) ({ cls := "BeggarHeapsModel", name := "clear", desc := "()Z" } : Jvm.MethodName)) ∈ lw_all := lw_g (lw_at lw_m10 36 rfl) rfl
theorem q2321 : (Jvm.Cond.methodLink "BeggarHeapsLaw" (155 : Nat) ({ cls := "BeggarHeapsModel", name := "drawn", desc := "(I)Z" } : Jvm.MethodName)) ∈ lw_all := lw_g (lw_at lw_m10 40 rfl) rfl
theorem q2337 : (Jvm.Cond.methodLink "BeggarHeapsLaw" (159 : Nat) ({ cls := "BeggarHeapsModel", name := "games", desc := "(III)I" } : Jvm.MethodName)) ∈ lw_all := lw_g (lw_at lw_m10 56 rfl) rfl
theorem q2345 : (Jvm.Cond.methodLink "BeggarHeapsLaw" (163 : Nat) ({ cls := "BeggarHeapsModel", name := "looked", desc := "(III)I" } : Jvm.MethodName)) ∈ lw_all := lw_g (lw_at lw_m10 64 rfl) rfl
theorem q2349 : (Jvm.Cond.methodLink "BeggarHeapsLaw" (168 : Nat) ({ cls := "BeggarHeapsModel", name := "mark", desc := "(IZ)Z" } : Jvm.MethodName)) ∈ lw_all := lw_g (lw_at lw_m10 68 rfl) rfl
theorem q2353 : (Jvm.Cond.methodLink "BeggarHeapsLaw" (172 : Nat) ({ cls := "BeggarHeapsModel", name := "count", desc := "(I)I" } : Jvm.MethodName)) ∈ lw_all := lw_g (lw_at lw_m10 72 rfl) rfl
theorem q2357 : (Jvm.Cond.constantLong "BeggarHeapsLaw" (19 : Nat) (4294967295 : Int64)) ∈ lw_all := lw_g (lw_at lw_m10 76 rfl) rfl

/-! BeggarHeaps$Table -/
set_option maxRecDepth 100000
def RX10 : String := "BeggarHeaps$Table"
def TX10 : u_T := fun k => match k with
  | 0 => ("BeggarHeaps$Table", "kinds", "Ljava/util/ArrayList;", true)
  | 1 => ("BeggarHeaps$Table", "pays", "[I", true)
  | 2 => ("BeggarHeaps$Table", "pack", "[I", true)
  | 3 => ("BeggarHeaps$Table", "order", "I", false)
  | 4 => ("BeggarHeaps$Table", "first", "I", false)
  | 5 => ("BeggarHeaps$Table", "limit", "I", false)
  | _ => ("BeggarHeaps$Table", "bet", "LBeggarHeaps$Expression;", false)
def tyX10 : Nat → FieldType := fun k => match k with
  | 0 => .object "java/util/ArrayList"
  | 1 => .array .int
  | 2 => .array .int
  | 3 => .int
  | 4 => .int
  | 5 => .int
  | _ => .object "BeggarHeaps$Expression"
abbrev wsX100 : List Cond := u_ws RX10 TX10 7
theorem nmX10 : ∀ a, a < 7 → ∀ b, b < 7 → a ≠ b → (TX10 a).2.1 ≠ (TX10 b).2.1 := by decide +kernel
theorem tyX10_ok : ∀ k, k < 7 → parseFieldDescriptor (TX10 k).2.2.1 = some (tyX10 k) := by decide +kernel
abbrev cX10_init : ByteArray := prog_19_method_1_code
def yX10_init : MethodName := ⟨RX10, "<init>", "()V"⟩
def dkwX10_init_1 : List UInt8 := [42, 16, 8, 188, 10, 181, 0, 24, 42, 2, 181, 0, 27, 42, 2, 181, 0, 31, 42, 2, 181, 0, 34, 177]
abbrev dktX10_init_1 : List UInt8 := dkwX10_init_1 ++ []
def dkwX10_init_0 : List UInt8 := [42, 183, 0, 3, 42, 187, 0, 9, 89, 7, 183, 0, 11, 181, 0, 14, 42, 16, 8, 188, 10, 181, 0, 20]
abbrev dktX10_init_0 : List UInt8 := dkwX10_init_0 ++ dktX10_init_1
theorem dksX10_init_0 : cX10_init.data.toList.drop 0 = dktX10_init_0 := by decide +kernel
theorem dksX10_init_1 : cX10_init.data.toList.drop 24 = dktX10_init_1 := dk_seg dksX10_init_0 24 rfl rfl
theorem dX10_init_0 : decode cX10_init 0 = .ok (.aload_n 0, 1) := dk_42 (dk_at dksX10_init_0 0 rfl rfl)
theorem dX10_init_1 : decode cX10_init 1 = .ok (.invokespecial 3, 3) := dk_183 0 3 (dk_at dksX10_init_0 1 rfl rfl)
theorem dX10_init_4 : decode cX10_init 4 = .ok (.aload_n 0, 1) := dk_42 (dk_at dksX10_init_0 4 rfl rfl)
theorem dX10_init_5 : decode cX10_init 5 = .ok (.new 9, 3) := dk_187 0 9 (dk_at dksX10_init_0 5 rfl rfl)
theorem dX10_init_8 : decode cX10_init 8 = .ok (.dup, 1) := dk_89 (dk_at dksX10_init_0 8 rfl rfl)
theorem dX10_init_9 : decode cX10_init 9 = .ok (.iconst 4, 1) := dk_7 (dk_at dksX10_init_0 9 rfl rfl)
theorem dX10_init_10 : decode cX10_init 10 = .ok (.invokespecial 11, 3) := dk_183 0 11 (dk_at dksX10_init_0 10 rfl rfl)
theorem dX10_init_13 : decode cX10_init 13 = .ok (.putfield 14, 3) := dk_181 0 14 (dk_at dksX10_init_0 13 rfl rfl)
theorem dX10_init_16 : decode cX10_init 16 = .ok (.aload_n 0, 1) := dk_42 (dk_at dksX10_init_0 16 rfl rfl)
theorem dX10_init_17 : decode cX10_init 17 = .ok (.bipush 8, 2) := dk_16 8 (dk_at dksX10_init_0 17 rfl rfl)
theorem dX10_init_19 : decode cX10_init 19 = .ok (.newarray .int, 2) := dk_188_10 (dk_at dksX10_init_0 19 rfl rfl)
theorem dX10_init_21 : decode cX10_init 21 = .ok (.putfield 20, 3) := dk_181 0 20 (dk_at dksX10_init_0 21 rfl rfl)
theorem dX10_init_24 : decode cX10_init 24 = .ok (.aload_n 0, 1) := dk_42 (dk_at dksX10_init_1 0 rfl rfl)
theorem dX10_init_25 : decode cX10_init 25 = .ok (.bipush 8, 2) := dk_16 8 (dk_at dksX10_init_1 1 rfl rfl)
theorem dX10_init_27 : decode cX10_init 27 = .ok (.newarray .int, 2) := dk_188_10 (dk_at dksX10_init_1 3 rfl rfl)
theorem dX10_init_29 : decode cX10_init 29 = .ok (.putfield 24, 3) := dk_181 0 24 (dk_at dksX10_init_1 5 rfl rfl)
theorem dX10_init_32 : decode cX10_init 32 = .ok (.aload_n 0, 1) := dk_42 (dk_at dksX10_init_1 8 rfl rfl)
theorem dX10_init_33 : decode cX10_init 33 = .ok (.iconst (-1), 1) := dk_2 (dk_at dksX10_init_1 9 rfl rfl)
theorem dX10_init_34 : decode cX10_init 34 = .ok (.putfield 27, 3) := dk_181 0 27 (dk_at dksX10_init_1 10 rfl rfl)
theorem dX10_init_37 : decode cX10_init 37 = .ok (.aload_n 0, 1) := dk_42 (dk_at dksX10_init_1 13 rfl rfl)
theorem dX10_init_38 : decode cX10_init 38 = .ok (.iconst (-1), 1) := dk_2 (dk_at dksX10_init_1 14 rfl rfl)
theorem dX10_init_39 : decode cX10_init 39 = .ok (.putfield 31, 3) := dk_181 0 31 (dk_at dksX10_init_1 15 rfl rfl)
theorem dX10_init_42 : decode cX10_init 42 = .ok (.aload_n 0, 1) := dk_42 (dk_at dksX10_init_1 18 rfl rfl)
theorem dX10_init_43 : decode cX10_init 43 = .ok (.iconst (-1), 1) := dk_2 (dk_at dksX10_init_1 19 rfl rfl)
theorem dX10_init_44 : decode cX10_init 44 = .ok (.putfield 34, 3) := dk_181 0 34 (dk_at dksX10_init_1 20 rfl rfl)
theorem dX10_init_47 : decode cX10_init 47 = .ok (.return_, 1) := dk_177 (dk_at dksX10_init_1 23 rfl rfl)
abbrev cX10_kind : ByteArray := prog_19_method_2_code
def yX10_kind : MethodName := ⟨RX10, "kind", "(Ljava/lang/String;)I"⟩
def dkwX10_kind_1 : List UInt8 := [43, 182, 0, 47, 153, 0, 5, 28, 172, 132, 2, 1, 167, 255, 222, 2, 172]
abbrev dktX10_kind_1 : List UInt8 := dkwX10_kind_1 ++ []
def dkwX10_kind_0 : List UInt8 := [3, 61, 28, 42, 180, 0, 14, 182, 0, 37, 162, 0, 29, 42, 180, 0, 14, 28, 182, 0, 41, 192, 0, 45]
abbrev dktX10_kind_0 : List UInt8 := dkwX10_kind_0 ++ dktX10_kind_1
theorem dksX10_kind_0 : cX10_kind.data.toList.drop 0 = dktX10_kind_0 := by decide +kernel
theorem dksX10_kind_1 : cX10_kind.data.toList.drop 24 = dktX10_kind_1 := dk_seg dksX10_kind_0 24 rfl rfl
theorem dX10_kind_0 : decode cX10_kind 0 = .ok (.iconst 0, 1) := dk_3 (dk_at dksX10_kind_0 0 rfl rfl)
theorem dX10_kind_1 : decode cX10_kind 1 = .ok (.istore_n 2, 1) := dk_61 (dk_at dksX10_kind_0 1 rfl rfl)
theorem dX10_kind_2 : decode cX10_kind 2 = .ok (.iload_n 2, 1) := dk_28 (dk_at dksX10_kind_0 2 rfl rfl)
theorem dX10_kind_3 : decode cX10_kind 3 = .ok (.aload_n 0, 1) := dk_42 (dk_at dksX10_kind_0 3 rfl rfl)
theorem dX10_kind_4 : decode cX10_kind 4 = .ok (.getfield 14, 3) := dk_180 0 14 (dk_at dksX10_kind_0 4 rfl rfl)
theorem dX10_kind_7 : decode cX10_kind 7 = .ok (.invokevirtual 37, 3) := dk_182 0 37 (dk_at dksX10_kind_0 7 rfl rfl)
theorem dX10_kind_10 : decode cX10_kind 10 = .ok (.if_icmp .ge 29, 3) := dk_162 0 29 (dk_at dksX10_kind_0 10 rfl rfl)
theorem dX10_kind_13 : decode cX10_kind 13 = .ok (.aload_n 0, 1) := dk_42 (dk_at dksX10_kind_0 13 rfl rfl)
theorem dX10_kind_14 : decode cX10_kind 14 = .ok (.getfield 14, 3) := dk_180 0 14 (dk_at dksX10_kind_0 14 rfl rfl)
theorem dX10_kind_17 : decode cX10_kind 17 = .ok (.iload_n 2, 1) := dk_28 (dk_at dksX10_kind_0 17 rfl rfl)
theorem dX10_kind_18 : decode cX10_kind 18 = .ok (.invokevirtual 41, 3) := dk_182 0 41 (dk_at dksX10_kind_0 18 rfl rfl)
theorem dX10_kind_21 : decode cX10_kind 21 = .ok (.checkcast 45, 3) := dk_192 0 45 (dk_at dksX10_kind_0 21 rfl rfl)
theorem dX10_kind_24 : decode cX10_kind 24 = .ok (.aload_n 1, 1) := dk_43 (dk_at dksX10_kind_1 0 rfl rfl)
theorem dX10_kind_25 : decode cX10_kind 25 = .ok (.invokevirtual 47, 3) := dk_182 0 47 (dk_at dksX10_kind_1 1 rfl rfl)
theorem dX10_kind_28 : decode cX10_kind 28 = .ok (.ifCond .eq 5, 3) := dk_153 0 5 (dk_at dksX10_kind_1 4 rfl rfl)
theorem dX10_kind_31 : decode cX10_kind 31 = .ok (.iload_n 2, 1) := dk_28 (dk_at dksX10_kind_1 7 rfl rfl)
theorem dX10_kind_32 : decode cX10_kind 32 = .ok (.ireturn, 1) := dk_172 (dk_at dksX10_kind_1 8 rfl rfl)
theorem dX10_kind_33 : decode cX10_kind 33 = .ok (.iinc 2 1, 3) := dk_132 2 1 (dk_at dksX10_kind_1 9 rfl rfl)
theorem dX10_kind_36 : decode cX10_kind 36 = .ok (.goto (-34), 3) := dk_167 255 222 (dk_at dksX10_kind_1 12 rfl rfl)
theorem dX10_kind_39 : decode cX10_kind 39 = .ok (.iconst (-1), 1) := dk_2 (dk_at dksX10_kind_1 15 rfl rfl)
theorem dX10_kind_40 : decode cX10_kind 40 = .ok (.ireturn, 1) := dk_172 (dk_at dksX10_kind_1 16 rfl rfl)
abbrev cX10_cards : ByteArray := prog_19_method_3_code
def yX10_cards : MethodName := ⟨RX10, "cards", "()I"⟩
def dkwX10_cards_1 : List UInt8 := [132, 2, 1, 167, 255, 234, 27, 172]
abbrev dktX10_cards_1 : List UInt8 := dkwX10_cards_1 ++ []
def dkwX10_cards_0 : List UInt8 := [3, 60, 3, 61, 28, 16, 8, 162, 0, 22, 27, 3, 42, 180, 0, 24, 28, 46, 184, 0, 51, 96, 60]
abbrev dktX10_cards_0 : List UInt8 := dkwX10_cards_0 ++ dktX10_cards_1
theorem dksX10_cards_0 : cX10_cards.data.toList.drop 0 = dktX10_cards_0 := by decide +kernel
theorem dksX10_cards_1 : cX10_cards.data.toList.drop 23 = dktX10_cards_1 := dk_seg dksX10_cards_0 23 rfl rfl
theorem dX10_cards_0 : decode cX10_cards 0 = .ok (.iconst 0, 1) := dk_3 (dk_at dksX10_cards_0 0 rfl rfl)
theorem dX10_cards_1 : decode cX10_cards 1 = .ok (.istore_n 1, 1) := dk_60 (dk_at dksX10_cards_0 1 rfl rfl)
theorem dX10_cards_2 : decode cX10_cards 2 = .ok (.iconst 0, 1) := dk_3 (dk_at dksX10_cards_0 2 rfl rfl)
theorem dX10_cards_3 : decode cX10_cards 3 = .ok (.istore_n 2, 1) := dk_61 (dk_at dksX10_cards_0 3 rfl rfl)
theorem dX10_cards_4 : decode cX10_cards 4 = .ok (.iload_n 2, 1) := dk_28 (dk_at dksX10_cards_0 4 rfl rfl)
theorem dX10_cards_5 : decode cX10_cards 5 = .ok (.bipush 8, 2) := dk_16 8 (dk_at dksX10_cards_0 5 rfl rfl)
theorem dX10_cards_7 : decode cX10_cards 7 = .ok (.if_icmp .ge 22, 3) := dk_162 0 22 (dk_at dksX10_cards_0 7 rfl rfl)
theorem dX10_cards_10 : decode cX10_cards 10 = .ok (.iload_n 1, 1) := dk_27 (dk_at dksX10_cards_0 10 rfl rfl)
theorem dX10_cards_11 : decode cX10_cards 11 = .ok (.iconst 0, 1) := dk_3 (dk_at dksX10_cards_0 11 rfl rfl)
theorem dX10_cards_12 : decode cX10_cards 12 = .ok (.aload_n 0, 1) := dk_42 (dk_at dksX10_cards_0 12 rfl rfl)
theorem dX10_cards_13 : decode cX10_cards 13 = .ok (.getfield 24, 3) := dk_180 0 24 (dk_at dksX10_cards_0 13 rfl rfl)
theorem dX10_cards_16 : decode cX10_cards 16 = .ok (.iload_n 2, 1) := dk_28 (dk_at dksX10_cards_0 16 rfl rfl)
theorem dX10_cards_17 : decode cX10_cards 17 = .ok (.iaload, 1) := dk_46 (dk_at dksX10_cards_0 17 rfl rfl)
theorem dX10_cards_18 : decode cX10_cards 18 = .ok (.invokestatic 51, 3) := dk_184 0 51 (dk_at dksX10_cards_0 18 rfl rfl)
theorem dX10_cards_21 : decode cX10_cards 21 = .ok (.iadd, 1) := dk_96 (dk_at dksX10_cards_0 21 rfl rfl)
theorem dX10_cards_22 : decode cX10_cards 22 = .ok (.istore_n 1, 1) := dk_60 (dk_at dksX10_cards_0 22 rfl rfl)
theorem dX10_cards_23 : decode cX10_cards 23 = .ok (.iinc 2 1, 3) := dk_132 2 1 (dk_at dksX10_cards_1 0 rfl rfl)
theorem dX10_cards_26 : decode cX10_cards 26 = .ok (.goto (-22), 3) := dk_167 255 234 (dk_at dksX10_cards_1 3 rfl rfl)
theorem dX10_cards_29 : decode cX10_cards 29 = .ok (.iload_n 1, 1) := dk_27 (dk_at dksX10_cards_1 6 rfl rfl)
theorem dX10_cards_30 : decode cX10_cards 30 = .ok (.ireturn, 1) := dk_172 (dk_at dksX10_cards_1 7 rfl rfl)
abbrev cX10_ends : ByteArray := prog_19_method_7_code
def yX10_ends : MethodName := ⟨RX10, "ends", "()V"⟩
def dkwX10_ends_1 : List UInt8 := [132, 1, 1, 167, 255, 231, 177]
abbrev dktX10_ends_1 : List UInt8 := dkwX10_ends_1 ++ []
def dkwX10_ends_0 : List UInt8 := [3, 60, 27, 16, 8, 162, 0, 25, 42, 180, 0, 24, 27, 3, 42, 180, 0, 24, 27, 46, 184, 0, 51, 79]
abbrev dktX10_ends_0 : List UInt8 := dkwX10_ends_0 ++ dktX10_ends_1
theorem dksX10_ends_0 : cX10_ends.data.toList.drop 0 = dktX10_ends_0 := by decide +kernel
theorem dksX10_ends_1 : cX10_ends.data.toList.drop 24 = dktX10_ends_1 := dk_seg dksX10_ends_0 24 rfl rfl
theorem dX10_ends_0 : decode cX10_ends 0 = .ok (.iconst 0, 1) := dk_3 (dk_at dksX10_ends_0 0 rfl rfl)
theorem dX10_ends_1 : decode cX10_ends 1 = .ok (.istore_n 1, 1) := dk_60 (dk_at dksX10_ends_0 1 rfl rfl)
theorem dX10_ends_2 : decode cX10_ends 2 = .ok (.iload_n 1, 1) := dk_27 (dk_at dksX10_ends_0 2 rfl rfl)
theorem dX10_ends_3 : decode cX10_ends 3 = .ok (.bipush 8, 2) := dk_16 8 (dk_at dksX10_ends_0 3 rfl rfl)
theorem dX10_ends_5 : decode cX10_ends 5 = .ok (.if_icmp .ge 25, 3) := dk_162 0 25 (dk_at dksX10_ends_0 5 rfl rfl)
theorem dX10_ends_8 : decode cX10_ends 8 = .ok (.aload_n 0, 1) := dk_42 (dk_at dksX10_ends_0 8 rfl rfl)
theorem dX10_ends_9 : decode cX10_ends 9 = .ok (.getfield 24, 3) := dk_180 0 24 (dk_at dksX10_ends_0 9 rfl rfl)
theorem dX10_ends_12 : decode cX10_ends 12 = .ok (.iload_n 1, 1) := dk_27 (dk_at dksX10_ends_0 12 rfl rfl)
theorem dX10_ends_13 : decode cX10_ends 13 = .ok (.iconst 0, 1) := dk_3 (dk_at dksX10_ends_0 13 rfl rfl)
theorem dX10_ends_14 : decode cX10_ends 14 = .ok (.aload_n 0, 1) := dk_42 (dk_at dksX10_ends_0 14 rfl rfl)
theorem dX10_ends_15 : decode cX10_ends 15 = .ok (.getfield 24, 3) := dk_180 0 24 (dk_at dksX10_ends_0 15 rfl rfl)
theorem dX10_ends_18 : decode cX10_ends 18 = .ok (.iload_n 1, 1) := dk_27 (dk_at dksX10_ends_0 18 rfl rfl)
theorem dX10_ends_19 : decode cX10_ends 19 = .ok (.iaload, 1) := dk_46 (dk_at dksX10_ends_0 19 rfl rfl)
theorem dX10_ends_20 : decode cX10_ends 20 = .ok (.invokestatic 51, 3) := dk_184 0 51 (dk_at dksX10_ends_0 20 rfl rfl)
theorem dX10_ends_23 : decode cX10_ends 23 = .ok (.iastore, 1) := dk_79 (dk_at dksX10_ends_0 23 rfl rfl)
theorem dX10_ends_24 : decode cX10_ends 24 = .ok (.iinc 1 1, 3) := dk_132 1 1 (dk_at dksX10_ends_1 0 rfl rfl)
theorem dX10_ends_27 : decode cX10_ends 27 = .ok (.goto (-25), 3) := dk_167 255 231 (dk_at dksX10_ends_1 3 rfl rfl)
theorem dX10_ends_30 : decode cX10_ends 30 = .ok (.return_, 1) := dk_177 (dk_at dksX10_ends_1 6 rfl rfl)
abbrev cX10_first : ByteArray := prog_19_method_5_code
def yX10_first : MethodName := ⟨RX10, "first", "()I"⟩
def dkwX10_first_0 : List UInt8 := [3, 42, 180, 0, 31, 184, 0, 51, 172]
abbrev dktX10_first_0 : List UInt8 := dkwX10_first_0 ++ []
theorem dksX10_first_0 : cX10_first.data.toList.drop 0 = dktX10_first_0 := by decide +kernel
theorem dX10_first_0 : decode cX10_first 0 = .ok (.iconst 0, 1) := dk_3 (dk_at dksX10_first_0 0 rfl rfl)
theorem dX10_first_1 : decode cX10_first 1 = .ok (.aload_n 0, 1) := dk_42 (dk_at dksX10_first_0 1 rfl rfl)
theorem dX10_first_2 : decode cX10_first 2 = .ok (.getfield 31, 3) := dk_180 0 31 (dk_at dksX10_first_0 2 rfl rfl)
theorem dX10_first_5 : decode cX10_first 5 = .ok (.invokestatic 51, 3) := dk_184 0 51 (dk_at dksX10_first_0 5 rfl rfl)
theorem dX10_first_8 : decode cX10_first 8 = .ok (.ireturn, 1) := dk_172 (dk_at dksX10_first_0 8 rfl rfl)
abbrev cX10_order : ByteArray := prog_19_method_4_code
def yX10_order : MethodName := ⟨RX10, "order", "()I"⟩
def dkwX10_order_0 : List UInt8 := [3, 42, 180, 0, 27, 184, 0, 51, 172]
abbrev dktX10_order_0 : List UInt8 := dkwX10_order_0 ++ []
theorem dksX10_order_0 : cX10_order.data.toList.drop 0 = dktX10_order_0 := by decide +kernel
theorem dX10_order_0 : decode cX10_order 0 = .ok (.iconst 0, 1) := dk_3 (dk_at dksX10_order_0 0 rfl rfl)
theorem dX10_order_1 : decode cX10_order 1 = .ok (.aload_n 0, 1) := dk_42 (dk_at dksX10_order_0 1 rfl rfl)
theorem dX10_order_2 : decode cX10_order 2 = .ok (.getfield 27, 3) := dk_180 0 27 (dk_at dksX10_order_0 2 rfl rfl)
theorem dX10_order_5 : decode cX10_order 5 = .ok (.invokestatic 51, 3) := dk_184 0 51 (dk_at dksX10_order_0 5 rfl rfl)
theorem dX10_order_8 : decode cX10_order 8 = .ok (.ireturn, 1) := dk_172 (dk_at dksX10_order_0 8 rfl rfl)
abbrev cX10_limit : ByteArray := prog_19_method_6_code
def yX10_limit : MethodName := ⟨RX10, "limit", "()I"⟩
def dkwX10_limit_0 : List UInt8 := [42, 180, 0, 34, 156, 0, 9, 17, 3, 232, 167, 0, 7, 42, 180, 0, 34, 172]
abbrev dktX10_limit_0 : List UInt8 := dkwX10_limit_0 ++ []
theorem dksX10_limit_0 : cX10_limit.data.toList.drop 0 = dktX10_limit_0 := by decide +kernel
theorem dX10_limit_0 : decode cX10_limit 0 = .ok (.aload_n 0, 1) := dk_42 (dk_at dksX10_limit_0 0 rfl rfl)
theorem dX10_limit_1 : decode cX10_limit 1 = .ok (.getfield 34, 3) := dk_180 0 34 (dk_at dksX10_limit_0 1 rfl rfl)
theorem dX10_limit_4 : decode cX10_limit 4 = .ok (.ifCond .ge 9, 3) := dk_156 0 9 (dk_at dksX10_limit_0 4 rfl rfl)
theorem dX10_limit_7 : decode cX10_limit 7 = .ok (.sipush 1000, 3) := dk_17 3 232 (dk_at dksX10_limit_0 7 rfl rfl)
theorem dX10_limit_10 : decode cX10_limit 10 = .ok (.goto 7, 3) := dk_167 0 7 (dk_at dksX10_limit_0 10 rfl rfl)
theorem dX10_limit_13 : decode cX10_limit 13 = .ok (.aload_n 0, 1) := dk_42 (dk_at dksX10_limit_0 13 rfl rfl)
theorem dX10_limit_14 : decode cX10_limit 14 = .ok (.getfield 34, 3) := dk_180 0 34 (dk_at dksX10_limit_0 14 rfl rfl)
theorem dX10_limit_17 : decode cX10_limit 17 = .ok (.ireturn, 1) := dk_172 (dk_at dksX10_limit_0 17 rfl rfl)
theorem q131 : (Jvm.Cond.initialized "BeggarHeaps$Table") ∈ lw_all := lw_g (lw_at lw_m1 10 rfl) rfl
theorem q297 : (Jvm.Cond.instantiable "BeggarHeaps$Table" (7 : Nat)) ∈ lw_all := lw_g (lw_at lw_m1 176 rfl) rfl
theorem q299 : (Jvm.Cond.instanceMethod ({ cls := "BeggarHeaps$Table", name := "<init>", desc := "()V" } : Jvm.MethodName)) ∈ lw_all := lw_g (lw_at lw_m1 178 rfl) rfl
theorem q300 : (Jvm.Cond.code ({ cls := "BeggarHeaps$Table", name := "<init>", desc := "()V" } : Jvm.MethodName) prog_19_method_1_code (1 : Nat) (Option.none : Option Jvm.ClassFile.FieldType)) ∈ lw_all := lw_g (lw_at lw_m1 179 rfl) rfl
theorem q301 : (Jvm.Cond.methodLink "BeggarHeaps$Table" (3 : Nat) ({ cls := "java/lang/Object", name := "<init>", desc := "()V" } : Jvm.MethodName)) ∈ lw_all := lw_g (lw_at lw_m1 180 rfl) rfl
theorem q302 : (Jvm.Cond.classLink "BeggarHeaps$Table" (9 : Nat) "java/util/ArrayList") ∈ lw_all := lw_g (lw_at lw_m1 181 rfl) rfl
theorem q304 : (Jvm.Cond.methodLink "BeggarHeaps$Table" (11 : Nat) ({ cls := "java/util/ArrayList", name := "<init>", desc := "(I)V" } : Jvm.MethodName)) ∈ lw_all := lw_g (lw_at lw_m1 183 rfl) rfl
theorem q330 : (Jvm.Cond.fieldLink "BeggarHeaps$Table" (14 : Nat) "BeggarHeaps$Table" "kinds" "Ljava/util/ArrayList;") ∈ lw_all := lw_g (lw_at lw_m1 209 rfl) rfl
theorem q333 : (Jvm.Cond.fieldLink "BeggarHeaps$Table" (20 : Nat) "BeggarHeaps$Table" "pays" "[I") ∈ lw_all := lw_g (lw_at lw_m1 212 rfl) rfl
theorem q336 : (Jvm.Cond.fieldLink "BeggarHeaps$Table" (24 : Nat) "BeggarHeaps$Table" "pack" "[I") ∈ lw_all := lw_g (lw_at lw_m1 215 rfl) rfl
theorem q339 : (Jvm.Cond.fieldLink "BeggarHeaps$Table" (27 : Nat) "BeggarHeaps$Table" "order" "I") ∈ lw_all := lw_g (lw_at lw_m1 218 rfl) rfl
theorem q341 : (Jvm.Cond.fieldLink "BeggarHeaps$Table" (31 : Nat) "BeggarHeaps$Table" "first" "I") ∈ lw_all := lw_g (lw_at lw_m1 220 rfl) rfl
theorem q343 : (Jvm.Cond.fieldLink "BeggarHeaps$Table" (34 : Nat) "BeggarHeaps$Table" "limit" "I") ∈ lw_all := lw_g (lw_at lw_m1 222 rfl) rfl
theorem q347 : (Jvm.Cond.laysFinal "BeggarHeaps$Table" "BeggarHeaps$Table" "kinds" "Ljava/util/ArrayList;") ∈ lw_all := lw_g (lw_at lw_m1 226 rfl) rfl
theorem q348 : (Jvm.Cond.soleField "BeggarHeaps$Table" "kinds") ∈ lw_all := lw_g (lw_at lw_m1 227 rfl) rfl
theorem q349 : (Jvm.Cond.laysFinal "BeggarHeaps$Table" "BeggarHeaps$Table" "pays" "[I") ∈ lw_all := lw_g (lw_at lw_m1 228 rfl) rfl
theorem q350 : (Jvm.Cond.soleField "BeggarHeaps$Table" "pays") ∈ lw_all := lw_g (lw_at lw_m1 229 rfl) rfl
theorem q351 : (Jvm.Cond.laysFinal "BeggarHeaps$Table" "BeggarHeaps$Table" "pack" "[I") ∈ lw_all := lw_g (lw_at lw_m1 230 rfl) rfl
theorem q352 : (Jvm.Cond.soleField "BeggarHeaps$Table" "pack") ∈ lw_all := lw_g (lw_at lw_m1 231 rfl) rfl
theorem q353 : (Jvm.Cond.lays "BeggarHeaps$Table" "BeggarHeaps$Table" "order" "I") ∈ lw_all := lw_g (lw_at lw_m1 232 rfl) rfl
theorem q354 : (Jvm.Cond.soleField "BeggarHeaps$Table" "order") ∈ lw_all := lw_g (lw_at lw_m1 233 rfl) rfl
theorem q355 : (Jvm.Cond.lays "BeggarHeaps$Table" "BeggarHeaps$Table" "first" "I") ∈ lw_all := lw_g (lw_at lw_m1 234 rfl) rfl
theorem q356 : (Jvm.Cond.soleField "BeggarHeaps$Table" "first") ∈ lw_all := lw_g (lw_at lw_m1 235 rfl) rfl
theorem q357 : (Jvm.Cond.lays "BeggarHeaps$Table" "BeggarHeaps$Table" "limit" "I") ∈ lw_all := lw_g (lw_at lw_m1 236 rfl) rfl
theorem q358 : (Jvm.Cond.soleField "BeggarHeaps$Table" "limit") ∈ lw_all := lw_g (lw_at lw_m1 237 rfl) rfl
theorem q359 : (Jvm.Cond.lays "BeggarHeaps$Table" "BeggarHeaps$Table" "bet" "LBeggarHeaps$Expression;") ∈ lw_all := lw_g (lw_at lw_m1 238 rfl) rfl
theorem q360 : (Jvm.Cond.soleField "BeggarHeaps$Table" "bet") ∈ lw_all := lw_g (lw_at lw_m1 239 rfl) rfl
theorem q361 : (Jvm.Cond.superclass "BeggarHeaps$Table" "java/lang/Object") ∈ lw_all := lw_g (lw_at lw_m2 0 rfl) rfl
theorem q1066 : (Jvm.Cond.instanceMethod ({ cls := "BeggarHeaps$Table", name := "kind", desc := "(Ljava/lang/String;)I" } : Jvm.MethodName)) ∈ lw_all := lw_g (lw_at lw_m4 225 rfl) rfl
theorem q1067 : (Jvm.Cond.selects "BeggarHeaps$Table" ({ cls := "BeggarHeaps$Table", name := "kind", desc := "(Ljava/lang/String;)I" } : Jvm.MethodName) ({ cls := "BeggarHeaps$Table", name := "kind", desc := "(Ljava/lang/String;)I" } : Jvm.MethodName)) ∈ lw_all := lw_g (lw_at lw_m4 226 rfl) rfl
theorem q1068 : (Jvm.Cond.code ({ cls := "BeggarHeaps$Table", name := "kind", desc := "(Ljava/lang/String;)I" } : Jvm.MethodName) prog_19_method_2_code (3 : Nat) (Option.some Jvm.ClassFile.FieldType.int)) ∈ lw_all := lw_g (lw_at lw_m4 227 rfl) rfl
theorem q1069 : (Jvm.Cond.methodLink "BeggarHeaps$Table" (37 : Nat) ({ cls := "java/util/ArrayList", name := "size", desc := "()I" } : Jvm.MethodName)) ∈ lw_all := lw_g (lw_at lw_m4 228 rfl) rfl
theorem q1070 : (Jvm.Cond.methodLink "BeggarHeaps$Table" (41 : Nat) ({ cls := "java/util/ArrayList", name := "get", desc := "(I)Ljava/lang/Object;" } : Jvm.MethodName)) ∈ lw_all := lw_g (lw_at lw_m4 229 rfl) rfl
theorem q1082 : (Jvm.Cond.classLink "BeggarHeaps$Table" (45 : Nat) "java/lang/String") ∈ lw_all := lw_g (lw_at lw_m5 1 rfl) rfl
theorem q1083 : (Jvm.Cond.methodLink "BeggarHeaps$Table" (47 : Nat) ({ cls := "java/lang/String", name := "equals", desc := "(Ljava/lang/Object;)Z" } : Jvm.MethodName)) ∈ lw_all := lw_g (lw_at lw_m5 2 rfl) rfl
theorem q1141 : (Jvm.Cond.selects "BeggarHeaps$Table" ({ cls := "java/lang/Object", name := "getClass", desc := "()Ljava/lang/Class;" } : Jvm.MethodName) ({ cls := "java/lang/Object", name := "getClass", desc := "()Ljava/lang/Class;" } : Jvm.MethodName)) ∈ lw_all := lw_g (lw_at lw_m5 60 rfl) rfl
theorem q1166 : (Jvm.Cond.instanceMethod ({ cls := "BeggarHeaps$Table", name := "cards", desc := "()I" } : Jvm.MethodName)) ∈ lw_all := lw_g (lw_at lw_m5 85 rfl) rfl
theorem q1167 : (Jvm.Cond.selects "BeggarHeaps$Table" ({ cls := "BeggarHeaps$Table", name := "cards", desc := "()I" } : Jvm.MethodName) ({ cls := "BeggarHeaps$Table", name := "cards", desc := "()I" } : Jvm.MethodName)) ∈ lw_all := lw_g (lw_at lw_m5 86 rfl) rfl
theorem q1168 : (Jvm.Cond.code ({ cls := "BeggarHeaps$Table", name := "cards", desc := "()I" } : Jvm.MethodName) prog_19_method_3_code (3 : Nat) (Option.some Jvm.ClassFile.FieldType.int)) ∈ lw_all := lw_g (lw_at lw_m5 87 rfl) rfl
theorem q1169 : (Jvm.Cond.methodLink "BeggarHeaps$Table" (51 : Nat) ({ cls := "java/lang/Math", name := "max", desc := "(II)I" } : Jvm.MethodName)) ∈ lw_all := lw_g (lw_at lw_m5 88 rfl) rfl
theorem q1172 : (Jvm.Cond.instanceMethod ({ cls := "BeggarHeaps$Table", name := "ends", desc := "()V" } : Jvm.MethodName)) ∈ lw_all := lw_g (lw_at lw_m5 91 rfl) rfl
theorem q1173 : (Jvm.Cond.selects "BeggarHeaps$Table" ({ cls := "BeggarHeaps$Table", name := "ends", desc := "()V" } : Jvm.MethodName) ({ cls := "BeggarHeaps$Table", name := "ends", desc := "()V" } : Jvm.MethodName)) ∈ lw_all := lw_g (lw_at lw_m5 92 rfl) rfl
theorem q1174 : (Jvm.Cond.code ({ cls := "BeggarHeaps$Table", name := "ends", desc := "()V" } : Jvm.MethodName) prog_19_method_7_code (2 : Nat) (Option.none : Option Jvm.ClassFile.FieldType)) ∈ lw_all := lw_g (lw_at lw_m5 93 rfl) rfl
theorem q1181 : (Jvm.Cond.instanceMethod ({ cls := "BeggarHeaps$Table", name := "first", desc := "()I" } : Jvm.MethodName)) ∈ lw_all := lw_g (lw_at lw_m5 100 rfl) rfl
theorem q1182 : (Jvm.Cond.selects "BeggarHeaps$Table" ({ cls := "BeggarHeaps$Table", name := "first", desc := "()I" } : Jvm.MethodName) ({ cls := "BeggarHeaps$Table", name := "first", desc := "()I" } : Jvm.MethodName)) ∈ lw_all := lw_g (lw_at lw_m5 101 rfl) rfl
theorem q1183 : (Jvm.Cond.code ({ cls := "BeggarHeaps$Table", name := "first", desc := "()I" } : Jvm.MethodName) prog_19_method_5_code (1 : Nat) (Option.some Jvm.ClassFile.FieldType.int)) ∈ lw_all := lw_g (lw_at lw_m5 102 rfl) rfl
theorem q1365 : (Jvm.Cond.instanceMethod ({ cls := "BeggarHeaps$Table", name := "order", desc := "()I" } : Jvm.MethodName)) ∈ lw_all := lw_g (lw_at lw_m6 44 rfl) rfl
theorem q1366 : (Jvm.Cond.selects "BeggarHeaps$Table" ({ cls := "BeggarHeaps$Table", name := "order", desc := "()I" } : Jvm.MethodName) ({ cls := "BeggarHeaps$Table", name := "order", desc := "()I" } : Jvm.MethodName)) ∈ lw_all := lw_g (lw_at lw_m6 45 rfl) rfl
theorem q1367 : (Jvm.Cond.code ({ cls := "BeggarHeaps$Table", name := "order", desc := "()I" } : Jvm.MethodName) prog_19_method_4_code (1 : Nat) (Option.some Jvm.ClassFile.FieldType.int)) ∈ lw_all := lw_g (lw_at lw_m6 46 rfl) rfl
theorem q1416 : (Jvm.Cond.instanceMethod ({ cls := "BeggarHeaps$Table", name := "limit", desc := "()I" } : Jvm.MethodName)) ∈ lw_all := lw_g (lw_at lw_m6 95 rfl) rfl
theorem q1417 : (Jvm.Cond.selects "BeggarHeaps$Table" ({ cls := "BeggarHeaps$Table", name := "limit", desc := "()I" } : Jvm.MethodName) ({ cls := "BeggarHeaps$Table", name := "limit", desc := "()I" } : Jvm.MethodName)) ∈ lw_all := lw_g (lw_at lw_m6 96 rfl) rfl
theorem q1418 : (Jvm.Cond.code ({ cls := "BeggarHeaps$Table", name := "limit", desc := "()I" } : Jvm.MethodName) prog_19_method_6_code (1 : Nat) (Option.some Jvm.ClassFile.FieldType.int)) ∈ lw_all := lw_g (lw_at lw_m6 97 rfl) rfl
theorem q2376 : (Jvm.Cond.castable "BeggarHeaps$Table" "java/lang/Object") ∈ lw_tbl := lw_at lw_m10 95 rfl
theorem in_X10 : ∀ w ∈ wsX100, w ∈ lw_all := lw_in wsX100 [347, 349, 351, 353, 355, 357, 359] (by decide +kernel) (by decide +kernel)

/-! BeggarHeaps$Game -/
set_option maxRecDepth 100000
def RX11 : String := "BeggarHeaps$Game"
def TX11 : u_T := fun k => match k with
  | 0 => ("BeggarHeaps$Game", "left", "[I", true)
  | 1 => ("BeggarHeaps$Game", "right", "[I", true)
  | 2 => ("BeggarHeaps$Game", "heap", "[I", true)
  | 3 => ("BeggarHeaps$Game", "laid", "[I", true)
  | 4 => ("BeggarHeaps$Game", "leftUnseen", "[Z", true)
  | 5 => ("BeggarHeaps$Game", "rightUnseen", "[Z", true)
  | 6 => ("BeggarHeaps$Game", "lefts", "I", false)
  | 7 => ("BeggarHeaps$Game", "rights", "I", false)
  | 8 => ("BeggarHeaps$Game", "heaped", "I", false)
  | 9 => ("BeggarHeaps$Game", "owed", "I", false)
  | 10 => ("BeggarHeaps$Game", "taker", "I", false)
  | 11 => ("BeggarHeaps$Game", "next", "I", false)
  | 12 => ("BeggarHeaps$Game", "won", "I", false)
  | 13 => ("BeggarHeaps$Game", "turns", "I", false)
  | 14 => ("BeggarHeaps$Game", "heaps", "I", false)
  | 15 => ("BeggarHeaps$Game", "rounds", "I", false)
  | 16 => ("BeggarHeaps$Game", "waits", "Z", false)
  | 17 => ("BeggarHeaps$Game", "kept", "Ljava/util/ArrayList;", true)
  | 18 => ("BeggarHeaps$Game", "bets", "Ljava/util/ArrayList;", true)
  | 19 => ("BeggarHeaps$Game", "last", "[I", true)
  | 20 => ("BeggarHeaps$Game", "come", "[I", true)
  | 21 => ("BeggarHeaps$Game", "lasts", "I", false)
  | 22 => ("BeggarHeaps$Game", "comes", "I", false)
  | _ => ("BeggarHeaps$Game", "purse", "I", false)
def tyX11 : Nat → FieldType := fun k => match k with
  | 0 => .array .int
  | 1 => .array .int
  | 2 => .array .int
  | 3 => .array .int
  | 4 => .array .boolean
  | 5 => .array .boolean
  | 6 => .int
  | 7 => .int
  | 8 => .int
  | 9 => .int
  | 10 => .int
  | 11 => .int
  | 12 => .int
  | 13 => .int
  | 14 => .int
  | 15 => .int
  | 16 => .boolean
  | 17 => .object "java/util/ArrayList"
  | 18 => .object "java/util/ArrayList"
  | 19 => .array .int
  | 20 => .array .int
  | 21 => .int
  | 22 => .int
  | _ => .int
abbrev wsX110 : List Cond := u_ws RX11 TX11 24
set_option maxRecDepth 100000 in
theorem nmX11 : ∀ a, a < 24 → ∀ b, b < 24 → a ≠ b → (TX11 a).2.1 ≠ (TX11 b).2.1 := by decide +kernel
set_option maxRecDepth 100000 in
theorem tyX11_ok : ∀ k, k < 24 → parseFieldDescriptor (TX11 k).2.2.1 = some (tyX11 k) := by decide +kernel
abbrev cX11_init : ByteArray := prog_6_method_1_code
def yX11_init : MethodName := ⟨RX11, "<init>", "()V"⟩
def dkwX11_init_3 : List UInt8 := [183, 0, 33, 181, 0, 40, 42, 16, 48, 188, 10, 181, 0, 43, 42, 16, 12, 188, 10, 181, 0, 46, 177]
abbrev dktX11_init_3 : List UInt8 := dkwX11_init_3 ++ []
def dkwX11_init_2 : List UInt8 := [188, 4, 181, 0, 28, 42, 187, 0, 31, 89, 5, 183, 0, 33, 181, 0, 36, 42, 187, 0, 31, 89, 5]
abbrev dktX11_init_2 : List UInt8 := dkwX11_init_2 ++ dktX11_init_3
def dkwX11_init_1 : List UInt8 := [188, 10, 181, 0, 18, 42, 16, 48, 188, 10, 181, 0, 21, 42, 16, 48, 188, 4, 181, 0, 24, 42, 16, 48]
abbrev dktX11_init_1 : List UInt8 := dkwX11_init_1 ++ dktX11_init_2
def dkwX11_init_0 : List UInt8 := [42, 183, 0, 3, 42, 16, 48, 188, 10, 181, 0, 9, 42, 16, 48, 188, 10, 181, 0, 15, 42, 16, 48]
abbrev dktX11_init_0 : List UInt8 := dkwX11_init_0 ++ dktX11_init_1
theorem dksX11_init_0 : cX11_init.data.toList.drop 0 = dktX11_init_0 := by decide +kernel
theorem dksX11_init_1 : cX11_init.data.toList.drop 23 = dktX11_init_1 := dk_seg dksX11_init_0 23 rfl rfl
theorem dksX11_init_2 : cX11_init.data.toList.drop 47 = dktX11_init_2 := dk_seg dksX11_init_1 24 rfl rfl
theorem dksX11_init_3 : cX11_init.data.toList.drop 70 = dktX11_init_3 := dk_seg dksX11_init_2 23 rfl rfl
theorem dX11_init_0 : decode cX11_init 0 = .ok (.aload_n 0, 1) := dk_42 (dk_at dksX11_init_0 0 rfl rfl)
theorem dX11_init_1 : decode cX11_init 1 = .ok (.invokespecial 3, 3) := dk_183 0 3 (dk_at dksX11_init_0 1 rfl rfl)
theorem dX11_init_4 : decode cX11_init 4 = .ok (.aload_n 0, 1) := dk_42 (dk_at dksX11_init_0 4 rfl rfl)
theorem dX11_init_5 : decode cX11_init 5 = .ok (.bipush 48, 2) := dk_16 48 (dk_at dksX11_init_0 5 rfl rfl)
theorem dX11_init_7 : decode cX11_init 7 = .ok (.newarray .int, 2) := dk_188_10 (dk_at dksX11_init_0 7 rfl rfl)
theorem dX11_init_9 : decode cX11_init 9 = .ok (.putfield 9, 3) := dk_181 0 9 (dk_at dksX11_init_0 9 rfl rfl)
theorem dX11_init_12 : decode cX11_init 12 = .ok (.aload_n 0, 1) := dk_42 (dk_at dksX11_init_0 12 rfl rfl)
theorem dX11_init_13 : decode cX11_init 13 = .ok (.bipush 48, 2) := dk_16 48 (dk_at dksX11_init_0 13 rfl rfl)
theorem dX11_init_15 : decode cX11_init 15 = .ok (.newarray .int, 2) := dk_188_10 (dk_at dksX11_init_0 15 rfl rfl)
theorem dX11_init_17 : decode cX11_init 17 = .ok (.putfield 15, 3) := dk_181 0 15 (dk_at dksX11_init_0 17 rfl rfl)
theorem dX11_init_20 : decode cX11_init 20 = .ok (.aload_n 0, 1) := dk_42 (dk_at dksX11_init_0 20 rfl rfl)
theorem dX11_init_21 : decode cX11_init 21 = .ok (.bipush 48, 2) := dk_16 48 (dk_at dksX11_init_0 21 rfl rfl)
theorem dX11_init_23 : decode cX11_init 23 = .ok (.newarray .int, 2) := dk_188_10 (dk_at dksX11_init_1 0 rfl rfl)
theorem dX11_init_25 : decode cX11_init 25 = .ok (.putfield 18, 3) := dk_181 0 18 (dk_at dksX11_init_1 2 rfl rfl)
theorem dX11_init_28 : decode cX11_init 28 = .ok (.aload_n 0, 1) := dk_42 (dk_at dksX11_init_1 5 rfl rfl)
theorem dX11_init_29 : decode cX11_init 29 = .ok (.bipush 48, 2) := dk_16 48 (dk_at dksX11_init_1 6 rfl rfl)
theorem dX11_init_31 : decode cX11_init 31 = .ok (.newarray .int, 2) := dk_188_10 (dk_at dksX11_init_1 8 rfl rfl)
theorem dX11_init_33 : decode cX11_init 33 = .ok (.putfield 21, 3) := dk_181 0 21 (dk_at dksX11_init_1 10 rfl rfl)
theorem dX11_init_36 : decode cX11_init 36 = .ok (.aload_n 0, 1) := dk_42 (dk_at dksX11_init_1 13 rfl rfl)
theorem dX11_init_37 : decode cX11_init 37 = .ok (.bipush 48, 2) := dk_16 48 (dk_at dksX11_init_1 14 rfl rfl)
theorem dX11_init_39 : decode cX11_init 39 = .ok (.newarray .boolean, 2) := dk_188_4 (dk_at dksX11_init_1 16 rfl rfl)
theorem dX11_init_41 : decode cX11_init 41 = .ok (.putfield 24, 3) := dk_181 0 24 (dk_at dksX11_init_1 18 rfl rfl)
theorem dX11_init_44 : decode cX11_init 44 = .ok (.aload_n 0, 1) := dk_42 (dk_at dksX11_init_1 21 rfl rfl)
theorem dX11_init_45 : decode cX11_init 45 = .ok (.bipush 48, 2) := dk_16 48 (dk_at dksX11_init_1 22 rfl rfl)
theorem dX11_init_47 : decode cX11_init 47 = .ok (.newarray .boolean, 2) := dk_188_4 (dk_at dksX11_init_2 0 rfl rfl)
theorem dX11_init_49 : decode cX11_init 49 = .ok (.putfield 28, 3) := dk_181 0 28 (dk_at dksX11_init_2 2 rfl rfl)
theorem dX11_init_52 : decode cX11_init 52 = .ok (.aload_n 0, 1) := dk_42 (dk_at dksX11_init_2 5 rfl rfl)
theorem dX11_init_53 : decode cX11_init 53 = .ok (.new 31, 3) := dk_187 0 31 (dk_at dksX11_init_2 6 rfl rfl)
theorem dX11_init_56 : decode cX11_init 56 = .ok (.dup, 1) := dk_89 (dk_at dksX11_init_2 9 rfl rfl)
theorem dX11_init_57 : decode cX11_init 57 = .ok (.iconst 2, 1) := dk_5 (dk_at dksX11_init_2 10 rfl rfl)
theorem dX11_init_58 : decode cX11_init 58 = .ok (.invokespecial 33, 3) := dk_183 0 33 (dk_at dksX11_init_2 11 rfl rfl)
theorem dX11_init_61 : decode cX11_init 61 = .ok (.putfield 36, 3) := dk_181 0 36 (dk_at dksX11_init_2 14 rfl rfl)
theorem dX11_init_64 : decode cX11_init 64 = .ok (.aload_n 0, 1) := dk_42 (dk_at dksX11_init_2 17 rfl rfl)
theorem dX11_init_65 : decode cX11_init 65 = .ok (.new 31, 3) := dk_187 0 31 (dk_at dksX11_init_2 18 rfl rfl)
theorem dX11_init_68 : decode cX11_init 68 = .ok (.dup, 1) := dk_89 (dk_at dksX11_init_2 21 rfl rfl)
theorem dX11_init_69 : decode cX11_init 69 = .ok (.iconst 2, 1) := dk_5 (dk_at dksX11_init_2 22 rfl rfl)
theorem dX11_init_70 : decode cX11_init 70 = .ok (.invokespecial 33, 3) := dk_183 0 33 (dk_at dksX11_init_3 0 rfl rfl)
theorem dX11_init_73 : decode cX11_init 73 = .ok (.putfield 40, 3) := dk_181 0 40 (dk_at dksX11_init_3 3 rfl rfl)
theorem dX11_init_76 : decode cX11_init 76 = .ok (.aload_n 0, 1) := dk_42 (dk_at dksX11_init_3 6 rfl rfl)
theorem dX11_init_77 : decode cX11_init 77 = .ok (.bipush 48, 2) := dk_16 48 (dk_at dksX11_init_3 7 rfl rfl)
theorem dX11_init_79 : decode cX11_init 79 = .ok (.newarray .int, 2) := dk_188_10 (dk_at dksX11_init_3 9 rfl rfl)
theorem dX11_init_81 : decode cX11_init 81 = .ok (.putfield 43, 3) := dk_181 0 43 (dk_at dksX11_init_3 11 rfl rfl)
theorem dX11_init_84 : decode cX11_init 84 = .ok (.aload_n 0, 1) := dk_42 (dk_at dksX11_init_3 14 rfl rfl)
theorem dX11_init_85 : decode cX11_init 85 = .ok (.bipush 12, 2) := dk_16 12 (dk_at dksX11_init_3 15 rfl rfl)
theorem dX11_init_87 : decode cX11_init 87 = .ok (.newarray .int, 2) := dk_188_10 (dk_at dksX11_init_3 17 rfl rfl)
theorem dX11_init_89 : decode cX11_init 89 = .ok (.putfield 46, 3) := dk_181 0 46 (dk_at dksX11_init_3 19 rfl rfl)
theorem dX11_init_92 : decode cX11_init 92 = .ok (.return_, 1) := dk_177 (dk_at dksX11_init_3 22 rfl rfl)
abbrev cX11_begin : ByteArray := prog_6_method_2_code
def yX11_begin : MethodName := ⟨RX11, "begin", "(I)V"⟩
def dkwX11_begin_3 : List UInt8 := [3, 181, 0, 87, 42, 3, 181, 0, 90, 42, 16, 100, 181, 0, 93, 177]
abbrev dktX11_begin_3 : List UInt8 := dkwX11_begin_3 ++ []
def dkwX11_begin_2 : List UInt8 := [3, 181, 0, 77, 42, 3, 181, 0, 80, 42, 180, 0, 36, 182, 0, 84, 42, 180, 0, 40, 182, 0, 84, 42]
abbrev dktX11_begin_2 : List UInt8 := dkwX11_begin_2 ++ dktX11_begin_3
def dkwX11_begin_1 : List UInt8 := [181, 0, 62, 42, 27, 181, 0, 65, 42, 2, 181, 0, 68, 42, 3, 181, 0, 71, 42, 3, 181, 0, 74, 42]
abbrev dktX11_begin_1 : List UInt8 := dkwX11_begin_1 ++ dktX11_begin_2
def dkwX11_begin_0 : List UInt8 := [42, 3, 181, 0, 49, 42, 3, 181, 0, 53, 42, 3, 181, 0, 56, 42, 3, 181, 0, 59, 42, 2]
abbrev dktX11_begin_0 : List UInt8 := dkwX11_begin_0 ++ dktX11_begin_1
theorem dksX11_begin_0 : cX11_begin.data.toList.drop 0 = dktX11_begin_0 := by decide +kernel
theorem dksX11_begin_1 : cX11_begin.data.toList.drop 22 = dktX11_begin_1 := dk_seg dksX11_begin_0 22 rfl rfl
theorem dksX11_begin_2 : cX11_begin.data.toList.drop 46 = dktX11_begin_2 := dk_seg dksX11_begin_1 24 rfl rfl
theorem dksX11_begin_3 : cX11_begin.data.toList.drop 70 = dktX11_begin_3 := dk_seg dksX11_begin_2 24 rfl rfl
theorem dX11_begin_0 : decode cX11_begin 0 = .ok (.aload_n 0, 1) := dk_42 (dk_at dksX11_begin_0 0 rfl rfl)
theorem dX11_begin_1 : decode cX11_begin 1 = .ok (.iconst 0, 1) := dk_3 (dk_at dksX11_begin_0 1 rfl rfl)
theorem dX11_begin_2 : decode cX11_begin 2 = .ok (.putfield 49, 3) := dk_181 0 49 (dk_at dksX11_begin_0 2 rfl rfl)
theorem dX11_begin_5 : decode cX11_begin 5 = .ok (.aload_n 0, 1) := dk_42 (dk_at dksX11_begin_0 5 rfl rfl)
theorem dX11_begin_6 : decode cX11_begin 6 = .ok (.iconst 0, 1) := dk_3 (dk_at dksX11_begin_0 6 rfl rfl)
theorem dX11_begin_7 : decode cX11_begin 7 = .ok (.putfield 53, 3) := dk_181 0 53 (dk_at dksX11_begin_0 7 rfl rfl)
theorem dX11_begin_10 : decode cX11_begin 10 = .ok (.aload_n 0, 1) := dk_42 (dk_at dksX11_begin_0 10 rfl rfl)
theorem dX11_begin_11 : decode cX11_begin 11 = .ok (.iconst 0, 1) := dk_3 (dk_at dksX11_begin_0 11 rfl rfl)
theorem dX11_begin_12 : decode cX11_begin 12 = .ok (.putfield 56, 3) := dk_181 0 56 (dk_at dksX11_begin_0 12 rfl rfl)
theorem dX11_begin_15 : decode cX11_begin 15 = .ok (.aload_n 0, 1) := dk_42 (dk_at dksX11_begin_0 15 rfl rfl)
theorem dX11_begin_16 : decode cX11_begin 16 = .ok (.iconst 0, 1) := dk_3 (dk_at dksX11_begin_0 16 rfl rfl)
theorem dX11_begin_17 : decode cX11_begin 17 = .ok (.putfield 59, 3) := dk_181 0 59 (dk_at dksX11_begin_0 17 rfl rfl)
theorem dX11_begin_20 : decode cX11_begin 20 = .ok (.aload_n 0, 1) := dk_42 (dk_at dksX11_begin_0 20 rfl rfl)
theorem dX11_begin_21 : decode cX11_begin 21 = .ok (.iconst (-1), 1) := dk_2 (dk_at dksX11_begin_0 21 rfl rfl)
theorem dX11_begin_22 : decode cX11_begin 22 = .ok (.putfield 62, 3) := dk_181 0 62 (dk_at dksX11_begin_1 0 rfl rfl)
theorem dX11_begin_25 : decode cX11_begin 25 = .ok (.aload_n 0, 1) := dk_42 (dk_at dksX11_begin_1 3 rfl rfl)
theorem dX11_begin_26 : decode cX11_begin 26 = .ok (.iload_n 1, 1) := dk_27 (dk_at dksX11_begin_1 4 rfl rfl)
theorem dX11_begin_27 : decode cX11_begin 27 = .ok (.putfield 65, 3) := dk_181 0 65 (dk_at dksX11_begin_1 5 rfl rfl)
theorem dX11_begin_30 : decode cX11_begin 30 = .ok (.aload_n 0, 1) := dk_42 (dk_at dksX11_begin_1 8 rfl rfl)
theorem dX11_begin_31 : decode cX11_begin 31 = .ok (.iconst (-1), 1) := dk_2 (dk_at dksX11_begin_1 9 rfl rfl)
theorem dX11_begin_32 : decode cX11_begin 32 = .ok (.putfield 68, 3) := dk_181 0 68 (dk_at dksX11_begin_1 10 rfl rfl)
theorem dX11_begin_35 : decode cX11_begin 35 = .ok (.aload_n 0, 1) := dk_42 (dk_at dksX11_begin_1 13 rfl rfl)
theorem dX11_begin_36 : decode cX11_begin 36 = .ok (.iconst 0, 1) := dk_3 (dk_at dksX11_begin_1 14 rfl rfl)
theorem dX11_begin_37 : decode cX11_begin 37 = .ok (.putfield 71, 3) := dk_181 0 71 (dk_at dksX11_begin_1 15 rfl rfl)
theorem dX11_begin_40 : decode cX11_begin 40 = .ok (.aload_n 0, 1) := dk_42 (dk_at dksX11_begin_1 18 rfl rfl)
theorem dX11_begin_41 : decode cX11_begin 41 = .ok (.iconst 0, 1) := dk_3 (dk_at dksX11_begin_1 19 rfl rfl)
theorem dX11_begin_42 : decode cX11_begin 42 = .ok (.putfield 74, 3) := dk_181 0 74 (dk_at dksX11_begin_1 20 rfl rfl)
theorem dX11_begin_45 : decode cX11_begin 45 = .ok (.aload_n 0, 1) := dk_42 (dk_at dksX11_begin_1 23 rfl rfl)
theorem dX11_begin_46 : decode cX11_begin 46 = .ok (.iconst 0, 1) := dk_3 (dk_at dksX11_begin_2 0 rfl rfl)
theorem dX11_begin_47 : decode cX11_begin 47 = .ok (.putfield 77, 3) := dk_181 0 77 (dk_at dksX11_begin_2 1 rfl rfl)
theorem dX11_begin_50 : decode cX11_begin 50 = .ok (.aload_n 0, 1) := dk_42 (dk_at dksX11_begin_2 4 rfl rfl)
theorem dX11_begin_51 : decode cX11_begin 51 = .ok (.iconst 0, 1) := dk_3 (dk_at dksX11_begin_2 5 rfl rfl)
theorem dX11_begin_52 : decode cX11_begin 52 = .ok (.putfield 80, 3) := dk_181 0 80 (dk_at dksX11_begin_2 6 rfl rfl)
theorem dX11_begin_55 : decode cX11_begin 55 = .ok (.aload_n 0, 1) := dk_42 (dk_at dksX11_begin_2 9 rfl rfl)
theorem dX11_begin_56 : decode cX11_begin 56 = .ok (.getfield 36, 3) := dk_180 0 36 (dk_at dksX11_begin_2 10 rfl rfl)
theorem dX11_begin_59 : decode cX11_begin 59 = .ok (.invokevirtual 84, 3) := dk_182 0 84 (dk_at dksX11_begin_2 13 rfl rfl)
theorem dX11_begin_62 : decode cX11_begin 62 = .ok (.aload_n 0, 1) := dk_42 (dk_at dksX11_begin_2 16 rfl rfl)
theorem dX11_begin_63 : decode cX11_begin 63 = .ok (.getfield 40, 3) := dk_180 0 40 (dk_at dksX11_begin_2 17 rfl rfl)
theorem dX11_begin_66 : decode cX11_begin 66 = .ok (.invokevirtual 84, 3) := dk_182 0 84 (dk_at dksX11_begin_2 20 rfl rfl)
theorem dX11_begin_69 : decode cX11_begin 69 = .ok (.aload_n 0, 1) := dk_42 (dk_at dksX11_begin_2 23 rfl rfl)
theorem dX11_begin_70 : decode cX11_begin 70 = .ok (.iconst 0, 1) := dk_3 (dk_at dksX11_begin_3 0 rfl rfl)
theorem dX11_begin_71 : decode cX11_begin 71 = .ok (.putfield 87, 3) := dk_181 0 87 (dk_at dksX11_begin_3 1 rfl rfl)
theorem dX11_begin_74 : decode cX11_begin 74 = .ok (.aload_n 0, 1) := dk_42 (dk_at dksX11_begin_3 4 rfl rfl)
theorem dX11_begin_75 : decode cX11_begin 75 = .ok (.iconst 0, 1) := dk_3 (dk_at dksX11_begin_3 5 rfl rfl)
theorem dX11_begin_76 : decode cX11_begin 76 = .ok (.putfield 90, 3) := dk_181 0 90 (dk_at dksX11_begin_3 6 rfl rfl)
theorem dX11_begin_79 : decode cX11_begin 79 = .ok (.aload_n 0, 1) := dk_42 (dk_at dksX11_begin_3 9 rfl rfl)
theorem dX11_begin_80 : decode cX11_begin 80 = .ok (.bipush 100, 2) := dk_16 100 (dk_at dksX11_begin_3 10 rfl rfl)
theorem dX11_begin_82 : decode cX11_begin 82 = .ok (.putfield 93, 3) := dk_181 0 93 (dk_at dksX11_begin_3 12 rfl rfl)
theorem dX11_begin_85 : decode cX11_begin 85 = .ok (.return_, 1) := dk_177 (dk_at dksX11_begin_3 15 rfl rfl)
abbrev cX11_gets : ByteArray := prog_6_method_7_code
def yX11_gets : MethodName := ⟨RX11, "gets", "(IIZ)V"⟩
def dkwX11_gets_2 : List UInt8 := [42, 89, 180, 0, 53, 90, 4, 96, 181, 0, 53, 28, 79, 177]
abbrev dktX11_gets_2 : List UInt8 := dkwX11_gets_2 ++ []
def dkwX11_gets_1 : List UInt8 := [4, 96, 181, 0, 49, 28, 79, 167, 0, 30, 42, 180, 0, 28, 42, 180, 0, 53, 29, 84, 42, 180, 0, 15]
abbrev dktX11_gets_1 : List UInt8 := dkwX11_gets_1 ++ dktX11_gets_2
def dkwX11_gets_0 : List UInt8 := [27, 154, 0, 33, 42, 180, 0, 24, 42, 180, 0, 49, 29, 84, 42, 180, 0, 9, 42, 89, 180, 0, 49, 90]
abbrev dktX11_gets_0 : List UInt8 := dkwX11_gets_0 ++ dktX11_gets_1
theorem dksX11_gets_0 : cX11_gets.data.toList.drop 0 = dktX11_gets_0 := by decide +kernel
theorem dksX11_gets_1 : cX11_gets.data.toList.drop 24 = dktX11_gets_1 := dk_seg dksX11_gets_0 24 rfl rfl
theorem dksX11_gets_2 : cX11_gets.data.toList.drop 48 = dktX11_gets_2 := dk_seg dksX11_gets_1 24 rfl rfl
theorem dX11_gets_0 : decode cX11_gets 0 = .ok (.iload_n 1, 1) := dk_27 (dk_at dksX11_gets_0 0 rfl rfl)
theorem dX11_gets_1 : decode cX11_gets 1 = .ok (.ifCond .ne 33, 3) := dk_154 0 33 (dk_at dksX11_gets_0 1 rfl rfl)
theorem dX11_gets_4 : decode cX11_gets 4 = .ok (.aload_n 0, 1) := dk_42 (dk_at dksX11_gets_0 4 rfl rfl)
theorem dX11_gets_5 : decode cX11_gets 5 = .ok (.getfield 24, 3) := dk_180 0 24 (dk_at dksX11_gets_0 5 rfl rfl)
theorem dX11_gets_8 : decode cX11_gets 8 = .ok (.aload_n 0, 1) := dk_42 (dk_at dksX11_gets_0 8 rfl rfl)
theorem dX11_gets_9 : decode cX11_gets 9 = .ok (.getfield 49, 3) := dk_180 0 49 (dk_at dksX11_gets_0 9 rfl rfl)
theorem dX11_gets_12 : decode cX11_gets 12 = .ok (.iload_n 3, 1) := dk_29 (dk_at dksX11_gets_0 12 rfl rfl)
theorem dX11_gets_13 : decode cX11_gets 13 = .ok (.bastore, 1) := dk_84 (dk_at dksX11_gets_0 13 rfl rfl)
theorem dX11_gets_14 : decode cX11_gets 14 = .ok (.aload_n 0, 1) := dk_42 (dk_at dksX11_gets_0 14 rfl rfl)
theorem dX11_gets_15 : decode cX11_gets 15 = .ok (.getfield 9, 3) := dk_180 0 9 (dk_at dksX11_gets_0 15 rfl rfl)
theorem dX11_gets_18 : decode cX11_gets 18 = .ok (.aload_n 0, 1) := dk_42 (dk_at dksX11_gets_0 18 rfl rfl)
theorem dX11_gets_19 : decode cX11_gets 19 = .ok (.dup, 1) := dk_89 (dk_at dksX11_gets_0 19 rfl rfl)
theorem dX11_gets_20 : decode cX11_gets 20 = .ok (.getfield 49, 3) := dk_180 0 49 (dk_at dksX11_gets_0 20 rfl rfl)
theorem dX11_gets_23 : decode cX11_gets 23 = .ok (.dup_x1, 1) := dk_90 (dk_at dksX11_gets_0 23 rfl rfl)
theorem dX11_gets_24 : decode cX11_gets 24 = .ok (.iconst 1, 1) := dk_4 (dk_at dksX11_gets_1 0 rfl rfl)
theorem dX11_gets_25 : decode cX11_gets 25 = .ok (.iadd, 1) := dk_96 (dk_at dksX11_gets_1 1 rfl rfl)
theorem dX11_gets_26 : decode cX11_gets 26 = .ok (.putfield 49, 3) := dk_181 0 49 (dk_at dksX11_gets_1 2 rfl rfl)
theorem dX11_gets_29 : decode cX11_gets 29 = .ok (.iload_n 2, 1) := dk_28 (dk_at dksX11_gets_1 5 rfl rfl)
theorem dX11_gets_30 : decode cX11_gets 30 = .ok (.iastore, 1) := dk_79 (dk_at dksX11_gets_1 6 rfl rfl)
theorem dX11_gets_31 : decode cX11_gets 31 = .ok (.goto 30, 3) := dk_167 0 30 (dk_at dksX11_gets_1 7 rfl rfl)
theorem dX11_gets_34 : decode cX11_gets 34 = .ok (.aload_n 0, 1) := dk_42 (dk_at dksX11_gets_1 10 rfl rfl)
theorem dX11_gets_35 : decode cX11_gets 35 = .ok (.getfield 28, 3) := dk_180 0 28 (dk_at dksX11_gets_1 11 rfl rfl)
theorem dX11_gets_38 : decode cX11_gets 38 = .ok (.aload_n 0, 1) := dk_42 (dk_at dksX11_gets_1 14 rfl rfl)
theorem dX11_gets_39 : decode cX11_gets 39 = .ok (.getfield 53, 3) := dk_180 0 53 (dk_at dksX11_gets_1 15 rfl rfl)
theorem dX11_gets_42 : decode cX11_gets 42 = .ok (.iload_n 3, 1) := dk_29 (dk_at dksX11_gets_1 18 rfl rfl)
theorem dX11_gets_43 : decode cX11_gets 43 = .ok (.bastore, 1) := dk_84 (dk_at dksX11_gets_1 19 rfl rfl)
theorem dX11_gets_44 : decode cX11_gets 44 = .ok (.aload_n 0, 1) := dk_42 (dk_at dksX11_gets_1 20 rfl rfl)
theorem dX11_gets_45 : decode cX11_gets 45 = .ok (.getfield 15, 3) := dk_180 0 15 (dk_at dksX11_gets_1 21 rfl rfl)
theorem dX11_gets_48 : decode cX11_gets 48 = .ok (.aload_n 0, 1) := dk_42 (dk_at dksX11_gets_2 0 rfl rfl)
theorem dX11_gets_49 : decode cX11_gets 49 = .ok (.dup, 1) := dk_89 (dk_at dksX11_gets_2 1 rfl rfl)
theorem dX11_gets_50 : decode cX11_gets 50 = .ok (.getfield 53, 3) := dk_180 0 53 (dk_at dksX11_gets_2 2 rfl rfl)
theorem dX11_gets_53 : decode cX11_gets 53 = .ok (.dup_x1, 1) := dk_90 (dk_at dksX11_gets_2 5 rfl rfl)
theorem dX11_gets_54 : decode cX11_gets 54 = .ok (.iconst 1, 1) := dk_4 (dk_at dksX11_gets_2 6 rfl rfl)
theorem dX11_gets_55 : decode cX11_gets 55 = .ok (.iadd, 1) := dk_96 (dk_at dksX11_gets_2 7 rfl rfl)
theorem dX11_gets_56 : decode cX11_gets 56 = .ok (.putfield 53, 3) := dk_181 0 53 (dk_at dksX11_gets_2 8 rfl rfl)
theorem dX11_gets_59 : decode cX11_gets 59 = .ok (.iload_n 2, 1) := dk_28 (dk_at dksX11_gets_2 11 rfl rfl)
theorem dX11_gets_60 : decode cX11_gets 60 = .ok (.iastore, 1) := dk_79 (dk_at dksX11_gets_2 12 rfl rfl)
theorem dX11_gets_61 : decode cX11_gets 61 = .ok (.return_, 1) := dk_177 (dk_at dksX11_gets_2 13 rfl rfl)
abbrev cX11_cards : ByteArray := prog_6_method_5_code
def yX11_cards : MethodName := ⟨RX11, "cards", "(I)I"⟩
def dkwX11_cards_0 : List UInt8 := [27, 154, 0, 10, 42, 180, 0, 49, 167, 0, 7, 42, 180, 0, 53, 172]
abbrev dktX11_cards_0 : List UInt8 := dkwX11_cards_0 ++ []
theorem dksX11_cards_0 : cX11_cards.data.toList.drop 0 = dktX11_cards_0 := by decide +kernel
theorem dX11_cards_0 : decode cX11_cards 0 = .ok (.iload_n 1, 1) := dk_27 (dk_at dksX11_cards_0 0 rfl rfl)
theorem dX11_cards_1 : decode cX11_cards 1 = .ok (.ifCond .ne 10, 3) := dk_154 0 10 (dk_at dksX11_cards_0 1 rfl rfl)
theorem dX11_cards_4 : decode cX11_cards 4 = .ok (.aload_n 0, 1) := dk_42 (dk_at dksX11_cards_0 4 rfl rfl)
theorem dX11_cards_5 : decode cX11_cards 5 = .ok (.getfield 49, 3) := dk_180 0 49 (dk_at dksX11_cards_0 5 rfl rfl)
theorem dX11_cards_8 : decode cX11_cards 8 = .ok (.goto 7, 3) := dk_167 0 7 (dk_at dksX11_cards_0 8 rfl rfl)
theorem dX11_cards_11 : decode cX11_cards 11 = .ok (.aload_n 0, 1) := dk_42 (dk_at dksX11_cards_0 11 rfl rfl)
theorem dX11_cards_12 : decode cX11_cards 12 = .ok (.getfield 53, 3) := dk_180 0 53 (dk_at dksX11_cards_0 12 rfl rfl)
theorem dX11_cards_15 : decode cX11_cards 15 = .ok (.ireturn, 1) := dk_172 (dk_at dksX11_cards_0 15 rfl rfl)
abbrev cX11_card : ByteArray := prog_6_method_6_code
def yX11_card : MethodName := ⟨RX11, "card", "(II)I"⟩
def dkwX11_card_0 : List UInt8 := [27, 154, 0, 12, 42, 180, 0, 9, 28, 46, 167, 0, 9, 42, 180, 0, 15, 28, 46, 172]
abbrev dktX11_card_0 : List UInt8 := dkwX11_card_0 ++ []
theorem dksX11_card_0 : cX11_card.data.toList.drop 0 = dktX11_card_0 := by decide +kernel
theorem dX11_card_0 : decode cX11_card 0 = .ok (.iload_n 1, 1) := dk_27 (dk_at dksX11_card_0 0 rfl rfl)
theorem dX11_card_1 : decode cX11_card 1 = .ok (.ifCond .ne 12, 3) := dk_154 0 12 (dk_at dksX11_card_0 1 rfl rfl)
theorem dX11_card_4 : decode cX11_card 4 = .ok (.aload_n 0, 1) := dk_42 (dk_at dksX11_card_0 4 rfl rfl)
theorem dX11_card_5 : decode cX11_card 5 = .ok (.getfield 9, 3) := dk_180 0 9 (dk_at dksX11_card_0 5 rfl rfl)
theorem dX11_card_8 : decode cX11_card 8 = .ok (.iload_n 2, 1) := dk_28 (dk_at dksX11_card_0 8 rfl rfl)
theorem dX11_card_9 : decode cX11_card 9 = .ok (.iaload, 1) := dk_46 (dk_at dksX11_card_0 9 rfl rfl)
theorem dX11_card_10 : decode cX11_card 10 = .ok (.goto 9, 3) := dk_167 0 9 (dk_at dksX11_card_0 10 rfl rfl)
theorem dX11_card_13 : decode cX11_card 13 = .ok (.aload_n 0, 1) := dk_42 (dk_at dksX11_card_0 13 rfl rfl)
theorem dX11_card_14 : decode cX11_card 14 = .ok (.getfield 15, 3) := dk_180 0 15 (dk_at dksX11_card_0 14 rfl rfl)
theorem dX11_card_17 : decode cX11_card 17 = .ok (.iload_n 2, 1) := dk_28 (dk_at dksX11_card_0 17 rfl rfl)
theorem dX11_card_18 : decode cX11_card 18 = .ok (.iaload, 1) := dk_46 (dk_at dksX11_card_0 18 rfl rfl)
theorem dX11_card_19 : decode cX11_card 19 = .ok (.ireturn, 1) := dk_172 (dk_at dksX11_card_0 19 rfl rfl)
abbrev cX11_beWhole : ByteArray := prog_6_method_4_code
def yX11_beWhole : MethodName := ⟨RX11, "beWhole", "(LBeggarHeaps$Game;)V"⟩
def dkwX11_beWhole_8 : List UInt8 := [180, 0, 93, 181, 0, 93, 177]
abbrev dktX11_beWhole_8 : List UInt8 := dkwX11_beWhole_8 ++ []
def dkwX11_beWhole_7 : List UInt8 := [180, 0, 46, 184, 0, 116, 42, 43, 180, 0, 87, 181, 0, 87, 42, 43, 180, 0, 90, 181, 0, 90, 42, 43]
abbrev dktX11_beWhole_7 : List UInt8 := dkwX11_beWhole_7 ++ dktX11_beWhole_8
def dkwX11_beWhole_6 : List UInt8 := [87, 132, 2, 1, 167, 255, 223, 43, 180, 0, 43, 42, 180, 0, 43, 184, 0, 116, 43, 180, 0, 46, 42]
abbrev dktX11_beWhole_6 : List UInt8 := dkwX11_beWhole_6 ++ dktX11_beWhole_7
def dkwX11_beWhole_5 : List UInt8 := [182, 0, 100, 162, 0, 28, 42, 180, 0, 40, 43, 180, 0, 40, 28, 182, 0, 104, 192, 0, 114, 182, 0, 110]
abbrev dktX11_beWhole_5 : List UInt8 := dkwX11_beWhole_5 ++ dktX11_beWhole_6
def dkwX11_beWhole_4 : List UInt8 := [182, 0, 110, 87, 132, 2, 1, 167, 255, 223, 42, 180, 0, 40, 182, 0, 84, 3, 61, 28, 43, 180, 0, 40]
abbrev dktX11_beWhole_4 : List UInt8 := dkwX11_beWhole_4 ++ dktX11_beWhole_5
def dkwX11_beWhole_3 : List UInt8 := [180, 0, 36, 182, 0, 100, 162, 0, 28, 42, 180, 0, 36, 43, 180, 0, 36, 28, 182, 0, 104, 192, 0, 108]
abbrev dktX11_beWhole_3 : List UInt8 := dkwX11_beWhole_3 ++ dktX11_beWhole_4
def dkwX11_beWhole_2 : List UInt8 := [43, 180, 0, 28, 28, 51, 84, 132, 2, 1, 167, 255, 233, 42, 180, 0, 36, 182, 0, 84, 3, 61, 28, 43]
abbrev dktX11_beWhole_2 : List UInt8 := dkwX11_beWhole_2 ++ dktX11_beWhole_3
def dkwX11_beWhole_1 : List UInt8 := [28, 51, 84, 132, 2, 1, 167, 255, 233, 3, 61, 28, 42, 180, 0, 53, 162, 0, 21, 42, 180, 0, 28, 28]
abbrev dktX11_beWhole_1 : List UInt8 := dkwX11_beWhole_1 ++ dktX11_beWhole_2
def dkwX11_beWhole_0 : List UInt8 := [42, 43, 182, 0, 96, 3, 61, 28, 42, 180, 0, 49, 162, 0, 21, 42, 180, 0, 24, 28, 43, 180, 0, 24]
abbrev dktX11_beWhole_0 : List UInt8 := dkwX11_beWhole_0 ++ dktX11_beWhole_1
theorem dksX11_beWhole_0 : cX11_beWhole.data.toList.drop 0 = dktX11_beWhole_0 := by decide +kernel
theorem dksX11_beWhole_1 : cX11_beWhole.data.toList.drop 24 = dktX11_beWhole_1 := dk_seg dksX11_beWhole_0 24 rfl rfl
theorem dksX11_beWhole_2 : cX11_beWhole.data.toList.drop 48 = dktX11_beWhole_2 := dk_seg dksX11_beWhole_1 24 rfl rfl
theorem dksX11_beWhole_3 : cX11_beWhole.data.toList.drop 72 = dktX11_beWhole_3 := dk_seg dksX11_beWhole_2 24 rfl rfl
theorem dksX11_beWhole_4 : cX11_beWhole.data.toList.drop 96 = dktX11_beWhole_4 := dk_seg dksX11_beWhole_3 24 rfl rfl
theorem dksX11_beWhole_5 : cX11_beWhole.data.toList.drop 120 = dktX11_beWhole_5 := dk_seg dksX11_beWhole_4 24 rfl rfl
theorem dksX11_beWhole_6 : cX11_beWhole.data.toList.drop 144 = dktX11_beWhole_6 := dk_seg dksX11_beWhole_5 24 rfl rfl
theorem dksX11_beWhole_7 : cX11_beWhole.data.toList.drop 167 = dktX11_beWhole_7 := dk_seg dksX11_beWhole_6 23 rfl rfl
theorem dksX11_beWhole_8 : cX11_beWhole.data.toList.drop 191 = dktX11_beWhole_8 := dk_seg dksX11_beWhole_7 24 rfl rfl
theorem dX11_beWhole_0 : decode cX11_beWhole 0 = .ok (.aload_n 0, 1) := dk_42 (dk_at dksX11_beWhole_0 0 rfl rfl)
theorem dX11_beWhole_1 : decode cX11_beWhole 1 = .ok (.aload_n 1, 1) := dk_43 (dk_at dksX11_beWhole_0 1 rfl rfl)
theorem dX11_beWhole_2 : decode cX11_beWhole 2 = .ok (.invokevirtual 96, 3) := dk_182 0 96 (dk_at dksX11_beWhole_0 2 rfl rfl)
theorem dX11_beWhole_5 : decode cX11_beWhole 5 = .ok (.iconst 0, 1) := dk_3 (dk_at dksX11_beWhole_0 5 rfl rfl)
theorem dX11_beWhole_6 : decode cX11_beWhole 6 = .ok (.istore_n 2, 1) := dk_61 (dk_at dksX11_beWhole_0 6 rfl rfl)
theorem dX11_beWhole_7 : decode cX11_beWhole 7 = .ok (.iload_n 2, 1) := dk_28 (dk_at dksX11_beWhole_0 7 rfl rfl)
theorem dX11_beWhole_8 : decode cX11_beWhole 8 = .ok (.aload_n 0, 1) := dk_42 (dk_at dksX11_beWhole_0 8 rfl rfl)
theorem dX11_beWhole_9 : decode cX11_beWhole 9 = .ok (.getfield 49, 3) := dk_180 0 49 (dk_at dksX11_beWhole_0 9 rfl rfl)
theorem dX11_beWhole_12 : decode cX11_beWhole 12 = .ok (.if_icmp .ge 21, 3) := dk_162 0 21 (dk_at dksX11_beWhole_0 12 rfl rfl)
theorem dX11_beWhole_15 : decode cX11_beWhole 15 = .ok (.aload_n 0, 1) := dk_42 (dk_at dksX11_beWhole_0 15 rfl rfl)
theorem dX11_beWhole_16 : decode cX11_beWhole 16 = .ok (.getfield 24, 3) := dk_180 0 24 (dk_at dksX11_beWhole_0 16 rfl rfl)
theorem dX11_beWhole_19 : decode cX11_beWhole 19 = .ok (.iload_n 2, 1) := dk_28 (dk_at dksX11_beWhole_0 19 rfl rfl)
theorem dX11_beWhole_20 : decode cX11_beWhole 20 = .ok (.aload_n 1, 1) := dk_43 (dk_at dksX11_beWhole_0 20 rfl rfl)
theorem dX11_beWhole_21 : decode cX11_beWhole 21 = .ok (.getfield 24, 3) := dk_180 0 24 (dk_at dksX11_beWhole_0 21 rfl rfl)
theorem dX11_beWhole_24 : decode cX11_beWhole 24 = .ok (.iload_n 2, 1) := dk_28 (dk_at dksX11_beWhole_1 0 rfl rfl)
theorem dX11_beWhole_25 : decode cX11_beWhole 25 = .ok (.baload, 1) := dk_51 (dk_at dksX11_beWhole_1 1 rfl rfl)
theorem dX11_beWhole_26 : decode cX11_beWhole 26 = .ok (.bastore, 1) := dk_84 (dk_at dksX11_beWhole_1 2 rfl rfl)
theorem dX11_beWhole_27 : decode cX11_beWhole 27 = .ok (.iinc 2 1, 3) := dk_132 2 1 (dk_at dksX11_beWhole_1 3 rfl rfl)
theorem dX11_beWhole_30 : decode cX11_beWhole 30 = .ok (.goto (-23), 3) := dk_167 255 233 (dk_at dksX11_beWhole_1 6 rfl rfl)
theorem dX11_beWhole_33 : decode cX11_beWhole 33 = .ok (.iconst 0, 1) := dk_3 (dk_at dksX11_beWhole_1 9 rfl rfl)
theorem dX11_beWhole_34 : decode cX11_beWhole 34 = .ok (.istore_n 2, 1) := dk_61 (dk_at dksX11_beWhole_1 10 rfl rfl)
theorem dX11_beWhole_35 : decode cX11_beWhole 35 = .ok (.iload_n 2, 1) := dk_28 (dk_at dksX11_beWhole_1 11 rfl rfl)
theorem dX11_beWhole_36 : decode cX11_beWhole 36 = .ok (.aload_n 0, 1) := dk_42 (dk_at dksX11_beWhole_1 12 rfl rfl)
theorem dX11_beWhole_37 : decode cX11_beWhole 37 = .ok (.getfield 53, 3) := dk_180 0 53 (dk_at dksX11_beWhole_1 13 rfl rfl)
theorem dX11_beWhole_40 : decode cX11_beWhole 40 = .ok (.if_icmp .ge 21, 3) := dk_162 0 21 (dk_at dksX11_beWhole_1 16 rfl rfl)
theorem dX11_beWhole_43 : decode cX11_beWhole 43 = .ok (.aload_n 0, 1) := dk_42 (dk_at dksX11_beWhole_1 19 rfl rfl)
theorem dX11_beWhole_44 : decode cX11_beWhole 44 = .ok (.getfield 28, 3) := dk_180 0 28 (dk_at dksX11_beWhole_1 20 rfl rfl)
theorem dX11_beWhole_47 : decode cX11_beWhole 47 = .ok (.iload_n 2, 1) := dk_28 (dk_at dksX11_beWhole_1 23 rfl rfl)
theorem dX11_beWhole_48 : decode cX11_beWhole 48 = .ok (.aload_n 1, 1) := dk_43 (dk_at dksX11_beWhole_2 0 rfl rfl)
theorem dX11_beWhole_49 : decode cX11_beWhole 49 = .ok (.getfield 28, 3) := dk_180 0 28 (dk_at dksX11_beWhole_2 1 rfl rfl)
theorem dX11_beWhole_52 : decode cX11_beWhole 52 = .ok (.iload_n 2, 1) := dk_28 (dk_at dksX11_beWhole_2 4 rfl rfl)
theorem dX11_beWhole_53 : decode cX11_beWhole 53 = .ok (.baload, 1) := dk_51 (dk_at dksX11_beWhole_2 5 rfl rfl)
theorem dX11_beWhole_54 : decode cX11_beWhole 54 = .ok (.bastore, 1) := dk_84 (dk_at dksX11_beWhole_2 6 rfl rfl)
theorem dX11_beWhole_55 : decode cX11_beWhole 55 = .ok (.iinc 2 1, 3) := dk_132 2 1 (dk_at dksX11_beWhole_2 7 rfl rfl)
theorem dX11_beWhole_58 : decode cX11_beWhole 58 = .ok (.goto (-23), 3) := dk_167 255 233 (dk_at dksX11_beWhole_2 10 rfl rfl)
theorem dX11_beWhole_61 : decode cX11_beWhole 61 = .ok (.aload_n 0, 1) := dk_42 (dk_at dksX11_beWhole_2 13 rfl rfl)
theorem dX11_beWhole_62 : decode cX11_beWhole 62 = .ok (.getfield 36, 3) := dk_180 0 36 (dk_at dksX11_beWhole_2 14 rfl rfl)
theorem dX11_beWhole_65 : decode cX11_beWhole 65 = .ok (.invokevirtual 84, 3) := dk_182 0 84 (dk_at dksX11_beWhole_2 17 rfl rfl)
theorem dX11_beWhole_68 : decode cX11_beWhole 68 = .ok (.iconst 0, 1) := dk_3 (dk_at dksX11_beWhole_2 20 rfl rfl)
theorem dX11_beWhole_69 : decode cX11_beWhole 69 = .ok (.istore_n 2, 1) := dk_61 (dk_at dksX11_beWhole_2 21 rfl rfl)
theorem dX11_beWhole_70 : decode cX11_beWhole 70 = .ok (.iload_n 2, 1) := dk_28 (dk_at dksX11_beWhole_2 22 rfl rfl)
theorem dX11_beWhole_71 : decode cX11_beWhole 71 = .ok (.aload_n 1, 1) := dk_43 (dk_at dksX11_beWhole_2 23 rfl rfl)
theorem dX11_beWhole_72 : decode cX11_beWhole 72 = .ok (.getfield 36, 3) := dk_180 0 36 (dk_at dksX11_beWhole_3 0 rfl rfl)
theorem dX11_beWhole_75 : decode cX11_beWhole 75 = .ok (.invokevirtual 100, 3) := dk_182 0 100 (dk_at dksX11_beWhole_3 3 rfl rfl)
theorem dX11_beWhole_78 : decode cX11_beWhole 78 = .ok (.if_icmp .ge 28, 3) := dk_162 0 28 (dk_at dksX11_beWhole_3 6 rfl rfl)
theorem dX11_beWhole_81 : decode cX11_beWhole 81 = .ok (.aload_n 0, 1) := dk_42 (dk_at dksX11_beWhole_3 9 rfl rfl)
theorem dX11_beWhole_82 : decode cX11_beWhole 82 = .ok (.getfield 36, 3) := dk_180 0 36 (dk_at dksX11_beWhole_3 10 rfl rfl)
theorem dX11_beWhole_85 : decode cX11_beWhole 85 = .ok (.aload_n 1, 1) := dk_43 (dk_at dksX11_beWhole_3 13 rfl rfl)
theorem dX11_beWhole_86 : decode cX11_beWhole 86 = .ok (.getfield 36, 3) := dk_180 0 36 (dk_at dksX11_beWhole_3 14 rfl rfl)
theorem dX11_beWhole_89 : decode cX11_beWhole 89 = .ok (.iload_n 2, 1) := dk_28 (dk_at dksX11_beWhole_3 17 rfl rfl)
theorem dX11_beWhole_90 : decode cX11_beWhole 90 = .ok (.invokevirtual 104, 3) := dk_182 0 104 (dk_at dksX11_beWhole_3 18 rfl rfl)
theorem dX11_beWhole_93 : decode cX11_beWhole 93 = .ok (.checkcast 108, 3) := dk_192 0 108 (dk_at dksX11_beWhole_3 21 rfl rfl)
theorem dX11_beWhole_96 : decode cX11_beWhole 96 = .ok (.invokevirtual 110, 3) := dk_182 0 110 (dk_at dksX11_beWhole_4 0 rfl rfl)
theorem dX11_beWhole_99 : decode cX11_beWhole 99 = .ok (.pop, 1) := dk_87 (dk_at dksX11_beWhole_4 3 rfl rfl)
theorem dX11_beWhole_100 : decode cX11_beWhole 100 = .ok (.iinc 2 1, 3) := dk_132 2 1 (dk_at dksX11_beWhole_4 4 rfl rfl)
theorem dX11_beWhole_103 : decode cX11_beWhole 103 = .ok (.goto (-33), 3) := dk_167 255 223 (dk_at dksX11_beWhole_4 7 rfl rfl)
theorem dX11_beWhole_106 : decode cX11_beWhole 106 = .ok (.aload_n 0, 1) := dk_42 (dk_at dksX11_beWhole_4 10 rfl rfl)
theorem dX11_beWhole_107 : decode cX11_beWhole 107 = .ok (.getfield 40, 3) := dk_180 0 40 (dk_at dksX11_beWhole_4 11 rfl rfl)
theorem dX11_beWhole_110 : decode cX11_beWhole 110 = .ok (.invokevirtual 84, 3) := dk_182 0 84 (dk_at dksX11_beWhole_4 14 rfl rfl)
theorem dX11_beWhole_113 : decode cX11_beWhole 113 = .ok (.iconst 0, 1) := dk_3 (dk_at dksX11_beWhole_4 17 rfl rfl)
theorem dX11_beWhole_114 : decode cX11_beWhole 114 = .ok (.istore_n 2, 1) := dk_61 (dk_at dksX11_beWhole_4 18 rfl rfl)
theorem dX11_beWhole_115 : decode cX11_beWhole 115 = .ok (.iload_n 2, 1) := dk_28 (dk_at dksX11_beWhole_4 19 rfl rfl)
theorem dX11_beWhole_116 : decode cX11_beWhole 116 = .ok (.aload_n 1, 1) := dk_43 (dk_at dksX11_beWhole_4 20 rfl rfl)
theorem dX11_beWhole_117 : decode cX11_beWhole 117 = .ok (.getfield 40, 3) := dk_180 0 40 (dk_at dksX11_beWhole_4 21 rfl rfl)
theorem dX11_beWhole_120 : decode cX11_beWhole 120 = .ok (.invokevirtual 100, 3) := dk_182 0 100 (dk_at dksX11_beWhole_5 0 rfl rfl)
theorem dX11_beWhole_123 : decode cX11_beWhole 123 = .ok (.if_icmp .ge 28, 3) := dk_162 0 28 (dk_at dksX11_beWhole_5 3 rfl rfl)
theorem dX11_beWhole_126 : decode cX11_beWhole 126 = .ok (.aload_n 0, 1) := dk_42 (dk_at dksX11_beWhole_5 6 rfl rfl)
theorem dX11_beWhole_127 : decode cX11_beWhole 127 = .ok (.getfield 40, 3) := dk_180 0 40 (dk_at dksX11_beWhole_5 7 rfl rfl)
theorem dX11_beWhole_130 : decode cX11_beWhole 130 = .ok (.aload_n 1, 1) := dk_43 (dk_at dksX11_beWhole_5 10 rfl rfl)
theorem dX11_beWhole_131 : decode cX11_beWhole 131 = .ok (.getfield 40, 3) := dk_180 0 40 (dk_at dksX11_beWhole_5 11 rfl rfl)
theorem dX11_beWhole_134 : decode cX11_beWhole 134 = .ok (.iload_n 2, 1) := dk_28 (dk_at dksX11_beWhole_5 14 rfl rfl)
theorem dX11_beWhole_135 : decode cX11_beWhole 135 = .ok (.invokevirtual 104, 3) := dk_182 0 104 (dk_at dksX11_beWhole_5 15 rfl rfl)
theorem dX11_beWhole_138 : decode cX11_beWhole 138 = .ok (.checkcast 114, 3) := dk_192 0 114 (dk_at dksX11_beWhole_5 18 rfl rfl)
theorem dX11_beWhole_141 : decode cX11_beWhole 141 = .ok (.invokevirtual 110, 3) := dk_182 0 110 (dk_at dksX11_beWhole_5 21 rfl rfl)
theorem dX11_beWhole_144 : decode cX11_beWhole 144 = .ok (.pop, 1) := dk_87 (dk_at dksX11_beWhole_6 0 rfl rfl)
theorem dX11_beWhole_145 : decode cX11_beWhole 145 = .ok (.iinc 2 1, 3) := dk_132 2 1 (dk_at dksX11_beWhole_6 1 rfl rfl)
theorem dX11_beWhole_148 : decode cX11_beWhole 148 = .ok (.goto (-33), 3) := dk_167 255 223 (dk_at dksX11_beWhole_6 4 rfl rfl)
theorem dX11_beWhole_151 : decode cX11_beWhole 151 = .ok (.aload_n 1, 1) := dk_43 (dk_at dksX11_beWhole_6 7 rfl rfl)
theorem dX11_beWhole_152 : decode cX11_beWhole 152 = .ok (.getfield 43, 3) := dk_180 0 43 (dk_at dksX11_beWhole_6 8 rfl rfl)
theorem dX11_beWhole_155 : decode cX11_beWhole 155 = .ok (.aload_n 0, 1) := dk_42 (dk_at dksX11_beWhole_6 11 rfl rfl)
theorem dX11_beWhole_156 : decode cX11_beWhole 156 = .ok (.getfield 43, 3) := dk_180 0 43 (dk_at dksX11_beWhole_6 12 rfl rfl)
theorem dX11_beWhole_159 : decode cX11_beWhole 159 = .ok (.invokestatic 116, 3) := dk_184 0 116 (dk_at dksX11_beWhole_6 15 rfl rfl)
theorem dX11_beWhole_162 : decode cX11_beWhole 162 = .ok (.aload_n 1, 1) := dk_43 (dk_at dksX11_beWhole_6 18 rfl rfl)
theorem dX11_beWhole_163 : decode cX11_beWhole 163 = .ok (.getfield 46, 3) := dk_180 0 46 (dk_at dksX11_beWhole_6 19 rfl rfl)
theorem dX11_beWhole_166 : decode cX11_beWhole 166 = .ok (.aload_n 0, 1) := dk_42 (dk_at dksX11_beWhole_6 22 rfl rfl)
theorem dX11_beWhole_167 : decode cX11_beWhole 167 = .ok (.getfield 46, 3) := dk_180 0 46 (dk_at dksX11_beWhole_7 0 rfl rfl)
theorem dX11_beWhole_170 : decode cX11_beWhole 170 = .ok (.invokestatic 116, 3) := dk_184 0 116 (dk_at dksX11_beWhole_7 3 rfl rfl)
theorem dX11_beWhole_173 : decode cX11_beWhole 173 = .ok (.aload_n 0, 1) := dk_42 (dk_at dksX11_beWhole_7 6 rfl rfl)
theorem dX11_beWhole_174 : decode cX11_beWhole 174 = .ok (.aload_n 1, 1) := dk_43 (dk_at dksX11_beWhole_7 7 rfl rfl)
theorem dX11_beWhole_175 : decode cX11_beWhole 175 = .ok (.getfield 87, 3) := dk_180 0 87 (dk_at dksX11_beWhole_7 8 rfl rfl)
theorem dX11_beWhole_178 : decode cX11_beWhole 178 = .ok (.putfield 87, 3) := dk_181 0 87 (dk_at dksX11_beWhole_7 11 rfl rfl)
theorem dX11_beWhole_181 : decode cX11_beWhole 181 = .ok (.aload_n 0, 1) := dk_42 (dk_at dksX11_beWhole_7 14 rfl rfl)
theorem dX11_beWhole_182 : decode cX11_beWhole 182 = .ok (.aload_n 1, 1) := dk_43 (dk_at dksX11_beWhole_7 15 rfl rfl)
theorem dX11_beWhole_183 : decode cX11_beWhole 183 = .ok (.getfield 90, 3) := dk_180 0 90 (dk_at dksX11_beWhole_7 16 rfl rfl)
theorem dX11_beWhole_186 : decode cX11_beWhole 186 = .ok (.putfield 90, 3) := dk_181 0 90 (dk_at dksX11_beWhole_7 19 rfl rfl)
theorem dX11_beWhole_189 : decode cX11_beWhole 189 = .ok (.aload_n 0, 1) := dk_42 (dk_at dksX11_beWhole_7 22 rfl rfl)
theorem dX11_beWhole_190 : decode cX11_beWhole 190 = .ok (.aload_n 1, 1) := dk_43 (dk_at dksX11_beWhole_7 23 rfl rfl)
theorem dX11_beWhole_191 : decode cX11_beWhole 191 = .ok (.getfield 93, 3) := dk_180 0 93 (dk_at dksX11_beWhole_8 0 rfl rfl)
theorem dX11_beWhole_194 : decode cX11_beWhole 194 = .ok (.putfield 93, 3) := dk_181 0 93 (dk_at dksX11_beWhole_8 3 rfl rfl)
theorem dX11_beWhole_197 : decode cX11_beWhole 197 = .ok (.return_, 1) := dk_177 (dk_at dksX11_beWhole_8 6 rfl rfl)
abbrev cX11_be : ByteArray := prog_6_method_3_code
def yX11_be : MethodName := ⟨RX11, "be", "(LBeggarHeaps$Game;)V"⟩
def dkwX11_be_7 : List UInt8 := [181, 0, 77, 42, 43, 180, 0, 80, 181, 0, 80, 177]
abbrev dktX11_be_7 : List UInt8 := dkwX11_be_7 ++ []
def dkwX11_be_6 : List UInt8 := [181, 0, 68, 42, 43, 180, 0, 71, 181, 0, 71, 42, 43, 180, 0, 74, 181, 0, 74, 42, 43, 180, 0, 77]
abbrev dktX11_be_6 : List UInt8 := dkwX11_be_6 ++ dktX11_be_7
def dkwX11_be_5 : List UInt8 := [181, 0, 59, 42, 43, 180, 0, 62, 181, 0, 62, 42, 43, 180, 0, 65, 181, 0, 65, 42, 43, 180, 0, 68]
abbrev dktX11_be_5 : List UInt8 := dkwX11_be_5 ++ dktX11_be_6
def dkwX11_be_4 : List UInt8 := [180, 0, 18, 28, 43, 180, 0, 18, 28, 46, 79, 132, 2, 1, 167, 255, 233, 42, 43, 180, 0, 59]
abbrev dktX11_be_4 : List UInt8 := dkwX11_be_4 ++ dktX11_be_5
def dkwX11_be_3 : List UInt8 := [180, 0, 15, 28, 46, 79, 132, 2, 1, 167, 255, 233, 3, 61, 28, 42, 180, 0, 56, 162, 0, 21, 42]
abbrev dktX11_be_3 : List UInt8 := dkwX11_be_3 ++ dktX11_be_4
def dkwX11_be_2 : List UInt8 := [132, 2, 1, 167, 255, 233, 3, 61, 28, 42, 180, 0, 53, 162, 0, 21, 42, 180, 0, 15, 28, 43]
abbrev dktX11_be_2 : List UInt8 := dkwX11_be_2 ++ dktX11_be_3
def dkwX11_be_1 : List UInt8 := [3, 61, 28, 42, 180, 0, 49, 162, 0, 21, 42, 180, 0, 9, 28, 43, 180, 0, 9, 28, 46, 79]
abbrev dktX11_be_1 : List UInt8 := dkwX11_be_1 ++ dktX11_be_2
def dkwX11_be_0 : List UInt8 := [42, 43, 180, 0, 49, 181, 0, 49, 42, 43, 180, 0, 53, 181, 0, 53, 42, 43, 180, 0, 56, 181, 0, 56]
abbrev dktX11_be_0 : List UInt8 := dkwX11_be_0 ++ dktX11_be_1
theorem dksX11_be_0 : cX11_be.data.toList.drop 0 = dktX11_be_0 := by decide +kernel
theorem dksX11_be_1 : cX11_be.data.toList.drop 24 = dktX11_be_1 := dk_seg dksX11_be_0 24 rfl rfl
theorem dksX11_be_2 : cX11_be.data.toList.drop 46 = dktX11_be_2 := dk_seg dksX11_be_1 22 rfl rfl
theorem dksX11_be_3 : cX11_be.data.toList.drop 68 = dktX11_be_3 := dk_seg dksX11_be_2 22 rfl rfl
theorem dksX11_be_4 : cX11_be.data.toList.drop 91 = dktX11_be_4 := dk_seg dksX11_be_3 23 rfl rfl
theorem dksX11_be_5 : cX11_be.data.toList.drop 113 = dktX11_be_5 := dk_seg dksX11_be_4 22 rfl rfl
theorem dksX11_be_6 : cX11_be.data.toList.drop 137 = dktX11_be_6 := dk_seg dksX11_be_5 24 rfl rfl
theorem dksX11_be_7 : cX11_be.data.toList.drop 161 = dktX11_be_7 := dk_seg dksX11_be_6 24 rfl rfl
theorem dX11_be_0 : decode cX11_be 0 = .ok (.aload_n 0, 1) := dk_42 (dk_at dksX11_be_0 0 rfl rfl)
theorem dX11_be_1 : decode cX11_be 1 = .ok (.aload_n 1, 1) := dk_43 (dk_at dksX11_be_0 1 rfl rfl)
theorem dX11_be_2 : decode cX11_be 2 = .ok (.getfield 49, 3) := dk_180 0 49 (dk_at dksX11_be_0 2 rfl rfl)
theorem dX11_be_5 : decode cX11_be 5 = .ok (.putfield 49, 3) := dk_181 0 49 (dk_at dksX11_be_0 5 rfl rfl)
theorem dX11_be_8 : decode cX11_be 8 = .ok (.aload_n 0, 1) := dk_42 (dk_at dksX11_be_0 8 rfl rfl)
theorem dX11_be_9 : decode cX11_be 9 = .ok (.aload_n 1, 1) := dk_43 (dk_at dksX11_be_0 9 rfl rfl)
theorem dX11_be_10 : decode cX11_be 10 = .ok (.getfield 53, 3) := dk_180 0 53 (dk_at dksX11_be_0 10 rfl rfl)
theorem dX11_be_13 : decode cX11_be 13 = .ok (.putfield 53, 3) := dk_181 0 53 (dk_at dksX11_be_0 13 rfl rfl)
theorem dX11_be_16 : decode cX11_be 16 = .ok (.aload_n 0, 1) := dk_42 (dk_at dksX11_be_0 16 rfl rfl)
theorem dX11_be_17 : decode cX11_be 17 = .ok (.aload_n 1, 1) := dk_43 (dk_at dksX11_be_0 17 rfl rfl)
theorem dX11_be_18 : decode cX11_be 18 = .ok (.getfield 56, 3) := dk_180 0 56 (dk_at dksX11_be_0 18 rfl rfl)
theorem dX11_be_21 : decode cX11_be 21 = .ok (.putfield 56, 3) := dk_181 0 56 (dk_at dksX11_be_0 21 rfl rfl)
theorem dX11_be_24 : decode cX11_be 24 = .ok (.iconst 0, 1) := dk_3 (dk_at dksX11_be_1 0 rfl rfl)
theorem dX11_be_25 : decode cX11_be 25 = .ok (.istore_n 2, 1) := dk_61 (dk_at dksX11_be_1 1 rfl rfl)
theorem dX11_be_26 : decode cX11_be 26 = .ok (.iload_n 2, 1) := dk_28 (dk_at dksX11_be_1 2 rfl rfl)
theorem dX11_be_27 : decode cX11_be 27 = .ok (.aload_n 0, 1) := dk_42 (dk_at dksX11_be_1 3 rfl rfl)
theorem dX11_be_28 : decode cX11_be 28 = .ok (.getfield 49, 3) := dk_180 0 49 (dk_at dksX11_be_1 4 rfl rfl)
theorem dX11_be_31 : decode cX11_be 31 = .ok (.if_icmp .ge 21, 3) := dk_162 0 21 (dk_at dksX11_be_1 7 rfl rfl)
theorem dX11_be_34 : decode cX11_be 34 = .ok (.aload_n 0, 1) := dk_42 (dk_at dksX11_be_1 10 rfl rfl)
theorem dX11_be_35 : decode cX11_be 35 = .ok (.getfield 9, 3) := dk_180 0 9 (dk_at dksX11_be_1 11 rfl rfl)
theorem dX11_be_38 : decode cX11_be 38 = .ok (.iload_n 2, 1) := dk_28 (dk_at dksX11_be_1 14 rfl rfl)
theorem dX11_be_39 : decode cX11_be 39 = .ok (.aload_n 1, 1) := dk_43 (dk_at dksX11_be_1 15 rfl rfl)
theorem dX11_be_40 : decode cX11_be 40 = .ok (.getfield 9, 3) := dk_180 0 9 (dk_at dksX11_be_1 16 rfl rfl)
theorem dX11_be_43 : decode cX11_be 43 = .ok (.iload_n 2, 1) := dk_28 (dk_at dksX11_be_1 19 rfl rfl)
theorem dX11_be_44 : decode cX11_be 44 = .ok (.iaload, 1) := dk_46 (dk_at dksX11_be_1 20 rfl rfl)
theorem dX11_be_45 : decode cX11_be 45 = .ok (.iastore, 1) := dk_79 (dk_at dksX11_be_1 21 rfl rfl)
theorem dX11_be_46 : decode cX11_be 46 = .ok (.iinc 2 1, 3) := dk_132 2 1 (dk_at dksX11_be_2 0 rfl rfl)
theorem dX11_be_49 : decode cX11_be 49 = .ok (.goto (-23), 3) := dk_167 255 233 (dk_at dksX11_be_2 3 rfl rfl)
theorem dX11_be_52 : decode cX11_be 52 = .ok (.iconst 0, 1) := dk_3 (dk_at dksX11_be_2 6 rfl rfl)
theorem dX11_be_53 : decode cX11_be 53 = .ok (.istore_n 2, 1) := dk_61 (dk_at dksX11_be_2 7 rfl rfl)
theorem dX11_be_54 : decode cX11_be 54 = .ok (.iload_n 2, 1) := dk_28 (dk_at dksX11_be_2 8 rfl rfl)
theorem dX11_be_55 : decode cX11_be 55 = .ok (.aload_n 0, 1) := dk_42 (dk_at dksX11_be_2 9 rfl rfl)
theorem dX11_be_56 : decode cX11_be 56 = .ok (.getfield 53, 3) := dk_180 0 53 (dk_at dksX11_be_2 10 rfl rfl)
theorem dX11_be_59 : decode cX11_be 59 = .ok (.if_icmp .ge 21, 3) := dk_162 0 21 (dk_at dksX11_be_2 13 rfl rfl)
theorem dX11_be_62 : decode cX11_be 62 = .ok (.aload_n 0, 1) := dk_42 (dk_at dksX11_be_2 16 rfl rfl)
theorem dX11_be_63 : decode cX11_be 63 = .ok (.getfield 15, 3) := dk_180 0 15 (dk_at dksX11_be_2 17 rfl rfl)
theorem dX11_be_66 : decode cX11_be 66 = .ok (.iload_n 2, 1) := dk_28 (dk_at dksX11_be_2 20 rfl rfl)
theorem dX11_be_67 : decode cX11_be 67 = .ok (.aload_n 1, 1) := dk_43 (dk_at dksX11_be_2 21 rfl rfl)
theorem dX11_be_68 : decode cX11_be 68 = .ok (.getfield 15, 3) := dk_180 0 15 (dk_at dksX11_be_3 0 rfl rfl)
theorem dX11_be_71 : decode cX11_be 71 = .ok (.iload_n 2, 1) := dk_28 (dk_at dksX11_be_3 3 rfl rfl)
theorem dX11_be_72 : decode cX11_be 72 = .ok (.iaload, 1) := dk_46 (dk_at dksX11_be_3 4 rfl rfl)
theorem dX11_be_73 : decode cX11_be 73 = .ok (.iastore, 1) := dk_79 (dk_at dksX11_be_3 5 rfl rfl)
theorem dX11_be_74 : decode cX11_be 74 = .ok (.iinc 2 1, 3) := dk_132 2 1 (dk_at dksX11_be_3 6 rfl rfl)
theorem dX11_be_77 : decode cX11_be 77 = .ok (.goto (-23), 3) := dk_167 255 233 (dk_at dksX11_be_3 9 rfl rfl)
theorem dX11_be_80 : decode cX11_be 80 = .ok (.iconst 0, 1) := dk_3 (dk_at dksX11_be_3 12 rfl rfl)
theorem dX11_be_81 : decode cX11_be 81 = .ok (.istore_n 2, 1) := dk_61 (dk_at dksX11_be_3 13 rfl rfl)
theorem dX11_be_82 : decode cX11_be 82 = .ok (.iload_n 2, 1) := dk_28 (dk_at dksX11_be_3 14 rfl rfl)
theorem dX11_be_83 : decode cX11_be 83 = .ok (.aload_n 0, 1) := dk_42 (dk_at dksX11_be_3 15 rfl rfl)
theorem dX11_be_84 : decode cX11_be 84 = .ok (.getfield 56, 3) := dk_180 0 56 (dk_at dksX11_be_3 16 rfl rfl)
theorem dX11_be_87 : decode cX11_be 87 = .ok (.if_icmp .ge 21, 3) := dk_162 0 21 (dk_at dksX11_be_3 19 rfl rfl)
theorem dX11_be_90 : decode cX11_be 90 = .ok (.aload_n 0, 1) := dk_42 (dk_at dksX11_be_3 22 rfl rfl)
theorem dX11_be_91 : decode cX11_be 91 = .ok (.getfield 18, 3) := dk_180 0 18 (dk_at dksX11_be_4 0 rfl rfl)
theorem dX11_be_94 : decode cX11_be 94 = .ok (.iload_n 2, 1) := dk_28 (dk_at dksX11_be_4 3 rfl rfl)
theorem dX11_be_95 : decode cX11_be 95 = .ok (.aload_n 1, 1) := dk_43 (dk_at dksX11_be_4 4 rfl rfl)
theorem dX11_be_96 : decode cX11_be 96 = .ok (.getfield 18, 3) := dk_180 0 18 (dk_at dksX11_be_4 5 rfl rfl)
theorem dX11_be_99 : decode cX11_be 99 = .ok (.iload_n 2, 1) := dk_28 (dk_at dksX11_be_4 8 rfl rfl)
theorem dX11_be_100 : decode cX11_be 100 = .ok (.iaload, 1) := dk_46 (dk_at dksX11_be_4 9 rfl rfl)
theorem dX11_be_101 : decode cX11_be 101 = .ok (.iastore, 1) := dk_79 (dk_at dksX11_be_4 10 rfl rfl)
theorem dX11_be_102 : decode cX11_be 102 = .ok (.iinc 2 1, 3) := dk_132 2 1 (dk_at dksX11_be_4 11 rfl rfl)
theorem dX11_be_105 : decode cX11_be 105 = .ok (.goto (-23), 3) := dk_167 255 233 (dk_at dksX11_be_4 14 rfl rfl)
theorem dX11_be_108 : decode cX11_be 108 = .ok (.aload_n 0, 1) := dk_42 (dk_at dksX11_be_4 17 rfl rfl)
theorem dX11_be_109 : decode cX11_be 109 = .ok (.aload_n 1, 1) := dk_43 (dk_at dksX11_be_4 18 rfl rfl)
theorem dX11_be_110 : decode cX11_be 110 = .ok (.getfield 59, 3) := dk_180 0 59 (dk_at dksX11_be_4 19 rfl rfl)
theorem dX11_be_113 : decode cX11_be 113 = .ok (.putfield 59, 3) := dk_181 0 59 (dk_at dksX11_be_5 0 rfl rfl)
theorem dX11_be_116 : decode cX11_be 116 = .ok (.aload_n 0, 1) := dk_42 (dk_at dksX11_be_5 3 rfl rfl)
theorem dX11_be_117 : decode cX11_be 117 = .ok (.aload_n 1, 1) := dk_43 (dk_at dksX11_be_5 4 rfl rfl)
theorem dX11_be_118 : decode cX11_be 118 = .ok (.getfield 62, 3) := dk_180 0 62 (dk_at dksX11_be_5 5 rfl rfl)
theorem dX11_be_121 : decode cX11_be 121 = .ok (.putfield 62, 3) := dk_181 0 62 (dk_at dksX11_be_5 8 rfl rfl)
theorem dX11_be_124 : decode cX11_be 124 = .ok (.aload_n 0, 1) := dk_42 (dk_at dksX11_be_5 11 rfl rfl)
theorem dX11_be_125 : decode cX11_be 125 = .ok (.aload_n 1, 1) := dk_43 (dk_at dksX11_be_5 12 rfl rfl)
theorem dX11_be_126 : decode cX11_be 126 = .ok (.getfield 65, 3) := dk_180 0 65 (dk_at dksX11_be_5 13 rfl rfl)
theorem dX11_be_129 : decode cX11_be 129 = .ok (.putfield 65, 3) := dk_181 0 65 (dk_at dksX11_be_5 16 rfl rfl)
theorem dX11_be_132 : decode cX11_be 132 = .ok (.aload_n 0, 1) := dk_42 (dk_at dksX11_be_5 19 rfl rfl)
theorem dX11_be_133 : decode cX11_be 133 = .ok (.aload_n 1, 1) := dk_43 (dk_at dksX11_be_5 20 rfl rfl)
theorem dX11_be_134 : decode cX11_be 134 = .ok (.getfield 68, 3) := dk_180 0 68 (dk_at dksX11_be_5 21 rfl rfl)
theorem dX11_be_137 : decode cX11_be 137 = .ok (.putfield 68, 3) := dk_181 0 68 (dk_at dksX11_be_6 0 rfl rfl)
theorem dX11_be_140 : decode cX11_be 140 = .ok (.aload_n 0, 1) := dk_42 (dk_at dksX11_be_6 3 rfl rfl)
theorem dX11_be_141 : decode cX11_be 141 = .ok (.aload_n 1, 1) := dk_43 (dk_at dksX11_be_6 4 rfl rfl)
theorem dX11_be_142 : decode cX11_be 142 = .ok (.getfield 71, 3) := dk_180 0 71 (dk_at dksX11_be_6 5 rfl rfl)
theorem dX11_be_145 : decode cX11_be 145 = .ok (.putfield 71, 3) := dk_181 0 71 (dk_at dksX11_be_6 8 rfl rfl)
theorem dX11_be_148 : decode cX11_be 148 = .ok (.aload_n 0, 1) := dk_42 (dk_at dksX11_be_6 11 rfl rfl)
theorem dX11_be_149 : decode cX11_be 149 = .ok (.aload_n 1, 1) := dk_43 (dk_at dksX11_be_6 12 rfl rfl)
theorem dX11_be_150 : decode cX11_be 150 = .ok (.getfield 74, 3) := dk_180 0 74 (dk_at dksX11_be_6 13 rfl rfl)
theorem dX11_be_153 : decode cX11_be 153 = .ok (.putfield 74, 3) := dk_181 0 74 (dk_at dksX11_be_6 16 rfl rfl)
theorem dX11_be_156 : decode cX11_be 156 = .ok (.aload_n 0, 1) := dk_42 (dk_at dksX11_be_6 19 rfl rfl)
theorem dX11_be_157 : decode cX11_be 157 = .ok (.aload_n 1, 1) := dk_43 (dk_at dksX11_be_6 20 rfl rfl)
theorem dX11_be_158 : decode cX11_be 158 = .ok (.getfield 77, 3) := dk_180 0 77 (dk_at dksX11_be_6 21 rfl rfl)
theorem dX11_be_161 : decode cX11_be 161 = .ok (.putfield 77, 3) := dk_181 0 77 (dk_at dksX11_be_7 0 rfl rfl)
theorem dX11_be_164 : decode cX11_be 164 = .ok (.aload_n 0, 1) := dk_42 (dk_at dksX11_be_7 3 rfl rfl)
theorem dX11_be_165 : decode cX11_be 165 = .ok (.aload_n 1, 1) := dk_43 (dk_at dksX11_be_7 4 rfl rfl)
theorem dX11_be_166 : decode cX11_be 166 = .ok (.getfield 80, 3) := dk_180 0 80 (dk_at dksX11_be_7 5 rfl rfl)
theorem dX11_be_169 : decode cX11_be 169 = .ok (.putfield 80, 3) := dk_181 0 80 (dk_at dksX11_be_7 8 rfl rfl)
theorem dX11_be_172 : decode cX11_be 172 = .ok (.return_, 1) := dk_177 (dk_at dksX11_be_7 11 rfl rfl)
abbrev cX11_turned : ByteArray := prog_6_method_11_code
def yX11_turned : MethodName := ⟨RX11, "turned", "([I)Z"⟩
def dkwX11_turned_5 : List UInt8 := [180, 0, 59, 4, 100, 181, 0, 59, 42, 180, 0, 59, 154, 0, 7, 4, 167, 0, 4, 3, 172]
abbrev dktX11_turned_5 : List UInt8 := dkwX11_turned_5 ++ []
def dkwX11_turned_4 : List UInt8 := [172, 42, 180, 0, 59, 154, 0, 15, 42, 4, 42, 180, 0, 65, 100, 181, 0, 65, 3, 172, 42, 89]
abbrev dktX11_turned_4 : List UInt8 := dkwX11_turned_4 ++ dktX11_turned_5
def dkwX11_turned_3 : List UInt8 := [42, 28, 181, 0, 59, 42, 42, 180, 0, 65, 181, 0, 62, 42, 4, 42, 180, 0, 65, 100, 181, 0, 65, 3]
abbrev dktX11_turned_3 : List UInt8 := dkwX11_turned_3 ++ dktX11_turned_4
def dkwX11_turned_2 : List UInt8 := [46, 46, 61, 28, 158, 0, 45, 42, 180, 0, 59, 158, 0, 13, 42, 89, 180, 0, 77, 4, 96, 181, 0, 77]
abbrev dktX11_turned_2 : List UInt8 := dkwX11_turned_2 ++ dktX11_turned_3
def dkwX11_turned_1 : List UInt8 := [180, 0, 65, 100, 181, 0, 68, 3, 172, 42, 182, 0, 135, 43, 42, 180, 0, 18, 42, 180, 0, 56, 4, 100]
abbrev dktX11_turned_1 : List UInt8 := dkwX11_turned_1 ++ dktX11_turned_2
def dkwX11_turned_0 : List UInt8 := [42, 180, 0, 68, 155, 0, 5, 3, 172, 42, 42, 180, 0, 65, 182, 0, 120, 154, 0, 15, 42, 4, 42]
abbrev dktX11_turned_0 : List UInt8 := dkwX11_turned_0 ++ dktX11_turned_1
theorem dksX11_turned_0 : cX11_turned.data.toList.drop 0 = dktX11_turned_0 := by decide +kernel
theorem dksX11_turned_1 : cX11_turned.data.toList.drop 23 = dktX11_turned_1 := dk_seg dksX11_turned_0 23 rfl rfl
theorem dksX11_turned_2 : cX11_turned.data.toList.drop 47 = dktX11_turned_2 := dk_seg dksX11_turned_1 24 rfl rfl
theorem dksX11_turned_3 : cX11_turned.data.toList.drop 71 = dktX11_turned_3 := dk_seg dksX11_turned_2 24 rfl rfl
theorem dksX11_turned_4 : cX11_turned.data.toList.drop 95 = dktX11_turned_4 := dk_seg dksX11_turned_3 24 rfl rfl
theorem dksX11_turned_5 : cX11_turned.data.toList.drop 117 = dktX11_turned_5 := dk_seg dksX11_turned_4 22 rfl rfl
theorem dX11_turned_0 : decode cX11_turned 0 = .ok (.aload_n 0, 1) := dk_42 (dk_at dksX11_turned_0 0 rfl rfl)
theorem dX11_turned_1 : decode cX11_turned 1 = .ok (.getfield 68, 3) := dk_180 0 68 (dk_at dksX11_turned_0 1 rfl rfl)
theorem dX11_turned_4 : decode cX11_turned 4 = .ok (.ifCond .lt 5, 3) := dk_155 0 5 (dk_at dksX11_turned_0 4 rfl rfl)
theorem dX11_turned_7 : decode cX11_turned 7 = .ok (.iconst 0, 1) := dk_3 (dk_at dksX11_turned_0 7 rfl rfl)
theorem dX11_turned_8 : decode cX11_turned 8 = .ok (.ireturn, 1) := dk_172 (dk_at dksX11_turned_0 8 rfl rfl)
theorem dX11_turned_9 : decode cX11_turned 9 = .ok (.aload_n 0, 1) := dk_42 (dk_at dksX11_turned_0 9 rfl rfl)
theorem dX11_turned_10 : decode cX11_turned 10 = .ok (.aload_n 0, 1) := dk_42 (dk_at dksX11_turned_0 10 rfl rfl)
theorem dX11_turned_11 : decode cX11_turned 11 = .ok (.getfield 65, 3) := dk_180 0 65 (dk_at dksX11_turned_0 11 rfl rfl)
theorem dX11_turned_14 : decode cX11_turned 14 = .ok (.invokevirtual 120, 3) := dk_182 0 120 (dk_at dksX11_turned_0 14 rfl rfl)
theorem dX11_turned_17 : decode cX11_turned 17 = .ok (.ifCond .ne 15, 3) := dk_154 0 15 (dk_at dksX11_turned_0 17 rfl rfl)
theorem dX11_turned_20 : decode cX11_turned 20 = .ok (.aload_n 0, 1) := dk_42 (dk_at dksX11_turned_0 20 rfl rfl)
theorem dX11_turned_21 : decode cX11_turned 21 = .ok (.iconst 1, 1) := dk_4 (dk_at dksX11_turned_0 21 rfl rfl)
theorem dX11_turned_22 : decode cX11_turned 22 = .ok (.aload_n 0, 1) := dk_42 (dk_at dksX11_turned_0 22 rfl rfl)
theorem dX11_turned_23 : decode cX11_turned 23 = .ok (.getfield 65, 3) := dk_180 0 65 (dk_at dksX11_turned_1 0 rfl rfl)
theorem dX11_turned_26 : decode cX11_turned 26 = .ok (.isub, 1) := dk_100 (dk_at dksX11_turned_1 3 rfl rfl)
theorem dX11_turned_27 : decode cX11_turned 27 = .ok (.putfield 68, 3) := dk_181 0 68 (dk_at dksX11_turned_1 4 rfl rfl)
theorem dX11_turned_30 : decode cX11_turned 30 = .ok (.iconst 0, 1) := dk_3 (dk_at dksX11_turned_1 7 rfl rfl)
theorem dX11_turned_31 : decode cX11_turned 31 = .ok (.ireturn, 1) := dk_172 (dk_at dksX11_turned_1 8 rfl rfl)
theorem dX11_turned_32 : decode cX11_turned 32 = .ok (.aload_n 0, 1) := dk_42 (dk_at dksX11_turned_1 9 rfl rfl)
theorem dX11_turned_33 : decode cX11_turned 33 = .ok (.invokevirtual 135, 3) := dk_182 0 135 (dk_at dksX11_turned_1 10 rfl rfl)
theorem dX11_turned_36 : decode cX11_turned 36 = .ok (.aload_n 1, 1) := dk_43 (dk_at dksX11_turned_1 13 rfl rfl)
theorem dX11_turned_37 : decode cX11_turned 37 = .ok (.aload_n 0, 1) := dk_42 (dk_at dksX11_turned_1 14 rfl rfl)
theorem dX11_turned_38 : decode cX11_turned 38 = .ok (.getfield 18, 3) := dk_180 0 18 (dk_at dksX11_turned_1 15 rfl rfl)
theorem dX11_turned_41 : decode cX11_turned 41 = .ok (.aload_n 0, 1) := dk_42 (dk_at dksX11_turned_1 18 rfl rfl)
theorem dX11_turned_42 : decode cX11_turned 42 = .ok (.getfield 56, 3) := dk_180 0 56 (dk_at dksX11_turned_1 19 rfl rfl)
theorem dX11_turned_45 : decode cX11_turned 45 = .ok (.iconst 1, 1) := dk_4 (dk_at dksX11_turned_1 22 rfl rfl)
theorem dX11_turned_46 : decode cX11_turned 46 = .ok (.isub, 1) := dk_100 (dk_at dksX11_turned_1 23 rfl rfl)
theorem dX11_turned_47 : decode cX11_turned 47 = .ok (.iaload, 1) := dk_46 (dk_at dksX11_turned_2 0 rfl rfl)
theorem dX11_turned_48 : decode cX11_turned 48 = .ok (.iaload, 1) := dk_46 (dk_at dksX11_turned_2 1 rfl rfl)
theorem dX11_turned_49 : decode cX11_turned 49 = .ok (.istore_n 2, 1) := dk_61 (dk_at dksX11_turned_2 2 rfl rfl)
theorem dX11_turned_50 : decode cX11_turned 50 = .ok (.iload_n 2, 1) := dk_28 (dk_at dksX11_turned_2 3 rfl rfl)
theorem dX11_turned_51 : decode cX11_turned 51 = .ok (.ifCond .le 45, 3) := dk_158 0 45 (dk_at dksX11_turned_2 4 rfl rfl)
theorem dX11_turned_54 : decode cX11_turned 54 = .ok (.aload_n 0, 1) := dk_42 (dk_at dksX11_turned_2 7 rfl rfl)
theorem dX11_turned_55 : decode cX11_turned 55 = .ok (.getfield 59, 3) := dk_180 0 59 (dk_at dksX11_turned_2 8 rfl rfl)
theorem dX11_turned_58 : decode cX11_turned 58 = .ok (.ifCond .le 13, 3) := dk_158 0 13 (dk_at dksX11_turned_2 11 rfl rfl)
theorem dX11_turned_61 : decode cX11_turned 61 = .ok (.aload_n 0, 1) := dk_42 (dk_at dksX11_turned_2 14 rfl rfl)
theorem dX11_turned_62 : decode cX11_turned 62 = .ok (.dup, 1) := dk_89 (dk_at dksX11_turned_2 15 rfl rfl)
theorem dX11_turned_63 : decode cX11_turned 63 = .ok (.getfield 77, 3) := dk_180 0 77 (dk_at dksX11_turned_2 16 rfl rfl)
theorem dX11_turned_66 : decode cX11_turned 66 = .ok (.iconst 1, 1) := dk_4 (dk_at dksX11_turned_2 19 rfl rfl)
theorem dX11_turned_67 : decode cX11_turned 67 = .ok (.iadd, 1) := dk_96 (dk_at dksX11_turned_2 20 rfl rfl)
theorem dX11_turned_68 : decode cX11_turned 68 = .ok (.putfield 77, 3) := dk_181 0 77 (dk_at dksX11_turned_2 21 rfl rfl)
theorem dX11_turned_71 : decode cX11_turned 71 = .ok (.aload_n 0, 1) := dk_42 (dk_at dksX11_turned_3 0 rfl rfl)
theorem dX11_turned_72 : decode cX11_turned 72 = .ok (.iload_n 2, 1) := dk_28 (dk_at dksX11_turned_3 1 rfl rfl)
theorem dX11_turned_73 : decode cX11_turned 73 = .ok (.putfield 59, 3) := dk_181 0 59 (dk_at dksX11_turned_3 2 rfl rfl)
theorem dX11_turned_76 : decode cX11_turned 76 = .ok (.aload_n 0, 1) := dk_42 (dk_at dksX11_turned_3 5 rfl rfl)
theorem dX11_turned_77 : decode cX11_turned 77 = .ok (.aload_n 0, 1) := dk_42 (dk_at dksX11_turned_3 6 rfl rfl)
theorem dX11_turned_78 : decode cX11_turned 78 = .ok (.getfield 65, 3) := dk_180 0 65 (dk_at dksX11_turned_3 7 rfl rfl)
theorem dX11_turned_81 : decode cX11_turned 81 = .ok (.putfield 62, 3) := dk_181 0 62 (dk_at dksX11_turned_3 10 rfl rfl)
theorem dX11_turned_84 : decode cX11_turned 84 = .ok (.aload_n 0, 1) := dk_42 (dk_at dksX11_turned_3 13 rfl rfl)
theorem dX11_turned_85 : decode cX11_turned 85 = .ok (.iconst 1, 1) := dk_4 (dk_at dksX11_turned_3 14 rfl rfl)
theorem dX11_turned_86 : decode cX11_turned 86 = .ok (.aload_n 0, 1) := dk_42 (dk_at dksX11_turned_3 15 rfl rfl)
theorem dX11_turned_87 : decode cX11_turned 87 = .ok (.getfield 65, 3) := dk_180 0 65 (dk_at dksX11_turned_3 16 rfl rfl)
theorem dX11_turned_90 : decode cX11_turned 90 = .ok (.isub, 1) := dk_100 (dk_at dksX11_turned_3 19 rfl rfl)
theorem dX11_turned_91 : decode cX11_turned 91 = .ok (.putfield 65, 3) := dk_181 0 65 (dk_at dksX11_turned_3 20 rfl rfl)
theorem dX11_turned_94 : decode cX11_turned 94 = .ok (.iconst 0, 1) := dk_3 (dk_at dksX11_turned_3 23 rfl rfl)
theorem dX11_turned_95 : decode cX11_turned 95 = .ok (.ireturn, 1) := dk_172 (dk_at dksX11_turned_4 0 rfl rfl)
theorem dX11_turned_96 : decode cX11_turned 96 = .ok (.aload_n 0, 1) := dk_42 (dk_at dksX11_turned_4 1 rfl rfl)
theorem dX11_turned_97 : decode cX11_turned 97 = .ok (.getfield 59, 3) := dk_180 0 59 (dk_at dksX11_turned_4 2 rfl rfl)
theorem dX11_turned_100 : decode cX11_turned 100 = .ok (.ifCond .ne 15, 3) := dk_154 0 15 (dk_at dksX11_turned_4 5 rfl rfl)
theorem dX11_turned_103 : decode cX11_turned 103 = .ok (.aload_n 0, 1) := dk_42 (dk_at dksX11_turned_4 8 rfl rfl)
theorem dX11_turned_104 : decode cX11_turned 104 = .ok (.iconst 1, 1) := dk_4 (dk_at dksX11_turned_4 9 rfl rfl)
theorem dX11_turned_105 : decode cX11_turned 105 = .ok (.aload_n 0, 1) := dk_42 (dk_at dksX11_turned_4 10 rfl rfl)
theorem dX11_turned_106 : decode cX11_turned 106 = .ok (.getfield 65, 3) := dk_180 0 65 (dk_at dksX11_turned_4 11 rfl rfl)
theorem dX11_turned_109 : decode cX11_turned 109 = .ok (.isub, 1) := dk_100 (dk_at dksX11_turned_4 14 rfl rfl)
theorem dX11_turned_110 : decode cX11_turned 110 = .ok (.putfield 65, 3) := dk_181 0 65 (dk_at dksX11_turned_4 15 rfl rfl)
theorem dX11_turned_113 : decode cX11_turned 113 = .ok (.iconst 0, 1) := dk_3 (dk_at dksX11_turned_4 18 rfl rfl)
theorem dX11_turned_114 : decode cX11_turned 114 = .ok (.ireturn, 1) := dk_172 (dk_at dksX11_turned_4 19 rfl rfl)
theorem dX11_turned_115 : decode cX11_turned 115 = .ok (.aload_n 0, 1) := dk_42 (dk_at dksX11_turned_4 20 rfl rfl)
theorem dX11_turned_116 : decode cX11_turned 116 = .ok (.dup, 1) := dk_89 (dk_at dksX11_turned_4 21 rfl rfl)
theorem dX11_turned_117 : decode cX11_turned 117 = .ok (.getfield 59, 3) := dk_180 0 59 (dk_at dksX11_turned_5 0 rfl rfl)
theorem dX11_turned_120 : decode cX11_turned 120 = .ok (.iconst 1, 1) := dk_4 (dk_at dksX11_turned_5 3 rfl rfl)
theorem dX11_turned_121 : decode cX11_turned 121 = .ok (.isub, 1) := dk_100 (dk_at dksX11_turned_5 4 rfl rfl)
theorem dX11_turned_122 : decode cX11_turned 122 = .ok (.putfield 59, 3) := dk_181 0 59 (dk_at dksX11_turned_5 5 rfl rfl)
theorem dX11_turned_125 : decode cX11_turned 125 = .ok (.aload_n 0, 1) := dk_42 (dk_at dksX11_turned_5 8 rfl rfl)
theorem dX11_turned_126 : decode cX11_turned 126 = .ok (.getfield 59, 3) := dk_180 0 59 (dk_at dksX11_turned_5 9 rfl rfl)
theorem dX11_turned_129 : decode cX11_turned 129 = .ok (.ifCond .ne 7, 3) := dk_154 0 7 (dk_at dksX11_turned_5 12 rfl rfl)
theorem dX11_turned_132 : decode cX11_turned 132 = .ok (.iconst 1, 1) := dk_4 (dk_at dksX11_turned_5 15 rfl rfl)
theorem dX11_turned_133 : decode cX11_turned 133 = .ok (.goto 4, 3) := dk_167 0 4 (dk_at dksX11_turned_5 16 rfl rfl)
theorem dX11_turned_136 : decode cX11_turned 136 = .ok (.iconst 0, 1) := dk_3 (dk_at dksX11_turned_5 19 rfl rfl)
theorem dX11_turned_137 : decode cX11_turned 137 = .ok (.ireturn, 1) := dk_172 (dk_at dksX11_turned_5 20 rfl rfl)
abbrev cX11_turnsUp : ByteArray := prog_6_method_9_code
def yX11_turnsUp : MethodName := ⟨RX11, "turnsUp", "()V"⟩
def dkwX11_turnsUp_1 : List UInt8 := [42, 89, 180, 0, 71, 4, 96, 181, 0, 71, 177]
abbrev dktX11_turnsUp_1 : List UInt8 := dkwX11_turnsUp_1 ++ []
def dkwX11_turnsUp_0 : List UInt8 := [42, 180, 0, 18, 42, 89, 180, 0, 56, 90, 4, 96, 181, 0, 56, 42, 42, 180, 0, 65, 182, 0, 124, 79]
abbrev dktX11_turnsUp_0 : List UInt8 := dkwX11_turnsUp_0 ++ dktX11_turnsUp_1
theorem dksX11_turnsUp_0 : cX11_turnsUp.data.toList.drop 0 = dktX11_turnsUp_0 := by decide +kernel
theorem dksX11_turnsUp_1 : cX11_turnsUp.data.toList.drop 24 = dktX11_turnsUp_1 := dk_seg dksX11_turnsUp_0 24 rfl rfl
theorem dX11_turnsUp_0 : decode cX11_turnsUp 0 = .ok (.aload_n 0, 1) := dk_42 (dk_at dksX11_turnsUp_0 0 rfl rfl)
theorem dX11_turnsUp_1 : decode cX11_turnsUp 1 = .ok (.getfield 18, 3) := dk_180 0 18 (dk_at dksX11_turnsUp_0 1 rfl rfl)
theorem dX11_turnsUp_4 : decode cX11_turnsUp 4 = .ok (.aload_n 0, 1) := dk_42 (dk_at dksX11_turnsUp_0 4 rfl rfl)
theorem dX11_turnsUp_5 : decode cX11_turnsUp 5 = .ok (.dup, 1) := dk_89 (dk_at dksX11_turnsUp_0 5 rfl rfl)
theorem dX11_turnsUp_6 : decode cX11_turnsUp 6 = .ok (.getfield 56, 3) := dk_180 0 56 (dk_at dksX11_turnsUp_0 6 rfl rfl)
theorem dX11_turnsUp_9 : decode cX11_turnsUp 9 = .ok (.dup_x1, 1) := dk_90 (dk_at dksX11_turnsUp_0 9 rfl rfl)
theorem dX11_turnsUp_10 : decode cX11_turnsUp 10 = .ok (.iconst 1, 1) := dk_4 (dk_at dksX11_turnsUp_0 10 rfl rfl)
theorem dX11_turnsUp_11 : decode cX11_turnsUp 11 = .ok (.iadd, 1) := dk_96 (dk_at dksX11_turnsUp_0 11 rfl rfl)
theorem dX11_turnsUp_12 : decode cX11_turnsUp 12 = .ok (.putfield 56, 3) := dk_181 0 56 (dk_at dksX11_turnsUp_0 12 rfl rfl)
theorem dX11_turnsUp_15 : decode cX11_turnsUp 15 = .ok (.aload_n 0, 1) := dk_42 (dk_at dksX11_turnsUp_0 15 rfl rfl)
theorem dX11_turnsUp_16 : decode cX11_turnsUp 16 = .ok (.aload_n 0, 1) := dk_42 (dk_at dksX11_turnsUp_0 16 rfl rfl)
theorem dX11_turnsUp_17 : decode cX11_turnsUp 17 = .ok (.getfield 65, 3) := dk_180 0 65 (dk_at dksX11_turnsUp_0 17 rfl rfl)
theorem dX11_turnsUp_20 : decode cX11_turnsUp 20 = .ok (.invokevirtual 124, 3) := dk_182 0 124 (dk_at dksX11_turnsUp_0 20 rfl rfl)
theorem dX11_turnsUp_23 : decode cX11_turnsUp 23 = .ok (.iastore, 1) := dk_79 (dk_at dksX11_turnsUp_0 23 rfl rfl)
theorem dX11_turnsUp_24 : decode cX11_turnsUp 24 = .ok (.aload_n 0, 1) := dk_42 (dk_at dksX11_turnsUp_1 0 rfl rfl)
theorem dX11_turnsUp_25 : decode cX11_turnsUp 25 = .ok (.dup, 1) := dk_89 (dk_at dksX11_turnsUp_1 1 rfl rfl)
theorem dX11_turnsUp_26 : decode cX11_turnsUp 26 = .ok (.getfield 71, 3) := dk_180 0 71 (dk_at dksX11_turnsUp_1 2 rfl rfl)
theorem dX11_turnsUp_29 : decode cX11_turnsUp 29 = .ok (.iconst 1, 1) := dk_4 (dk_at dksX11_turnsUp_1 5 rfl rfl)
theorem dX11_turnsUp_30 : decode cX11_turnsUp 30 = .ok (.iadd, 1) := dk_96 (dk_at dksX11_turnsUp_1 6 rfl rfl)
theorem dX11_turnsUp_31 : decode cX11_turnsUp 31 = .ok (.putfield 71, 3) := dk_181 0 71 (dk_at dksX11_turnsUp_1 7 rfl rfl)
theorem dX11_turnsUp_34 : decode cX11_turnsUp 34 = .ok (.return_, 1) := dk_177 (dk_at dksX11_turnsUp_1 10 rfl rfl)
abbrev cX11_gives : ByteArray := prog_6_method_8_code
def yX11_gives : MethodName := ⟨RX11, "gives", "(I)I"⟩
def dkwX11_gives_4 : List UInt8 := [167, 0, 9, 42, 21, 4, 181, 0, 53, 21, 5, 172]
abbrev dktX11_gives_4 : List UInt8 := dkwX11_gives_4 ++ []
def dkwX11_gives_3 : List UInt8 := [21, 6, 4, 96, 51, 84, 132, 6, 1, 167, 255, 226, 27, 154, 0, 12, 42, 21, 4, 181, 0, 49]
abbrev dktX11_gives_3 : List UInt8 := dkwX11_gives_3 ++ dktX11_gives_4
def dkwX11_gives_2 : List UInt8 := [54, 6, 21, 6, 21, 4, 162, 0, 29, 44, 21, 6, 44, 21, 6, 4, 96, 46, 79, 45, 21, 6, 45]
abbrev dktX11_gives_2 : List UInt8 := dkwX11_gives_2 ++ dktX11_gives_3
def dkwX11_gives_1 : List UInt8 := [167, 0, 7, 42, 180, 0, 28, 78, 42, 27, 182, 0, 120, 4, 100, 54, 4, 44, 3, 46, 54, 5, 3]
abbrev dktX11_gives_1 : List UInt8 := dkwX11_gives_1 ++ dktX11_gives_2
def dkwX11_gives_0 : List UInt8 := [27, 154, 0, 10, 42, 180, 0, 9, 167, 0, 7, 42, 180, 0, 15, 77, 27, 154, 0, 10, 42, 180, 0, 24]
abbrev dktX11_gives_0 : List UInt8 := dkwX11_gives_0 ++ dktX11_gives_1
theorem dksX11_gives_0 : cX11_gives.data.toList.drop 0 = dktX11_gives_0 := by decide +kernel
theorem dksX11_gives_1 : cX11_gives.data.toList.drop 24 = dktX11_gives_1 := dk_seg dksX11_gives_0 24 rfl rfl
theorem dksX11_gives_2 : cX11_gives.data.toList.drop 47 = dktX11_gives_2 := dk_seg dksX11_gives_1 23 rfl rfl
theorem dksX11_gives_3 : cX11_gives.data.toList.drop 70 = dktX11_gives_3 := dk_seg dksX11_gives_2 23 rfl rfl
theorem dksX11_gives_4 : cX11_gives.data.toList.drop 92 = dktX11_gives_4 := dk_seg dksX11_gives_3 22 rfl rfl
theorem dX11_gives_0 : decode cX11_gives 0 = .ok (.iload_n 1, 1) := dk_27 (dk_at dksX11_gives_0 0 rfl rfl)
theorem dX11_gives_1 : decode cX11_gives 1 = .ok (.ifCond .ne 10, 3) := dk_154 0 10 (dk_at dksX11_gives_0 1 rfl rfl)
theorem dX11_gives_4 : decode cX11_gives 4 = .ok (.aload_n 0, 1) := dk_42 (dk_at dksX11_gives_0 4 rfl rfl)
theorem dX11_gives_5 : decode cX11_gives 5 = .ok (.getfield 9, 3) := dk_180 0 9 (dk_at dksX11_gives_0 5 rfl rfl)
theorem dX11_gives_8 : decode cX11_gives 8 = .ok (.goto 7, 3) := dk_167 0 7 (dk_at dksX11_gives_0 8 rfl rfl)
theorem dX11_gives_11 : decode cX11_gives 11 = .ok (.aload_n 0, 1) := dk_42 (dk_at dksX11_gives_0 11 rfl rfl)
theorem dX11_gives_12 : decode cX11_gives 12 = .ok (.getfield 15, 3) := dk_180 0 15 (dk_at dksX11_gives_0 12 rfl rfl)
theorem dX11_gives_15 : decode cX11_gives 15 = .ok (.astore_n 2, 1) := dk_77 (dk_at dksX11_gives_0 15 rfl rfl)
theorem dX11_gives_16 : decode cX11_gives 16 = .ok (.iload_n 1, 1) := dk_27 (dk_at dksX11_gives_0 16 rfl rfl)
theorem dX11_gives_17 : decode cX11_gives 17 = .ok (.ifCond .ne 10, 3) := dk_154 0 10 (dk_at dksX11_gives_0 17 rfl rfl)
theorem dX11_gives_20 : decode cX11_gives 20 = .ok (.aload_n 0, 1) := dk_42 (dk_at dksX11_gives_0 20 rfl rfl)
theorem dX11_gives_21 : decode cX11_gives 21 = .ok (.getfield 24, 3) := dk_180 0 24 (dk_at dksX11_gives_0 21 rfl rfl)
theorem dX11_gives_24 : decode cX11_gives 24 = .ok (.goto 7, 3) := dk_167 0 7 (dk_at dksX11_gives_1 0 rfl rfl)
theorem dX11_gives_27 : decode cX11_gives 27 = .ok (.aload_n 0, 1) := dk_42 (dk_at dksX11_gives_1 3 rfl rfl)
theorem dX11_gives_28 : decode cX11_gives 28 = .ok (.getfield 28, 3) := dk_180 0 28 (dk_at dksX11_gives_1 4 rfl rfl)
theorem dX11_gives_31 : decode cX11_gives 31 = .ok (.astore_n 3, 1) := dk_78 (dk_at dksX11_gives_1 7 rfl rfl)
theorem dX11_gives_32 : decode cX11_gives 32 = .ok (.aload_n 0, 1) := dk_42 (dk_at dksX11_gives_1 8 rfl rfl)
theorem dX11_gives_33 : decode cX11_gives 33 = .ok (.iload_n 1, 1) := dk_27 (dk_at dksX11_gives_1 9 rfl rfl)
theorem dX11_gives_34 : decode cX11_gives 34 = .ok (.invokevirtual 120, 3) := dk_182 0 120 (dk_at dksX11_gives_1 10 rfl rfl)
theorem dX11_gives_37 : decode cX11_gives 37 = .ok (.iconst 1, 1) := dk_4 (dk_at dksX11_gives_1 13 rfl rfl)
theorem dX11_gives_38 : decode cX11_gives 38 = .ok (.isub, 1) := dk_100 (dk_at dksX11_gives_1 14 rfl rfl)
theorem dX11_gives_39 : decode cX11_gives 39 = .ok (.istore 4, 2) := dk_54 4 (dk_at dksX11_gives_1 15 rfl rfl)
theorem dX11_gives_41 : decode cX11_gives 41 = .ok (.aload_n 2, 1) := dk_44 (dk_at dksX11_gives_1 17 rfl rfl)
theorem dX11_gives_42 : decode cX11_gives 42 = .ok (.iconst 0, 1) := dk_3 (dk_at dksX11_gives_1 18 rfl rfl)
theorem dX11_gives_43 : decode cX11_gives 43 = .ok (.iaload, 1) := dk_46 (dk_at dksX11_gives_1 19 rfl rfl)
theorem dX11_gives_44 : decode cX11_gives 44 = .ok (.istore 5, 2) := dk_54 5 (dk_at dksX11_gives_1 20 rfl rfl)
theorem dX11_gives_46 : decode cX11_gives 46 = .ok (.iconst 0, 1) := dk_3 (dk_at dksX11_gives_1 22 rfl rfl)
theorem dX11_gives_47 : decode cX11_gives 47 = .ok (.istore 6, 2) := dk_54 6 (dk_at dksX11_gives_2 0 rfl rfl)
theorem dX11_gives_49 : decode cX11_gives 49 = .ok (.iload 6, 2) := dk_21 6 (dk_at dksX11_gives_2 2 rfl rfl)
theorem dX11_gives_51 : decode cX11_gives 51 = .ok (.iload 4, 2) := dk_21 4 (dk_at dksX11_gives_2 4 rfl rfl)
theorem dX11_gives_53 : decode cX11_gives 53 = .ok (.if_icmp .ge 29, 3) := dk_162 0 29 (dk_at dksX11_gives_2 6 rfl rfl)
theorem dX11_gives_56 : decode cX11_gives 56 = .ok (.aload_n 2, 1) := dk_44 (dk_at dksX11_gives_2 9 rfl rfl)
theorem dX11_gives_57 : decode cX11_gives 57 = .ok (.iload 6, 2) := dk_21 6 (dk_at dksX11_gives_2 10 rfl rfl)
theorem dX11_gives_59 : decode cX11_gives 59 = .ok (.aload_n 2, 1) := dk_44 (dk_at dksX11_gives_2 12 rfl rfl)
theorem dX11_gives_60 : decode cX11_gives 60 = .ok (.iload 6, 2) := dk_21 6 (dk_at dksX11_gives_2 13 rfl rfl)
theorem dX11_gives_62 : decode cX11_gives 62 = .ok (.iconst 1, 1) := dk_4 (dk_at dksX11_gives_2 15 rfl rfl)
theorem dX11_gives_63 : decode cX11_gives 63 = .ok (.iadd, 1) := dk_96 (dk_at dksX11_gives_2 16 rfl rfl)
theorem dX11_gives_64 : decode cX11_gives 64 = .ok (.iaload, 1) := dk_46 (dk_at dksX11_gives_2 17 rfl rfl)
theorem dX11_gives_65 : decode cX11_gives 65 = .ok (.iastore, 1) := dk_79 (dk_at dksX11_gives_2 18 rfl rfl)
theorem dX11_gives_66 : decode cX11_gives 66 = .ok (.aload_n 3, 1) := dk_45 (dk_at dksX11_gives_2 19 rfl rfl)
theorem dX11_gives_67 : decode cX11_gives 67 = .ok (.iload 6, 2) := dk_21 6 (dk_at dksX11_gives_2 20 rfl rfl)
theorem dX11_gives_69 : decode cX11_gives 69 = .ok (.aload_n 3, 1) := dk_45 (dk_at dksX11_gives_2 22 rfl rfl)
theorem dX11_gives_70 : decode cX11_gives 70 = .ok (.iload 6, 2) := dk_21 6 (dk_at dksX11_gives_3 0 rfl rfl)
theorem dX11_gives_72 : decode cX11_gives 72 = .ok (.iconst 1, 1) := dk_4 (dk_at dksX11_gives_3 2 rfl rfl)
theorem dX11_gives_73 : decode cX11_gives 73 = .ok (.iadd, 1) := dk_96 (dk_at dksX11_gives_3 3 rfl rfl)
theorem dX11_gives_74 : decode cX11_gives 74 = .ok (.baload, 1) := dk_51 (dk_at dksX11_gives_3 4 rfl rfl)
theorem dX11_gives_75 : decode cX11_gives 75 = .ok (.bastore, 1) := dk_84 (dk_at dksX11_gives_3 5 rfl rfl)
theorem dX11_gives_76 : decode cX11_gives 76 = .ok (.iinc 6 1, 3) := dk_132 6 1 (dk_at dksX11_gives_3 6 rfl rfl)
theorem dX11_gives_79 : decode cX11_gives 79 = .ok (.goto (-30), 3) := dk_167 255 226 (dk_at dksX11_gives_3 9 rfl rfl)
theorem dX11_gives_82 : decode cX11_gives 82 = .ok (.iload_n 1, 1) := dk_27 (dk_at dksX11_gives_3 12 rfl rfl)
theorem dX11_gives_83 : decode cX11_gives 83 = .ok (.ifCond .ne 12, 3) := dk_154 0 12 (dk_at dksX11_gives_3 13 rfl rfl)
theorem dX11_gives_86 : decode cX11_gives 86 = .ok (.aload_n 0, 1) := dk_42 (dk_at dksX11_gives_3 16 rfl rfl)
theorem dX11_gives_87 : decode cX11_gives 87 = .ok (.iload 4, 2) := dk_21 4 (dk_at dksX11_gives_3 17 rfl rfl)
theorem dX11_gives_89 : decode cX11_gives 89 = .ok (.putfield 49, 3) := dk_181 0 49 (dk_at dksX11_gives_3 19 rfl rfl)
theorem dX11_gives_92 : decode cX11_gives 92 = .ok (.goto 9, 3) := dk_167 0 9 (dk_at dksX11_gives_4 0 rfl rfl)
theorem dX11_gives_95 : decode cX11_gives 95 = .ok (.aload_n 0, 1) := dk_42 (dk_at dksX11_gives_4 3 rfl rfl)
theorem dX11_gives_96 : decode cX11_gives 96 = .ok (.iload 4, 2) := dk_21 4 (dk_at dksX11_gives_4 4 rfl rfl)
theorem dX11_gives_98 : decode cX11_gives 98 = .ok (.putfield 53, 3) := dk_181 0 53 (dk_at dksX11_gives_4 6 rfl rfl)
theorem dX11_gives_101 : decode cX11_gives 101 = .ok (.iload 5, 2) := dk_21 5 (dk_at dksX11_gives_4 9 rfl rfl)
theorem dX11_gives_103 : decode cX11_gives 103 = .ok (.ireturn, 1) := dk_172 (dk_at dksX11_gives_4 11 rfl rfl)
abbrev cX11_takes : ByteArray := prog_6_method_12_code
def yX11_takes : MethodName := ⟨RX11, "takes", "([ILBeggarHeaps$Order;)V"⟩
def dkwX11_takes_3 : List UInt8 := [3, 181, 0, 80, 42, 89, 180, 0, 74, 4, 96, 181, 0, 74, 177]
abbrev dktX11_takes_3 : List UInt8 := dkwX11_takes_3 ++ []
def dkwX11_takes_2 : List UInt8 := [42, 42, 180, 0, 62, 181, 0, 65, 42, 2, 181, 0, 62, 42, 3, 181, 0, 56, 42, 3, 181, 0, 77, 42]
abbrev dktX11_takes_2 : List UInt8 := dkwX11_takes_2 ++ dktX11_takes_3
def dkwX11_takes_1 : List UInt8 := [162, 0, 24, 42, 42, 180, 0, 62, 42, 180, 0, 21, 29, 46, 3, 182, 0, 144, 132, 3, 1, 167, 255, 230]
abbrev dktX11_takes_1 : List UInt8 := dkwX11_takes_1 ++ dktX11_takes_2
def dkwX11_takes_0 : List UInt8 := [44, 42, 180, 0, 18, 42, 180, 0, 56, 43, 42, 180, 0, 21, 182, 0, 138, 3, 62, 29, 42, 180, 0, 56]
abbrev dktX11_takes_0 : List UInt8 := dkwX11_takes_0 ++ dktX11_takes_1
theorem dksX11_takes_0 : cX11_takes.data.toList.drop 0 = dktX11_takes_0 := by decide +kernel
theorem dksX11_takes_1 : cX11_takes.data.toList.drop 24 = dktX11_takes_1 := dk_seg dksX11_takes_0 24 rfl rfl
theorem dksX11_takes_2 : cX11_takes.data.toList.drop 48 = dktX11_takes_2 := dk_seg dksX11_takes_1 24 rfl rfl
theorem dksX11_takes_3 : cX11_takes.data.toList.drop 72 = dktX11_takes_3 := dk_seg dksX11_takes_2 24 rfl rfl
theorem dX11_takes_0 : decode cX11_takes 0 = .ok (.aload_n 2, 1) := dk_44 (dk_at dksX11_takes_0 0 rfl rfl)
theorem dX11_takes_1 : decode cX11_takes 1 = .ok (.aload_n 0, 1) := dk_42 (dk_at dksX11_takes_0 1 rfl rfl)
theorem dX11_takes_2 : decode cX11_takes 2 = .ok (.getfield 18, 3) := dk_180 0 18 (dk_at dksX11_takes_0 2 rfl rfl)
theorem dX11_takes_5 : decode cX11_takes 5 = .ok (.aload_n 0, 1) := dk_42 (dk_at dksX11_takes_0 5 rfl rfl)
theorem dX11_takes_6 : decode cX11_takes 6 = .ok (.getfield 56, 3) := dk_180 0 56 (dk_at dksX11_takes_0 6 rfl rfl)
theorem dX11_takes_9 : decode cX11_takes 9 = .ok (.aload_n 1, 1) := dk_43 (dk_at dksX11_takes_0 9 rfl rfl)
theorem dX11_takes_10 : decode cX11_takes 10 = .ok (.aload_n 0, 1) := dk_42 (dk_at dksX11_takes_0 10 rfl rfl)
theorem dX11_takes_11 : decode cX11_takes 11 = .ok (.getfield 21, 3) := dk_180 0 21 (dk_at dksX11_takes_0 11 rfl rfl)
theorem dX11_takes_14 : decode cX11_takes 14 = .ok (.invokevirtual 138, 3) := dk_182 0 138 (dk_at dksX11_takes_0 14 rfl rfl)
theorem dX11_takes_17 : decode cX11_takes 17 = .ok (.iconst 0, 1) := dk_3 (dk_at dksX11_takes_0 17 rfl rfl)
theorem dX11_takes_18 : decode cX11_takes 18 = .ok (.istore_n 3, 1) := dk_62 (dk_at dksX11_takes_0 18 rfl rfl)
theorem dX11_takes_19 : decode cX11_takes 19 = .ok (.iload_n 3, 1) := dk_29 (dk_at dksX11_takes_0 19 rfl rfl)
theorem dX11_takes_20 : decode cX11_takes 20 = .ok (.aload_n 0, 1) := dk_42 (dk_at dksX11_takes_0 20 rfl rfl)
theorem dX11_takes_21 : decode cX11_takes 21 = .ok (.getfield 56, 3) := dk_180 0 56 (dk_at dksX11_takes_0 21 rfl rfl)
theorem dX11_takes_24 : decode cX11_takes 24 = .ok (.if_icmp .ge 24, 3) := dk_162 0 24 (dk_at dksX11_takes_1 0 rfl rfl)
theorem dX11_takes_27 : decode cX11_takes 27 = .ok (.aload_n 0, 1) := dk_42 (dk_at dksX11_takes_1 3 rfl rfl)
theorem dX11_takes_28 : decode cX11_takes 28 = .ok (.aload_n 0, 1) := dk_42 (dk_at dksX11_takes_1 4 rfl rfl)
theorem dX11_takes_29 : decode cX11_takes 29 = .ok (.getfield 62, 3) := dk_180 0 62 (dk_at dksX11_takes_1 5 rfl rfl)
theorem dX11_takes_32 : decode cX11_takes 32 = .ok (.aload_n 0, 1) := dk_42 (dk_at dksX11_takes_1 8 rfl rfl)
theorem dX11_takes_33 : decode cX11_takes 33 = .ok (.getfield 21, 3) := dk_180 0 21 (dk_at dksX11_takes_1 9 rfl rfl)
theorem dX11_takes_36 : decode cX11_takes 36 = .ok (.iload_n 3, 1) := dk_29 (dk_at dksX11_takes_1 12 rfl rfl)
theorem dX11_takes_37 : decode cX11_takes 37 = .ok (.iaload, 1) := dk_46 (dk_at dksX11_takes_1 13 rfl rfl)
theorem dX11_takes_38 : decode cX11_takes 38 = .ok (.iconst 0, 1) := dk_3 (dk_at dksX11_takes_1 14 rfl rfl)
theorem dX11_takes_39 : decode cX11_takes 39 = .ok (.invokevirtual 144, 3) := dk_182 0 144 (dk_at dksX11_takes_1 15 rfl rfl)
theorem dX11_takes_42 : decode cX11_takes 42 = .ok (.iinc 3 1, 3) := dk_132 3 1 (dk_at dksX11_takes_1 18 rfl rfl)
theorem dX11_takes_45 : decode cX11_takes 45 = .ok (.goto (-26), 3) := dk_167 255 230 (dk_at dksX11_takes_1 21 rfl rfl)
theorem dX11_takes_48 : decode cX11_takes 48 = .ok (.aload_n 0, 1) := dk_42 (dk_at dksX11_takes_2 0 rfl rfl)
theorem dX11_takes_49 : decode cX11_takes 49 = .ok (.aload_n 0, 1) := dk_42 (dk_at dksX11_takes_2 1 rfl rfl)
theorem dX11_takes_50 : decode cX11_takes 50 = .ok (.getfield 62, 3) := dk_180 0 62 (dk_at dksX11_takes_2 2 rfl rfl)
theorem dX11_takes_53 : decode cX11_takes 53 = .ok (.putfield 65, 3) := dk_181 0 65 (dk_at dksX11_takes_2 5 rfl rfl)
theorem dX11_takes_56 : decode cX11_takes 56 = .ok (.aload_n 0, 1) := dk_42 (dk_at dksX11_takes_2 8 rfl rfl)
theorem dX11_takes_57 : decode cX11_takes 57 = .ok (.iconst (-1), 1) := dk_2 (dk_at dksX11_takes_2 9 rfl rfl)
theorem dX11_takes_58 : decode cX11_takes 58 = .ok (.putfield 62, 3) := dk_181 0 62 (dk_at dksX11_takes_2 10 rfl rfl)
theorem dX11_takes_61 : decode cX11_takes 61 = .ok (.aload_n 0, 1) := dk_42 (dk_at dksX11_takes_2 13 rfl rfl)
theorem dX11_takes_62 : decode cX11_takes 62 = .ok (.iconst 0, 1) := dk_3 (dk_at dksX11_takes_2 14 rfl rfl)
theorem dX11_takes_63 : decode cX11_takes 63 = .ok (.putfield 56, 3) := dk_181 0 56 (dk_at dksX11_takes_2 15 rfl rfl)
theorem dX11_takes_66 : decode cX11_takes 66 = .ok (.aload_n 0, 1) := dk_42 (dk_at dksX11_takes_2 18 rfl rfl)
theorem dX11_takes_67 : decode cX11_takes 67 = .ok (.iconst 0, 1) := dk_3 (dk_at dksX11_takes_2 19 rfl rfl)
theorem dX11_takes_68 : decode cX11_takes 68 = .ok (.putfield 77, 3) := dk_181 0 77 (dk_at dksX11_takes_2 20 rfl rfl)
theorem dX11_takes_71 : decode cX11_takes 71 = .ok (.aload_n 0, 1) := dk_42 (dk_at dksX11_takes_2 23 rfl rfl)
theorem dX11_takes_72 : decode cX11_takes 72 = .ok (.iconst 0, 1) := dk_3 (dk_at dksX11_takes_3 0 rfl rfl)
theorem dX11_takes_73 : decode cX11_takes 73 = .ok (.putfield 80, 3) := dk_181 0 80 (dk_at dksX11_takes_3 1 rfl rfl)
theorem dX11_takes_76 : decode cX11_takes 76 = .ok (.aload_n 0, 1) := dk_42 (dk_at dksX11_takes_3 4 rfl rfl)
theorem dX11_takes_77 : decode cX11_takes 77 = .ok (.dup, 1) := dk_89 (dk_at dksX11_takes_3 5 rfl rfl)
theorem dX11_takes_78 : decode cX11_takes 78 = .ok (.getfield 74, 3) := dk_180 0 74 (dk_at dksX11_takes_3 6 rfl rfl)
theorem dX11_takes_81 : decode cX11_takes 81 = .ok (.iconst 1, 1) := dk_4 (dk_at dksX11_takes_3 9 rfl rfl)
theorem dX11_takes_82 : decode cX11_takes 82 = .ok (.iadd, 1) := dk_96 (dk_at dksX11_takes_3 10 rfl rfl)
theorem dX11_takes_83 : decode cX11_takes 83 = .ok (.putfield 74, 3) := dk_181 0 74 (dk_at dksX11_takes_3 11 rfl rfl)
theorem dX11_takes_86 : decode cX11_takes 86 = .ok (.return_, 1) := dk_177 (dk_at dksX11_takes_3 14 rfl rfl)
abbrev cX11_isRest : ByteArray := prog_6_method_14_code
def yX11_isRest : MethodName := ⟨RX11, "isRest", "()Z"⟩
def dkwX11_isRest_0 : List UInt8 := [42, 180, 0, 56, 154, 0, 14, 42, 180, 0, 80, 154, 0, 7, 4, 167, 0, 4, 3, 172]
abbrev dktX11_isRest_0 : List UInt8 := dkwX11_isRest_0 ++ []
theorem dksX11_isRest_0 : cX11_isRest.data.toList.drop 0 = dktX11_isRest_0 := by decide +kernel
theorem dX11_isRest_0 : decode cX11_isRest 0 = .ok (.aload_n 0, 1) := dk_42 (dk_at dksX11_isRest_0 0 rfl rfl)
theorem dX11_isRest_1 : decode cX11_isRest 1 = .ok (.getfield 56, 3) := dk_180 0 56 (dk_at dksX11_isRest_0 1 rfl rfl)
theorem dX11_isRest_4 : decode cX11_isRest 4 = .ok (.ifCond .ne 14, 3) := dk_154 0 14 (dk_at dksX11_isRest_0 4 rfl rfl)
theorem dX11_isRest_7 : decode cX11_isRest 7 = .ok (.aload_n 0, 1) := dk_42 (dk_at dksX11_isRest_0 7 rfl rfl)
theorem dX11_isRest_8 : decode cX11_isRest 8 = .ok (.getfield 80, 3) := dk_180 0 80 (dk_at dksX11_isRest_0 8 rfl rfl)
theorem dX11_isRest_11 : decode cX11_isRest 11 = .ok (.ifCond .ne 7, 3) := dk_154 0 7 (dk_at dksX11_isRest_0 11 rfl rfl)
theorem dX11_isRest_14 : decode cX11_isRest 14 = .ok (.iconst 1, 1) := dk_4 (dk_at dksX11_isRest_0 14 rfl rfl)
theorem dX11_isRest_15 : decode cX11_isRest 15 = .ok (.goto 4, 3) := dk_167 0 4 (dk_at dksX11_isRest_0 15 rfl rfl)
theorem dX11_isRest_18 : decode cX11_isRest 18 = .ok (.iconst 0, 1) := dk_3 (dk_at dksX11_isRest_0 18 rfl rfl)
theorem dX11_isRest_19 : decode cX11_isRest 19 = .ok (.ireturn, 1) := dk_172 (dk_at dksX11_isRest_0 19 rfl rfl)
abbrev cX11_turn : ByteArray := prog_6_method_10_code
def yX11_turn : MethodName := ⟨RX11, "turn", "([ILBeggarHeaps$Order;LBeggarHeaps$Order;)I"⟩
def dkwX11_turn_1 : List UInt8 := [180, 0, 80, 153, 0, 7, 45, 167, 0, 4, 44, 182, 0, 131, 4, 172]
abbrev dktX11_turn_1 : List UInt8 := dkwX11_turn_1 ++ []
def dkwX11_turn_0 : List UInt8 := [42, 43, 182, 0, 127, 154, 0, 16, 42, 180, 0, 68, 155, 0, 7, 5, 167, 0, 4, 3, 172, 42, 43, 42]
abbrev dktX11_turn_0 : List UInt8 := dkwX11_turn_0 ++ dktX11_turn_1
theorem dksX11_turn_0 : cX11_turn.data.toList.drop 0 = dktX11_turn_0 := by decide +kernel
theorem dksX11_turn_1 : cX11_turn.data.toList.drop 24 = dktX11_turn_1 := dk_seg dksX11_turn_0 24 rfl rfl
theorem dX11_turn_0 : decode cX11_turn 0 = .ok (.aload_n 0, 1) := dk_42 (dk_at dksX11_turn_0 0 rfl rfl)
theorem dX11_turn_1 : decode cX11_turn 1 = .ok (.aload_n 1, 1) := dk_43 (dk_at dksX11_turn_0 1 rfl rfl)
theorem dX11_turn_2 : decode cX11_turn 2 = .ok (.invokevirtual 127, 3) := dk_182 0 127 (dk_at dksX11_turn_0 2 rfl rfl)
theorem dX11_turn_5 : decode cX11_turn 5 = .ok (.ifCond .ne 16, 3) := dk_154 0 16 (dk_at dksX11_turn_0 5 rfl rfl)
theorem dX11_turn_8 : decode cX11_turn 8 = .ok (.aload_n 0, 1) := dk_42 (dk_at dksX11_turn_0 8 rfl rfl)
theorem dX11_turn_9 : decode cX11_turn 9 = .ok (.getfield 68, 3) := dk_180 0 68 (dk_at dksX11_turn_0 9 rfl rfl)
theorem dX11_turn_12 : decode cX11_turn 12 = .ok (.ifCond .lt 7, 3) := dk_155 0 7 (dk_at dksX11_turn_0 12 rfl rfl)
theorem dX11_turn_15 : decode cX11_turn 15 = .ok (.iconst 2, 1) := dk_5 (dk_at dksX11_turn_0 15 rfl rfl)
theorem dX11_turn_16 : decode cX11_turn 16 = .ok (.goto 4, 3) := dk_167 0 4 (dk_at dksX11_turn_0 16 rfl rfl)
theorem dX11_turn_19 : decode cX11_turn 19 = .ok (.iconst 0, 1) := dk_3 (dk_at dksX11_turn_0 19 rfl rfl)
theorem dX11_turn_20 : decode cX11_turn 20 = .ok (.ireturn, 1) := dk_172 (dk_at dksX11_turn_0 20 rfl rfl)
theorem dX11_turn_21 : decode cX11_turn 21 = .ok (.aload_n 0, 1) := dk_42 (dk_at dksX11_turn_0 21 rfl rfl)
theorem dX11_turn_22 : decode cX11_turn 22 = .ok (.aload_n 1, 1) := dk_43 (dk_at dksX11_turn_0 22 rfl rfl)
theorem dX11_turn_23 : decode cX11_turn 23 = .ok (.aload_n 0, 1) := dk_42 (dk_at dksX11_turn_0 23 rfl rfl)
theorem dX11_turn_24 : decode cX11_turn 24 = .ok (.getfield 80, 3) := dk_180 0 80 (dk_at dksX11_turn_1 0 rfl rfl)
theorem dX11_turn_27 : decode cX11_turn 27 = .ok (.ifCond .eq 7, 3) := dk_153 0 7 (dk_at dksX11_turn_1 3 rfl rfl)
theorem dX11_turn_30 : decode cX11_turn 30 = .ok (.aload_n 3, 1) := dk_45 (dk_at dksX11_turn_1 6 rfl rfl)
theorem dX11_turn_31 : decode cX11_turn 31 = .ok (.goto 4, 3) := dk_167 0 4 (dk_at dksX11_turn_1 7 rfl rfl)
theorem dX11_turn_34 : decode cX11_turn 34 = .ok (.aload_n 2, 1) := dk_44 (dk_at dksX11_turn_1 10 rfl rfl)
theorem dX11_turn_35 : decode cX11_turn 35 = .ok (.invokevirtual 131, 3) := dk_182 0 131 (dk_at dksX11_turn_1 11 rfl rfl)
theorem dX11_turn_38 : decode cX11_turn 38 = .ok (.iconst 1, 1) := dk_4 (dk_at dksX11_turn_1 14 rfl rfl)
theorem dX11_turn_39 : decode cX11_turn 39 = .ok (.ireturn, 1) := dk_172 (dk_at dksX11_turn_1 15 rfl rfl)
abbrev cX11_worth : ByteArray := prog_6_method_13_code
def yX11_worth : MethodName := ⟨RX11, "worth", "(I[I)I"⟩
def dkwX11_worth_1 : List UInt8 := [46, 96, 62, 132, 4, 1, 167, 255, 231, 29, 172]
abbrev dktX11_worth_1 : List UInt8 := dkwX11_worth_1 ++ []
def dkwX11_worth_0 : List UInt8 := [3, 62, 3, 54, 4, 21, 4, 42, 27, 182, 0, 120, 162, 0, 21, 29, 44, 42, 27, 21, 4, 182, 0, 148]
abbrev dktX11_worth_0 : List UInt8 := dkwX11_worth_0 ++ dktX11_worth_1
theorem dksX11_worth_0 : cX11_worth.data.toList.drop 0 = dktX11_worth_0 := by decide +kernel
theorem dksX11_worth_1 : cX11_worth.data.toList.drop 24 = dktX11_worth_1 := dk_seg dksX11_worth_0 24 rfl rfl
theorem dX11_worth_0 : decode cX11_worth 0 = .ok (.iconst 0, 1) := dk_3 (dk_at dksX11_worth_0 0 rfl rfl)
theorem dX11_worth_1 : decode cX11_worth 1 = .ok (.istore_n 3, 1) := dk_62 (dk_at dksX11_worth_0 1 rfl rfl)
theorem dX11_worth_2 : decode cX11_worth 2 = .ok (.iconst 0, 1) := dk_3 (dk_at dksX11_worth_0 2 rfl rfl)
theorem dX11_worth_3 : decode cX11_worth 3 = .ok (.istore 4, 2) := dk_54 4 (dk_at dksX11_worth_0 3 rfl rfl)
theorem dX11_worth_5 : decode cX11_worth 5 = .ok (.iload 4, 2) := dk_21 4 (dk_at dksX11_worth_0 5 rfl rfl)
theorem dX11_worth_7 : decode cX11_worth 7 = .ok (.aload_n 0, 1) := dk_42 (dk_at dksX11_worth_0 7 rfl rfl)
theorem dX11_worth_8 : decode cX11_worth 8 = .ok (.iload_n 1, 1) := dk_27 (dk_at dksX11_worth_0 8 rfl rfl)
theorem dX11_worth_9 : decode cX11_worth 9 = .ok (.invokevirtual 120, 3) := dk_182 0 120 (dk_at dksX11_worth_0 9 rfl rfl)
theorem dX11_worth_12 : decode cX11_worth 12 = .ok (.if_icmp .ge 21, 3) := dk_162 0 21 (dk_at dksX11_worth_0 12 rfl rfl)
theorem dX11_worth_15 : decode cX11_worth 15 = .ok (.iload_n 3, 1) := dk_29 (dk_at dksX11_worth_0 15 rfl rfl)
theorem dX11_worth_16 : decode cX11_worth 16 = .ok (.aload_n 2, 1) := dk_44 (dk_at dksX11_worth_0 16 rfl rfl)
theorem dX11_worth_17 : decode cX11_worth 17 = .ok (.aload_n 0, 1) := dk_42 (dk_at dksX11_worth_0 17 rfl rfl)
theorem dX11_worth_18 : decode cX11_worth 18 = .ok (.iload_n 1, 1) := dk_27 (dk_at dksX11_worth_0 18 rfl rfl)
theorem dX11_worth_19 : decode cX11_worth 19 = .ok (.iload 4, 2) := dk_21 4 (dk_at dksX11_worth_0 19 rfl rfl)
theorem dX11_worth_21 : decode cX11_worth 21 = .ok (.invokevirtual 148, 3) := dk_182 0 148 (dk_at dksX11_worth_0 21 rfl rfl)
theorem dX11_worth_24 : decode cX11_worth 24 = .ok (.iaload, 1) := dk_46 (dk_at dksX11_worth_1 0 rfl rfl)
theorem dX11_worth_25 : decode cX11_worth 25 = .ok (.iadd, 1) := dk_96 (dk_at dksX11_worth_1 1 rfl rfl)
theorem dX11_worth_26 : decode cX11_worth 26 = .ok (.istore_n 3, 1) := dk_62 (dk_at dksX11_worth_1 2 rfl rfl)
theorem dX11_worth_27 : decode cX11_worth 27 = .ok (.iinc 4 1, 3) := dk_132 4 1 (dk_at dksX11_worth_1 3 rfl rfl)
theorem dX11_worth_30 : decode cX11_worth 30 = .ok (.goto (-25), 3) := dk_167 255 231 (dk_at dksX11_worth_1 6 rfl rfl)
theorem dX11_worth_33 : decode cX11_worth 33 = .ok (.iload_n 3, 1) := dk_29 (dk_at dksX11_worth_1 9 rfl rfl)
theorem dX11_worth_34 : decode cX11_worth 34 = .ok (.ireturn, 1) := dk_172 (dk_at dksX11_worth_1 10 rfl rfl)
theorem q135 : (Jvm.Cond.initialized "BeggarHeaps$Game") ∈ lw_all := lw_g (lw_at lw_m1 14 rfl) rfl
theorem q365 : (Jvm.Cond.instantiable "BeggarHeaps$Game" (24 : Nat)) ∈ lw_all := lw_g (lw_at lw_m2 4 rfl) rfl
theorem q367 : (Jvm.Cond.instanceMethod ({ cls := "BeggarHeaps$Game", name := "<init>", desc := "()V" } : Jvm.MethodName)) ∈ lw_all := lw_g (lw_at lw_m2 6 rfl) rfl
theorem q368 : (Jvm.Cond.code ({ cls := "BeggarHeaps$Game", name := "<init>", desc := "()V" } : Jvm.MethodName) prog_6_method_1_code (1 : Nat) (Option.none : Option Jvm.ClassFile.FieldType)) ∈ lw_all := lw_g (lw_at lw_m2 7 rfl) rfl
theorem q369 : (Jvm.Cond.methodLink "BeggarHeaps$Game" (3 : Nat) ({ cls := "java/lang/Object", name := "<init>", desc := "()V" } : Jvm.MethodName)) ∈ lw_all := lw_g (lw_at lw_m2 8 rfl) rfl
theorem q370 : (Jvm.Cond.classLink "BeggarHeaps$Game" (31 : Nat) "java/util/ArrayList") ∈ lw_all := lw_g (lw_at lw_m2 9 rfl) rfl
theorem q371 : (Jvm.Cond.methodLink "BeggarHeaps$Game" (33 : Nat) ({ cls := "java/util/ArrayList", name := "<init>", desc := "(I)V" } : Jvm.MethodName)) ∈ lw_all := lw_g (lw_at lw_m2 10 rfl) rfl
theorem q372 : (Jvm.Cond.fieldLink "BeggarHeaps$Game" (9 : Nat) "BeggarHeaps$Game" "left" "[I") ∈ lw_all := lw_g (lw_at lw_m2 11 rfl) rfl
theorem q375 : (Jvm.Cond.fieldLink "BeggarHeaps$Game" (15 : Nat) "BeggarHeaps$Game" "right" "[I") ∈ lw_all := lw_g (lw_at lw_m2 14 rfl) rfl
theorem q378 : (Jvm.Cond.fieldLink "BeggarHeaps$Game" (18 : Nat) "BeggarHeaps$Game" "heap" "[I") ∈ lw_all := lw_g (lw_at lw_m2 17 rfl) rfl
theorem q380 : (Jvm.Cond.fieldLink "BeggarHeaps$Game" (21 : Nat) "BeggarHeaps$Game" "laid" "[I") ∈ lw_all := lw_g (lw_at lw_m2 19 rfl) rfl
theorem q381 : (Jvm.Cond.fieldLink "BeggarHeaps$Game" (24 : Nat) "BeggarHeaps$Game" "leftUnseen" "[Z") ∈ lw_all := lw_g (lw_at lw_m2 20 rfl) rfl
theorem q383 : (Jvm.Cond.fieldLink "BeggarHeaps$Game" (28 : Nat) "BeggarHeaps$Game" "rightUnseen" "[Z") ∈ lw_all := lw_g (lw_at lw_m2 22 rfl) rfl
theorem q385 : (Jvm.Cond.fieldLink "BeggarHeaps$Game" (49 : Nat) "BeggarHeaps$Game" "lefts" "I") ∈ lw_all := lw_g (lw_at lw_m2 24 rfl) rfl
theorem q388 : (Jvm.Cond.fieldLink "BeggarHeaps$Game" (53 : Nat) "BeggarHeaps$Game" "rights" "I") ∈ lw_all := lw_g (lw_at lw_m2 27 rfl) rfl
theorem q391 : (Jvm.Cond.fieldLink "BeggarHeaps$Game" (56 : Nat) "BeggarHeaps$Game" "heaped" "I") ∈ lw_all := lw_g (lw_at lw_m2 30 rfl) rfl
theorem q393 : (Jvm.Cond.fieldLink "BeggarHeaps$Game" (59 : Nat) "BeggarHeaps$Game" "owed" "I") ∈ lw_all := lw_g (lw_at lw_m2 32 rfl) rfl
theorem q395 : (Jvm.Cond.fieldLink "BeggarHeaps$Game" (62 : Nat) "BeggarHeaps$Game" "taker" "I") ∈ lw_all := lw_g (lw_at lw_m2 34 rfl) rfl
theorem q397 : (Jvm.Cond.fieldLink "BeggarHeaps$Game" (65 : Nat) "BeggarHeaps$Game" "next" "I") ∈ lw_all := lw_g (lw_at lw_m2 36 rfl) rfl
theorem q400 : (Jvm.Cond.fieldLink "BeggarHeaps$Game" (68 : Nat) "BeggarHeaps$Game" "won" "I") ∈ lw_all := lw_g (lw_at lw_m2 39 rfl) rfl
theorem q403 : (Jvm.Cond.fieldLink "BeggarHeaps$Game" (71 : Nat) "BeggarHeaps$Game" "turns" "I") ∈ lw_all := lw_g (lw_at lw_m2 42 rfl) rfl
theorem q406 : (Jvm.Cond.fieldLink "BeggarHeaps$Game" (74 : Nat) "BeggarHeaps$Game" "heaps" "I") ∈ lw_all := lw_g (lw_at lw_m2 45 rfl) rfl
theorem q409 : (Jvm.Cond.fieldLink "BeggarHeaps$Game" (77 : Nat) "BeggarHeaps$Game" "rounds" "I") ∈ lw_all := lw_g (lw_at lw_m2 48 rfl) rfl
theorem q411 : (Jvm.Cond.fieldLink "BeggarHeaps$Game" (80 : Nat) "BeggarHeaps$Game" "waits" "Z") ∈ lw_all := lw_g (lw_at lw_m2 50 rfl) rfl
theorem q413 : (Jvm.Cond.fieldLink "BeggarHeaps$Game" (36 : Nat) "BeggarHeaps$Game" "kept" "Ljava/util/ArrayList;") ∈ lw_all := lw_g (lw_at lw_m2 52 rfl) rfl
theorem q415 : (Jvm.Cond.fieldLink "BeggarHeaps$Game" (40 : Nat) "BeggarHeaps$Game" "bets" "Ljava/util/ArrayList;") ∈ lw_all := lw_g (lw_at lw_m2 54 rfl) rfl
theorem q417 : (Jvm.Cond.fieldLink "BeggarHeaps$Game" (43 : Nat) "BeggarHeaps$Game" "last" "[I") ∈ lw_all := lw_g (lw_at lw_m2 56 rfl) rfl
theorem q419 : (Jvm.Cond.fieldLink "BeggarHeaps$Game" (46 : Nat) "BeggarHeaps$Game" "come" "[I") ∈ lw_all := lw_g (lw_at lw_m2 58 rfl) rfl
theorem q421 : (Jvm.Cond.fieldLink "BeggarHeaps$Game" (87 : Nat) "BeggarHeaps$Game" "lasts" "I") ∈ lw_all := lw_g (lw_at lw_m2 60 rfl) rfl
theorem q423 : (Jvm.Cond.fieldLink "BeggarHeaps$Game" (90 : Nat) "BeggarHeaps$Game" "comes" "I") ∈ lw_all := lw_g (lw_at lw_m2 62 rfl) rfl
theorem q425 : (Jvm.Cond.fieldLink "BeggarHeaps$Game" (93 : Nat) "BeggarHeaps$Game" "purse" "I") ∈ lw_all := lw_g (lw_at lw_m2 64 rfl) rfl
theorem q427 : (Jvm.Cond.laysFinal "BeggarHeaps$Game" "BeggarHeaps$Game" "left" "[I") ∈ lw_all := lw_g (lw_at lw_m2 66 rfl) rfl
theorem q428 : (Jvm.Cond.soleField "BeggarHeaps$Game" "left") ∈ lw_all := lw_g (lw_at lw_m2 67 rfl) rfl
theorem q429 : (Jvm.Cond.laysFinal "BeggarHeaps$Game" "BeggarHeaps$Game" "right" "[I") ∈ lw_all := lw_g (lw_at lw_m2 68 rfl) rfl
theorem q430 : (Jvm.Cond.soleField "BeggarHeaps$Game" "right") ∈ lw_all := lw_g (lw_at lw_m2 69 rfl) rfl
theorem q431 : (Jvm.Cond.laysFinal "BeggarHeaps$Game" "BeggarHeaps$Game" "heap" "[I") ∈ lw_all := lw_g (lw_at lw_m2 70 rfl) rfl
theorem q432 : (Jvm.Cond.soleField "BeggarHeaps$Game" "heap") ∈ lw_all := lw_g (lw_at lw_m2 71 rfl) rfl
theorem q433 : (Jvm.Cond.laysFinal "BeggarHeaps$Game" "BeggarHeaps$Game" "laid" "[I") ∈ lw_all := lw_g (lw_at lw_m2 72 rfl) rfl
theorem q434 : (Jvm.Cond.soleField "BeggarHeaps$Game" "laid") ∈ lw_all := lw_g (lw_at lw_m2 73 rfl) rfl
theorem q435 : (Jvm.Cond.laysFinal "BeggarHeaps$Game" "BeggarHeaps$Game" "leftUnseen" "[Z") ∈ lw_all := lw_g (lw_at lw_m2 74 rfl) rfl
theorem q436 : (Jvm.Cond.soleField "BeggarHeaps$Game" "leftUnseen") ∈ lw_all := lw_g (lw_at lw_m2 75 rfl) rfl
theorem q437 : (Jvm.Cond.laysFinal "BeggarHeaps$Game" "BeggarHeaps$Game" "rightUnseen" "[Z") ∈ lw_all := lw_g (lw_at lw_m2 76 rfl) rfl
theorem q438 : (Jvm.Cond.soleField "BeggarHeaps$Game" "rightUnseen") ∈ lw_all := lw_g (lw_at lw_m2 77 rfl) rfl
theorem q439 : (Jvm.Cond.lays "BeggarHeaps$Game" "BeggarHeaps$Game" "lefts" "I") ∈ lw_all := lw_g (lw_at lw_m2 78 rfl) rfl
theorem q440 : (Jvm.Cond.soleField "BeggarHeaps$Game" "lefts") ∈ lw_all := lw_g (lw_at lw_m2 79 rfl) rfl
theorem q441 : (Jvm.Cond.lays "BeggarHeaps$Game" "BeggarHeaps$Game" "rights" "I") ∈ lw_all := lw_g (lw_at lw_m2 80 rfl) rfl
theorem q442 : (Jvm.Cond.soleField "BeggarHeaps$Game" "rights") ∈ lw_all := lw_g (lw_at lw_m2 81 rfl) rfl
theorem q443 : (Jvm.Cond.lays "BeggarHeaps$Game" "BeggarHeaps$Game" "heaped" "I") ∈ lw_all := lw_g (lw_at lw_m2 82 rfl) rfl
theorem q444 : (Jvm.Cond.soleField "BeggarHeaps$Game" "heaped") ∈ lw_all := lw_g (lw_at lw_m2 83 rfl) rfl
theorem q445 : (Jvm.Cond.lays "BeggarHeaps$Game" "BeggarHeaps$Game" "owed" "I") ∈ lw_all := lw_g (lw_at lw_m2 84 rfl) rfl
theorem q446 : (Jvm.Cond.soleField "BeggarHeaps$Game" "owed") ∈ lw_all := lw_g (lw_at lw_m2 85 rfl) rfl
theorem q447 : (Jvm.Cond.lays "BeggarHeaps$Game" "BeggarHeaps$Game" "taker" "I") ∈ lw_all := lw_g (lw_at lw_m2 86 rfl) rfl
theorem q448 : (Jvm.Cond.soleField "BeggarHeaps$Game" "taker") ∈ lw_all := lw_g (lw_at lw_m2 87 rfl) rfl
theorem q449 : (Jvm.Cond.lays "BeggarHeaps$Game" "BeggarHeaps$Game" "next" "I") ∈ lw_all := lw_g (lw_at lw_m2 88 rfl) rfl
theorem q450 : (Jvm.Cond.soleField "BeggarHeaps$Game" "next") ∈ lw_all := lw_g (lw_at lw_m2 89 rfl) rfl
theorem q451 : (Jvm.Cond.lays "BeggarHeaps$Game" "BeggarHeaps$Game" "won" "I") ∈ lw_all := lw_g (lw_at lw_m2 90 rfl) rfl
theorem q452 : (Jvm.Cond.soleField "BeggarHeaps$Game" "won") ∈ lw_all := lw_g (lw_at lw_m2 91 rfl) rfl
theorem q453 : (Jvm.Cond.lays "BeggarHeaps$Game" "BeggarHeaps$Game" "turns" "I") ∈ lw_all := lw_g (lw_at lw_m2 92 rfl) rfl
theorem q454 : (Jvm.Cond.soleField "BeggarHeaps$Game" "turns") ∈ lw_all := lw_g (lw_at lw_m2 93 rfl) rfl
theorem q455 : (Jvm.Cond.lays "BeggarHeaps$Game" "BeggarHeaps$Game" "heaps" "I") ∈ lw_all := lw_g (lw_at lw_m2 94 rfl) rfl
theorem q456 : (Jvm.Cond.soleField "BeggarHeaps$Game" "heaps") ∈ lw_all := lw_g (lw_at lw_m2 95 rfl) rfl
theorem q457 : (Jvm.Cond.lays "BeggarHeaps$Game" "BeggarHeaps$Game" "rounds" "I") ∈ lw_all := lw_g (lw_at lw_m2 96 rfl) rfl
theorem q458 : (Jvm.Cond.soleField "BeggarHeaps$Game" "rounds") ∈ lw_all := lw_g (lw_at lw_m2 97 rfl) rfl
theorem q459 : (Jvm.Cond.lays "BeggarHeaps$Game" "BeggarHeaps$Game" "waits" "Z") ∈ lw_all := lw_g (lw_at lw_m2 98 rfl) rfl
theorem q460 : (Jvm.Cond.soleField "BeggarHeaps$Game" "waits") ∈ lw_all := lw_g (lw_at lw_m2 99 rfl) rfl
theorem q461 : (Jvm.Cond.laysFinal "BeggarHeaps$Game" "BeggarHeaps$Game" "kept" "Ljava/util/ArrayList;") ∈ lw_all := lw_g (lw_at lw_m2 100 rfl) rfl
theorem q462 : (Jvm.Cond.soleField "BeggarHeaps$Game" "kept") ∈ lw_all := lw_g (lw_at lw_m2 101 rfl) rfl
theorem q463 : (Jvm.Cond.laysFinal "BeggarHeaps$Game" "BeggarHeaps$Game" "bets" "Ljava/util/ArrayList;") ∈ lw_all := lw_g (lw_at lw_m2 102 rfl) rfl
theorem q464 : (Jvm.Cond.soleField "BeggarHeaps$Game" "bets") ∈ lw_all := lw_g (lw_at lw_m2 103 rfl) rfl
theorem q465 : (Jvm.Cond.laysFinal "BeggarHeaps$Game" "BeggarHeaps$Game" "last" "[I") ∈ lw_all := lw_g (lw_at lw_m2 104 rfl) rfl
theorem q466 : (Jvm.Cond.soleField "BeggarHeaps$Game" "last") ∈ lw_all := lw_g (lw_at lw_m2 105 rfl) rfl
theorem q467 : (Jvm.Cond.laysFinal "BeggarHeaps$Game" "BeggarHeaps$Game" "come" "[I") ∈ lw_all := lw_g (lw_at lw_m2 106 rfl) rfl
theorem q468 : (Jvm.Cond.soleField "BeggarHeaps$Game" "come") ∈ lw_all := lw_g (lw_at lw_m2 107 rfl) rfl
theorem q469 : (Jvm.Cond.lays "BeggarHeaps$Game" "BeggarHeaps$Game" "lasts" "I") ∈ lw_all := lw_g (lw_at lw_m2 108 rfl) rfl
theorem q470 : (Jvm.Cond.soleField "BeggarHeaps$Game" "lasts") ∈ lw_all := lw_g (lw_at lw_m2 109 rfl) rfl
theorem q471 : (Jvm.Cond.lays "BeggarHeaps$Game" "BeggarHeaps$Game" "comes" "I") ∈ lw_all := lw_g (lw_at lw_m2 110 rfl) rfl
theorem q472 : (Jvm.Cond.soleField "BeggarHeaps$Game" "comes") ∈ lw_all := lw_g (lw_at lw_m2 111 rfl) rfl
theorem q473 : (Jvm.Cond.lays "BeggarHeaps$Game" "BeggarHeaps$Game" "purse" "I") ∈ lw_all := lw_g (lw_at lw_m2 112 rfl) rfl
theorem q474 : (Jvm.Cond.soleField "BeggarHeaps$Game" "purse") ∈ lw_all := lw_g (lw_at lw_m2 113 rfl) rfl
theorem q475 : (Jvm.Cond.superclass "BeggarHeaps$Game" "java/lang/Object") ∈ lw_all := lw_g (lw_at lw_m2 114 rfl) rfl
theorem q497 : (Jvm.Cond.instanceMethod ({ cls := "BeggarHeaps$Game", name := "begin", desc := "(I)V" } : Jvm.MethodName)) ∈ lw_all := lw_g (lw_at lw_m2 136 rfl) rfl
theorem q498 : (Jvm.Cond.selects "BeggarHeaps$Game" ({ cls := "BeggarHeaps$Game", name := "begin", desc := "(I)V" } : Jvm.MethodName) ({ cls := "BeggarHeaps$Game", name := "begin", desc := "(I)V" } : Jvm.MethodName)) ∈ lw_all := lw_g (lw_at lw_m2 137 rfl) rfl
theorem q499 : (Jvm.Cond.code ({ cls := "BeggarHeaps$Game", name := "begin", desc := "(I)V" } : Jvm.MethodName) prog_6_method_2_code (2 : Nat) (Option.none : Option Jvm.ClassFile.FieldType)) ∈ lw_all := lw_g (lw_at lw_m2 138 rfl) rfl
theorem q500 : (Jvm.Cond.methodLink "BeggarHeaps$Game" (84 : Nat) ({ cls := "java/util/ArrayList", name := "clear", desc := "()V" } : Jvm.MethodName)) ∈ lw_all := lw_g (lw_at lw_m2 139 rfl) rfl
theorem q1129 : (Jvm.Cond.selects "BeggarHeaps$Game" ({ cls := "java/lang/Object", name := "getClass", desc := "()Ljava/lang/Class;" } : Jvm.MethodName) ({ cls := "java/lang/Object", name := "getClass", desc := "()Ljava/lang/Class;" } : Jvm.MethodName)) ∈ lw_all := lw_g (lw_at lw_m5 48 rfl) rfl
theorem q1185 : (Jvm.Cond.instanceMethod ({ cls := "BeggarHeaps$Game", name := "gets", desc := "(IIZ)V" } : Jvm.MethodName)) ∈ lw_all := lw_g (lw_at lw_m5 104 rfl) rfl
theorem q1186 : (Jvm.Cond.selects "BeggarHeaps$Game" ({ cls := "BeggarHeaps$Game", name := "gets", desc := "(IIZ)V" } : Jvm.MethodName) ({ cls := "BeggarHeaps$Game", name := "gets", desc := "(IIZ)V" } : Jvm.MethodName)) ∈ lw_all := lw_g (lw_at lw_m5 105 rfl) rfl
theorem q1187 : (Jvm.Cond.code ({ cls := "BeggarHeaps$Game", name := "gets", desc := "(IIZ)V" } : Jvm.MethodName) prog_6_method_7_code (4 : Nat) (Option.none : Option Jvm.ClassFile.FieldType)) ∈ lw_all := lw_g (lw_at lw_m5 106 rfl) rfl
theorem q1263 : (Jvm.Cond.instanceMethod ({ cls := "BeggarHeaps$Game", name := "cards", desc := "(I)I" } : Jvm.MethodName)) ∈ lw_all := lw_g (lw_at lw_m5 182 rfl) rfl
theorem q1264 : (Jvm.Cond.selects "BeggarHeaps$Game" ({ cls := "BeggarHeaps$Game", name := "cards", desc := "(I)I" } : Jvm.MethodName) ({ cls := "BeggarHeaps$Game", name := "cards", desc := "(I)I" } : Jvm.MethodName)) ∈ lw_all := lw_g (lw_at lw_m5 183 rfl) rfl
theorem q1265 : (Jvm.Cond.code ({ cls := "BeggarHeaps$Game", name := "cards", desc := "(I)I" } : Jvm.MethodName) prog_6_method_5_code (2 : Nat) (Option.some Jvm.ClassFile.FieldType.int)) ∈ lw_all := lw_g (lw_at lw_m5 184 rfl) rfl
theorem q1267 : (Jvm.Cond.instanceMethod ({ cls := "BeggarHeaps$Game", name := "card", desc := "(II)I" } : Jvm.MethodName)) ∈ lw_all := lw_g (lw_at lw_m5 186 rfl) rfl
theorem q1268 : (Jvm.Cond.selects "BeggarHeaps$Game" ({ cls := "BeggarHeaps$Game", name := "card", desc := "(II)I" } : Jvm.MethodName) ({ cls := "BeggarHeaps$Game", name := "card", desc := "(II)I" } : Jvm.MethodName)) ∈ lw_all := lw_g (lw_at lw_m5 187 rfl) rfl
theorem q1269 : (Jvm.Cond.code ({ cls := "BeggarHeaps$Game", name := "card", desc := "(II)I" } : Jvm.MethodName) prog_6_method_6_code (3 : Nat) (Option.some Jvm.ClassFile.FieldType.int)) ∈ lw_all := lw_g (lw_at lw_m5 188 rfl) rfl
theorem q1296 : (Jvm.Cond.instanceMethod ({ cls := "BeggarHeaps$Game", name := "beWhole", desc := "(LBeggarHeaps$Game;)V" } : Jvm.MethodName)) ∈ lw_all := lw_g (lw_at lw_m5 215 rfl) rfl
theorem q1297 : (Jvm.Cond.selects "BeggarHeaps$Game" ({ cls := "BeggarHeaps$Game", name := "beWhole", desc := "(LBeggarHeaps$Game;)V" } : Jvm.MethodName) ({ cls := "BeggarHeaps$Game", name := "beWhole", desc := "(LBeggarHeaps$Game;)V" } : Jvm.MethodName)) ∈ lw_all := lw_g (lw_at lw_m5 216 rfl) rfl
theorem q1298 : (Jvm.Cond.code ({ cls := "BeggarHeaps$Game", name := "beWhole", desc := "(LBeggarHeaps$Game;)V" } : Jvm.MethodName) prog_6_method_4_code (3 : Nat) (Option.none : Option Jvm.ClassFile.FieldType)) ∈ lw_all := lw_g (lw_at lw_m5 217 rfl) rfl
theorem q1299 : (Jvm.Cond.methodLink "BeggarHeaps$Game" (96 : Nat) ({ cls := "BeggarHeaps$Game", name := "be", desc := "(LBeggarHeaps$Game;)V" } : Jvm.MethodName)) ∈ lw_all := lw_g (lw_at lw_m5 218 rfl) rfl
theorem q1300 : (Jvm.Cond.instanceMethod ({ cls := "BeggarHeaps$Game", name := "be", desc := "(LBeggarHeaps$Game;)V" } : Jvm.MethodName)) ∈ lw_all := lw_g (lw_at lw_m5 219 rfl) rfl
theorem q1301 : (Jvm.Cond.selects "BeggarHeaps$Game" ({ cls := "BeggarHeaps$Game", name := "be", desc := "(LBeggarHeaps$Game;)V" } : Jvm.MethodName) ({ cls := "BeggarHeaps$Game", name := "be", desc := "(LBeggarHeaps$Game;)V" } : Jvm.MethodName)) ∈ lw_all := lw_g (lw_at lw_m5 220 rfl) rfl
theorem q1302 : (Jvm.Cond.code ({ cls := "BeggarHeaps$Game", name := "be", desc := "(LBeggarHeaps$Game;)V" } : Jvm.MethodName) prog_6_method_3_code (3 : Nat) (Option.none : Option Jvm.ClassFile.FieldType)) ∈ lw_all := lw_g (lw_at lw_m5 221 rfl) rfl
theorem q1303 : (Jvm.Cond.methodLink "BeggarHeaps$Game" (100 : Nat) ({ cls := "java/util/ArrayList", name := "size", desc := "()I" } : Jvm.MethodName)) ∈ lw_all := lw_g (lw_at lw_m5 222 rfl) rfl
theorem q1304 : (Jvm.Cond.methodLink "BeggarHeaps$Game" (104 : Nat) ({ cls := "java/util/ArrayList", name := "get", desc := "(I)Ljava/lang/Object;" } : Jvm.MethodName)) ∈ lw_all := lw_g (lw_at lw_m5 223 rfl) rfl
theorem q1305 : (Jvm.Cond.classLink "BeggarHeaps$Game" (108 : Nat) "BeggarHeaps$Heap") ∈ lw_all := lw_g (lw_at lw_m5 224 rfl) rfl
theorem q1306 : (Jvm.Cond.methodLink "BeggarHeaps$Game" (110 : Nat) ({ cls := "java/util/ArrayList", name := "add", desc := "(Ljava/lang/Object;)Z" } : Jvm.MethodName)) ∈ lw_all := lw_g (lw_at lw_m5 225 rfl) rfl
theorem q1307 : (Jvm.Cond.classLink "BeggarHeaps$Game" (114 : Nat) "BeggarHeaps$Bet") ∈ lw_all := lw_g (lw_at lw_m5 226 rfl) rfl
theorem q1308 : (Jvm.Cond.methodLinkNest "BeggarHeaps$Game" (116 : Nat) ({ cls := "BeggarHeaps", name := "copies", desc := "([I[I)V" } : Jvm.MethodName) "BeggarHeaps") ∈ lw_tbl := lw_at lw_m5 227 rfl
theorem q1316 : (Jvm.Cond.instanceMethod ({ cls := "BeggarHeaps$Game", name := "turned", desc := "([I)Z" } : Jvm.MethodName)) ∈ lw_all := lw_g (lw_at lw_m5 235 rfl) rfl
theorem q1317 : (Jvm.Cond.selects "BeggarHeaps$Game" ({ cls := "BeggarHeaps$Game", name := "turned", desc := "([I)Z" } : Jvm.MethodName) ({ cls := "BeggarHeaps$Game", name := "turned", desc := "([I)Z" } : Jvm.MethodName)) ∈ lw_all := lw_g (lw_at lw_m5 236 rfl) rfl
theorem q1318 : (Jvm.Cond.code ({ cls := "BeggarHeaps$Game", name := "turned", desc := "([I)Z" } : Jvm.MethodName) prog_6_method_11_code (3 : Nat) (Option.some Jvm.ClassFile.FieldType.boolean)) ∈ lw_all := lw_g (lw_at lw_m5 237 rfl) rfl
theorem q1319 : (Jvm.Cond.methodLink "BeggarHeaps$Game" (120 : Nat) ({ cls := "BeggarHeaps$Game", name := "cards", desc := "(I)I" } : Jvm.MethodName)) ∈ lw_all := lw_g (lw_at lw_m5 238 rfl) rfl
theorem q1320 : (Jvm.Cond.methodLink "BeggarHeaps$Game" (135 : Nat) ({ cls := "BeggarHeaps$Game", name := "turnsUp", desc := "()V" } : Jvm.MethodName)) ∈ lw_all := lw_g (lw_at lw_m5 239 rfl) rfl
theorem q1321 : (Jvm.Cond.privateMethod ({ cls := "BeggarHeaps$Game", name := "turnsUp", desc := "()V" } : Jvm.MethodName)) ∈ lw_tbl := lw_at lw_m6 0 rfl
theorem q1322 : (Jvm.Cond.instanceMethod ({ cls := "BeggarHeaps$Game", name := "turnsUp", desc := "()V" } : Jvm.MethodName)) ∈ lw_all := lw_g (lw_at lw_m6 1 rfl) rfl
theorem q1323 : (Jvm.Cond.code ({ cls := "BeggarHeaps$Game", name := "turnsUp", desc := "()V" } : Jvm.MethodName) prog_6_method_9_code (1 : Nat) (Option.none : Option Jvm.ClassFile.FieldType)) ∈ lw_all := lw_g (lw_at lw_m6 2 rfl) rfl
theorem q1324 : (Jvm.Cond.methodLink "BeggarHeaps$Game" (124 : Nat) ({ cls := "BeggarHeaps$Game", name := "gives", desc := "(I)I" } : Jvm.MethodName)) ∈ lw_all := lw_g (lw_at lw_m6 3 rfl) rfl
theorem q1325 : (Jvm.Cond.instanceMethod ({ cls := "BeggarHeaps$Game", name := "gives", desc := "(I)I" } : Jvm.MethodName)) ∈ lw_all := lw_g (lw_at lw_m6 4 rfl) rfl
theorem q1326 : (Jvm.Cond.selects "BeggarHeaps$Game" ({ cls := "BeggarHeaps$Game", name := "gives", desc := "(I)I" } : Jvm.MethodName) ({ cls := "BeggarHeaps$Game", name := "gives", desc := "(I)I" } : Jvm.MethodName)) ∈ lw_all := lw_g (lw_at lw_m6 5 rfl) rfl
theorem q1327 : (Jvm.Cond.code ({ cls := "BeggarHeaps$Game", name := "gives", desc := "(I)I" } : Jvm.MethodName) prog_6_method_8_code (7 : Nat) (Option.some Jvm.ClassFile.FieldType.int)) ∈ lw_all := lw_g (lw_at lw_m6 6 rfl) rfl
theorem q1369 : (Jvm.Cond.instanceMethod ({ cls := "BeggarHeaps$Game", name := "takes", desc := "([ILBeggarHeaps$Order;)V" } : Jvm.MethodName)) ∈ lw_all := lw_g (lw_at lw_m6 48 rfl) rfl
theorem q1370 : (Jvm.Cond.selects "BeggarHeaps$Game" ({ cls := "BeggarHeaps$Game", name := "takes", desc := "([ILBeggarHeaps$Order;)V" } : Jvm.MethodName) ({ cls := "BeggarHeaps$Game", name := "takes", desc := "([ILBeggarHeaps$Order;)V" } : Jvm.MethodName)) ∈ lw_all := lw_g (lw_at lw_m6 49 rfl) rfl
theorem q1371 : (Jvm.Cond.code ({ cls := "BeggarHeaps$Game", name := "takes", desc := "([ILBeggarHeaps$Order;)V" } : Jvm.MethodName) prog_6_method_12_code (4 : Nat) (Option.none : Option Jvm.ClassFile.FieldType)) ∈ lw_all := lw_g (lw_at lw_m6 50 rfl) rfl
theorem q1372 : (Jvm.Cond.methodLink "BeggarHeaps$Game" (138 : Nat) ({ cls := "BeggarHeaps$Order", name := "lays", desc := "([II[I[I)V" } : Jvm.MethodName)) ∈ lw_all := lw_g (lw_at lw_m6 51 rfl) rfl
theorem q1390 : (Jvm.Cond.methodLink "BeggarHeaps$Game" (144 : Nat) ({ cls := "BeggarHeaps$Game", name := "gets", desc := "(IIZ)V" } : Jvm.MethodName)) ∈ lw_all := lw_g (lw_at lw_m6 69 rfl) rfl
theorem q1424 : (Jvm.Cond.instanceMethod ({ cls := "BeggarHeaps$Game", name := "isRest", desc := "()Z" } : Jvm.MethodName)) ∈ lw_all := lw_g (lw_at lw_m6 103 rfl) rfl
theorem q1425 : (Jvm.Cond.selects "BeggarHeaps$Game" ({ cls := "BeggarHeaps$Game", name := "isRest", desc := "()Z" } : Jvm.MethodName) ({ cls := "BeggarHeaps$Game", name := "isRest", desc := "()Z" } : Jvm.MethodName)) ∈ lw_all := lw_g (lw_at lw_m6 104 rfl) rfl
theorem q1426 : (Jvm.Cond.code ({ cls := "BeggarHeaps$Game", name := "isRest", desc := "()Z" } : Jvm.MethodName) prog_6_method_14_code (1 : Nat) (Option.some Jvm.ClassFile.FieldType.boolean)) ∈ lw_all := lw_g (lw_at lw_m6 105 rfl) rfl
theorem q1439 : (Jvm.Cond.instanceMethod ({ cls := "BeggarHeaps$Game", name := "turn", desc := "([ILBeggarHeaps$Order;LBeggarHeaps$Order;)I" } : Jvm.MethodName)) ∈ lw_all := lw_g (lw_at lw_m6 118 rfl) rfl
theorem q1440 : (Jvm.Cond.selects "BeggarHeaps$Game" ({ cls := "BeggarHeaps$Game", name := "turn", desc := "([ILBeggarHeaps$Order;LBeggarHeaps$Order;)I" } : Jvm.MethodName) ({ cls := "BeggarHeaps$Game", name := "turn", desc := "([ILBeggarHeaps$Order;LBeggarHeaps$Order;)I" } : Jvm.MethodName)) ∈ lw_all := lw_g (lw_at lw_m6 119 rfl) rfl
theorem q1441 : (Jvm.Cond.code ({ cls := "BeggarHeaps$Game", name := "turn", desc := "([ILBeggarHeaps$Order;LBeggarHeaps$Order;)I" } : Jvm.MethodName) prog_6_method_10_code (4 : Nat) (Option.some Jvm.ClassFile.FieldType.int)) ∈ lw_all := lw_g (lw_at lw_m6 120 rfl) rfl
theorem q1442 : (Jvm.Cond.methodLink "BeggarHeaps$Game" (127 : Nat) ({ cls := "BeggarHeaps$Game", name := "turned", desc := "([I)Z" } : Jvm.MethodName)) ∈ lw_all := lw_g (lw_at lw_m6 121 rfl) rfl
theorem q1443 : (Jvm.Cond.methodLink "BeggarHeaps$Game" (131 : Nat) ({ cls := "BeggarHeaps$Game", name := "takes", desc := "([ILBeggarHeaps$Order;)V" } : Jvm.MethodName)) ∈ lw_all := lw_g (lw_at lw_m6 122 rfl) rfl
theorem q1495 : (Jvm.Cond.instanceMethod ({ cls := "BeggarHeaps$Game", name := "worth", desc := "(I[I)I" } : Jvm.MethodName)) ∈ lw_all := lw_g (lw_at lw_m6 174 rfl) rfl
theorem q1496 : (Jvm.Cond.selects "BeggarHeaps$Game" ({ cls := "BeggarHeaps$Game", name := "worth", desc := "(I[I)I" } : Jvm.MethodName) ({ cls := "BeggarHeaps$Game", name := "worth", desc := "(I[I)I" } : Jvm.MethodName)) ∈ lw_all := lw_g (lw_at lw_m6 175 rfl) rfl
theorem q1497 : (Jvm.Cond.code ({ cls := "BeggarHeaps$Game", name := "worth", desc := "(I[I)I" } : Jvm.MethodName) prog_6_method_13_code (5 : Nat) (Option.some Jvm.ClassFile.FieldType.int)) ∈ lw_all := lw_g (lw_at lw_m6 176 rfl) rfl
theorem q1498 : (Jvm.Cond.methodLink "BeggarHeaps$Game" (148 : Nat) ({ cls := "BeggarHeaps$Game", name := "card", desc := "(II)I" } : Jvm.MethodName)) ∈ lw_all := lw_g (lw_at lw_m6 177 rfl) rfl
theorem q2365 : (Jvm.Cond.castable "BeggarHeaps$Game" "java/lang/Object") ∈ lw_tbl := lw_at lw_m10 84 rfl
theorem in_X11 : ∀ w ∈ wsX110, w ∈ lw_all := lw_in wsX110 [427, 429, 431, 433, 435, 437, 439, 441, 443, 445, 447, 449, 451, 453, 455, 457, 459, 461, 463, 465, 467, 469, 471, 473] (by decide +kernel) (by decide +kernel)

/-! BeggarHeaps$Row -/
set_option maxRecDepth 100000
def RX12 : String := "BeggarHeaps$Row"
def TX12 : u_T := fun k => match k with
  | 0 => ("BeggarHeaps$Row", "card", "[I", true)
  | _ => ("BeggarHeaps$Row", "many", "I", false)
def tyX12 : Nat → FieldType := fun k => match k with
  | 0 => .array .int
  | _ => .int
abbrev wsX120 : List Cond := u_ws RX12 TX12 2
theorem nmX12 : ∀ a, a < 2 → ∀ b, b < 2 → a ≠ b → (TX12 a).2.1 ≠ (TX12 b).2.1 := by decide +kernel
theorem tyX12_ok : ∀ k, k < 2 → parseFieldDescriptor (TX12 k).2.2.1 = some (tyX12 k) := by decide +kernel
abbrev cX12_init : ByteArray := prog_17_method_1_code
def yX12_init : MethodName := ⟨RX12, "<init>", "()V"⟩
def dkwX12_init_0 : List UInt8 := [42, 183, 0, 3, 42, 16, 24, 188, 10, 181, 0, 9, 177]
abbrev dktX12_init_0 : List UInt8 := dkwX12_init_0 ++ []
theorem dksX12_init_0 : cX12_init.data.toList.drop 0 = dktX12_init_0 := by decide +kernel
theorem dX12_init_0 : decode cX12_init 0 = .ok (.aload_n 0, 1) := dk_42 (dk_at dksX12_init_0 0 rfl rfl)
theorem dX12_init_1 : decode cX12_init 1 = .ok (.invokespecial 3, 3) := dk_183 0 3 (dk_at dksX12_init_0 1 rfl rfl)
theorem dX12_init_4 : decode cX12_init 4 = .ok (.aload_n 0, 1) := dk_42 (dk_at dksX12_init_0 4 rfl rfl)
theorem dX12_init_5 : decode cX12_init 5 = .ok (.bipush 24, 2) := dk_16 24 (dk_at dksX12_init_0 5 rfl rfl)
theorem dX12_init_7 : decode cX12_init 7 = .ok (.newarray .int, 2) := dk_188_10 (dk_at dksX12_init_0 7 rfl rfl)
theorem dX12_init_9 : decode cX12_init 9 = .ok (.putfield 9, 3) := dk_181 0 9 (dk_at dksX12_init_0 9 rfl rfl)
theorem dX12_init_12 : decode cX12_init 12 = .ok (.return_, 1) := dk_177 (dk_at dksX12_init_0 12 rfl rfl)
theorem q136 : (Jvm.Cond.initialized "BeggarHeaps$Row") ∈ lw_all := lw_g (lw_at lw_m1 15 rfl) rfl
theorem q478 : (Jvm.Cond.instantiable "BeggarHeaps$Row" (2 : Nat)) ∈ lw_all := lw_g (lw_at lw_m2 117 rfl) rfl
theorem q480 : (Jvm.Cond.instanceMethod ({ cls := "BeggarHeaps$Row", name := "<init>", desc := "()V" } : Jvm.MethodName)) ∈ lw_all := lw_g (lw_at lw_m2 119 rfl) rfl
theorem q481 : (Jvm.Cond.code ({ cls := "BeggarHeaps$Row", name := "<init>", desc := "()V" } : Jvm.MethodName) prog_17_method_1_code (1 : Nat) (Option.none : Option Jvm.ClassFile.FieldType)) ∈ lw_all := lw_g (lw_at lw_m2 120 rfl) rfl
theorem q482 : (Jvm.Cond.methodLink "BeggarHeaps$Row" (3 : Nat) ({ cls := "java/lang/Object", name := "<init>", desc := "()V" } : Jvm.MethodName)) ∈ lw_all := lw_g (lw_at lw_m2 121 rfl) rfl
theorem q483 : (Jvm.Cond.fieldLink "BeggarHeaps$Row" (9 : Nat) "BeggarHeaps$Row" "card" "[I") ∈ lw_all := lw_g (lw_at lw_m2 122 rfl) rfl
theorem q488 : (Jvm.Cond.laysFinal "BeggarHeaps$Row" "BeggarHeaps$Row" "card" "[I") ∈ lw_all := lw_g (lw_at lw_m2 127 rfl) rfl
theorem q489 : (Jvm.Cond.soleField "BeggarHeaps$Row" "card") ∈ lw_all := lw_g (lw_at lw_m2 128 rfl) rfl
theorem q490 : (Jvm.Cond.lays "BeggarHeaps$Row" "BeggarHeaps$Row" "many" "I") ∈ lw_all := lw_g (lw_at lw_m2 129 rfl) rfl
theorem q491 : (Jvm.Cond.soleField "BeggarHeaps$Row" "many") ∈ lw_all := lw_g (lw_at lw_m2 130 rfl) rfl
theorem q492 : (Jvm.Cond.superclass "BeggarHeaps$Row" "java/lang/Object") ∈ lw_all := lw_g (lw_at lw_m2 131 rfl) rfl
theorem q1139 : (Jvm.Cond.selects "BeggarHeaps$Row" ({ cls := "java/lang/Object", name := "getClass", desc := "()Ljava/lang/Class;" } : Jvm.MethodName) ({ cls := "java/lang/Object", name := "getClass", desc := "()Ljava/lang/Class;" } : Jvm.MethodName)) ∈ lw_all := lw_g (lw_at lw_m5 58 rfl) rfl
theorem q2367 : (Jvm.Cond.castable "BeggarHeaps$Row" "java/lang/Object") ∈ lw_tbl := lw_at lw_m10 86 rfl
theorem in_X12 : ∀ w ∈ wsX120, w ∈ lw_all := lw_in wsX120 [488, 490] (by decide +kernel) (by decide +kernel)

/-! BeggarHeaps$Wrong -/
set_option maxRecDepth 100000
def RX14 : String := "BeggarHeaps$Wrong"
def TX14 : u_T := fun k => match k with
  | 0 => ("java/lang/Throwable", "cause", "Ljava/lang/Throwable;", false)
  | 1 => ("java/lang/Throwable", "stackTrace", "[Ljava/lang/StackTraceElement;", false)
  | 2 => ("java/lang/Throwable", "suppressedExceptions", "Ljava/util/List;", false)
  | 3 => ("java/lang/Throwable", "detailMessage", "Ljava/lang/String;", false)
  | 4 => ("java/lang/Throwable", "backtrace", "Ljava/lang/Object;", false)
  | 5 => ("java/lang/Throwable", "depth", "I", false)
  | _ => ("BeggarHeaps$Wrong", "fault", "I", true)
def tyX14 : Nat → FieldType := fun k => match k with
  | 0 => .object "java/lang/Throwable"
  | 1 => .array (.object "java/lang/StackTraceElement")
  | 2 => .object "java/util/List"
  | 3 => .object "java/lang/String"
  | 4 => .object "java/lang/Object"
  | 5 => .int
  | _ => .int
abbrev wsX140 : List Cond := u_ws RX14 TX14 7
theorem nmX14 : ∀ a, a < 7 → ∀ b, b < 7 → a ≠ b → (TX14 a).2.1 ≠ (TX14 b).2.1 := by decide +kernel
theorem tyX14_ok : ∀ k, k < 7 → parseFieldDescriptor (TX14 k).2.2.1 = some (tyX14 k) := by decide +kernel
abbrev cX14_init : ByteArray := prog_22_method_1_code
def yX14_init : MethodName := ⟨RX14, "<init>", "(II)V"⟩
def dkwX14_init_0 : List UInt8 := [42, 1, 1, 3, 3, 183, 0, 1, 42, 27, 16, 16, 28, 104, 96, 181, 0, 7, 177]
abbrev dktX14_init_0 : List UInt8 := dkwX14_init_0 ++ []
theorem dksX14_init_0 : cX14_init.data.toList.drop 0 = dktX14_init_0 := by decide +kernel
theorem dX14_init_0 : decode cX14_init 0 = .ok (.aload_n 0, 1) := dk_42 (dk_at dksX14_init_0 0 rfl rfl)
theorem dX14_init_1 : decode cX14_init 1 = .ok (.aconst_null, 1) := dk_1 (dk_at dksX14_init_0 1 rfl rfl)
theorem dX14_init_2 : decode cX14_init 2 = .ok (.aconst_null, 1) := dk_1 (dk_at dksX14_init_0 2 rfl rfl)
theorem dX14_init_3 : decode cX14_init 3 = .ok (.iconst 0, 1) := dk_3 (dk_at dksX14_init_0 3 rfl rfl)
theorem dX14_init_4 : decode cX14_init 4 = .ok (.iconst 0, 1) := dk_3 (dk_at dksX14_init_0 4 rfl rfl)
theorem dX14_init_5 : decode cX14_init 5 = .ok (.invokespecial 1, 3) := dk_183 0 1 (dk_at dksX14_init_0 5 rfl rfl)
theorem dX14_init_8 : decode cX14_init 8 = .ok (.aload_n 0, 1) := dk_42 (dk_at dksX14_init_0 8 rfl rfl)
theorem dX14_init_9 : decode cX14_init 9 = .ok (.iload_n 1, 1) := dk_27 (dk_at dksX14_init_0 9 rfl rfl)
theorem dX14_init_10 : decode cX14_init 10 = .ok (.bipush 16, 2) := dk_16 16 (dk_at dksX14_init_0 10 rfl rfl)
theorem dX14_init_12 : decode cX14_init 12 = .ok (.iload_n 2, 1) := dk_28 (dk_at dksX14_init_0 12 rfl rfl)
theorem dX14_init_13 : decode cX14_init 13 = .ok (.imul, 1) := dk_104 (dk_at dksX14_init_0 13 rfl rfl)
theorem dX14_init_14 : decode cX14_init 14 = .ok (.iadd, 1) := dk_96 (dk_at dksX14_init_0 14 rfl rfl)
theorem dX14_init_15 : decode cX14_init 15 = .ok (.putfield 7, 3) := dk_181 0 7 (dk_at dksX14_init_0 15 rfl rfl)
theorem dX14_init_18 : decode cX14_init 18 = .ok (.return_, 1) := dk_177 (dk_at dksX14_init_0 18 rfl rfl)
theorem q147 : (Jvm.Cond.initialized "BeggarHeaps$Wrong") ∈ lw_all := lw_g (lw_at lw_m1 26 rfl) rfl
theorem q732 : (Jvm.Cond.instantiable "BeggarHeaps$Wrong" (7 : Nat)) ∈ lw_all := lw_g (lw_at lw_m3 131 rfl) rfl
theorem q733 : (Jvm.Cond.castable "BeggarHeaps$Wrong" "BeggarHeaps$Wrong") ∈ lw_tbl := lw_at lw_m3 132 rfl
theorem q740 : (Jvm.Cond.selects "BeggarHeaps$Wrong" ({ cls := "java/lang/Throwable", name := "fillInStackTrace", desc := "(I)Ljava/lang/Throwable;" } : Jvm.MethodName) ({ cls := "java/lang/Throwable", name := "fillInStackTrace", desc := "(I)Ljava/lang/Throwable;" } : Jvm.MethodName)) ∈ lw_all := lw_g (lw_at lw_m3 139 rfl) rfl
theorem q741 : (Jvm.Cond.selects "BeggarHeaps$Wrong" ({ cls := "java/lang/Throwable", name := "fillInStackTrace", desc := "()Ljava/lang/Throwable;" } : Jvm.MethodName) ({ cls := "java/lang/Throwable", name := "fillInStackTrace", desc := "()Ljava/lang/Throwable;" } : Jvm.MethodName)) ∈ lw_all := lw_g (lw_at lw_m3 140 rfl) rfl
theorem q742 : (Jvm.Cond.lays "BeggarHeaps$Wrong" "java/lang/Throwable" "cause" "Ljava/lang/Throwable;") ∈ lw_all := lw_g (lw_at lw_m3 141 rfl) rfl
theorem q744 : (Jvm.Cond.lays "BeggarHeaps$Wrong" "java/lang/Throwable" "stackTrace" "[Ljava/lang/StackTraceElement;") ∈ lw_all := lw_g (lw_at lw_m3 143 rfl) rfl
theorem q746 : (Jvm.Cond.lays "BeggarHeaps$Wrong" "java/lang/Throwable" "suppressedExceptions" "Ljava/util/List;") ∈ lw_all := lw_g (lw_at lw_m3 145 rfl) rfl
theorem q748 : (Jvm.Cond.lays "BeggarHeaps$Wrong" "java/lang/Throwable" "detailMessage" "Ljava/lang/String;") ∈ lw_all := lw_g (lw_at lw_m3 147 rfl) rfl
theorem q750 : (Jvm.Cond.lays "BeggarHeaps$Wrong" "java/lang/Throwable" "backtrace" "Ljava/lang/Object;") ∈ lw_all := lw_g (lw_at lw_m3 149 rfl) rfl
theorem q772 : (Jvm.Cond.instanceMethod ({ cls := "BeggarHeaps$Wrong", name := "<init>", desc := "(II)V" } : Jvm.MethodName)) ∈ lw_all := lw_g (lw_at lw_m3 171 rfl) rfl
theorem q773 : (Jvm.Cond.code ({ cls := "BeggarHeaps$Wrong", name := "<init>", desc := "(II)V" } : Jvm.MethodName) prog_22_method_1_code (3 : Nat) (Option.none : Option Jvm.ClassFile.FieldType)) ∈ lw_all := lw_g (lw_at lw_m3 172 rfl) rfl
theorem q774 : (Jvm.Cond.methodLink "BeggarHeaps$Wrong" (1 : Nat) ({ cls := "java/lang/RuntimeException", name := "<init>", desc := "(Ljava/lang/String;Ljava/lang/Throwable;ZZ)V" } : Jvm.MethodName)) ∈ lw_all := lw_g (lw_at lw_m3 173 rfl) rfl
theorem q783 : (Jvm.Cond.fieldLink "BeggarHeaps$Wrong" (7 : Nat) "BeggarHeaps$Wrong" "fault" "I") ∈ lw_all := lw_g (lw_at lw_m3 182 rfl) rfl
theorem q790 : (Jvm.Cond.laysFinal "BeggarHeaps$Wrong" "BeggarHeaps$Wrong" "fault" "I") ∈ lw_all := lw_g (lw_at lw_m3 189 rfl) rfl
theorem q791 : (Jvm.Cond.soleField "BeggarHeaps$Wrong" "fault") ∈ lw_all := lw_g (lw_at lw_m3 190 rfl) rfl
theorem q796 : (Jvm.Cond.lays "BeggarHeaps$Wrong" "java/lang/Throwable" "depth" "I") ∈ lw_all := lw_g (lw_at lw_m3 195 rfl) rfl
theorem q799 : (Jvm.Cond.superclass "BeggarHeaps$Wrong" "java/lang/RuntimeException") ∈ lw_all := lw_g (lw_at lw_m3 198 rfl) rfl
theorem q1144 : (Jvm.Cond.selects "BeggarHeaps$Wrong" ({ cls := "java/lang/Object", name := "getClass", desc := "()Ljava/lang/Class;" } : Jvm.MethodName) ({ cls := "java/lang/Object", name := "getClass", desc := "()Ljava/lang/Class;" } : Jvm.MethodName)) ∈ lw_all := lw_g (lw_at lw_m5 63 rfl) rfl
theorem q2379 : (Jvm.Cond.castable "BeggarHeaps$Wrong" "java/lang/Object") ∈ lw_tbl := lw_at lw_m10 98 rfl
theorem in_X14 : ∀ w ∈ wsX140, w ∈ lw_all := lw_in wsX140 [742, 744, 746, 748, 750, 796, 790] (by decide +kernel) (by decide +kernel)

/-! BeggarHeaps$Expression -/
set_option maxRecDepth 100000
def RX15 : String := "BeggarHeaps$Expression"
abbrev cX15_init : ByteArray := prog_4_method_1_code
def yX15_init : MethodName := ⟨RX15, "<init>", "()V"⟩
theorem dX15_init_0 : decode cX15_init 0 = .ok (.aload_n 0, 1) := by decide +kernel
theorem dX15_init_1 : decode cX15_init 1 = .ok (.invokespecial 1, 3) := by decide +kernel
theorem dX15_init_4 : decode cX15_init 4 = .ok (.return_, 1) := by decide +kernel
theorem q148 : (Jvm.Cond.initialized "BeggarHeaps$Expression") ∈ lw_all := lw_g (lw_at lw_m1 27 rfl) rfl
theorem q850 : (Jvm.Cond.instanceMethod ({ cls := "BeggarHeaps$Expression", name := "<init>", desc := "()V" } : Jvm.MethodName)) ∈ lw_all := lw_g (lw_at lw_m4 9 rfl) rfl
theorem q851 : (Jvm.Cond.code ({ cls := "BeggarHeaps$Expression", name := "<init>", desc := "()V" } : Jvm.MethodName) prog_4_method_1_code (1 : Nat) (Option.none : Option Jvm.ClassFile.FieldType)) ∈ lw_all := lw_g (lw_at lw_m4 10 rfl) rfl
theorem q852 : (Jvm.Cond.methodLink "BeggarHeaps$Expression" (1 : Nat) ({ cls := "java/lang/Object", name := "<init>", desc := "()V" } : Jvm.MethodName)) ∈ lw_all := lw_g (lw_at lw_m4 11 rfl) rfl
theorem q1532 : (Jvm.Cond.declares ({ cls := "BeggarHeaps$Expression", name := "worked", desc := "([I)I" } : Jvm.MethodName)) ∈ lw_tbl := lw_at lw_m6 211 rfl
theorem q1533 : (Jvm.Cond.sameMethod "BeggarHeaps$Expression" "BeggarHeaps$Expression" "worked" "([I)I") ∈ lw_all := lw_g (lw_at lw_m6 212 rfl) rfl

/-! BeggarHeaps$Given -/
set_option maxRecDepth 100000
def RX16 : String := "BeggarHeaps$Given"
def TX16 : u_T := fun k => match k with
  | _ => ("BeggarHeaps$Given", "n", "I", true)
def tyX16 : Nat → FieldType := fun k => match k with
  | _ => .int
abbrev wsX160 : List Cond := u_ws RX16 TX16 1
theorem nmX16 : ∀ a, a < 1 → ∀ b, b < 1 → a ≠ b → (TX16 a).2.1 ≠ (TX16 b).2.1 := by decide +kernel
theorem tyX16_ok : ∀ k, k < 1 → parseFieldDescriptor (TX16 k).2.2.1 = some (tyX16 k) := by decide +kernel
abbrev cX16_init : ByteArray := prog_7_method_1_code
def yX16_init : MethodName := ⟨RX16, "<init>", "(I)V"⟩
def dkwX16_init_0 : List UInt8 := [42, 183, 0, 1, 42, 27, 181, 0, 7, 177]
abbrev dktX16_init_0 : List UInt8 := dkwX16_init_0 ++ []
theorem dksX16_init_0 : cX16_init.data.toList.drop 0 = dktX16_init_0 := by decide +kernel
theorem dX16_init_0 : decode cX16_init 0 = .ok (.aload_n 0, 1) := dk_42 (dk_at dksX16_init_0 0 rfl rfl)
theorem dX16_init_1 : decode cX16_init 1 = .ok (.invokespecial 1, 3) := dk_183 0 1 (dk_at dksX16_init_0 1 rfl rfl)
theorem dX16_init_4 : decode cX16_init 4 = .ok (.aload_n 0, 1) := dk_42 (dk_at dksX16_init_0 4 rfl rfl)
theorem dX16_init_5 : decode cX16_init 5 = .ok (.iload_n 1, 1) := dk_27 (dk_at dksX16_init_0 5 rfl rfl)
theorem dX16_init_6 : decode cX16_init 6 = .ok (.putfield 7, 3) := dk_181 0 7 (dk_at dksX16_init_0 6 rfl rfl)
theorem dX16_init_9 : decode cX16_init 9 = .ok (.return_, 1) := dk_177 (dk_at dksX16_init_0 9 rfl rfl)
abbrev cX16_worked : ByteArray := prog_7_method_2_code
def yX16_worked : MethodName := ⟨RX16, "worked", "([I)I"⟩
theorem dX16_worked_0 : decode cX16_worked 0 = .ok (.aload_n 0, 1) := by decide +kernel
theorem dX16_worked_1 : decode cX16_worked 1 = .ok (.getfield 7, 3) := by decide +kernel
theorem dX16_worked_4 : decode cX16_worked 4 = .ok (.ireturn, 1) := by decide +kernel
theorem q149 : (Jvm.Cond.initialized "BeggarHeaps$Given") ∈ lw_all := lw_g (lw_at lw_m1 28 rfl) rfl
theorem q841 : (Jvm.Cond.instantiable "BeggarHeaps$Given" (1 : Nat)) ∈ lw_all := lw_g (lw_at lw_m4 0 rfl) rfl
theorem q847 : (Jvm.Cond.instanceMethod ({ cls := "BeggarHeaps$Given", name := "<init>", desc := "(I)V" } : Jvm.MethodName)) ∈ lw_all := lw_g (lw_at lw_m4 6 rfl) rfl
theorem q848 : (Jvm.Cond.code ({ cls := "BeggarHeaps$Given", name := "<init>", desc := "(I)V" } : Jvm.MethodName) prog_7_method_1_code (2 : Nat) (Option.none : Option Jvm.ClassFile.FieldType)) ∈ lw_all := lw_g (lw_at lw_m4 7 rfl) rfl
theorem q849 : (Jvm.Cond.methodLinkNest "BeggarHeaps$Given" (1 : Nat) ({ cls := "BeggarHeaps$Expression", name := "<init>", desc := "()V" } : Jvm.MethodName) "BeggarHeaps") ∈ lw_tbl := lw_at lw_m4 8 rfl
theorem q853 : (Jvm.Cond.fieldLink "BeggarHeaps$Given" (7 : Nat) "BeggarHeaps$Given" "n" "I") ∈ lw_all := lw_g (lw_at lw_m4 12 rfl) rfl
theorem q854 : (Jvm.Cond.laysFinal "BeggarHeaps$Given" "BeggarHeaps$Given" "n" "I") ∈ lw_all := lw_g (lw_at lw_m4 13 rfl) rfl
theorem q855 : (Jvm.Cond.soleField "BeggarHeaps$Given" "n") ∈ lw_all := lw_g (lw_at lw_m4 14 rfl) rfl
theorem q856 : (Jvm.Cond.superclass "BeggarHeaps$Given" "BeggarHeaps$Expression") ∈ lw_all := lw_g (lw_at lw_m4 15 rfl) rfl
theorem q1130 : (Jvm.Cond.selects "BeggarHeaps$Given" ({ cls := "java/lang/Object", name := "getClass", desc := "()Ljava/lang/Class;" } : Jvm.MethodName) ({ cls := "java/lang/Object", name := "getClass", desc := "()Ljava/lang/Class;" } : Jvm.MethodName)) ∈ lw_all := lw_g (lw_at lw_m5 49 rfl) rfl
theorem q1537 : (Jvm.Cond.selects "BeggarHeaps$Given" ({ cls := "BeggarHeaps$Expression", name := "worked", desc := "([I)I" } : Jvm.MethodName) ({ cls := "BeggarHeaps$Given", name := "worked", desc := "([I)I" } : Jvm.MethodName)) ∈ lw_all := lw_g (lw_at lw_m6 216 rfl) rfl
theorem q1538 : (Jvm.Cond.instanceMethod ({ cls := "BeggarHeaps$Given", name := "worked", desc := "([I)I" } : Jvm.MethodName)) ∈ lw_all := lw_g (lw_at lw_m6 217 rfl) rfl
theorem q1539 : (Jvm.Cond.code ({ cls := "BeggarHeaps$Given", name := "worked", desc := "([I)I" } : Jvm.MethodName) prog_7_method_2_code (2 : Nat) (Option.some Jvm.ClassFile.FieldType.int)) ∈ lw_all := lw_g (lw_at lw_m6 218 rfl) rfl
theorem q2380 : (Jvm.Cond.castable "BeggarHeaps$Given" "java/lang/Object") ∈ lw_tbl := lw_at lw_m10 99 rfl
theorem in_X16 : ∀ w ∈ wsX160, w ∈ lw_all := lw_in wsX160 [854] (by decide +kernel) (by decide +kernel)

/-! BeggarHeaps$Fact -/
set_option maxRecDepth 100000
def RX17 : String := "BeggarHeaps$Fact"
def TX17 : u_T := fun k => match k with
  | _ => ("BeggarHeaps$Fact", "which", "I", true)
def tyX17 : Nat → FieldType := fun k => match k with
  | _ => .int
abbrev wsX170 : List Cond := u_ws RX17 TX17 1
theorem nmX17 : ∀ a, a < 1 → ∀ b, b < 1 → a ≠ b → (TX17 a).2.1 ≠ (TX17 b).2.1 := by decide +kernel
theorem tyX17_ok : ∀ k, k < 1 → parseFieldDescriptor (TX17 k).2.2.1 = some (tyX17 k) := by decide +kernel
abbrev cX17_init : ByteArray := prog_5_method_1_code
def yX17_init : MethodName := ⟨RX17, "<init>", "(I)V"⟩
def dkwX17_init_0 : List UInt8 := [42, 183, 0, 1, 42, 27, 181, 0, 7, 177]
abbrev dktX17_init_0 : List UInt8 := dkwX17_init_0 ++ []
theorem dksX17_init_0 : cX17_init.data.toList.drop 0 = dktX17_init_0 := by decide +kernel
theorem dX17_init_0 : decode cX17_init 0 = .ok (.aload_n 0, 1) := dk_42 (dk_at dksX17_init_0 0 rfl rfl)
theorem dX17_init_1 : decode cX17_init 1 = .ok (.invokespecial 1, 3) := dk_183 0 1 (dk_at dksX17_init_0 1 rfl rfl)
theorem dX17_init_4 : decode cX17_init 4 = .ok (.aload_n 0, 1) := dk_42 (dk_at dksX17_init_0 4 rfl rfl)
theorem dX17_init_5 : decode cX17_init 5 = .ok (.iload_n 1, 1) := dk_27 (dk_at dksX17_init_0 5 rfl rfl)
theorem dX17_init_6 : decode cX17_init 6 = .ok (.putfield 7, 3) := dk_181 0 7 (dk_at dksX17_init_0 6 rfl rfl)
theorem dX17_init_9 : decode cX17_init 9 = .ok (.return_, 1) := dk_177 (dk_at dksX17_init_0 9 rfl rfl)
abbrev cX17_worked : ByteArray := prog_5_method_2_code
def yX17_worked : MethodName := ⟨RX17, "worked", "([I)I"⟩
def dkwX17_worked_0 : List UInt8 := [43, 42, 180, 0, 7, 46, 172]
abbrev dktX17_worked_0 : List UInt8 := dkwX17_worked_0 ++ []
theorem dksX17_worked_0 : cX17_worked.data.toList.drop 0 = dktX17_worked_0 := by decide +kernel
theorem dX17_worked_0 : decode cX17_worked 0 = .ok (.aload_n 1, 1) := dk_43 (dk_at dksX17_worked_0 0 rfl rfl)
theorem dX17_worked_1 : decode cX17_worked 1 = .ok (.aload_n 0, 1) := dk_42 (dk_at dksX17_worked_0 1 rfl rfl)
theorem dX17_worked_2 : decode cX17_worked 2 = .ok (.getfield 7, 3) := dk_180 0 7 (dk_at dksX17_worked_0 2 rfl rfl)
theorem dX17_worked_5 : decode cX17_worked 5 = .ok (.iaload, 1) := dk_46 (dk_at dksX17_worked_0 5 rfl rfl)
theorem dX17_worked_6 : decode cX17_worked 6 = .ok (.ireturn, 1) := dk_172 (dk_at dksX17_worked_0 6 rfl rfl)
theorem q150 : (Jvm.Cond.initialized "BeggarHeaps$Fact") ∈ lw_all := lw_g (lw_at lw_m1 29 rfl) rfl
theorem q858 : (Jvm.Cond.instantiable "BeggarHeaps$Fact" (1 : Nat)) ∈ lw_all := lw_g (lw_at lw_m4 17 rfl) rfl
theorem q860 : (Jvm.Cond.instanceMethod ({ cls := "BeggarHeaps$Fact", name := "<init>", desc := "(I)V" } : Jvm.MethodName)) ∈ lw_all := lw_g (lw_at lw_m4 19 rfl) rfl
theorem q861 : (Jvm.Cond.code ({ cls := "BeggarHeaps$Fact", name := "<init>", desc := "(I)V" } : Jvm.MethodName) prog_5_method_1_code (2 : Nat) (Option.none : Option Jvm.ClassFile.FieldType)) ∈ lw_all := lw_g (lw_at lw_m4 20 rfl) rfl
theorem q862 : (Jvm.Cond.methodLinkNest "BeggarHeaps$Fact" (1 : Nat) ({ cls := "BeggarHeaps$Expression", name := "<init>", desc := "()V" } : Jvm.MethodName) "BeggarHeaps") ∈ lw_tbl := lw_at lw_m4 21 rfl
theorem q863 : (Jvm.Cond.fieldLink "BeggarHeaps$Fact" (7 : Nat) "BeggarHeaps$Fact" "which" "I") ∈ lw_all := lw_g (lw_at lw_m4 22 rfl) rfl
theorem q864 : (Jvm.Cond.laysFinal "BeggarHeaps$Fact" "BeggarHeaps$Fact" "which" "I") ∈ lw_all := lw_g (lw_at lw_m4 23 rfl) rfl
theorem q865 : (Jvm.Cond.soleField "BeggarHeaps$Fact" "which") ∈ lw_all := lw_g (lw_at lw_m4 24 rfl) rfl
theorem q866 : (Jvm.Cond.superclass "BeggarHeaps$Fact" "BeggarHeaps$Expression") ∈ lw_all := lw_g (lw_at lw_m4 25 rfl) rfl
theorem q1128 : (Jvm.Cond.selects "BeggarHeaps$Fact" ({ cls := "java/lang/Object", name := "getClass", desc := "()Ljava/lang/Class;" } : Jvm.MethodName) ({ cls := "java/lang/Object", name := "getClass", desc := "()Ljava/lang/Class;" } : Jvm.MethodName)) ∈ lw_all := lw_g (lw_at lw_m5 47 rfl) rfl
theorem q1534 : (Jvm.Cond.selects "BeggarHeaps$Fact" ({ cls := "BeggarHeaps$Expression", name := "worked", desc := "([I)I" } : Jvm.MethodName) ({ cls := "BeggarHeaps$Fact", name := "worked", desc := "([I)I" } : Jvm.MethodName)) ∈ lw_all := lw_g (lw_at lw_m6 213 rfl) rfl
theorem q1535 : (Jvm.Cond.instanceMethod ({ cls := "BeggarHeaps$Fact", name := "worked", desc := "([I)I" } : Jvm.MethodName)) ∈ lw_all := lw_g (lw_at lw_m6 214 rfl) rfl
theorem q1536 : (Jvm.Cond.code ({ cls := "BeggarHeaps$Fact", name := "worked", desc := "([I)I" } : Jvm.MethodName) prog_5_method_2_code (2 : Nat) (Option.some Jvm.ClassFile.FieldType.int)) ∈ lw_all := lw_g (lw_at lw_m6 215 rfl) rfl
theorem q2381 : (Jvm.Cond.castable "BeggarHeaps$Fact" "java/lang/Object") ∈ lw_tbl := lw_at lw_m10 100 rfl
theorem in_X17 : ∀ w ∈ wsX170, w ∈ lw_all := lw_in wsX170 [864] (by decide +kernel) (by decide +kernel)

/-! BeggarHeaps$Not -/
set_option maxRecDepth 100000
def RX18 : String := "BeggarHeaps$Not"
def TX18 : u_T := fun k => match k with
  | _ => ("BeggarHeaps$Not", "part", "LBeggarHeaps$Expression;", true)
def tyX18 : Nat → FieldType := fun k => match k with
  | _ => .object "BeggarHeaps$Expression"
abbrev wsX180 : List Cond := u_ws RX18 TX18 1
theorem nmX18 : ∀ a, a < 1 → ∀ b, b < 1 → a ≠ b → (TX18 a).2.1 ≠ (TX18 b).2.1 := by decide +kernel
theorem tyX18_ok : ∀ k, k < 1 → parseFieldDescriptor (TX18 k).2.2.1 = some (tyX18 k) := by decide +kernel
abbrev cX18_init : ByteArray := prog_13_method_1_code
def yX18_init : MethodName := ⟨RX18, "<init>", "(LBeggarHeaps$Expression;)V"⟩
def dkwX18_init_0 : List UInt8 := [42, 183, 0, 1, 42, 43, 181, 0, 7, 177]
abbrev dktX18_init_0 : List UInt8 := dkwX18_init_0 ++ []
theorem dksX18_init_0 : cX18_init.data.toList.drop 0 = dktX18_init_0 := by decide +kernel
theorem dX18_init_0 : decode cX18_init 0 = .ok (.aload_n 0, 1) := dk_42 (dk_at dksX18_init_0 0 rfl rfl)
theorem dX18_init_1 : decode cX18_init 1 = .ok (.invokespecial 1, 3) := dk_183 0 1 (dk_at dksX18_init_0 1 rfl rfl)
theorem dX18_init_4 : decode cX18_init 4 = .ok (.aload_n 0, 1) := dk_42 (dk_at dksX18_init_0 4 rfl rfl)
theorem dX18_init_5 : decode cX18_init 5 = .ok (.aload_n 1, 1) := dk_43 (dk_at dksX18_init_0 5 rfl rfl)
theorem dX18_init_6 : decode cX18_init 6 = .ok (.putfield 7, 3) := dk_181 0 7 (dk_at dksX18_init_0 6 rfl rfl)
theorem dX18_init_9 : decode cX18_init 9 = .ok (.return_, 1) := dk_177 (dk_at dksX18_init_0 9 rfl rfl)
abbrev cX18_worked : ByteArray := prog_13_method_2_code
def yX18_worked : MethodName := ⟨RX18, "worked", "([I)I"⟩
def dkwX18_worked_0 : List UInt8 := [42, 180, 0, 7, 43, 182, 0, 13, 154, 0, 7, 4, 167, 0, 4, 3, 172]
abbrev dktX18_worked_0 : List UInt8 := dkwX18_worked_0 ++ []
theorem dksX18_worked_0 : cX18_worked.data.toList.drop 0 = dktX18_worked_0 := by decide +kernel
theorem dX18_worked_0 : decode cX18_worked 0 = .ok (.aload_n 0, 1) := dk_42 (dk_at dksX18_worked_0 0 rfl rfl)
theorem dX18_worked_1 : decode cX18_worked 1 = .ok (.getfield 7, 3) := dk_180 0 7 (dk_at dksX18_worked_0 1 rfl rfl)
theorem dX18_worked_4 : decode cX18_worked 4 = .ok (.aload_n 1, 1) := dk_43 (dk_at dksX18_worked_0 4 rfl rfl)
theorem dX18_worked_5 : decode cX18_worked 5 = .ok (.invokevirtual 13, 3) := dk_182 0 13 (dk_at dksX18_worked_0 5 rfl rfl)
theorem dX18_worked_8 : decode cX18_worked 8 = .ok (.ifCond .ne 7, 3) := dk_154 0 7 (dk_at dksX18_worked_0 8 rfl rfl)
theorem dX18_worked_11 : decode cX18_worked 11 = .ok (.iconst 1, 1) := dk_4 (dk_at dksX18_worked_0 11 rfl rfl)
theorem dX18_worked_12 : decode cX18_worked 12 = .ok (.goto 4, 3) := dk_167 0 4 (dk_at dksX18_worked_0 12 rfl rfl)
theorem dX18_worked_15 : decode cX18_worked 15 = .ok (.iconst 0, 1) := dk_3 (dk_at dksX18_worked_0 15 rfl rfl)
theorem dX18_worked_16 : decode cX18_worked 16 = .ok (.ireturn, 1) := dk_172 (dk_at dksX18_worked_0 16 rfl rfl)
theorem q151 : (Jvm.Cond.initialized "BeggarHeaps$Not") ∈ lw_all := lw_g (lw_at lw_m1 30 rfl) rfl
theorem q868 : (Jvm.Cond.instantiable "BeggarHeaps$Not" (1 : Nat)) ∈ lw_all := lw_g (lw_at lw_m4 27 rfl) rfl
theorem q870 : (Jvm.Cond.instanceMethod ({ cls := "BeggarHeaps$Not", name := "<init>", desc := "(LBeggarHeaps$Expression;)V" } : Jvm.MethodName)) ∈ lw_all := lw_g (lw_at lw_m4 29 rfl) rfl
theorem q871 : (Jvm.Cond.code ({ cls := "BeggarHeaps$Not", name := "<init>", desc := "(LBeggarHeaps$Expression;)V" } : Jvm.MethodName) prog_13_method_1_code (2 : Nat) (Option.none : Option Jvm.ClassFile.FieldType)) ∈ lw_all := lw_g (lw_at lw_m4 30 rfl) rfl
theorem q872 : (Jvm.Cond.methodLinkNest "BeggarHeaps$Not" (1 : Nat) ({ cls := "BeggarHeaps$Expression", name := "<init>", desc := "()V" } : Jvm.MethodName) "BeggarHeaps") ∈ lw_tbl := lw_at lw_m4 31 rfl
theorem q873 : (Jvm.Cond.fieldLink "BeggarHeaps$Not" (7 : Nat) "BeggarHeaps$Not" "part" "LBeggarHeaps$Expression;") ∈ lw_all := lw_g (lw_at lw_m4 32 rfl) rfl
theorem q874 : (Jvm.Cond.laysFinal "BeggarHeaps$Not" "BeggarHeaps$Not" "part" "LBeggarHeaps$Expression;") ∈ lw_all := lw_g (lw_at lw_m4 33 rfl) rfl
theorem q875 : (Jvm.Cond.soleField "BeggarHeaps$Not" "part") ∈ lw_all := lw_g (lw_at lw_m4 34 rfl) rfl
theorem q876 : (Jvm.Cond.superclass "BeggarHeaps$Not" "BeggarHeaps$Expression") ∈ lw_all := lw_g (lw_at lw_m4 35 rfl) rfl
theorem q1136 : (Jvm.Cond.selects "BeggarHeaps$Not" ({ cls := "java/lang/Object", name := "getClass", desc := "()Ljava/lang/Class;" } : Jvm.MethodName) ({ cls := "java/lang/Object", name := "getClass", desc := "()Ljava/lang/Class;" } : Jvm.MethodName)) ∈ lw_all := lw_g (lw_at lw_m5 55 rfl) rfl
theorem q1540 : (Jvm.Cond.selects "BeggarHeaps$Not" ({ cls := "BeggarHeaps$Expression", name := "worked", desc := "([I)I" } : Jvm.MethodName) ({ cls := "BeggarHeaps$Not", name := "worked", desc := "([I)I" } : Jvm.MethodName)) ∈ lw_all := lw_g (lw_at lw_m6 219 rfl) rfl
theorem q1541 : (Jvm.Cond.instanceMethod ({ cls := "BeggarHeaps$Not", name := "worked", desc := "([I)I" } : Jvm.MethodName)) ∈ lw_all := lw_g (lw_at lw_m6 220 rfl) rfl
theorem q1542 : (Jvm.Cond.code ({ cls := "BeggarHeaps$Not", name := "worked", desc := "([I)I" } : Jvm.MethodName) prog_13_method_2_code (2 : Nat) (Option.some Jvm.ClassFile.FieldType.int)) ∈ lw_all := lw_g (lw_at lw_m6 221 rfl) rfl
theorem q1543 : (Jvm.Cond.methodLink "BeggarHeaps$Not" (13 : Nat) ({ cls := "BeggarHeaps$Expression", name := "worked", desc := "([I)I" } : Jvm.MethodName)) ∈ lw_all := lw_g (lw_at lw_m6 222 rfl) rfl
theorem q2382 : (Jvm.Cond.castable "BeggarHeaps$Not" "java/lang/Object") ∈ lw_tbl := lw_at lw_m10 101 rfl
theorem in_X18 : ∀ w ∈ wsX180, w ∈ lw_all := lw_in wsX180 [874] (by decide +kernel) (by decide +kernel)

/-! BeggarHeaps$Two -/
set_option maxRecDepth 100000
def RX19 : String := "BeggarHeaps$Two"
def TX19 : u_T := fun k => match k with
  | 0 => ("BeggarHeaps$Two", "way", "C", true)
  | 1 => ("BeggarHeaps$Two", "a", "LBeggarHeaps$Expression;", true)
  | _ => ("BeggarHeaps$Two", "b", "LBeggarHeaps$Expression;", true)
def tyX19 : Nat → FieldType := fun k => match k with
  | 0 => .char
  | 1 => .object "BeggarHeaps$Expression"
  | _ => .object "BeggarHeaps$Expression"
abbrev wsX190 : List Cond := u_ws RX19 TX19 3
theorem nmX19 : ∀ a, a < 3 → ∀ b, b < 3 → a ≠ b → (TX19 a).2.1 ≠ (TX19 b).2.1 := by decide +kernel
theorem tyX19_ok : ∀ k, k < 3 → parseFieldDescriptor (TX19 k).2.2.1 = some (tyX19 k) := by decide +kernel
abbrev cX19_init : ByteArray := prog_20_method_1_code
def yX19_init : MethodName := ⟨RX19, "<init>", "(CLBeggarHeaps$Expression;LBeggarHeaps$Expression;)V"⟩
def dkwX19_init_0 : List UInt8 := [42, 183, 0, 1, 42, 27, 181, 0, 7, 42, 44, 181, 0, 13, 42, 45, 181, 0, 17, 177]
abbrev dktX19_init_0 : List UInt8 := dkwX19_init_0 ++ []
theorem dksX19_init_0 : cX19_init.data.toList.drop 0 = dktX19_init_0 := by decide +kernel
theorem dX19_init_0 : decode cX19_init 0 = .ok (.aload_n 0, 1) := dk_42 (dk_at dksX19_init_0 0 rfl rfl)
theorem dX19_init_1 : decode cX19_init 1 = .ok (.invokespecial 1, 3) := dk_183 0 1 (dk_at dksX19_init_0 1 rfl rfl)
theorem dX19_init_4 : decode cX19_init 4 = .ok (.aload_n 0, 1) := dk_42 (dk_at dksX19_init_0 4 rfl rfl)
theorem dX19_init_5 : decode cX19_init 5 = .ok (.iload_n 1, 1) := dk_27 (dk_at dksX19_init_0 5 rfl rfl)
theorem dX19_init_6 : decode cX19_init 6 = .ok (.putfield 7, 3) := dk_181 0 7 (dk_at dksX19_init_0 6 rfl rfl)
theorem dX19_init_9 : decode cX19_init 9 = .ok (.aload_n 0, 1) := dk_42 (dk_at dksX19_init_0 9 rfl rfl)
theorem dX19_init_10 : decode cX19_init 10 = .ok (.aload_n 2, 1) := dk_44 (dk_at dksX19_init_0 10 rfl rfl)
theorem dX19_init_11 : decode cX19_init 11 = .ok (.putfield 13, 3) := dk_181 0 13 (dk_at dksX19_init_0 11 rfl rfl)
theorem dX19_init_14 : decode cX19_init 14 = .ok (.aload_n 0, 1) := dk_42 (dk_at dksX19_init_0 14 rfl rfl)
theorem dX19_init_15 : decode cX19_init 15 = .ok (.aload_n 3, 1) := dk_45 (dk_at dksX19_init_0 15 rfl rfl)
theorem dX19_init_16 : decode cX19_init 16 = .ok (.putfield 17, 3) := dk_181 0 17 (dk_at dksX19_init_0 16 rfl rfl)
theorem dX19_init_19 : decode cX19_init 19 = .ok (.return_, 1) := dk_177 (dk_at dksX19_init_0 19 rfl rfl)
abbrev cX19_worked : ByteArray := prog_20_method_2_code
def yX19_worked : MethodName := ⟨RX19, "worked", "([I)I"⟩
def dkwX19_worked_4 : List UInt8 := [28, 154, 0, 7, 29, 153, 0, 7, 4, 167, 0, 4, 3, 172]
abbrev dktX19_worked_4 : List UInt8 := dkwX19_worked_4 ++ []
def dkwX19_worked_3 : List UInt8 := [29, 160, 0, 7, 4, 167, 0, 4, 3, 172, 28, 153, 0, 11, 29, 153, 0, 7, 4, 167, 0, 4, 3, 172]
abbrev dktX19_worked_3 : List UInt8 := dkwX19_worked_3 ++ dktX19_worked_4
def dkwX19_worked_2 : List UInt8 := [28, 29, 96, 172, 28, 29, 100, 172, 28, 29, 104, 172, 28, 29, 162, 0, 7, 4, 167, 0, 4, 3, 172, 28]
abbrev dktX19_worked_2 : List UInt8 := dkwX19_worked_2 ++ dktX19_worked_3
def dkwX19_worked_1 : List UInt8 := [171, 0, 0, 0, 0, 106, 0, 0, 0, 6, 0, 0, 0, 38, 0, 0, 0, 92, 0, 0, 0, 42, 0, 0, 0, 66, 0, 0, 0, 43, 0, 0, 0, 58, 0, 0, 0, 45, 0, 0, 0, 62, 0, 0, 0, 60, 0, 0, 0, 70, 0, 0, 0, 61, 0, 0, 0, 81]
abbrev dktX19_worked_1 : List UInt8 := dkwX19_worked_1 ++ dktX19_worked_2
def dkwX19_worked_0 : List UInt8 := [42, 180, 0, 13, 43, 182, 0, 20, 61, 42, 180, 0, 17, 43, 182, 0, 20, 62, 42, 180, 0, 7]
abbrev dktX19_worked_0 : List UInt8 := dkwX19_worked_0 ++ dktX19_worked_1
theorem dksX19_worked_0 : cX19_worked.data.toList.drop 0 = dktX19_worked_0 := by decide +kernel
theorem dksX19_worked_1 : cX19_worked.data.toList.drop 22 = dktX19_worked_1 := dk_seg dksX19_worked_0 22 rfl rfl
theorem dksX19_worked_2 : cX19_worked.data.toList.drop 80 = dktX19_worked_2 := dk_seg dksX19_worked_1 58 rfl rfl
theorem dksX19_worked_3 : cX19_worked.data.toList.drop 104 = dktX19_worked_3 := dk_seg dksX19_worked_2 24 rfl rfl
theorem dksX19_worked_4 : cX19_worked.data.toList.drop 128 = dktX19_worked_4 := dk_seg dksX19_worked_3 24 rfl rfl
theorem dX19_worked_0 : decode cX19_worked 0 = .ok (.aload_n 0, 1) := dk_42 (dk_at dksX19_worked_0 0 rfl rfl)
theorem dX19_worked_1 : decode cX19_worked 1 = .ok (.getfield 13, 3) := dk_180 0 13 (dk_at dksX19_worked_0 1 rfl rfl)
theorem dX19_worked_4 : decode cX19_worked 4 = .ok (.aload_n 1, 1) := dk_43 (dk_at dksX19_worked_0 4 rfl rfl)
theorem dX19_worked_5 : decode cX19_worked 5 = .ok (.invokevirtual 20, 3) := dk_182 0 20 (dk_at dksX19_worked_0 5 rfl rfl)
theorem dX19_worked_8 : decode cX19_worked 8 = .ok (.istore_n 2, 1) := dk_61 (dk_at dksX19_worked_0 8 rfl rfl)
theorem dX19_worked_9 : decode cX19_worked 9 = .ok (.aload_n 0, 1) := dk_42 (dk_at dksX19_worked_0 9 rfl rfl)
theorem dX19_worked_10 : decode cX19_worked 10 = .ok (.getfield 17, 3) := dk_180 0 17 (dk_at dksX19_worked_0 10 rfl rfl)
theorem dX19_worked_13 : decode cX19_worked 13 = .ok (.aload_n 1, 1) := dk_43 (dk_at dksX19_worked_0 13 rfl rfl)
theorem dX19_worked_14 : decode cX19_worked 14 = .ok (.invokevirtual 20, 3) := dk_182 0 20 (dk_at dksX19_worked_0 14 rfl rfl)
theorem dX19_worked_17 : decode cX19_worked 17 = .ok (.istore_n 3, 1) := dk_62 (dk_at dksX19_worked_0 17 rfl rfl)
theorem dX19_worked_18 : decode cX19_worked 18 = .ok (.aload_n 0, 1) := dk_42 (dk_at dksX19_worked_0 18 rfl rfl)
theorem dX19_worked_19 : decode cX19_worked 19 = .ok (.getfield 7, 3) := dk_180 0 7 (dk_at dksX19_worked_0 19 rfl rfl)
theorem dX19_worked_22 : decode cX19_worked 22 = .ok (.lookupswitch 106 #[(38, 92), (42, 66), (43, 58), (45, 62), (60, 70), (61, 81)], 58) := by decide +kernel
theorem dX19_worked_80 : decode cX19_worked 80 = .ok (.iload_n 2, 1) := dk_28 (dk_at dksX19_worked_2 0 rfl rfl)
theorem dX19_worked_81 : decode cX19_worked 81 = .ok (.iload_n 3, 1) := dk_29 (dk_at dksX19_worked_2 1 rfl rfl)
theorem dX19_worked_82 : decode cX19_worked 82 = .ok (.iadd, 1) := dk_96 (dk_at dksX19_worked_2 2 rfl rfl)
theorem dX19_worked_83 : decode cX19_worked 83 = .ok (.ireturn, 1) := dk_172 (dk_at dksX19_worked_2 3 rfl rfl)
theorem dX19_worked_84 : decode cX19_worked 84 = .ok (.iload_n 2, 1) := dk_28 (dk_at dksX19_worked_2 4 rfl rfl)
theorem dX19_worked_85 : decode cX19_worked 85 = .ok (.iload_n 3, 1) := dk_29 (dk_at dksX19_worked_2 5 rfl rfl)
theorem dX19_worked_86 : decode cX19_worked 86 = .ok (.isub, 1) := dk_100 (dk_at dksX19_worked_2 6 rfl rfl)
theorem dX19_worked_87 : decode cX19_worked 87 = .ok (.ireturn, 1) := dk_172 (dk_at dksX19_worked_2 7 rfl rfl)
theorem dX19_worked_88 : decode cX19_worked 88 = .ok (.iload_n 2, 1) := dk_28 (dk_at dksX19_worked_2 8 rfl rfl)
theorem dX19_worked_89 : decode cX19_worked 89 = .ok (.iload_n 3, 1) := dk_29 (dk_at dksX19_worked_2 9 rfl rfl)
theorem dX19_worked_90 : decode cX19_worked 90 = .ok (.imul, 1) := dk_104 (dk_at dksX19_worked_2 10 rfl rfl)
theorem dX19_worked_91 : decode cX19_worked 91 = .ok (.ireturn, 1) := dk_172 (dk_at dksX19_worked_2 11 rfl rfl)
theorem dX19_worked_92 : decode cX19_worked 92 = .ok (.iload_n 2, 1) := dk_28 (dk_at dksX19_worked_2 12 rfl rfl)
theorem dX19_worked_93 : decode cX19_worked 93 = .ok (.iload_n 3, 1) := dk_29 (dk_at dksX19_worked_2 13 rfl rfl)
theorem dX19_worked_94 : decode cX19_worked 94 = .ok (.if_icmp .ge 7, 3) := dk_162 0 7 (dk_at dksX19_worked_2 14 rfl rfl)
theorem dX19_worked_97 : decode cX19_worked 97 = .ok (.iconst 1, 1) := dk_4 (dk_at dksX19_worked_2 17 rfl rfl)
theorem dX19_worked_98 : decode cX19_worked 98 = .ok (.goto 4, 3) := dk_167 0 4 (dk_at dksX19_worked_2 18 rfl rfl)
theorem dX19_worked_101 : decode cX19_worked 101 = .ok (.iconst 0, 1) := dk_3 (dk_at dksX19_worked_2 21 rfl rfl)
theorem dX19_worked_102 : decode cX19_worked 102 = .ok (.ireturn, 1) := dk_172 (dk_at dksX19_worked_2 22 rfl rfl)
theorem dX19_worked_103 : decode cX19_worked 103 = .ok (.iload_n 2, 1) := dk_28 (dk_at dksX19_worked_2 23 rfl rfl)
theorem dX19_worked_104 : decode cX19_worked 104 = .ok (.iload_n 3, 1) := dk_29 (dk_at dksX19_worked_3 0 rfl rfl)
theorem dX19_worked_105 : decode cX19_worked 105 = .ok (.if_icmp .ne 7, 3) := dk_160 0 7 (dk_at dksX19_worked_3 1 rfl rfl)
theorem dX19_worked_108 : decode cX19_worked 108 = .ok (.iconst 1, 1) := dk_4 (dk_at dksX19_worked_3 4 rfl rfl)
theorem dX19_worked_109 : decode cX19_worked 109 = .ok (.goto 4, 3) := dk_167 0 4 (dk_at dksX19_worked_3 5 rfl rfl)
theorem dX19_worked_112 : decode cX19_worked 112 = .ok (.iconst 0, 1) := dk_3 (dk_at dksX19_worked_3 8 rfl rfl)
theorem dX19_worked_113 : decode cX19_worked 113 = .ok (.ireturn, 1) := dk_172 (dk_at dksX19_worked_3 9 rfl rfl)
theorem dX19_worked_114 : decode cX19_worked 114 = .ok (.iload_n 2, 1) := dk_28 (dk_at dksX19_worked_3 10 rfl rfl)
theorem dX19_worked_115 : decode cX19_worked 115 = .ok (.ifCond .eq 11, 3) := dk_153 0 11 (dk_at dksX19_worked_3 11 rfl rfl)
theorem dX19_worked_118 : decode cX19_worked 118 = .ok (.iload_n 3, 1) := dk_29 (dk_at dksX19_worked_3 14 rfl rfl)
theorem dX19_worked_119 : decode cX19_worked 119 = .ok (.ifCond .eq 7, 3) := dk_153 0 7 (dk_at dksX19_worked_3 15 rfl rfl)
theorem dX19_worked_122 : decode cX19_worked 122 = .ok (.iconst 1, 1) := dk_4 (dk_at dksX19_worked_3 18 rfl rfl)
theorem dX19_worked_123 : decode cX19_worked 123 = .ok (.goto 4, 3) := dk_167 0 4 (dk_at dksX19_worked_3 19 rfl rfl)
theorem dX19_worked_126 : decode cX19_worked 126 = .ok (.iconst 0, 1) := dk_3 (dk_at dksX19_worked_3 22 rfl rfl)
theorem dX19_worked_127 : decode cX19_worked 127 = .ok (.ireturn, 1) := dk_172 (dk_at dksX19_worked_3 23 rfl rfl)
theorem dX19_worked_128 : decode cX19_worked 128 = .ok (.iload_n 2, 1) := dk_28 (dk_at dksX19_worked_4 0 rfl rfl)
theorem dX19_worked_129 : decode cX19_worked 129 = .ok (.ifCond .ne 7, 3) := dk_154 0 7 (dk_at dksX19_worked_4 1 rfl rfl)
theorem dX19_worked_132 : decode cX19_worked 132 = .ok (.iload_n 3, 1) := dk_29 (dk_at dksX19_worked_4 4 rfl rfl)
theorem dX19_worked_133 : decode cX19_worked 133 = .ok (.ifCond .eq 7, 3) := dk_153 0 7 (dk_at dksX19_worked_4 5 rfl rfl)
theorem dX19_worked_136 : decode cX19_worked 136 = .ok (.iconst 1, 1) := dk_4 (dk_at dksX19_worked_4 8 rfl rfl)
theorem dX19_worked_137 : decode cX19_worked 137 = .ok (.goto 4, 3) := dk_167 0 4 (dk_at dksX19_worked_4 9 rfl rfl)
theorem dX19_worked_140 : decode cX19_worked 140 = .ok (.iconst 0, 1) := dk_3 (dk_at dksX19_worked_4 12 rfl rfl)
theorem dX19_worked_141 : decode cX19_worked 141 = .ok (.ireturn, 1) := dk_172 (dk_at dksX19_worked_4 13 rfl rfl)
theorem q152 : (Jvm.Cond.initialized "BeggarHeaps$Two") ∈ lw_all := lw_g (lw_at lw_m1 31 rfl) rfl
theorem q882 : (Jvm.Cond.instantiable "BeggarHeaps$Two" (3 : Nat)) ∈ lw_all := lw_g (lw_at lw_m4 41 rfl) rfl
theorem q884 : (Jvm.Cond.instanceMethod ({ cls := "BeggarHeaps$Two", name := "<init>", desc := "(CLBeggarHeaps$Expression;LBeggarHeaps$Expression;)V" } : Jvm.MethodName)) ∈ lw_all := lw_g (lw_at lw_m4 43 rfl) rfl
theorem q885 : (Jvm.Cond.code ({ cls := "BeggarHeaps$Two", name := "<init>", desc := "(CLBeggarHeaps$Expression;LBeggarHeaps$Expression;)V" } : Jvm.MethodName) prog_20_method_1_code (4 : Nat) (Option.none : Option Jvm.ClassFile.FieldType)) ∈ lw_all := lw_g (lw_at lw_m4 44 rfl) rfl
theorem q886 : (Jvm.Cond.methodLinkNest "BeggarHeaps$Two" (1 : Nat) ({ cls := "BeggarHeaps$Expression", name := "<init>", desc := "()V" } : Jvm.MethodName) "BeggarHeaps") ∈ lw_tbl := lw_at lw_m4 45 rfl
theorem q887 : (Jvm.Cond.fieldLink "BeggarHeaps$Two" (7 : Nat) "BeggarHeaps$Two" "way" "C") ∈ lw_all := lw_g (lw_at lw_m4 46 rfl) rfl
theorem q888 : (Jvm.Cond.fieldLink "BeggarHeaps$Two" (13 : Nat) "BeggarHeaps$Two" "a" "LBeggarHeaps$Expression;") ∈ lw_all := lw_g (lw_at lw_m4 47 rfl) rfl
theorem q889 : (Jvm.Cond.fieldLink "BeggarHeaps$Two" (17 : Nat) "BeggarHeaps$Two" "b" "LBeggarHeaps$Expression;") ∈ lw_all := lw_g (lw_at lw_m4 48 rfl) rfl
theorem q890 : (Jvm.Cond.laysFinal "BeggarHeaps$Two" "BeggarHeaps$Two" "way" "C") ∈ lw_all := lw_g (lw_at lw_m4 49 rfl) rfl
theorem q891 : (Jvm.Cond.soleField "BeggarHeaps$Two" "way") ∈ lw_all := lw_g (lw_at lw_m4 50 rfl) rfl
theorem q892 : (Jvm.Cond.laysFinal "BeggarHeaps$Two" "BeggarHeaps$Two" "a" "LBeggarHeaps$Expression;") ∈ lw_all := lw_g (lw_at lw_m4 51 rfl) rfl
theorem q893 : (Jvm.Cond.soleField "BeggarHeaps$Two" "a") ∈ lw_all := lw_g (lw_at lw_m4 52 rfl) rfl
theorem q894 : (Jvm.Cond.laysFinal "BeggarHeaps$Two" "BeggarHeaps$Two" "b" "LBeggarHeaps$Expression;") ∈ lw_all := lw_g (lw_at lw_m4 53 rfl) rfl
theorem q895 : (Jvm.Cond.soleField "BeggarHeaps$Two" "b") ∈ lw_all := lw_g (lw_at lw_m4 54 rfl) rfl
theorem q896 : (Jvm.Cond.superclass "BeggarHeaps$Two" "BeggarHeaps$Expression") ∈ lw_all := lw_g (lw_at lw_m4 55 rfl) rfl
theorem q1142 : (Jvm.Cond.selects "BeggarHeaps$Two" ({ cls := "java/lang/Object", name := "getClass", desc := "()Ljava/lang/Class;" } : Jvm.MethodName) ({ cls := "java/lang/Object", name := "getClass", desc := "()Ljava/lang/Class;" } : Jvm.MethodName)) ∈ lw_all := lw_g (lw_at lw_m5 61 rfl) rfl
theorem q1544 : (Jvm.Cond.instanceMethod ({ cls := "BeggarHeaps$Two", name := "worked", desc := "([I)I" } : Jvm.MethodName)) ∈ lw_all := lw_g (lw_at lw_m6 223 rfl) rfl
theorem q1545 : (Jvm.Cond.code ({ cls := "BeggarHeaps$Two", name := "worked", desc := "([I)I" } : Jvm.MethodName) prog_20_method_2_code (4 : Nat) (Option.some Jvm.ClassFile.FieldType.int)) ∈ lw_all := lw_g (lw_at lw_m6 224 rfl) rfl
theorem q1546 : (Jvm.Cond.methodLink "BeggarHeaps$Two" (20 : Nat) ({ cls := "BeggarHeaps$Expression", name := "worked", desc := "([I)I" } : Jvm.MethodName)) ∈ lw_all := lw_g (lw_at lw_m6 225 rfl) rfl
theorem q1547 : (Jvm.Cond.selects "BeggarHeaps$Two" ({ cls := "BeggarHeaps$Expression", name := "worked", desc := "([I)I" } : Jvm.MethodName) ({ cls := "BeggarHeaps$Two", name := "worked", desc := "([I)I" } : Jvm.MethodName)) ∈ lw_all := lw_g (lw_at lw_m6 226 rfl) rfl
theorem q2383 : (Jvm.Cond.castable "BeggarHeaps$Two" "java/lang/Object") ∈ lw_tbl := lw_at lw_m10 102 rfl
theorem in_X19 : ∀ w ∈ wsX190, w ∈ lw_all := lw_in wsX190 [890, 892, 894] (by decide +kernel) (by decide +kernel)

/-! BeggarHeaps$Reader -/
set_option maxRecDepth 100000
def RX2 : String := "BeggarHeaps$Reader"
def TX2 : u_T := fun k => match k with
  | 0 => ("BeggarHeaps$Reader", "text", "[B", false)
  | 1 => ("BeggarHeaps$Reader", "size", "I", false)
  | 2 => ("BeggarHeaps$Reader", "to", "I", false)
  | 3 => ("BeggarHeaps$Reader", "kind", "I", false)
  | 4 => ("BeggarHeaps$Reader", "from", "I", false)
  | 5 => ("BeggarHeaps$Reader", "value", "I", false)
  | 6 => ("BeggarHeaps$Reader", "within", "I", false)
  | _ => ("BeggarHeaps$Reader", "table", "LBeggarHeaps$Table;", false)
def tyX2 : Nat → FieldType := fun k => match k with
  | 0 => .array .byte
  | 1 => .int
  | 2 => .int
  | 3 => .int
  | 4 => .int
  | 5 => .int
  | 6 => .int
  | _ => .object "BeggarHeaps$Table"
abbrev wsX20 : List Cond := u_ws RX2 TX2 8
theorem nmX2 : ∀ a, a < 8 → ∀ b, b < 8 → a ≠ b → (TX2 a).2.1 ≠ (TX2 b).2.1 := by decide +kernel
theorem tyX2_ok : ∀ k, k < 8 → parseFieldDescriptor (TX2 k).2.2.1 = some (tyX2 k) := by decide +kernel
abbrev cX2_init : ByteArray := prog_16_method_1_code
def yX2_init : MethodName := ⟨RX2, "<init>", "()V"⟩
theorem dX2_init_0 : decode cX2_init 0 = .ok (.aload_n 0, 1) := by decide +kernel
theorem dX2_init_1 : decode cX2_init 1 = .ok (.invokespecial 3, 3) := by decide +kernel
theorem dX2_init_4 : decode cX2_init 4 = .ok (.return_, 1) := by decide +kernel
abbrev cX2_begin : ByteArray := prog_16_method_2_code
def yX2_begin : MethodName := ⟨RX2, "begin", "([BI)V"⟩
def dkwX2_begin_1 : List UInt8 := [177]
abbrev dktX2_begin_1 : List UInt8 := dkwX2_begin_1 ++ []
def dkwX2_begin_0 : List UInt8 := [42, 43, 181, 0, 9, 42, 28, 181, 0, 15, 42, 3, 181, 0, 19, 42, 3, 181, 0, 22, 42, 182, 0, 25]
abbrev dktX2_begin_0 : List UInt8 := dkwX2_begin_0 ++ dktX2_begin_1
theorem dksX2_begin_0 : cX2_begin.data.toList.drop 0 = dktX2_begin_0 := by decide +kernel
theorem dksX2_begin_1 : cX2_begin.data.toList.drop 24 = dktX2_begin_1 := dk_seg dksX2_begin_0 24 rfl rfl
theorem dX2_begin_0 : decode cX2_begin 0 = .ok (.aload_n 0, 1) := dk_42 (dk_at dksX2_begin_0 0 rfl rfl)
theorem dX2_begin_1 : decode cX2_begin 1 = .ok (.aload_n 1, 1) := dk_43 (dk_at dksX2_begin_0 1 rfl rfl)
theorem dX2_begin_2 : decode cX2_begin 2 = .ok (.putfield 9, 3) := dk_181 0 9 (dk_at dksX2_begin_0 2 rfl rfl)
theorem dX2_begin_5 : decode cX2_begin 5 = .ok (.aload_n 0, 1) := dk_42 (dk_at dksX2_begin_0 5 rfl rfl)
theorem dX2_begin_6 : decode cX2_begin 6 = .ok (.iload_n 2, 1) := dk_28 (dk_at dksX2_begin_0 6 rfl rfl)
theorem dX2_begin_7 : decode cX2_begin 7 = .ok (.putfield 15, 3) := dk_181 0 15 (dk_at dksX2_begin_0 7 rfl rfl)
theorem dX2_begin_10 : decode cX2_begin 10 = .ok (.aload_n 0, 1) := dk_42 (dk_at dksX2_begin_0 10 rfl rfl)
theorem dX2_begin_11 : decode cX2_begin 11 = .ok (.iconst 0, 1) := dk_3 (dk_at dksX2_begin_0 11 rfl rfl)
theorem dX2_begin_12 : decode cX2_begin 12 = .ok (.putfield 19, 3) := dk_181 0 19 (dk_at dksX2_begin_0 12 rfl rfl)
theorem dX2_begin_15 : decode cX2_begin 15 = .ok (.aload_n 0, 1) := dk_42 (dk_at dksX2_begin_0 15 rfl rfl)
theorem dX2_begin_16 : decode cX2_begin 16 = .ok (.iconst 0, 1) := dk_3 (dk_at dksX2_begin_0 16 rfl rfl)
theorem dX2_begin_17 : decode cX2_begin 17 = .ok (.putfield 22, 3) := dk_181 0 22 (dk_at dksX2_begin_0 17 rfl rfl)
theorem dX2_begin_20 : decode cX2_begin 20 = .ok (.aload_n 0, 1) := dk_42 (dk_at dksX2_begin_0 20 rfl rfl)
theorem dX2_begin_21 : decode cX2_begin 21 = .ok (.invokevirtual 25, 3) := dk_182 0 25 (dk_at dksX2_begin_0 21 rfl rfl)
theorem dX2_begin_24 : decode cX2_begin 24 = .ok (.return_, 1) := dk_177 (dk_at dksX2_begin_1 0 rfl rfl)
abbrev cX2_next : ByteArray := prog_16_method_6_code
def yX2_next : MethodName := ⟨RX2, "next", "()V"⟩
def dkwX2_next_12 : List UInt8 := [6, 167, 0, 4, 7, 181, 0, 31, 42, 89, 180, 0, 19, 4, 96, 181, 0, 19, 177]
abbrev dktX2_next_12 : List UInt8 := dkwX2_next_12 ++ []
def dkwX2_next_11 : List UInt8 := [181, 0, 31, 167, 0, 39, 42, 18, 48, 42, 42, 180, 0, 19, 182, 0, 34, 146, 182, 0, 50, 155, 0, 7]
abbrev dktX2_next_11 : List UInt8 := dkwX2_next_11 ++ dktX2_next_12
def dkwX2_next_10 : List UInt8 := [167, 255, 189, 42, 42, 180, 0, 19, 42, 180, 0, 28, 100, 7, 164, 0, 7, 7, 167, 0, 4, 5]
abbrev dktX2_next_10 : List UInt8 := dkwX2_next_10 ++ dktX2_next_11
def dkwX2_next_9 : List UInt8 := [96, 16, 48, 100, 167, 0, 7, 42, 180, 0, 45, 181, 0, 45, 42, 89, 180, 0, 19, 4, 96, 181, 0, 19]
abbrev dktX2_next_9 : List UInt8 := dkwX2_next_9 ++ dktX2_next_10
def dkwX2_next_8 : List UInt8 := [42, 180, 0, 28, 100, 7, 162, 0, 25, 16, 10, 42, 180, 0, 45, 104, 42, 42, 180, 0, 19, 182, 0, 34]
abbrev dktX2_next_8 : List UInt8 := dkwX2_next_8 ++ dktX2_next_9
def dkwX2_next_7 : List UInt8 := [42, 3, 181, 0, 45, 42, 42, 180, 0, 19, 182, 0, 34, 184, 0, 42, 153, 0, 59, 42, 42, 180, 0, 19]
abbrev dktX2_next_7 : List UInt8 := dkwX2_next_7 ++ dktX2_next_8
def dkwX2_next_6 : List UInt8 := [167, 0, 4, 4, 181, 0, 31, 167, 0, 153, 42, 42, 180, 0, 19, 182, 0, 34, 184, 0, 42, 153, 0, 103]
abbrev dktX2_next_6 : List UInt8 := dkwX2_next_6 ++ dktX2_next_7
def dkwX2_next_5 : List UInt8 := [181, 0, 19, 167, 255, 232, 42, 42, 180, 0, 19, 42, 180, 0, 28, 100, 16, 8, 164, 0, 7, 7]
abbrev dktX2_next_5 : List UInt8 := dkwX2_next_5 ++ dktX2_next_6
def dkwX2_next_4 : List UInt8 := [153, 0, 56, 42, 42, 180, 0, 19, 182, 0, 34, 184, 0, 38, 153, 0, 16, 42, 89, 180, 0, 19, 4, 96]
abbrev dktX2_next_4 : List UInt8 := dkwX2_next_4 ++ dktX2_next_5
def dkwX2_next_3 : List UInt8 := [160, 0, 11, 42, 3, 181, 0, 31, 167, 0, 220, 42, 42, 180, 0, 19, 182, 0, 34, 184, 0, 38]
abbrev dktX2_next_3 : List UInt8 := dkwX2_next_3 ++ dktX2_next_4
def dkwX2_next_2 : List UInt8 := [181, 0, 19, 167, 255, 207, 42, 42, 180, 0, 19, 181, 0, 28, 42, 180, 0, 19, 42, 180, 0, 15]
abbrev dktX2_next_2 : List UInt8 := dkwX2_next_2 ++ dktX2_next_3
def dkwX2_next_1 : List UInt8 := [159, 0, 17, 42, 180, 0, 9, 42, 180, 0, 19, 51, 16, 32, 160, 0, 16, 42, 89, 180, 0, 19, 4, 96]
abbrev dktX2_next_1 : List UInt8 := dkwX2_next_1 ++ dktX2_next_2
def dkwX2_next_0 : List UInt8 := [42, 180, 0, 19, 42, 180, 0, 15, 162, 0, 44, 42, 180, 0, 9, 42, 180, 0, 19, 51, 16, 10]
abbrev dktX2_next_0 : List UInt8 := dkwX2_next_0 ++ dktX2_next_1
theorem dksX2_next_0 : cX2_next.data.toList.drop 0 = dktX2_next_0 := by decide +kernel
theorem dksX2_next_1 : cX2_next.data.toList.drop 22 = dktX2_next_1 := dk_seg dksX2_next_0 22 rfl rfl
theorem dksX2_next_2 : cX2_next.data.toList.drop 46 = dktX2_next_2 := dk_seg dksX2_next_1 24 rfl rfl
theorem dksX2_next_3 : cX2_next.data.toList.drop 68 = dktX2_next_3 := dk_seg dksX2_next_2 22 rfl rfl
theorem dksX2_next_4 : cX2_next.data.toList.drop 90 = dktX2_next_4 := dk_seg dksX2_next_3 22 rfl rfl
theorem dksX2_next_5 : cX2_next.data.toList.drop 114 = dktX2_next_5 := dk_seg dksX2_next_4 24 rfl rfl
theorem dksX2_next_6 : cX2_next.data.toList.drop 136 = dktX2_next_6 := dk_seg dksX2_next_5 22 rfl rfl
theorem dksX2_next_7 : cX2_next.data.toList.drop 160 = dktX2_next_7 := dk_seg dksX2_next_6 24 rfl rfl
theorem dksX2_next_8 : cX2_next.data.toList.drop 184 = dktX2_next_8 := dk_seg dksX2_next_7 24 rfl rfl
theorem dksX2_next_9 : cX2_next.data.toList.drop 208 = dktX2_next_9 := dk_seg dksX2_next_8 24 rfl rfl
theorem dksX2_next_10 : cX2_next.data.toList.drop 232 = dktX2_next_10 := dk_seg dksX2_next_9 24 rfl rfl
theorem dksX2_next_11 : cX2_next.data.toList.drop 254 = dktX2_next_11 := dk_seg dksX2_next_10 22 rfl rfl
theorem dksX2_next_12 : cX2_next.data.toList.drop 278 = dktX2_next_12 := dk_seg dksX2_next_11 24 rfl rfl
theorem dX2_next_0 : decode cX2_next 0 = .ok (.aload_n 0, 1) := dk_42 (dk_at dksX2_next_0 0 rfl rfl)
theorem dX2_next_1 : decode cX2_next 1 = .ok (.getfield 19, 3) := dk_180 0 19 (dk_at dksX2_next_0 1 rfl rfl)
theorem dX2_next_4 : decode cX2_next 4 = .ok (.aload_n 0, 1) := dk_42 (dk_at dksX2_next_0 4 rfl rfl)
theorem dX2_next_5 : decode cX2_next 5 = .ok (.getfield 15, 3) := dk_180 0 15 (dk_at dksX2_next_0 5 rfl rfl)
theorem dX2_next_8 : decode cX2_next 8 = .ok (.if_icmp .ge 44, 3) := dk_162 0 44 (dk_at dksX2_next_0 8 rfl rfl)
theorem dX2_next_11 : decode cX2_next 11 = .ok (.aload_n 0, 1) := dk_42 (dk_at dksX2_next_0 11 rfl rfl)
theorem dX2_next_12 : decode cX2_next 12 = .ok (.getfield 9, 3) := dk_180 0 9 (dk_at dksX2_next_0 12 rfl rfl)
theorem dX2_next_15 : decode cX2_next 15 = .ok (.aload_n 0, 1) := dk_42 (dk_at dksX2_next_0 15 rfl rfl)
theorem dX2_next_16 : decode cX2_next 16 = .ok (.getfield 19, 3) := dk_180 0 19 (dk_at dksX2_next_0 16 rfl rfl)
theorem dX2_next_19 : decode cX2_next 19 = .ok (.baload, 1) := dk_51 (dk_at dksX2_next_0 19 rfl rfl)
theorem dX2_next_20 : decode cX2_next 20 = .ok (.bipush 10, 2) := dk_16 10 (dk_at dksX2_next_0 20 rfl rfl)
theorem dX2_next_22 : decode cX2_next 22 = .ok (.if_icmp .eq 17, 3) := dk_159 0 17 (dk_at dksX2_next_1 0 rfl rfl)
theorem dX2_next_25 : decode cX2_next 25 = .ok (.aload_n 0, 1) := dk_42 (dk_at dksX2_next_1 3 rfl rfl)
theorem dX2_next_26 : decode cX2_next 26 = .ok (.getfield 9, 3) := dk_180 0 9 (dk_at dksX2_next_1 4 rfl rfl)
theorem dX2_next_29 : decode cX2_next 29 = .ok (.aload_n 0, 1) := dk_42 (dk_at dksX2_next_1 7 rfl rfl)
theorem dX2_next_30 : decode cX2_next 30 = .ok (.getfield 19, 3) := dk_180 0 19 (dk_at dksX2_next_1 8 rfl rfl)
theorem dX2_next_33 : decode cX2_next 33 = .ok (.baload, 1) := dk_51 (dk_at dksX2_next_1 11 rfl rfl)
theorem dX2_next_34 : decode cX2_next 34 = .ok (.bipush 32, 2) := dk_16 32 (dk_at dksX2_next_1 12 rfl rfl)
theorem dX2_next_36 : decode cX2_next 36 = .ok (.if_icmp .ne 16, 3) := dk_160 0 16 (dk_at dksX2_next_1 14 rfl rfl)
theorem dX2_next_39 : decode cX2_next 39 = .ok (.aload_n 0, 1) := dk_42 (dk_at dksX2_next_1 17 rfl rfl)
theorem dX2_next_40 : decode cX2_next 40 = .ok (.dup, 1) := dk_89 (dk_at dksX2_next_1 18 rfl rfl)
theorem dX2_next_41 : decode cX2_next 41 = .ok (.getfield 19, 3) := dk_180 0 19 (dk_at dksX2_next_1 19 rfl rfl)
theorem dX2_next_44 : decode cX2_next 44 = .ok (.iconst 1, 1) := dk_4 (dk_at dksX2_next_1 22 rfl rfl)
theorem dX2_next_45 : decode cX2_next 45 = .ok (.iadd, 1) := dk_96 (dk_at dksX2_next_1 23 rfl rfl)
theorem dX2_next_46 : decode cX2_next 46 = .ok (.putfield 19, 3) := dk_181 0 19 (dk_at dksX2_next_2 0 rfl rfl)
theorem dX2_next_49 : decode cX2_next 49 = .ok (.goto (-49), 3) := dk_167 255 207 (dk_at dksX2_next_2 3 rfl rfl)
theorem dX2_next_52 : decode cX2_next 52 = .ok (.aload_n 0, 1) := dk_42 (dk_at dksX2_next_2 6 rfl rfl)
theorem dX2_next_53 : decode cX2_next 53 = .ok (.aload_n 0, 1) := dk_42 (dk_at dksX2_next_2 7 rfl rfl)
theorem dX2_next_54 : decode cX2_next 54 = .ok (.getfield 19, 3) := dk_180 0 19 (dk_at dksX2_next_2 8 rfl rfl)
theorem dX2_next_57 : decode cX2_next 57 = .ok (.putfield 28, 3) := dk_181 0 28 (dk_at dksX2_next_2 11 rfl rfl)
theorem dX2_next_60 : decode cX2_next 60 = .ok (.aload_n 0, 1) := dk_42 (dk_at dksX2_next_2 14 rfl rfl)
theorem dX2_next_61 : decode cX2_next 61 = .ok (.getfield 19, 3) := dk_180 0 19 (dk_at dksX2_next_2 15 rfl rfl)
theorem dX2_next_64 : decode cX2_next 64 = .ok (.aload_n 0, 1) := dk_42 (dk_at dksX2_next_2 18 rfl rfl)
theorem dX2_next_65 : decode cX2_next 65 = .ok (.getfield 15, 3) := dk_180 0 15 (dk_at dksX2_next_2 19 rfl rfl)
theorem dX2_next_68 : decode cX2_next 68 = .ok (.if_icmp .ne 11, 3) := dk_160 0 11 (dk_at dksX2_next_3 0 rfl rfl)
theorem dX2_next_71 : decode cX2_next 71 = .ok (.aload_n 0, 1) := dk_42 (dk_at dksX2_next_3 3 rfl rfl)
theorem dX2_next_72 : decode cX2_next 72 = .ok (.iconst 0, 1) := dk_3 (dk_at dksX2_next_3 4 rfl rfl)
theorem dX2_next_73 : decode cX2_next 73 = .ok (.putfield 31, 3) := dk_181 0 31 (dk_at dksX2_next_3 5 rfl rfl)
theorem dX2_next_76 : decode cX2_next 76 = .ok (.goto 220, 3) := dk_167 0 220 (dk_at dksX2_next_3 8 rfl rfl)
theorem dX2_next_79 : decode cX2_next 79 = .ok (.aload_n 0, 1) := dk_42 (dk_at dksX2_next_3 11 rfl rfl)
theorem dX2_next_80 : decode cX2_next 80 = .ok (.aload_n 0, 1) := dk_42 (dk_at dksX2_next_3 12 rfl rfl)
theorem dX2_next_81 : decode cX2_next 81 = .ok (.getfield 19, 3) := dk_180 0 19 (dk_at dksX2_next_3 13 rfl rfl)
theorem dX2_next_84 : decode cX2_next 84 = .ok (.invokevirtual 34, 3) := dk_182 0 34 (dk_at dksX2_next_3 16 rfl rfl)
theorem dX2_next_87 : decode cX2_next 87 = .ok (.invokestatic 38, 3) := dk_184 0 38 (dk_at dksX2_next_3 19 rfl rfl)
theorem dX2_next_90 : decode cX2_next 90 = .ok (.ifCond .eq 56, 3) := dk_153 0 56 (dk_at dksX2_next_4 0 rfl rfl)
theorem dX2_next_93 : decode cX2_next 93 = .ok (.aload_n 0, 1) := dk_42 (dk_at dksX2_next_4 3 rfl rfl)
theorem dX2_next_94 : decode cX2_next 94 = .ok (.aload_n 0, 1) := dk_42 (dk_at dksX2_next_4 4 rfl rfl)
theorem dX2_next_95 : decode cX2_next 95 = .ok (.getfield 19, 3) := dk_180 0 19 (dk_at dksX2_next_4 5 rfl rfl)
theorem dX2_next_98 : decode cX2_next 98 = .ok (.invokevirtual 34, 3) := dk_182 0 34 (dk_at dksX2_next_4 8 rfl rfl)
theorem dX2_next_101 : decode cX2_next 101 = .ok (.invokestatic 38, 3) := dk_184 0 38 (dk_at dksX2_next_4 11 rfl rfl)
theorem dX2_next_104 : decode cX2_next 104 = .ok (.ifCond .eq 16, 3) := dk_153 0 16 (dk_at dksX2_next_4 14 rfl rfl)
theorem dX2_next_107 : decode cX2_next 107 = .ok (.aload_n 0, 1) := dk_42 (dk_at dksX2_next_4 17 rfl rfl)
theorem dX2_next_108 : decode cX2_next 108 = .ok (.dup, 1) := dk_89 (dk_at dksX2_next_4 18 rfl rfl)
theorem dX2_next_109 : decode cX2_next 109 = .ok (.getfield 19, 3) := dk_180 0 19 (dk_at dksX2_next_4 19 rfl rfl)
theorem dX2_next_112 : decode cX2_next 112 = .ok (.iconst 1, 1) := dk_4 (dk_at dksX2_next_4 22 rfl rfl)
theorem dX2_next_113 : decode cX2_next 113 = .ok (.iadd, 1) := dk_96 (dk_at dksX2_next_4 23 rfl rfl)
theorem dX2_next_114 : decode cX2_next 114 = .ok (.putfield 19, 3) := dk_181 0 19 (dk_at dksX2_next_5 0 rfl rfl)
theorem dX2_next_117 : decode cX2_next 117 = .ok (.goto (-24), 3) := dk_167 255 232 (dk_at dksX2_next_5 3 rfl rfl)
theorem dX2_next_120 : decode cX2_next 120 = .ok (.aload_n 0, 1) := dk_42 (dk_at dksX2_next_5 6 rfl rfl)
theorem dX2_next_121 : decode cX2_next 121 = .ok (.aload_n 0, 1) := dk_42 (dk_at dksX2_next_5 7 rfl rfl)
theorem dX2_next_122 : decode cX2_next 122 = .ok (.getfield 19, 3) := dk_180 0 19 (dk_at dksX2_next_5 8 rfl rfl)
theorem dX2_next_125 : decode cX2_next 125 = .ok (.aload_n 0, 1) := dk_42 (dk_at dksX2_next_5 11 rfl rfl)
theorem dX2_next_126 : decode cX2_next 126 = .ok (.getfield 28, 3) := dk_180 0 28 (dk_at dksX2_next_5 12 rfl rfl)
theorem dX2_next_129 : decode cX2_next 129 = .ok (.isub, 1) := dk_100 (dk_at dksX2_next_5 15 rfl rfl)
theorem dX2_next_130 : decode cX2_next 130 = .ok (.bipush 8, 2) := dk_16 8 (dk_at dksX2_next_5 16 rfl rfl)
theorem dX2_next_132 : decode cX2_next 132 = .ok (.if_icmp .le 7, 3) := dk_164 0 7 (dk_at dksX2_next_5 18 rfl rfl)
theorem dX2_next_135 : decode cX2_next 135 = .ok (.iconst 4, 1) := dk_7 (dk_at dksX2_next_5 21 rfl rfl)
theorem dX2_next_136 : decode cX2_next 136 = .ok (.goto 4, 3) := dk_167 0 4 (dk_at dksX2_next_6 0 rfl rfl)
theorem dX2_next_139 : decode cX2_next 139 = .ok (.iconst 1, 1) := dk_4 (dk_at dksX2_next_6 3 rfl rfl)
theorem dX2_next_140 : decode cX2_next 140 = .ok (.putfield 31, 3) := dk_181 0 31 (dk_at dksX2_next_6 4 rfl rfl)
theorem dX2_next_143 : decode cX2_next 143 = .ok (.goto 153, 3) := dk_167 0 153 (dk_at dksX2_next_6 7 rfl rfl)
theorem dX2_next_146 : decode cX2_next 146 = .ok (.aload_n 0, 1) := dk_42 (dk_at dksX2_next_6 10 rfl rfl)
theorem dX2_next_147 : decode cX2_next 147 = .ok (.aload_n 0, 1) := dk_42 (dk_at dksX2_next_6 11 rfl rfl)
theorem dX2_next_148 : decode cX2_next 148 = .ok (.getfield 19, 3) := dk_180 0 19 (dk_at dksX2_next_6 12 rfl rfl)
theorem dX2_next_151 : decode cX2_next 151 = .ok (.invokevirtual 34, 3) := dk_182 0 34 (dk_at dksX2_next_6 15 rfl rfl)
theorem dX2_next_154 : decode cX2_next 154 = .ok (.invokestatic 42, 3) := dk_184 0 42 (dk_at dksX2_next_6 18 rfl rfl)
theorem dX2_next_157 : decode cX2_next 157 = .ok (.ifCond .eq 103, 3) := dk_153 0 103 (dk_at dksX2_next_6 21 rfl rfl)
theorem dX2_next_160 : decode cX2_next 160 = .ok (.aload_n 0, 1) := dk_42 (dk_at dksX2_next_7 0 rfl rfl)
theorem dX2_next_161 : decode cX2_next 161 = .ok (.iconst 0, 1) := dk_3 (dk_at dksX2_next_7 1 rfl rfl)
theorem dX2_next_162 : decode cX2_next 162 = .ok (.putfield 45, 3) := dk_181 0 45 (dk_at dksX2_next_7 2 rfl rfl)
theorem dX2_next_165 : decode cX2_next 165 = .ok (.aload_n 0, 1) := dk_42 (dk_at dksX2_next_7 5 rfl rfl)
theorem dX2_next_166 : decode cX2_next 166 = .ok (.aload_n 0, 1) := dk_42 (dk_at dksX2_next_7 6 rfl rfl)
theorem dX2_next_167 : decode cX2_next 167 = .ok (.getfield 19, 3) := dk_180 0 19 (dk_at dksX2_next_7 7 rfl rfl)
theorem dX2_next_170 : decode cX2_next 170 = .ok (.invokevirtual 34, 3) := dk_182 0 34 (dk_at dksX2_next_7 10 rfl rfl)
theorem dX2_next_173 : decode cX2_next 173 = .ok (.invokestatic 42, 3) := dk_184 0 42 (dk_at dksX2_next_7 13 rfl rfl)
theorem dX2_next_176 : decode cX2_next 176 = .ok (.ifCond .eq 59, 3) := dk_153 0 59 (dk_at dksX2_next_7 16 rfl rfl)
theorem dX2_next_179 : decode cX2_next 179 = .ok (.aload_n 0, 1) := dk_42 (dk_at dksX2_next_7 19 rfl rfl)
theorem dX2_next_180 : decode cX2_next 180 = .ok (.aload_n 0, 1) := dk_42 (dk_at dksX2_next_7 20 rfl rfl)
theorem dX2_next_181 : decode cX2_next 181 = .ok (.getfield 19, 3) := dk_180 0 19 (dk_at dksX2_next_7 21 rfl rfl)
theorem dX2_next_184 : decode cX2_next 184 = .ok (.aload_n 0, 1) := dk_42 (dk_at dksX2_next_8 0 rfl rfl)
theorem dX2_next_185 : decode cX2_next 185 = .ok (.getfield 28, 3) := dk_180 0 28 (dk_at dksX2_next_8 1 rfl rfl)
theorem dX2_next_188 : decode cX2_next 188 = .ok (.isub, 1) := dk_100 (dk_at dksX2_next_8 4 rfl rfl)
theorem dX2_next_189 : decode cX2_next 189 = .ok (.iconst 4, 1) := dk_7 (dk_at dksX2_next_8 5 rfl rfl)
theorem dX2_next_190 : decode cX2_next 190 = .ok (.if_icmp .ge 25, 3) := dk_162 0 25 (dk_at dksX2_next_8 6 rfl rfl)
theorem dX2_next_193 : decode cX2_next 193 = .ok (.bipush 10, 2) := dk_16 10 (dk_at dksX2_next_8 9 rfl rfl)
theorem dX2_next_195 : decode cX2_next 195 = .ok (.aload_n 0, 1) := dk_42 (dk_at dksX2_next_8 11 rfl rfl)
theorem dX2_next_196 : decode cX2_next 196 = .ok (.getfield 45, 3) := dk_180 0 45 (dk_at dksX2_next_8 12 rfl rfl)
theorem dX2_next_199 : decode cX2_next 199 = .ok (.imul, 1) := dk_104 (dk_at dksX2_next_8 15 rfl rfl)
theorem dX2_next_200 : decode cX2_next 200 = .ok (.aload_n 0, 1) := dk_42 (dk_at dksX2_next_8 16 rfl rfl)
theorem dX2_next_201 : decode cX2_next 201 = .ok (.aload_n 0, 1) := dk_42 (dk_at dksX2_next_8 17 rfl rfl)
theorem dX2_next_202 : decode cX2_next 202 = .ok (.getfield 19, 3) := dk_180 0 19 (dk_at dksX2_next_8 18 rfl rfl)
theorem dX2_next_205 : decode cX2_next 205 = .ok (.invokevirtual 34, 3) := dk_182 0 34 (dk_at dksX2_next_8 21 rfl rfl)
theorem dX2_next_208 : decode cX2_next 208 = .ok (.iadd, 1) := dk_96 (dk_at dksX2_next_9 0 rfl rfl)
theorem dX2_next_209 : decode cX2_next 209 = .ok (.bipush 48, 2) := dk_16 48 (dk_at dksX2_next_9 1 rfl rfl)
theorem dX2_next_211 : decode cX2_next 211 = .ok (.isub, 1) := dk_100 (dk_at dksX2_next_9 3 rfl rfl)
theorem dX2_next_212 : decode cX2_next 212 = .ok (.goto 7, 3) := dk_167 0 7 (dk_at dksX2_next_9 4 rfl rfl)
theorem dX2_next_215 : decode cX2_next 215 = .ok (.aload_n 0, 1) := dk_42 (dk_at dksX2_next_9 7 rfl rfl)
theorem dX2_next_216 : decode cX2_next 216 = .ok (.getfield 45, 3) := dk_180 0 45 (dk_at dksX2_next_9 8 rfl rfl)
theorem dX2_next_219 : decode cX2_next 219 = .ok (.putfield 45, 3) := dk_181 0 45 (dk_at dksX2_next_9 11 rfl rfl)
theorem dX2_next_222 : decode cX2_next 222 = .ok (.aload_n 0, 1) := dk_42 (dk_at dksX2_next_9 14 rfl rfl)
theorem dX2_next_223 : decode cX2_next 223 = .ok (.dup, 1) := dk_89 (dk_at dksX2_next_9 15 rfl rfl)
theorem dX2_next_224 : decode cX2_next 224 = .ok (.getfield 19, 3) := dk_180 0 19 (dk_at dksX2_next_9 16 rfl rfl)
theorem dX2_next_227 : decode cX2_next 227 = .ok (.iconst 1, 1) := dk_4 (dk_at dksX2_next_9 19 rfl rfl)
theorem dX2_next_228 : decode cX2_next 228 = .ok (.iadd, 1) := dk_96 (dk_at dksX2_next_9 20 rfl rfl)
theorem dX2_next_229 : decode cX2_next 229 = .ok (.putfield 19, 3) := dk_181 0 19 (dk_at dksX2_next_9 21 rfl rfl)
theorem dX2_next_232 : decode cX2_next 232 = .ok (.goto (-67), 3) := dk_167 255 189 (dk_at dksX2_next_10 0 rfl rfl)
theorem dX2_next_235 : decode cX2_next 235 = .ok (.aload_n 0, 1) := dk_42 (dk_at dksX2_next_10 3 rfl rfl)
theorem dX2_next_236 : decode cX2_next 236 = .ok (.aload_n 0, 1) := dk_42 (dk_at dksX2_next_10 4 rfl rfl)
theorem dX2_next_237 : decode cX2_next 237 = .ok (.getfield 19, 3) := dk_180 0 19 (dk_at dksX2_next_10 5 rfl rfl)
theorem dX2_next_240 : decode cX2_next 240 = .ok (.aload_n 0, 1) := dk_42 (dk_at dksX2_next_10 8 rfl rfl)
theorem dX2_next_241 : decode cX2_next 241 = .ok (.getfield 28, 3) := dk_180 0 28 (dk_at dksX2_next_10 9 rfl rfl)
theorem dX2_next_244 : decode cX2_next 244 = .ok (.isub, 1) := dk_100 (dk_at dksX2_next_10 12 rfl rfl)
theorem dX2_next_245 : decode cX2_next 245 = .ok (.iconst 4, 1) := dk_7 (dk_at dksX2_next_10 13 rfl rfl)
theorem dX2_next_246 : decode cX2_next 246 = .ok (.if_icmp .le 7, 3) := dk_164 0 7 (dk_at dksX2_next_10 14 rfl rfl)
theorem dX2_next_249 : decode cX2_next 249 = .ok (.iconst 4, 1) := dk_7 (dk_at dksX2_next_10 17 rfl rfl)
theorem dX2_next_250 : decode cX2_next 250 = .ok (.goto 4, 3) := dk_167 0 4 (dk_at dksX2_next_10 18 rfl rfl)
theorem dX2_next_253 : decode cX2_next 253 = .ok (.iconst 2, 1) := dk_5 (dk_at dksX2_next_10 21 rfl rfl)
theorem dX2_next_254 : decode cX2_next 254 = .ok (.putfield 31, 3) := dk_181 0 31 (dk_at dksX2_next_11 0 rfl rfl)
theorem dX2_next_257 : decode cX2_next 257 = .ok (.goto 39, 3) := dk_167 0 39 (dk_at dksX2_next_11 3 rfl rfl)
theorem dX2_next_260 : decode cX2_next 260 = .ok (.aload_n 0, 1) := dk_42 (dk_at dksX2_next_11 6 rfl rfl)
theorem dX2_next_261 : decode cX2_next 261 = .ok (.ldc 48, 2) := dk_18 48 (dk_at dksX2_next_11 7 rfl rfl)
theorem dX2_next_263 : decode cX2_next 263 = .ok (.aload_n 0, 1) := dk_42 (dk_at dksX2_next_11 9 rfl rfl)
theorem dX2_next_264 : decode cX2_next 264 = .ok (.aload_n 0, 1) := dk_42 (dk_at dksX2_next_11 10 rfl rfl)
theorem dX2_next_265 : decode cX2_next 265 = .ok (.getfield 19, 3) := dk_180 0 19 (dk_at dksX2_next_11 11 rfl rfl)
theorem dX2_next_268 : decode cX2_next 268 = .ok (.invokevirtual 34, 3) := dk_182 0 34 (dk_at dksX2_next_11 14 rfl rfl)
theorem dX2_next_271 : decode cX2_next 271 = .ok (.i2c, 1) := dk_146 (dk_at dksX2_next_11 17 rfl rfl)
theorem dX2_next_272 : decode cX2_next 272 = .ok (.invokevirtual 50, 3) := dk_182 0 50 (dk_at dksX2_next_11 18 rfl rfl)
theorem dX2_next_275 : decode cX2_next 275 = .ok (.ifCond .lt 7, 3) := dk_155 0 7 (dk_at dksX2_next_11 21 rfl rfl)
theorem dX2_next_278 : decode cX2_next 278 = .ok (.iconst 3, 1) := dk_6 (dk_at dksX2_next_12 0 rfl rfl)
theorem dX2_next_279 : decode cX2_next 279 = .ok (.goto 4, 3) := dk_167 0 4 (dk_at dksX2_next_12 1 rfl rfl)
theorem dX2_next_282 : decode cX2_next 282 = .ok (.iconst 4, 1) := dk_7 (dk_at dksX2_next_12 4 rfl rfl)
theorem dX2_next_283 : decode cX2_next 283 = .ok (.putfield 31, 3) := dk_181 0 31 (dk_at dksX2_next_12 5 rfl rfl)
theorem dX2_next_286 : decode cX2_next 286 = .ok (.aload_n 0, 1) := dk_42 (dk_at dksX2_next_12 8 rfl rfl)
theorem dX2_next_287 : decode cX2_next 287 = .ok (.dup, 1) := dk_89 (dk_at dksX2_next_12 9 rfl rfl)
theorem dX2_next_288 : decode cX2_next 288 = .ok (.getfield 19, 3) := dk_180 0 19 (dk_at dksX2_next_12 10 rfl rfl)
theorem dX2_next_291 : decode cX2_next 291 = .ok (.iconst 1, 1) := dk_4 (dk_at dksX2_next_12 13 rfl rfl)
theorem dX2_next_292 : decode cX2_next 292 = .ok (.iadd, 1) := dk_96 (dk_at dksX2_next_12 14 rfl rfl)
theorem dX2_next_293 : decode cX2_next 293 = .ok (.putfield 19, 3) := dk_181 0 19 (dk_at dksX2_next_12 15 rfl rfl)
theorem dX2_next_296 : decode cX2_next 296 = .ok (.return_, 1) := dk_177 (dk_at dksX2_next_12 18 rfl rfl)
abbrev cX2_at : ByteArray := prog_16_method_3_code
def yX2_at : MethodName := ⟨RX2, "at", "(I)I"⟩
def dkwX2_at_0 : List UInt8 := [27, 42, 180, 0, 15, 162, 0, 12, 42, 180, 0, 9, 27, 51, 167, 0, 4, 3, 172]
abbrev dktX2_at_0 : List UInt8 := dkwX2_at_0 ++ []
theorem dksX2_at_0 : cX2_at.data.toList.drop 0 = dktX2_at_0 := by decide +kernel
theorem dX2_at_0 : decode cX2_at 0 = .ok (.iload_n 1, 1) := dk_27 (dk_at dksX2_at_0 0 rfl rfl)
theorem dX2_at_1 : decode cX2_at 1 = .ok (.aload_n 0, 1) := dk_42 (dk_at dksX2_at_0 1 rfl rfl)
theorem dX2_at_2 : decode cX2_at 2 = .ok (.getfield 15, 3) := dk_180 0 15 (dk_at dksX2_at_0 2 rfl rfl)
theorem dX2_at_5 : decode cX2_at 5 = .ok (.if_icmp .ge 12, 3) := dk_162 0 12 (dk_at dksX2_at_0 5 rfl rfl)
theorem dX2_at_8 : decode cX2_at 8 = .ok (.aload_n 0, 1) := dk_42 (dk_at dksX2_at_0 8 rfl rfl)
theorem dX2_at_9 : decode cX2_at 9 = .ok (.getfield 9, 3) := dk_180 0 9 (dk_at dksX2_at_0 9 rfl rfl)
theorem dX2_at_12 : decode cX2_at 12 = .ok (.iload_n 1, 1) := dk_27 (dk_at dksX2_at_0 12 rfl rfl)
theorem dX2_at_13 : decode cX2_at 13 = .ok (.baload, 1) := dk_51 (dk_at dksX2_at_0 13 rfl rfl)
theorem dX2_at_14 : decode cX2_at 14 = .ok (.goto 4, 3) := dk_167 0 4 (dk_at dksX2_at_0 14 rfl rfl)
theorem dX2_at_17 : decode cX2_at 17 = .ok (.iconst 0, 1) := dk_3 (dk_at dksX2_at_0 17 rfl rfl)
theorem dX2_at_18 : decode cX2_at 18 = .ok (.ireturn, 1) := dk_172 (dk_at dksX2_at_0 18 rfl rfl)
abbrev cX2_isLetter : ByteArray := prog_16_method_4_code
def yX2_isLetter : MethodName := ⟨RX2, "isLetter", "(I)Z"⟩
def dkwX2_isLetter_0 : List UInt8 := [26, 16, 97, 161, 0, 13, 26, 16, 122, 163, 0, 7, 4, 167, 0, 4, 3, 172]
abbrev dktX2_isLetter_0 : List UInt8 := dkwX2_isLetter_0 ++ []
theorem dksX2_isLetter_0 : cX2_isLetter.data.toList.drop 0 = dktX2_isLetter_0 := by decide +kernel
theorem dX2_isLetter_0 : decode cX2_isLetter 0 = .ok (.iload_n 0, 1) := dk_26 (dk_at dksX2_isLetter_0 0 rfl rfl)
theorem dX2_isLetter_1 : decode cX2_isLetter 1 = .ok (.bipush 97, 2) := dk_16 97 (dk_at dksX2_isLetter_0 1 rfl rfl)
theorem dX2_isLetter_3 : decode cX2_isLetter 3 = .ok (.if_icmp .lt 13, 3) := dk_161 0 13 (dk_at dksX2_isLetter_0 3 rfl rfl)
theorem dX2_isLetter_6 : decode cX2_isLetter 6 = .ok (.iload_n 0, 1) := dk_26 (dk_at dksX2_isLetter_0 6 rfl rfl)
theorem dX2_isLetter_7 : decode cX2_isLetter 7 = .ok (.bipush 122, 2) := dk_16 122 (dk_at dksX2_isLetter_0 7 rfl rfl)
theorem dX2_isLetter_9 : decode cX2_isLetter 9 = .ok (.if_icmp .gt 7, 3) := dk_163 0 7 (dk_at dksX2_isLetter_0 9 rfl rfl)
theorem dX2_isLetter_12 : decode cX2_isLetter 12 = .ok (.iconst 1, 1) := dk_4 (dk_at dksX2_isLetter_0 12 rfl rfl)
theorem dX2_isLetter_13 : decode cX2_isLetter 13 = .ok (.goto 4, 3) := dk_167 0 4 (dk_at dksX2_isLetter_0 13 rfl rfl)
theorem dX2_isLetter_16 : decode cX2_isLetter 16 = .ok (.iconst 0, 1) := dk_3 (dk_at dksX2_isLetter_0 16 rfl rfl)
theorem dX2_isLetter_17 : decode cX2_isLetter 17 = .ok (.ireturn, 1) := dk_172 (dk_at dksX2_isLetter_0 17 rfl rfl)
abbrev cX2_isDigit : ByteArray := prog_16_method_5_code
def yX2_isDigit : MethodName := ⟨RX2, "isDigit", "(I)Z"⟩
def dkwX2_isDigit_0 : List UInt8 := [26, 16, 48, 161, 0, 13, 26, 16, 57, 163, 0, 7, 4, 167, 0, 4, 3, 172]
abbrev dktX2_isDigit_0 : List UInt8 := dkwX2_isDigit_0 ++ []
theorem dksX2_isDigit_0 : cX2_isDigit.data.toList.drop 0 = dktX2_isDigit_0 := by decide +kernel
theorem dX2_isDigit_0 : decode cX2_isDigit 0 = .ok (.iload_n 0, 1) := dk_26 (dk_at dksX2_isDigit_0 0 rfl rfl)
theorem dX2_isDigit_1 : decode cX2_isDigit 1 = .ok (.bipush 48, 2) := dk_16 48 (dk_at dksX2_isDigit_0 1 rfl rfl)
theorem dX2_isDigit_3 : decode cX2_isDigit 3 = .ok (.if_icmp .lt 13, 3) := dk_161 0 13 (dk_at dksX2_isDigit_0 3 rfl rfl)
theorem dX2_isDigit_6 : decode cX2_isDigit 6 = .ok (.iload_n 0, 1) := dk_26 (dk_at dksX2_isDigit_0 6 rfl rfl)
theorem dX2_isDigit_7 : decode cX2_isDigit 7 = .ok (.bipush 57, 2) := dk_16 57 (dk_at dksX2_isDigit_0 7 rfl rfl)
theorem dX2_isDigit_9 : decode cX2_isDigit 9 = .ok (.if_icmp .gt 7, 3) := dk_163 0 7 (dk_at dksX2_isDigit_0 9 rfl rfl)
theorem dX2_isDigit_12 : decode cX2_isDigit 12 = .ok (.iconst 1, 1) := dk_4 (dk_at dksX2_isDigit_0 12 rfl rfl)
theorem dX2_isDigit_13 : decode cX2_isDigit 13 = .ok (.goto 4, 3) := dk_167 0 4 (dk_at dksX2_isDigit_0 13 rfl rfl)
theorem dX2_isDigit_16 : decode cX2_isDigit 16 = .ok (.iconst 0, 1) := dk_3 (dk_at dksX2_isDigit_0 16 rfl rfl)
theorem dX2_isDigit_17 : decode cX2_isDigit 17 = .ok (.ireturn, 1) := dk_172 (dk_at dksX2_isDigit_0 17 rfl rfl)
abbrev cX2_table : ByteArray := prog_16_method_18_code
def yX2_table : MethodName := ⟨RX2, "table", "()LBeggarHeaps$Table;"⟩
def dkwX2_table_9 : List UInt8 := [180, 0, 98, 182, 0, 165, 42, 180, 0, 98, 176]
abbrev dktX2_table_9 : List UInt8 := dkwX2_table_9 ++ []
def dkwX2_table_8 : List UInt8 := [160, 0, 10, 42, 182, 0, 158, 167, 0, 7, 42, 182, 0, 160, 42, 16, 59, 182, 0, 162, 167, 255, 82, 42]
abbrev dktX2_table_8 : List UInt8 := dkwX2_table_8 ++ dktX2_table_9
def dkwX2_table_7 : List UInt8 := [160, 0, 22, 42, 180, 0, 98, 42, 16, 10, 17, 11, 184, 182, 0, 113, 181, 0, 126, 167, 0, 19, 27, 7]
abbrev dktX2_table_7 : List UInt8 := dkwX2_table_7 ++ dktX2_table_8
def dkwX2_table_6 : List UInt8 := [167, 0, 62, 27, 5, 160, 0, 17, 42, 180, 0, 98, 42, 182, 0, 154, 181, 0, 122, 167, 0, 43, 27, 6]
abbrev dktX2_table_6 : List UInt8 := dkwX2_table_6 ++ dktX2_table_7
def dkwX2_table_5 : List UInt8 := [181, 0, 116, 167, 0, 83, 27, 4, 160, 0, 19, 42, 180, 0, 98, 42, 18, 152, 182, 0, 149, 181, 0, 119]
abbrev dktX2_table_5 : List UInt8 := dkwX2_table_5 ++ dktX2_table_6
def dkwX2_table_4 : List UInt8 := [42, 8, 182, 0, 75, 191, 42, 182, 0, 25, 27, 154, 0, 19, 42, 180, 0, 98, 42, 18, 147, 182, 0, 149]
abbrev dktX2_table_4 : List UInt8 := dkwX2_table_4 ++ dktX2_table_5
def dkwX2_table_3 : List UInt8 := [182, 0, 75, 191, 27, 7, 160, 0, 24, 42, 180, 0, 98, 180, 0, 139, 182, 0, 143, 16, 8, 160, 0, 9]
abbrev dktX2_table_3 : List UInt8 := dkwX2_table_3 ++ dktX2_table_4
def dkwX2_table_2 : List UInt8 := [182, 0, 71, 60, 27, 156, 0, 9, 42, 4, 182, 0, 75, 191, 42, 27, 182, 0, 136, 153, 0, 9, 42, 6]
abbrev dktX2_table_2 : List UInt8 := dkwX2_table_2 ++ dktX2_table_3
def dkwX2_table_1 : List UInt8 := [180, 0, 130, 27, 2, 79, 132, 1, 1, 167, 255, 237, 42, 180, 0, 31, 153, 0, 173, 42, 18, 134]
abbrev dktX2_table_1 : List UInt8 := dkwX2_table_1 ++ dktX2_table_2
def dkwX2_table_0 : List UInt8 := [42, 187, 0, 106, 89, 183, 0, 129, 181, 0, 98, 3, 60, 27, 16, 8, 162, 0, 19, 42, 180, 0, 98]
abbrev dktX2_table_0 : List UInt8 := dkwX2_table_0 ++ dktX2_table_1
theorem dksX2_table_0 : cX2_table.data.toList.drop 0 = dktX2_table_0 := by decide +kernel
theorem dksX2_table_1 : cX2_table.data.toList.drop 23 = dktX2_table_1 := dk_seg dksX2_table_0 23 rfl rfl
theorem dksX2_table_2 : cX2_table.data.toList.drop 45 = dktX2_table_2 := dk_seg dksX2_table_1 22 rfl rfl
theorem dksX2_table_3 : cX2_table.data.toList.drop 69 = dktX2_table_3 := dk_seg dksX2_table_2 24 rfl rfl
theorem dksX2_table_4 : cX2_table.data.toList.drop 93 = dktX2_table_4 := dk_seg dksX2_table_3 24 rfl rfl
theorem dksX2_table_5 : cX2_table.data.toList.drop 117 = dktX2_table_5 := dk_seg dksX2_table_4 24 rfl rfl
theorem dksX2_table_6 : cX2_table.data.toList.drop 141 = dktX2_table_6 := dk_seg dksX2_table_5 24 rfl rfl
theorem dksX2_table_7 : cX2_table.data.toList.drop 165 = dktX2_table_7 := dk_seg dksX2_table_6 24 rfl rfl
theorem dksX2_table_8 : cX2_table.data.toList.drop 189 = dktX2_table_8 := dk_seg dksX2_table_7 24 rfl rfl
theorem dksX2_table_9 : cX2_table.data.toList.drop 213 = dktX2_table_9 := dk_seg dksX2_table_8 24 rfl rfl
theorem dX2_table_0 : decode cX2_table 0 = .ok (.aload_n 0, 1) := dk_42 (dk_at dksX2_table_0 0 rfl rfl)
theorem dX2_table_1 : decode cX2_table 1 = .ok (.new 106, 3) := dk_187 0 106 (dk_at dksX2_table_0 1 rfl rfl)
theorem dX2_table_4 : decode cX2_table 4 = .ok (.dup, 1) := dk_89 (dk_at dksX2_table_0 4 rfl rfl)
theorem dX2_table_5 : decode cX2_table 5 = .ok (.invokespecial 129, 3) := dk_183 0 129 (dk_at dksX2_table_0 5 rfl rfl)
theorem dX2_table_8 : decode cX2_table 8 = .ok (.putfield 98, 3) := dk_181 0 98 (dk_at dksX2_table_0 8 rfl rfl)
theorem dX2_table_11 : decode cX2_table 11 = .ok (.iconst 0, 1) := dk_3 (dk_at dksX2_table_0 11 rfl rfl)
theorem dX2_table_12 : decode cX2_table 12 = .ok (.istore_n 1, 1) := dk_60 (dk_at dksX2_table_0 12 rfl rfl)
theorem dX2_table_13 : decode cX2_table 13 = .ok (.iload_n 1, 1) := dk_27 (dk_at dksX2_table_0 13 rfl rfl)
theorem dX2_table_14 : decode cX2_table 14 = .ok (.bipush 8, 2) := dk_16 8 (dk_at dksX2_table_0 14 rfl rfl)
theorem dX2_table_16 : decode cX2_table 16 = .ok (.if_icmp .ge 19, 3) := dk_162 0 19 (dk_at dksX2_table_0 16 rfl rfl)
theorem dX2_table_19 : decode cX2_table 19 = .ok (.aload_n 0, 1) := dk_42 (dk_at dksX2_table_0 19 rfl rfl)
theorem dX2_table_20 : decode cX2_table 20 = .ok (.getfield 98, 3) := dk_180 0 98 (dk_at dksX2_table_0 20 rfl rfl)
theorem dX2_table_23 : decode cX2_table 23 = .ok (.getfield 130, 3) := dk_180 0 130 (dk_at dksX2_table_1 0 rfl rfl)
theorem dX2_table_26 : decode cX2_table 26 = .ok (.iload_n 1, 1) := dk_27 (dk_at dksX2_table_1 3 rfl rfl)
theorem dX2_table_27 : decode cX2_table 27 = .ok (.iconst (-1), 1) := dk_2 (dk_at dksX2_table_1 4 rfl rfl)
theorem dX2_table_28 : decode cX2_table 28 = .ok (.iastore, 1) := dk_79 (dk_at dksX2_table_1 5 rfl rfl)
theorem dX2_table_29 : decode cX2_table 29 = .ok (.iinc 1 1, 3) := dk_132 1 1 (dk_at dksX2_table_1 6 rfl rfl)
theorem dX2_table_32 : decode cX2_table 32 = .ok (.goto (-19), 3) := dk_167 255 237 (dk_at dksX2_table_1 9 rfl rfl)
theorem dX2_table_35 : decode cX2_table 35 = .ok (.aload_n 0, 1) := dk_42 (dk_at dksX2_table_1 12 rfl rfl)
theorem dX2_table_36 : decode cX2_table 36 = .ok (.getfield 31, 3) := dk_180 0 31 (dk_at dksX2_table_1 13 rfl rfl)
theorem dX2_table_39 : decode cX2_table 39 = .ok (.ifCond .eq 173, 3) := dk_153 0 173 (dk_at dksX2_table_1 16 rfl rfl)
theorem dX2_table_42 : decode cX2_table 42 = .ok (.aload_n 0, 1) := dk_42 (dk_at dksX2_table_1 19 rfl rfl)
theorem dX2_table_43 : decode cX2_table 43 = .ok (.ldc 134, 2) := dk_18 134 (dk_at dksX2_table_1 20 rfl rfl)
theorem dX2_table_45 : decode cX2_table 45 = .ok (.invokevirtual 71, 3) := dk_182 0 71 (dk_at dksX2_table_2 0 rfl rfl)
theorem dX2_table_48 : decode cX2_table 48 = .ok (.istore_n 1, 1) := dk_60 (dk_at dksX2_table_2 3 rfl rfl)
theorem dX2_table_49 : decode cX2_table 49 = .ok (.iload_n 1, 1) := dk_27 (dk_at dksX2_table_2 4 rfl rfl)
theorem dX2_table_50 : decode cX2_table 50 = .ok (.ifCond .ge 9, 3) := dk_156 0 9 (dk_at dksX2_table_2 5 rfl rfl)
theorem dX2_table_53 : decode cX2_table 53 = .ok (.aload_n 0, 1) := dk_42 (dk_at dksX2_table_2 8 rfl rfl)
theorem dX2_table_54 : decode cX2_table 54 = .ok (.iconst 1, 1) := dk_4 (dk_at dksX2_table_2 9 rfl rfl)
theorem dX2_table_55 : decode cX2_table 55 = .ok (.invokevirtual 75, 3) := dk_182 0 75 (dk_at dksX2_table_2 10 rfl rfl)
theorem dX2_table_58 : decode cX2_table 58 = .ok (.athrow, 1) := dk_191 (dk_at dksX2_table_2 13 rfl rfl)
theorem dX2_table_59 : decode cX2_table 59 = .ok (.aload_n 0, 1) := dk_42 (dk_at dksX2_table_2 14 rfl rfl)
theorem dX2_table_60 : decode cX2_table 60 = .ok (.iload_n 1, 1) := dk_27 (dk_at dksX2_table_2 15 rfl rfl)
theorem dX2_table_61 : decode cX2_table 61 = .ok (.invokevirtual 136, 3) := dk_182 0 136 (dk_at dksX2_table_2 16 rfl rfl)
theorem dX2_table_64 : decode cX2_table 64 = .ok (.ifCond .eq 9, 3) := dk_153 0 9 (dk_at dksX2_table_2 19 rfl rfl)
theorem dX2_table_67 : decode cX2_table 67 = .ok (.aload_n 0, 1) := dk_42 (dk_at dksX2_table_2 22 rfl rfl)
theorem dX2_table_68 : decode cX2_table 68 = .ok (.iconst 3, 1) := dk_6 (dk_at dksX2_table_2 23 rfl rfl)
theorem dX2_table_69 : decode cX2_table 69 = .ok (.invokevirtual 75, 3) := dk_182 0 75 (dk_at dksX2_table_3 0 rfl rfl)
theorem dX2_table_72 : decode cX2_table 72 = .ok (.athrow, 1) := dk_191 (dk_at dksX2_table_3 3 rfl rfl)
theorem dX2_table_73 : decode cX2_table 73 = .ok (.iload_n 1, 1) := dk_27 (dk_at dksX2_table_3 4 rfl rfl)
theorem dX2_table_74 : decode cX2_table 74 = .ok (.iconst 4, 1) := dk_7 (dk_at dksX2_table_3 5 rfl rfl)
theorem dX2_table_75 : decode cX2_table 75 = .ok (.if_icmp .ne 24, 3) := dk_160 0 24 (dk_at dksX2_table_3 6 rfl rfl)
theorem dX2_table_78 : decode cX2_table 78 = .ok (.aload_n 0, 1) := dk_42 (dk_at dksX2_table_3 9 rfl rfl)
theorem dX2_table_79 : decode cX2_table 79 = .ok (.getfield 98, 3) := dk_180 0 98 (dk_at dksX2_table_3 10 rfl rfl)
theorem dX2_table_82 : decode cX2_table 82 = .ok (.getfield 139, 3) := dk_180 0 139 (dk_at dksX2_table_3 13 rfl rfl)
theorem dX2_table_85 : decode cX2_table 85 = .ok (.invokevirtual 143, 3) := dk_182 0 143 (dk_at dksX2_table_3 16 rfl rfl)
theorem dX2_table_88 : decode cX2_table 88 = .ok (.bipush 8, 2) := dk_16 8 (dk_at dksX2_table_3 19 rfl rfl)
theorem dX2_table_90 : decode cX2_table 90 = .ok (.if_icmp .ne 9, 3) := dk_160 0 9 (dk_at dksX2_table_3 21 rfl rfl)
theorem dX2_table_93 : decode cX2_table 93 = .ok (.aload_n 0, 1) := dk_42 (dk_at dksX2_table_4 0 rfl rfl)
theorem dX2_table_94 : decode cX2_table 94 = .ok (.iconst 5, 1) := dk_8 (dk_at dksX2_table_4 1 rfl rfl)
theorem dX2_table_95 : decode cX2_table 95 = .ok (.invokevirtual 75, 3) := dk_182 0 75 (dk_at dksX2_table_4 2 rfl rfl)
theorem dX2_table_98 : decode cX2_table 98 = .ok (.athrow, 1) := dk_191 (dk_at dksX2_table_4 5 rfl rfl)
theorem dX2_table_99 : decode cX2_table 99 = .ok (.aload_n 0, 1) := dk_42 (dk_at dksX2_table_4 6 rfl rfl)
theorem dX2_table_100 : decode cX2_table 100 = .ok (.invokevirtual 25, 3) := dk_182 0 25 (dk_at dksX2_table_4 7 rfl rfl)
theorem dX2_table_103 : decode cX2_table 103 = .ok (.iload_n 1, 1) := dk_27 (dk_at dksX2_table_4 10 rfl rfl)
theorem dX2_table_104 : decode cX2_table 104 = .ok (.ifCond .ne 19, 3) := dk_154 0 19 (dk_at dksX2_table_4 11 rfl rfl)
theorem dX2_table_107 : decode cX2_table 107 = .ok (.aload_n 0, 1) := dk_42 (dk_at dksX2_table_4 14 rfl rfl)
theorem dX2_table_108 : decode cX2_table 108 = .ok (.getfield 98, 3) := dk_180 0 98 (dk_at dksX2_table_4 15 rfl rfl)
theorem dX2_table_111 : decode cX2_table 111 = .ok (.aload_n 0, 1) := dk_42 (dk_at dksX2_table_4 18 rfl rfl)
theorem dX2_table_112 : decode cX2_table 112 = .ok (.ldc 147, 2) := dk_18 147 (dk_at dksX2_table_4 19 rfl rfl)
theorem dX2_table_114 : decode cX2_table 114 = .ok (.invokevirtual 149, 3) := dk_182 0 149 (dk_at dksX2_table_4 21 rfl rfl)
theorem dX2_table_117 : decode cX2_table 117 = .ok (.putfield 116, 3) := dk_181 0 116 (dk_at dksX2_table_5 0 rfl rfl)
theorem dX2_table_120 : decode cX2_table 120 = .ok (.goto 83, 3) := dk_167 0 83 (dk_at dksX2_table_5 3 rfl rfl)
theorem dX2_table_123 : decode cX2_table 123 = .ok (.iload_n 1, 1) := dk_27 (dk_at dksX2_table_5 6 rfl rfl)
theorem dX2_table_124 : decode cX2_table 124 = .ok (.iconst 1, 1) := dk_4 (dk_at dksX2_table_5 7 rfl rfl)
theorem dX2_table_125 : decode cX2_table 125 = .ok (.if_icmp .ne 19, 3) := dk_160 0 19 (dk_at dksX2_table_5 8 rfl rfl)
theorem dX2_table_128 : decode cX2_table 128 = .ok (.aload_n 0, 1) := dk_42 (dk_at dksX2_table_5 11 rfl rfl)
theorem dX2_table_129 : decode cX2_table 129 = .ok (.getfield 98, 3) := dk_180 0 98 (dk_at dksX2_table_5 12 rfl rfl)
theorem dX2_table_132 : decode cX2_table 132 = .ok (.aload_n 0, 1) := dk_42 (dk_at dksX2_table_5 15 rfl rfl)
theorem dX2_table_133 : decode cX2_table 133 = .ok (.ldc 152, 2) := dk_18 152 (dk_at dksX2_table_5 16 rfl rfl)
theorem dX2_table_135 : decode cX2_table 135 = .ok (.invokevirtual 149, 3) := dk_182 0 149 (dk_at dksX2_table_5 18 rfl rfl)
theorem dX2_table_138 : decode cX2_table 138 = .ok (.putfield 119, 3) := dk_181 0 119 (dk_at dksX2_table_5 21 rfl rfl)
theorem dX2_table_141 : decode cX2_table 141 = .ok (.goto 62, 3) := dk_167 0 62 (dk_at dksX2_table_6 0 rfl rfl)
theorem dX2_table_144 : decode cX2_table 144 = .ok (.iload_n 1, 1) := dk_27 (dk_at dksX2_table_6 3 rfl rfl)
theorem dX2_table_145 : decode cX2_table 145 = .ok (.iconst 2, 1) := dk_5 (dk_at dksX2_table_6 4 rfl rfl)
theorem dX2_table_146 : decode cX2_table 146 = .ok (.if_icmp .ne 17, 3) := dk_160 0 17 (dk_at dksX2_table_6 5 rfl rfl)
theorem dX2_table_149 : decode cX2_table 149 = .ok (.aload_n 0, 1) := dk_42 (dk_at dksX2_table_6 8 rfl rfl)
theorem dX2_table_150 : decode cX2_table 150 = .ok (.getfield 98, 3) := dk_180 0 98 (dk_at dksX2_table_6 9 rfl rfl)
theorem dX2_table_153 : decode cX2_table 153 = .ok (.aload_n 0, 1) := dk_42 (dk_at dksX2_table_6 12 rfl rfl)
theorem dX2_table_154 : decode cX2_table 154 = .ok (.invokevirtual 154, 3) := dk_182 0 154 (dk_at dksX2_table_6 13 rfl rfl)
theorem dX2_table_157 : decode cX2_table 157 = .ok (.putfield 122, 3) := dk_181 0 122 (dk_at dksX2_table_6 16 rfl rfl)
theorem dX2_table_160 : decode cX2_table 160 = .ok (.goto 43, 3) := dk_167 0 43 (dk_at dksX2_table_6 19 rfl rfl)
theorem dX2_table_163 : decode cX2_table 163 = .ok (.iload_n 1, 1) := dk_27 (dk_at dksX2_table_6 22 rfl rfl)
theorem dX2_table_164 : decode cX2_table 164 = .ok (.iconst 3, 1) := dk_6 (dk_at dksX2_table_6 23 rfl rfl)
theorem dX2_table_165 : decode cX2_table 165 = .ok (.if_icmp .ne 22, 3) := dk_160 0 22 (dk_at dksX2_table_7 0 rfl rfl)
theorem dX2_table_168 : decode cX2_table 168 = .ok (.aload_n 0, 1) := dk_42 (dk_at dksX2_table_7 3 rfl rfl)
theorem dX2_table_169 : decode cX2_table 169 = .ok (.getfield 98, 3) := dk_180 0 98 (dk_at dksX2_table_7 4 rfl rfl)
theorem dX2_table_172 : decode cX2_table 172 = .ok (.aload_n 0, 1) := dk_42 (dk_at dksX2_table_7 7 rfl rfl)
theorem dX2_table_173 : decode cX2_table 173 = .ok (.bipush 10, 2) := dk_16 10 (dk_at dksX2_table_7 8 rfl rfl)
theorem dX2_table_175 : decode cX2_table 175 = .ok (.sipush 3000, 3) := dk_17 11 184 (dk_at dksX2_table_7 10 rfl rfl)
theorem dX2_table_178 : decode cX2_table 178 = .ok (.invokevirtual 113, 3) := dk_182 0 113 (dk_at dksX2_table_7 13 rfl rfl)
theorem dX2_table_181 : decode cX2_table 181 = .ok (.putfield 126, 3) := dk_181 0 126 (dk_at dksX2_table_7 16 rfl rfl)
theorem dX2_table_184 : decode cX2_table 184 = .ok (.goto 19, 3) := dk_167 0 19 (dk_at dksX2_table_7 19 rfl rfl)
theorem dX2_table_187 : decode cX2_table 187 = .ok (.iload_n 1, 1) := dk_27 (dk_at dksX2_table_7 22 rfl rfl)
theorem dX2_table_188 : decode cX2_table 188 = .ok (.iconst 4, 1) := dk_7 (dk_at dksX2_table_7 23 rfl rfl)
theorem dX2_table_189 : decode cX2_table 189 = .ok (.if_icmp .ne 10, 3) := dk_160 0 10 (dk_at dksX2_table_8 0 rfl rfl)
theorem dX2_table_192 : decode cX2_table 192 = .ok (.aload_n 0, 1) := dk_42 (dk_at dksX2_table_8 3 rfl rfl)
theorem dX2_table_193 : decode cX2_table 193 = .ok (.invokevirtual 158, 3) := dk_182 0 158 (dk_at dksX2_table_8 4 rfl rfl)
theorem dX2_table_196 : decode cX2_table 196 = .ok (.goto 7, 3) := dk_167 0 7 (dk_at dksX2_table_8 7 rfl rfl)
theorem dX2_table_199 : decode cX2_table 199 = .ok (.aload_n 0, 1) := dk_42 (dk_at dksX2_table_8 10 rfl rfl)
theorem dX2_table_200 : decode cX2_table 200 = .ok (.invokevirtual 160, 3) := dk_182 0 160 (dk_at dksX2_table_8 11 rfl rfl)
theorem dX2_table_203 : decode cX2_table 203 = .ok (.aload_n 0, 1) := dk_42 (dk_at dksX2_table_8 14 rfl rfl)
theorem dX2_table_204 : decode cX2_table 204 = .ok (.bipush 59, 2) := dk_16 59 (dk_at dksX2_table_8 15 rfl rfl)
theorem dX2_table_206 : decode cX2_table 206 = .ok (.invokevirtual 162, 3) := dk_182 0 162 (dk_at dksX2_table_8 17 rfl rfl)
theorem dX2_table_209 : decode cX2_table 209 = .ok (.goto (-174), 3) := dk_167 255 82 (dk_at dksX2_table_8 20 rfl rfl)
theorem dX2_table_212 : decode cX2_table 212 = .ok (.aload_n 0, 1) := dk_42 (dk_at dksX2_table_8 23 rfl rfl)
theorem dX2_table_213 : decode cX2_table 213 = .ok (.getfield 98, 3) := dk_180 0 98 (dk_at dksX2_table_9 0 rfl rfl)
theorem dX2_table_216 : decode cX2_table 216 = .ok (.invokevirtual 165, 3) := dk_182 0 165 (dk_at dksX2_table_9 3 rfl rfl)
theorem dX2_table_219 : decode cX2_table 219 = .ok (.aload_n 0, 1) := dk_42 (dk_at dksX2_table_9 6 rfl rfl)
theorem dX2_table_220 : decode cX2_table 220 = .ok (.getfield 98, 3) := dk_180 0 98 (dk_at dksX2_table_9 7 rfl rfl)
theorem dX2_table_223 : decode cX2_table 223 = .ok (.areturn, 1) := dk_176 (dk_at dksX2_table_9 10 rfl rfl)
abbrev cX2_which : ByteArray := prog_16_method_8_code
def yX2_which : MethodName := ⟨RX2, "which", "(Ljava/lang/String;)I"⟩
def dkwX2_which_5 : List UInt8 := [96, 62, 132, 2, 1, 167, 255, 140, 2, 172]
abbrev dktX2_which_5 : List UInt8 := dkwX2_which_5 ++ []
def dkwX2_which_4 : List UInt8 := [167, 0, 4, 3, 54, 5, 132, 6, 1, 167, 255, 211, 21, 5, 153, 0, 5, 28, 172, 29, 21, 4, 4, 96]
abbrev dktX2_which_4 : List UInt8 := dkwX2_which_4 ++ dktX2_which_5
def dkwX2_which_3 : List UInt8 := [180, 0, 9, 42, 180, 0, 28, 21, 6, 96, 51, 43, 29, 21, 6, 96, 182, 0, 67, 160, 0, 7, 4]
abbrev dktX2_which_3 : List UInt8 := dkwX2_which_3 ++ dktX2_which_4
def dkwX2_which_2 : List UInt8 := [167, 0, 4, 3, 54, 5, 3, 54, 6, 21, 5, 153, 0, 46, 21, 6, 21, 4, 162, 0, 39, 42]
abbrev dktX2_which_2 : List UInt8 := dkwX2_which_2 ++ dktX2_which_3
def dkwX2_which_1 : List UInt8 := [182, 0, 64, 29, 100, 54, 4, 42, 180, 0, 19, 42, 180, 0, 28, 100, 21, 4, 160, 0, 7, 4]
abbrev dktX2_which_1 : List UInt8 := dkwX2_which_1 ++ dktX2_which_2
def dkwX2_which_0 : List UInt8 := [3, 61, 3, 62, 29, 43, 182, 0, 60, 162, 0, 114, 42, 180, 0, 31, 4, 160, 0, 106, 43, 16, 32, 29]
abbrev dktX2_which_0 : List UInt8 := dkwX2_which_0 ++ dktX2_which_1
theorem dksX2_which_0 : cX2_which.data.toList.drop 0 = dktX2_which_0 := by decide +kernel
theorem dksX2_which_1 : cX2_which.data.toList.drop 24 = dktX2_which_1 := dk_seg dksX2_which_0 24 rfl rfl
theorem dksX2_which_2 : cX2_which.data.toList.drop 46 = dktX2_which_2 := dk_seg dksX2_which_1 22 rfl rfl
theorem dksX2_which_3 : cX2_which.data.toList.drop 68 = dktX2_which_3 := dk_seg dksX2_which_2 22 rfl rfl
theorem dksX2_which_4 : cX2_which.data.toList.drop 91 = dktX2_which_4 := dk_seg dksX2_which_3 23 rfl rfl
theorem dksX2_which_5 : cX2_which.data.toList.drop 115 = dktX2_which_5 := dk_seg dksX2_which_4 24 rfl rfl
theorem dX2_which_0 : decode cX2_which 0 = .ok (.iconst 0, 1) := dk_3 (dk_at dksX2_which_0 0 rfl rfl)
theorem dX2_which_1 : decode cX2_which 1 = .ok (.istore_n 2, 1) := dk_61 (dk_at dksX2_which_0 1 rfl rfl)
theorem dX2_which_2 : decode cX2_which 2 = .ok (.iconst 0, 1) := dk_3 (dk_at dksX2_which_0 2 rfl rfl)
theorem dX2_which_3 : decode cX2_which 3 = .ok (.istore_n 3, 1) := dk_62 (dk_at dksX2_which_0 3 rfl rfl)
theorem dX2_which_4 : decode cX2_which 4 = .ok (.iload_n 3, 1) := dk_29 (dk_at dksX2_which_0 4 rfl rfl)
theorem dX2_which_5 : decode cX2_which 5 = .ok (.aload_n 1, 1) := dk_43 (dk_at dksX2_which_0 5 rfl rfl)
theorem dX2_which_6 : decode cX2_which 6 = .ok (.invokevirtual 60, 3) := dk_182 0 60 (dk_at dksX2_which_0 6 rfl rfl)
theorem dX2_which_9 : decode cX2_which 9 = .ok (.if_icmp .ge 114, 3) := dk_162 0 114 (dk_at dksX2_which_0 9 rfl rfl)
theorem dX2_which_12 : decode cX2_which 12 = .ok (.aload_n 0, 1) := dk_42 (dk_at dksX2_which_0 12 rfl rfl)
theorem dX2_which_13 : decode cX2_which 13 = .ok (.getfield 31, 3) := dk_180 0 31 (dk_at dksX2_which_0 13 rfl rfl)
theorem dX2_which_16 : decode cX2_which 16 = .ok (.iconst 1, 1) := dk_4 (dk_at dksX2_which_0 16 rfl rfl)
theorem dX2_which_17 : decode cX2_which 17 = .ok (.if_icmp .ne 106, 3) := dk_160 0 106 (dk_at dksX2_which_0 17 rfl rfl)
theorem dX2_which_20 : decode cX2_which 20 = .ok (.aload_n 1, 1) := dk_43 (dk_at dksX2_which_0 20 rfl rfl)
theorem dX2_which_21 : decode cX2_which 21 = .ok (.bipush 32, 2) := dk_16 32 (dk_at dksX2_which_0 21 rfl rfl)
theorem dX2_which_23 : decode cX2_which 23 = .ok (.iload_n 3, 1) := dk_29 (dk_at dksX2_which_0 23 rfl rfl)
theorem dX2_which_24 : decode cX2_which 24 = .ok (.invokevirtual 64, 3) := dk_182 0 64 (dk_at dksX2_which_1 0 rfl rfl)
theorem dX2_which_27 : decode cX2_which 27 = .ok (.iload_n 3, 1) := dk_29 (dk_at dksX2_which_1 3 rfl rfl)
theorem dX2_which_28 : decode cX2_which 28 = .ok (.isub, 1) := dk_100 (dk_at dksX2_which_1 4 rfl rfl)
theorem dX2_which_29 : decode cX2_which 29 = .ok (.istore 4, 2) := dk_54 4 (dk_at dksX2_which_1 5 rfl rfl)
theorem dX2_which_31 : decode cX2_which 31 = .ok (.aload_n 0, 1) := dk_42 (dk_at dksX2_which_1 7 rfl rfl)
theorem dX2_which_32 : decode cX2_which 32 = .ok (.getfield 19, 3) := dk_180 0 19 (dk_at dksX2_which_1 8 rfl rfl)
theorem dX2_which_35 : decode cX2_which 35 = .ok (.aload_n 0, 1) := dk_42 (dk_at dksX2_which_1 11 rfl rfl)
theorem dX2_which_36 : decode cX2_which 36 = .ok (.getfield 28, 3) := dk_180 0 28 (dk_at dksX2_which_1 12 rfl rfl)
theorem dX2_which_39 : decode cX2_which 39 = .ok (.isub, 1) := dk_100 (dk_at dksX2_which_1 15 rfl rfl)
theorem dX2_which_40 : decode cX2_which 40 = .ok (.iload 4, 2) := dk_21 4 (dk_at dksX2_which_1 16 rfl rfl)
theorem dX2_which_42 : decode cX2_which 42 = .ok (.if_icmp .ne 7, 3) := dk_160 0 7 (dk_at dksX2_which_1 18 rfl rfl)
theorem dX2_which_45 : decode cX2_which 45 = .ok (.iconst 1, 1) := dk_4 (dk_at dksX2_which_1 21 rfl rfl)
theorem dX2_which_46 : decode cX2_which 46 = .ok (.goto 4, 3) := dk_167 0 4 (dk_at dksX2_which_2 0 rfl rfl)
theorem dX2_which_49 : decode cX2_which 49 = .ok (.iconst 0, 1) := dk_3 (dk_at dksX2_which_2 3 rfl rfl)
theorem dX2_which_50 : decode cX2_which 50 = .ok (.istore 5, 2) := dk_54 5 (dk_at dksX2_which_2 4 rfl rfl)
theorem dX2_which_52 : decode cX2_which 52 = .ok (.iconst 0, 1) := dk_3 (dk_at dksX2_which_2 6 rfl rfl)
theorem dX2_which_53 : decode cX2_which 53 = .ok (.istore 6, 2) := dk_54 6 (dk_at dksX2_which_2 7 rfl rfl)
theorem dX2_which_55 : decode cX2_which 55 = .ok (.iload 5, 2) := dk_21 5 (dk_at dksX2_which_2 9 rfl rfl)
theorem dX2_which_57 : decode cX2_which 57 = .ok (.ifCond .eq 46, 3) := dk_153 0 46 (dk_at dksX2_which_2 11 rfl rfl)
theorem dX2_which_60 : decode cX2_which 60 = .ok (.iload 6, 2) := dk_21 6 (dk_at dksX2_which_2 14 rfl rfl)
theorem dX2_which_62 : decode cX2_which 62 = .ok (.iload 4, 2) := dk_21 4 (dk_at dksX2_which_2 16 rfl rfl)
theorem dX2_which_64 : decode cX2_which 64 = .ok (.if_icmp .ge 39, 3) := dk_162 0 39 (dk_at dksX2_which_2 18 rfl rfl)
theorem dX2_which_67 : decode cX2_which 67 = .ok (.aload_n 0, 1) := dk_42 (dk_at dksX2_which_2 21 rfl rfl)
theorem dX2_which_68 : decode cX2_which 68 = .ok (.getfield 9, 3) := dk_180 0 9 (dk_at dksX2_which_3 0 rfl rfl)
theorem dX2_which_71 : decode cX2_which 71 = .ok (.aload_n 0, 1) := dk_42 (dk_at dksX2_which_3 3 rfl rfl)
theorem dX2_which_72 : decode cX2_which 72 = .ok (.getfield 28, 3) := dk_180 0 28 (dk_at dksX2_which_3 4 rfl rfl)
theorem dX2_which_75 : decode cX2_which 75 = .ok (.iload 6, 2) := dk_21 6 (dk_at dksX2_which_3 7 rfl rfl)
theorem dX2_which_77 : decode cX2_which 77 = .ok (.iadd, 1) := dk_96 (dk_at dksX2_which_3 9 rfl rfl)
theorem dX2_which_78 : decode cX2_which 78 = .ok (.baload, 1) := dk_51 (dk_at dksX2_which_3 10 rfl rfl)
theorem dX2_which_79 : decode cX2_which 79 = .ok (.aload_n 1, 1) := dk_43 (dk_at dksX2_which_3 11 rfl rfl)
theorem dX2_which_80 : decode cX2_which 80 = .ok (.iload_n 3, 1) := dk_29 (dk_at dksX2_which_3 12 rfl rfl)
theorem dX2_which_81 : decode cX2_which 81 = .ok (.iload 6, 2) := dk_21 6 (dk_at dksX2_which_3 13 rfl rfl)
theorem dX2_which_83 : decode cX2_which 83 = .ok (.iadd, 1) := dk_96 (dk_at dksX2_which_3 15 rfl rfl)
theorem dX2_which_84 : decode cX2_which 84 = .ok (.invokevirtual 67, 3) := dk_182 0 67 (dk_at dksX2_which_3 16 rfl rfl)
theorem dX2_which_87 : decode cX2_which 87 = .ok (.if_icmp .ne 7, 3) := dk_160 0 7 (dk_at dksX2_which_3 19 rfl rfl)
theorem dX2_which_90 : decode cX2_which 90 = .ok (.iconst 1, 1) := dk_4 (dk_at dksX2_which_3 22 rfl rfl)
theorem dX2_which_91 : decode cX2_which 91 = .ok (.goto 4, 3) := dk_167 0 4 (dk_at dksX2_which_4 0 rfl rfl)
theorem dX2_which_94 : decode cX2_which 94 = .ok (.iconst 0, 1) := dk_3 (dk_at dksX2_which_4 3 rfl rfl)
theorem dX2_which_95 : decode cX2_which 95 = .ok (.istore 5, 2) := dk_54 5 (dk_at dksX2_which_4 4 rfl rfl)
theorem dX2_which_97 : decode cX2_which 97 = .ok (.iinc 6 1, 3) := dk_132 6 1 (dk_at dksX2_which_4 6 rfl rfl)
theorem dX2_which_100 : decode cX2_which 100 = .ok (.goto (-45), 3) := dk_167 255 211 (dk_at dksX2_which_4 9 rfl rfl)
theorem dX2_which_103 : decode cX2_which 103 = .ok (.iload 5, 2) := dk_21 5 (dk_at dksX2_which_4 12 rfl rfl)
theorem dX2_which_105 : decode cX2_which 105 = .ok (.ifCond .eq 5, 3) := dk_153 0 5 (dk_at dksX2_which_4 14 rfl rfl)
theorem dX2_which_108 : decode cX2_which 108 = .ok (.iload_n 2, 1) := dk_28 (dk_at dksX2_which_4 17 rfl rfl)
theorem dX2_which_109 : decode cX2_which 109 = .ok (.ireturn, 1) := dk_172 (dk_at dksX2_which_4 18 rfl rfl)
theorem dX2_which_110 : decode cX2_which 110 = .ok (.iload_n 3, 1) := dk_29 (dk_at dksX2_which_4 19 rfl rfl)
theorem dX2_which_111 : decode cX2_which 111 = .ok (.iload 4, 2) := dk_21 4 (dk_at dksX2_which_4 20 rfl rfl)
theorem dX2_which_113 : decode cX2_which 113 = .ok (.iconst 1, 1) := dk_4 (dk_at dksX2_which_4 22 rfl rfl)
theorem dX2_which_114 : decode cX2_which 114 = .ok (.iadd, 1) := dk_96 (dk_at dksX2_which_4 23 rfl rfl)
theorem dX2_which_115 : decode cX2_which 115 = .ok (.iadd, 1) := dk_96 (dk_at dksX2_which_5 0 rfl rfl)
theorem dX2_which_116 : decode cX2_which 116 = .ok (.istore_n 3, 1) := dk_62 (dk_at dksX2_which_5 1 rfl rfl)
theorem dX2_which_117 : decode cX2_which 117 = .ok (.iinc 2 1, 3) := dk_132 2 1 (dk_at dksX2_which_5 2 rfl rfl)
theorem dX2_which_120 : decode cX2_which 120 = .ok (.goto (-116), 3) := dk_167 255 140 (dk_at dksX2_which_5 5 rfl rfl)
theorem dX2_which_123 : decode cX2_which 123 = .ok (.iconst (-1), 1) := dk_2 (dk_at dksX2_which_5 8 rfl rfl)
theorem dX2_which_124 : decode cX2_which 124 = .ok (.ireturn, 1) := dk_172 (dk_at dksX2_which_5 9 rfl rfl)
abbrev cX2_wrong : ByteArray := prog_16_method_7_code
def yX2_wrong : MethodName := ⟨RX2, "wrong", "(I)LBeggarHeaps$Wrong;"⟩
def dkwX2_wrong_0 : List UInt8 := [187, 0, 55, 89, 27, 42, 180, 0, 28, 183, 0, 57, 176]
abbrev dktX2_wrong_0 : List UInt8 := dkwX2_wrong_0 ++ []
theorem dksX2_wrong_0 : cX2_wrong.data.toList.drop 0 = dktX2_wrong_0 := by decide +kernel
theorem dX2_wrong_0 : decode cX2_wrong 0 = .ok (.new 55, 3) := dk_187 0 55 (dk_at dksX2_wrong_0 0 rfl rfl)
theorem dX2_wrong_3 : decode cX2_wrong 3 = .ok (.dup, 1) := dk_89 (dk_at dksX2_wrong_0 3 rfl rfl)
theorem dX2_wrong_4 : decode cX2_wrong 4 = .ok (.iload_n 1, 1) := dk_27 (dk_at dksX2_wrong_0 4 rfl rfl)
theorem dX2_wrong_5 : decode cX2_wrong 5 = .ok (.aload_n 0, 1) := dk_42 (dk_at dksX2_wrong_0 5 rfl rfl)
theorem dX2_wrong_6 : decode cX2_wrong 6 = .ok (.getfield 28, 3) := dk_180 0 28 (dk_at dksX2_wrong_0 6 rfl rfl)
theorem dX2_wrong_9 : decode cX2_wrong 9 = .ok (.invokespecial 57, 3) := dk_183 0 57 (dk_at dksX2_wrong_0 9 rfl rfl)
theorem dX2_wrong_12 : decode cX2_wrong 12 = .ok (.areturn, 1) := dk_176 (dk_at dksX2_wrong_0 12 rfl rfl)
abbrev cX2_isTold : ByteArray := prog_16_method_17_code
def yX2_isTold : MethodName := ⟨RX2, "isTold", "(I)Z"⟩
def dkwX2_isTold_3 : List UInt8 := [160, 0, 17, 42, 180, 0, 98, 180, 0, 126, 155, 0, 7, 4, 167, 0, 4, 3, 172]
abbrev dktX2_isTold_3 : List UInt8 := dkwX2_isTold_3 ++ []
def dkwX2_isTold_2 : List UInt8 := [160, 0, 21, 42, 180, 0, 98, 180, 0, 122, 198, 0, 7, 4, 167, 0, 27, 3, 167, 0, 23, 27, 6]
abbrev dktX2_isTold_2 : List UInt8 := dkwX2_isTold_2 ++ dktX2_isTold_3
def dkwX2_isTold_1 : List UInt8 := [160, 0, 21, 42, 180, 0, 98, 180, 0, 119, 155, 0, 7, 4, 167, 0, 50, 3, 167, 0, 46, 27, 5]
abbrev dktX2_isTold_1 : List UInt8 := dkwX2_isTold_1 ++ dktX2_isTold_2
def dkwX2_isTold_0 : List UInt8 := [27, 154, 0, 21, 42, 180, 0, 98, 180, 0, 116, 155, 0, 7, 4, 167, 0, 73, 3, 167, 0, 69, 27, 4]
abbrev dktX2_isTold_0 : List UInt8 := dkwX2_isTold_0 ++ dktX2_isTold_1
theorem dksX2_isTold_0 : cX2_isTold.data.toList.drop 0 = dktX2_isTold_0 := by decide +kernel
theorem dksX2_isTold_1 : cX2_isTold.data.toList.drop 24 = dktX2_isTold_1 := dk_seg dksX2_isTold_0 24 rfl rfl
theorem dksX2_isTold_2 : cX2_isTold.data.toList.drop 47 = dktX2_isTold_2 := dk_seg dksX2_isTold_1 23 rfl rfl
theorem dksX2_isTold_3 : cX2_isTold.data.toList.drop 70 = dktX2_isTold_3 := dk_seg dksX2_isTold_2 23 rfl rfl
theorem dX2_isTold_0 : decode cX2_isTold 0 = .ok (.iload_n 1, 1) := dk_27 (dk_at dksX2_isTold_0 0 rfl rfl)
theorem dX2_isTold_1 : decode cX2_isTold 1 = .ok (.ifCond .ne 21, 3) := dk_154 0 21 (dk_at dksX2_isTold_0 1 rfl rfl)
theorem dX2_isTold_4 : decode cX2_isTold 4 = .ok (.aload_n 0, 1) := dk_42 (dk_at dksX2_isTold_0 4 rfl rfl)
theorem dX2_isTold_5 : decode cX2_isTold 5 = .ok (.getfield 98, 3) := dk_180 0 98 (dk_at dksX2_isTold_0 5 rfl rfl)
theorem dX2_isTold_8 : decode cX2_isTold 8 = .ok (.getfield 116, 3) := dk_180 0 116 (dk_at dksX2_isTold_0 8 rfl rfl)
theorem dX2_isTold_11 : decode cX2_isTold 11 = .ok (.ifCond .lt 7, 3) := dk_155 0 7 (dk_at dksX2_isTold_0 11 rfl rfl)
theorem dX2_isTold_14 : decode cX2_isTold 14 = .ok (.iconst 1, 1) := dk_4 (dk_at dksX2_isTold_0 14 rfl rfl)
theorem dX2_isTold_15 : decode cX2_isTold 15 = .ok (.goto 73, 3) := dk_167 0 73 (dk_at dksX2_isTold_0 15 rfl rfl)
theorem dX2_isTold_18 : decode cX2_isTold 18 = .ok (.iconst 0, 1) := dk_3 (dk_at dksX2_isTold_0 18 rfl rfl)
theorem dX2_isTold_19 : decode cX2_isTold 19 = .ok (.goto 69, 3) := dk_167 0 69 (dk_at dksX2_isTold_0 19 rfl rfl)
theorem dX2_isTold_22 : decode cX2_isTold 22 = .ok (.iload_n 1, 1) := dk_27 (dk_at dksX2_isTold_0 22 rfl rfl)
theorem dX2_isTold_23 : decode cX2_isTold 23 = .ok (.iconst 1, 1) := dk_4 (dk_at dksX2_isTold_0 23 rfl rfl)
theorem dX2_isTold_24 : decode cX2_isTold 24 = .ok (.if_icmp .ne 21, 3) := dk_160 0 21 (dk_at dksX2_isTold_1 0 rfl rfl)
theorem dX2_isTold_27 : decode cX2_isTold 27 = .ok (.aload_n 0, 1) := dk_42 (dk_at dksX2_isTold_1 3 rfl rfl)
theorem dX2_isTold_28 : decode cX2_isTold 28 = .ok (.getfield 98, 3) := dk_180 0 98 (dk_at dksX2_isTold_1 4 rfl rfl)
theorem dX2_isTold_31 : decode cX2_isTold 31 = .ok (.getfield 119, 3) := dk_180 0 119 (dk_at dksX2_isTold_1 7 rfl rfl)
theorem dX2_isTold_34 : decode cX2_isTold 34 = .ok (.ifCond .lt 7, 3) := dk_155 0 7 (dk_at dksX2_isTold_1 10 rfl rfl)
theorem dX2_isTold_37 : decode cX2_isTold 37 = .ok (.iconst 1, 1) := dk_4 (dk_at dksX2_isTold_1 13 rfl rfl)
theorem dX2_isTold_38 : decode cX2_isTold 38 = .ok (.goto 50, 3) := dk_167 0 50 (dk_at dksX2_isTold_1 14 rfl rfl)
theorem dX2_isTold_41 : decode cX2_isTold 41 = .ok (.iconst 0, 1) := dk_3 (dk_at dksX2_isTold_1 17 rfl rfl)
theorem dX2_isTold_42 : decode cX2_isTold 42 = .ok (.goto 46, 3) := dk_167 0 46 (dk_at dksX2_isTold_1 18 rfl rfl)
theorem dX2_isTold_45 : decode cX2_isTold 45 = .ok (.iload_n 1, 1) := dk_27 (dk_at dksX2_isTold_1 21 rfl rfl)
theorem dX2_isTold_46 : decode cX2_isTold 46 = .ok (.iconst 2, 1) := dk_5 (dk_at dksX2_isTold_1 22 rfl rfl)
theorem dX2_isTold_47 : decode cX2_isTold 47 = .ok (.if_icmp .ne 21, 3) := dk_160 0 21 (dk_at dksX2_isTold_2 0 rfl rfl)
theorem dX2_isTold_50 : decode cX2_isTold 50 = .ok (.aload_n 0, 1) := dk_42 (dk_at dksX2_isTold_2 3 rfl rfl)
theorem dX2_isTold_51 : decode cX2_isTold 51 = .ok (.getfield 98, 3) := dk_180 0 98 (dk_at dksX2_isTold_2 4 rfl rfl)
theorem dX2_isTold_54 : decode cX2_isTold 54 = .ok (.getfield 122, 3) := dk_180 0 122 (dk_at dksX2_isTold_2 7 rfl rfl)
theorem dX2_isTold_57 : decode cX2_isTold 57 = .ok (.ifnull 7, 3) := dk_198 0 7 (dk_at dksX2_isTold_2 10 rfl rfl)
theorem dX2_isTold_60 : decode cX2_isTold 60 = .ok (.iconst 1, 1) := dk_4 (dk_at dksX2_isTold_2 13 rfl rfl)
theorem dX2_isTold_61 : decode cX2_isTold 61 = .ok (.goto 27, 3) := dk_167 0 27 (dk_at dksX2_isTold_2 14 rfl rfl)
theorem dX2_isTold_64 : decode cX2_isTold 64 = .ok (.iconst 0, 1) := dk_3 (dk_at dksX2_isTold_2 17 rfl rfl)
theorem dX2_isTold_65 : decode cX2_isTold 65 = .ok (.goto 23, 3) := dk_167 0 23 (dk_at dksX2_isTold_2 18 rfl rfl)
theorem dX2_isTold_68 : decode cX2_isTold 68 = .ok (.iload_n 1, 1) := dk_27 (dk_at dksX2_isTold_2 21 rfl rfl)
theorem dX2_isTold_69 : decode cX2_isTold 69 = .ok (.iconst 3, 1) := dk_6 (dk_at dksX2_isTold_2 22 rfl rfl)
theorem dX2_isTold_70 : decode cX2_isTold 70 = .ok (.if_icmp .ne 17, 3) := dk_160 0 17 (dk_at dksX2_isTold_3 0 rfl rfl)
theorem dX2_isTold_73 : decode cX2_isTold 73 = .ok (.aload_n 0, 1) := dk_42 (dk_at dksX2_isTold_3 3 rfl rfl)
theorem dX2_isTold_74 : decode cX2_isTold 74 = .ok (.getfield 98, 3) := dk_180 0 98 (dk_at dksX2_isTold_3 4 rfl rfl)
theorem dX2_isTold_77 : decode cX2_isTold 77 = .ok (.getfield 126, 3) := dk_180 0 126 (dk_at dksX2_isTold_3 7 rfl rfl)
theorem dX2_isTold_80 : decode cX2_isTold 80 = .ok (.ifCond .lt 7, 3) := dk_155 0 7 (dk_at dksX2_isTold_3 10 rfl rfl)
theorem dX2_isTold_83 : decode cX2_isTold 83 = .ok (.iconst 1, 1) := dk_4 (dk_at dksX2_isTold_3 13 rfl rfl)
theorem dX2_isTold_84 : decode cX2_isTold 84 = .ok (.goto 4, 3) := dk_167 0 4 (dk_at dksX2_isTold_3 14 rfl rfl)
theorem dX2_isTold_87 : decode cX2_isTold 87 = .ok (.iconst 0, 1) := dk_3 (dk_at dksX2_isTold_3 17 rfl rfl)
theorem dX2_isTold_88 : decode cX2_isTold 88 = .ok (.ireturn, 1) := dk_172 (dk_at dksX2_isTold_3 18 rfl rfl)
abbrev cX2_one : ByteArray := prog_16_method_16_code
def yX2_one : MethodName := ⟨RX2, "one", "(Ljava/lang/String;)I"⟩
def dkwX2_one_0 : List UInt8 := [42, 43, 182, 0, 71, 61, 28, 156, 0, 9, 42, 4, 182, 0, 75, 191, 42, 182, 0, 25, 28, 172]
abbrev dktX2_one_0 : List UInt8 := dkwX2_one_0 ++ []
theorem dksX2_one_0 : cX2_one.data.toList.drop 0 = dktX2_one_0 := by decide +kernel
theorem dX2_one_0 : decode cX2_one 0 = .ok (.aload_n 0, 1) := dk_42 (dk_at dksX2_one_0 0 rfl rfl)
theorem dX2_one_1 : decode cX2_one 1 = .ok (.aload_n 1, 1) := dk_43 (dk_at dksX2_one_0 1 rfl rfl)
theorem dX2_one_2 : decode cX2_one 2 = .ok (.invokevirtual 71, 3) := dk_182 0 71 (dk_at dksX2_one_0 2 rfl rfl)
theorem dX2_one_5 : decode cX2_one 5 = .ok (.istore_n 2, 1) := dk_61 (dk_at dksX2_one_0 5 rfl rfl)
theorem dX2_one_6 : decode cX2_one 6 = .ok (.iload_n 2, 1) := dk_28 (dk_at dksX2_one_0 6 rfl rfl)
theorem dX2_one_7 : decode cX2_one 7 = .ok (.ifCond .ge 9, 3) := dk_156 0 9 (dk_at dksX2_one_0 7 rfl rfl)
theorem dX2_one_10 : decode cX2_one 10 = .ok (.aload_n 0, 1) := dk_42 (dk_at dksX2_one_0 10 rfl rfl)
theorem dX2_one_11 : decode cX2_one 11 = .ok (.iconst 1, 1) := dk_4 (dk_at dksX2_one_0 11 rfl rfl)
theorem dX2_one_12 : decode cX2_one 12 = .ok (.invokevirtual 75, 3) := dk_182 0 75 (dk_at dksX2_one_0 12 rfl rfl)
theorem dX2_one_15 : decode cX2_one 15 = .ok (.athrow, 1) := dk_191 (dk_at dksX2_one_0 15 rfl rfl)
theorem dX2_one_16 : decode cX2_one 16 = .ok (.aload_n 0, 1) := dk_42 (dk_at dksX2_one_0 16 rfl rfl)
theorem dX2_one_17 : decode cX2_one 17 = .ok (.invokevirtual 25, 3) := dk_182 0 25 (dk_at dksX2_one_0 17 rfl rfl)
theorem dX2_one_20 : decode cX2_one 20 = .ok (.iload_n 2, 1) := dk_28 (dk_at dksX2_one_0 20 rfl rfl)
theorem dX2_one_21 : decode cX2_one 21 = .ok (.ireturn, 1) := dk_172 (dk_at dksX2_one_0 21 rfl rfl)
abbrev cX2_expression : ByteArray := prog_16_method_24_code
def yX2_expression : MethodName := ⟨RX2, "expression", "()LBeggarHeaps$Expression;"⟩
def dkwX2_expression_2 : List UInt8 := [167, 255, 215]
abbrev dktX2_expression_2 : List UInt8 := dkwX2_expression_2 ++ []
def dkwX2_expression_1 : List UInt8 := [187, 0, 229, 89, 28, 154, 0, 8, 16, 38, 167, 0, 5, 16, 124, 43, 42, 182, 0, 224, 183, 0, 231, 76]
abbrev dktX2_expression_1 : List UInt8 := dkwX2_expression_1 ++ dktX2_expression_2
def dkwX2_expression_0 : List UInt8 := [42, 182, 0, 224, 76, 42, 18, 227, 182, 0, 71, 61, 28, 156, 0, 5, 43, 176, 42, 182, 0, 25]
abbrev dktX2_expression_0 : List UInt8 := dkwX2_expression_0 ++ dktX2_expression_1
theorem dksX2_expression_0 : cX2_expression.data.toList.drop 0 = dktX2_expression_0 := by decide +kernel
theorem dksX2_expression_1 : cX2_expression.data.toList.drop 22 = dktX2_expression_1 := dk_seg dksX2_expression_0 22 rfl rfl
theorem dksX2_expression_2 : cX2_expression.data.toList.drop 46 = dktX2_expression_2 := dk_seg dksX2_expression_1 24 rfl rfl
theorem dX2_expression_0 : decode cX2_expression 0 = .ok (.aload_n 0, 1) := dk_42 (dk_at dksX2_expression_0 0 rfl rfl)
theorem dX2_expression_1 : decode cX2_expression 1 = .ok (.invokevirtual 224, 3) := dk_182 0 224 (dk_at dksX2_expression_0 1 rfl rfl)
theorem dX2_expression_4 : decode cX2_expression 4 = .ok (.astore_n 1, 1) := dk_76 (dk_at dksX2_expression_0 4 rfl rfl)
theorem dX2_expression_5 : decode cX2_expression 5 = .ok (.aload_n 0, 1) := dk_42 (dk_at dksX2_expression_0 5 rfl rfl)
theorem dX2_expression_6 : decode cX2_expression 6 = .ok (.ldc 227, 2) := dk_18 227 (dk_at dksX2_expression_0 6 rfl rfl)
theorem dX2_expression_8 : decode cX2_expression 8 = .ok (.invokevirtual 71, 3) := dk_182 0 71 (dk_at dksX2_expression_0 8 rfl rfl)
theorem dX2_expression_11 : decode cX2_expression 11 = .ok (.istore_n 2, 1) := dk_61 (dk_at dksX2_expression_0 11 rfl rfl)
theorem dX2_expression_12 : decode cX2_expression 12 = .ok (.iload_n 2, 1) := dk_28 (dk_at dksX2_expression_0 12 rfl rfl)
theorem dX2_expression_13 : decode cX2_expression 13 = .ok (.ifCond .ge 5, 3) := dk_156 0 5 (dk_at dksX2_expression_0 13 rfl rfl)
theorem dX2_expression_16 : decode cX2_expression 16 = .ok (.aload_n 1, 1) := dk_43 (dk_at dksX2_expression_0 16 rfl rfl)
theorem dX2_expression_17 : decode cX2_expression 17 = .ok (.areturn, 1) := dk_176 (dk_at dksX2_expression_0 17 rfl rfl)
theorem dX2_expression_18 : decode cX2_expression 18 = .ok (.aload_n 0, 1) := dk_42 (dk_at dksX2_expression_0 18 rfl rfl)
theorem dX2_expression_19 : decode cX2_expression 19 = .ok (.invokevirtual 25, 3) := dk_182 0 25 (dk_at dksX2_expression_0 19 rfl rfl)
theorem dX2_expression_22 : decode cX2_expression 22 = .ok (.new 229, 3) := dk_187 0 229 (dk_at dksX2_expression_1 0 rfl rfl)
theorem dX2_expression_25 : decode cX2_expression 25 = .ok (.dup, 1) := dk_89 (dk_at dksX2_expression_1 3 rfl rfl)
theorem dX2_expression_26 : decode cX2_expression 26 = .ok (.iload_n 2, 1) := dk_28 (dk_at dksX2_expression_1 4 rfl rfl)
theorem dX2_expression_27 : decode cX2_expression 27 = .ok (.ifCond .ne 8, 3) := dk_154 0 8 (dk_at dksX2_expression_1 5 rfl rfl)
theorem dX2_expression_30 : decode cX2_expression 30 = .ok (.bipush 38, 2) := dk_16 38 (dk_at dksX2_expression_1 8 rfl rfl)
theorem dX2_expression_32 : decode cX2_expression 32 = .ok (.goto 5, 3) := dk_167 0 5 (dk_at dksX2_expression_1 10 rfl rfl)
theorem dX2_expression_35 : decode cX2_expression 35 = .ok (.bipush 124, 2) := dk_16 124 (dk_at dksX2_expression_1 13 rfl rfl)
theorem dX2_expression_37 : decode cX2_expression 37 = .ok (.aload_n 1, 1) := dk_43 (dk_at dksX2_expression_1 15 rfl rfl)
theorem dX2_expression_38 : decode cX2_expression 38 = .ok (.aload_n 0, 1) := dk_42 (dk_at dksX2_expression_1 16 rfl rfl)
theorem dX2_expression_39 : decode cX2_expression 39 = .ok (.invokevirtual 224, 3) := dk_182 0 224 (dk_at dksX2_expression_1 17 rfl rfl)
theorem dX2_expression_42 : decode cX2_expression 42 = .ok (.invokespecial 231, 3) := dk_183 0 231 (dk_at dksX2_expression_1 20 rfl rfl)
theorem dX2_expression_45 : decode cX2_expression 45 = .ok (.astore_n 1, 1) := dk_76 (dk_at dksX2_expression_1 23 rfl rfl)
theorem dX2_expression_46 : decode cX2_expression 46 = .ok (.goto (-41), 3) := dk_167 255 215 (dk_at dksX2_expression_2 0 rfl rfl)
abbrev cX2_test : ByteArray := prog_16_method_25_code
def yX2_test : MethodName := ⟨RX2, "test", "()LBeggarHeaps$Expression;"⟩
def dkwX2_test_2 : List UInt8 := [182, 0, 25, 187, 0, 229, 89, 28, 43, 42, 182, 0, 234, 183, 0, 231, 176]
abbrev dktX2_test_2 : List UInt8 := dkwX2_test_2 ++ []
def dkwX2_test_1 : List UInt8 := [182, 0, 79, 153, 0, 8, 16, 61, 167, 0, 5, 16, 32, 61, 28, 16, 32, 160, 0, 5, 43, 176, 42]
abbrev dktX2_test_1 : List UInt8 := dkwX2_test_1 ++ dktX2_test_2
def dkwX2_test_0 : List UInt8 := [42, 182, 0, 234, 76, 42, 16, 60, 182, 0, 79, 153, 0, 8, 16, 60, 167, 0, 19, 42, 16, 61]
abbrev dktX2_test_0 : List UInt8 := dkwX2_test_0 ++ dktX2_test_1
theorem dksX2_test_0 : cX2_test.data.toList.drop 0 = dktX2_test_0 := by decide +kernel
theorem dksX2_test_1 : cX2_test.data.toList.drop 22 = dktX2_test_1 := dk_seg dksX2_test_0 22 rfl rfl
theorem dksX2_test_2 : cX2_test.data.toList.drop 45 = dktX2_test_2 := dk_seg dksX2_test_1 23 rfl rfl
theorem dX2_test_0 : decode cX2_test 0 = .ok (.aload_n 0, 1) := dk_42 (dk_at dksX2_test_0 0 rfl rfl)
theorem dX2_test_1 : decode cX2_test 1 = .ok (.invokevirtual 234, 3) := dk_182 0 234 (dk_at dksX2_test_0 1 rfl rfl)
theorem dX2_test_4 : decode cX2_test 4 = .ok (.astore_n 1, 1) := dk_76 (dk_at dksX2_test_0 4 rfl rfl)
theorem dX2_test_5 : decode cX2_test 5 = .ok (.aload_n 0, 1) := dk_42 (dk_at dksX2_test_0 5 rfl rfl)
theorem dX2_test_6 : decode cX2_test 6 = .ok (.bipush 60, 2) := dk_16 60 (dk_at dksX2_test_0 6 rfl rfl)
theorem dX2_test_8 : decode cX2_test 8 = .ok (.invokevirtual 79, 3) := dk_182 0 79 (dk_at dksX2_test_0 8 rfl rfl)
theorem dX2_test_11 : decode cX2_test 11 = .ok (.ifCond .eq 8, 3) := dk_153 0 8 (dk_at dksX2_test_0 11 rfl rfl)
theorem dX2_test_14 : decode cX2_test 14 = .ok (.bipush 60, 2) := dk_16 60 (dk_at dksX2_test_0 14 rfl rfl)
theorem dX2_test_16 : decode cX2_test 16 = .ok (.goto 19, 3) := dk_167 0 19 (dk_at dksX2_test_0 16 rfl rfl)
theorem dX2_test_19 : decode cX2_test 19 = .ok (.aload_n 0, 1) := dk_42 (dk_at dksX2_test_0 19 rfl rfl)
theorem dX2_test_20 : decode cX2_test 20 = .ok (.bipush 61, 2) := dk_16 61 (dk_at dksX2_test_0 20 rfl rfl)
theorem dX2_test_22 : decode cX2_test 22 = .ok (.invokevirtual 79, 3) := dk_182 0 79 (dk_at dksX2_test_1 0 rfl rfl)
theorem dX2_test_25 : decode cX2_test 25 = .ok (.ifCond .eq 8, 3) := dk_153 0 8 (dk_at dksX2_test_1 3 rfl rfl)
theorem dX2_test_28 : decode cX2_test 28 = .ok (.bipush 61, 2) := dk_16 61 (dk_at dksX2_test_1 6 rfl rfl)
theorem dX2_test_30 : decode cX2_test 30 = .ok (.goto 5, 3) := dk_167 0 5 (dk_at dksX2_test_1 8 rfl rfl)
theorem dX2_test_33 : decode cX2_test 33 = .ok (.bipush 32, 2) := dk_16 32 (dk_at dksX2_test_1 11 rfl rfl)
theorem dX2_test_35 : decode cX2_test 35 = .ok (.istore_n 2, 1) := dk_61 (dk_at dksX2_test_1 13 rfl rfl)
theorem dX2_test_36 : decode cX2_test 36 = .ok (.iload_n 2, 1) := dk_28 (dk_at dksX2_test_1 14 rfl rfl)
theorem dX2_test_37 : decode cX2_test 37 = .ok (.bipush 32, 2) := dk_16 32 (dk_at dksX2_test_1 15 rfl rfl)
theorem dX2_test_39 : decode cX2_test 39 = .ok (.if_icmp .ne 5, 3) := dk_160 0 5 (dk_at dksX2_test_1 17 rfl rfl)
theorem dX2_test_42 : decode cX2_test 42 = .ok (.aload_n 1, 1) := dk_43 (dk_at dksX2_test_1 20 rfl rfl)
theorem dX2_test_43 : decode cX2_test 43 = .ok (.areturn, 1) := dk_176 (dk_at dksX2_test_1 21 rfl rfl)
theorem dX2_test_44 : decode cX2_test 44 = .ok (.aload_n 0, 1) := dk_42 (dk_at dksX2_test_1 22 rfl rfl)
theorem dX2_test_45 : decode cX2_test 45 = .ok (.invokevirtual 25, 3) := dk_182 0 25 (dk_at dksX2_test_2 0 rfl rfl)
theorem dX2_test_48 : decode cX2_test 48 = .ok (.new 229, 3) := dk_187 0 229 (dk_at dksX2_test_2 3 rfl rfl)
theorem dX2_test_51 : decode cX2_test 51 = .ok (.dup, 1) := dk_89 (dk_at dksX2_test_2 6 rfl rfl)
theorem dX2_test_52 : decode cX2_test 52 = .ok (.iload_n 2, 1) := dk_28 (dk_at dksX2_test_2 7 rfl rfl)
theorem dX2_test_53 : decode cX2_test 53 = .ok (.aload_n 1, 1) := dk_43 (dk_at dksX2_test_2 8 rfl rfl)
theorem dX2_test_54 : decode cX2_test 54 = .ok (.aload_n 0, 1) := dk_42 (dk_at dksX2_test_2 9 rfl rfl)
theorem dX2_test_55 : decode cX2_test 55 = .ok (.invokevirtual 234, 3) := dk_182 0 234 (dk_at dksX2_test_2 10 rfl rfl)
theorem dX2_test_58 : decode cX2_test 58 = .ok (.invokespecial 231, 3) := dk_183 0 231 (dk_at dksX2_test_2 13 rfl rfl)
theorem dX2_test_61 : decode cX2_test 61 = .ok (.areturn, 1) := dk_176 (dk_at dksX2_test_2 16 rfl rfl)
abbrev cX2_sum : ByteArray := prog_16_method_26_code
def yX2_sum : MethodName := ⟨RX2, "sum", "()LBeggarHeaps$Expression;"⟩
def dkwX2_sum_2 : List UInt8 := [28, 43, 42, 182, 0, 237, 183, 0, 231, 76, 167, 255, 203, 43, 176]
abbrev dktX2_sum_2 : List UInt8 := dkwX2_sum_2 ++ []
def dkwX2_sum_1 : List UInt8 := [16, 43, 182, 0, 79, 153, 0, 8, 16, 43, 167, 0, 5, 16, 45, 61, 42, 182, 0, 25, 187, 0, 229, 89]
abbrev dktX2_sum_1 : List UInt8 := dkwX2_sum_1 ++ dktX2_sum_2
def dkwX2_sum_0 : List UInt8 := [42, 182, 0, 237, 76, 42, 16, 43, 182, 0, 79, 154, 0, 12, 42, 16, 45, 182, 0, 79, 153, 0, 41, 42]
abbrev dktX2_sum_0 : List UInt8 := dkwX2_sum_0 ++ dktX2_sum_1
theorem dksX2_sum_0 : cX2_sum.data.toList.drop 0 = dktX2_sum_0 := by decide +kernel
theorem dksX2_sum_1 : cX2_sum.data.toList.drop 24 = dktX2_sum_1 := dk_seg dksX2_sum_0 24 rfl rfl
theorem dksX2_sum_2 : cX2_sum.data.toList.drop 48 = dktX2_sum_2 := dk_seg dksX2_sum_1 24 rfl rfl
theorem dX2_sum_0 : decode cX2_sum 0 = .ok (.aload_n 0, 1) := dk_42 (dk_at dksX2_sum_0 0 rfl rfl)
theorem dX2_sum_1 : decode cX2_sum 1 = .ok (.invokevirtual 237, 3) := dk_182 0 237 (dk_at dksX2_sum_0 1 rfl rfl)
theorem dX2_sum_4 : decode cX2_sum 4 = .ok (.astore_n 1, 1) := dk_76 (dk_at dksX2_sum_0 4 rfl rfl)
theorem dX2_sum_5 : decode cX2_sum 5 = .ok (.aload_n 0, 1) := dk_42 (dk_at dksX2_sum_0 5 rfl rfl)
theorem dX2_sum_6 : decode cX2_sum 6 = .ok (.bipush 43, 2) := dk_16 43 (dk_at dksX2_sum_0 6 rfl rfl)
theorem dX2_sum_8 : decode cX2_sum 8 = .ok (.invokevirtual 79, 3) := dk_182 0 79 (dk_at dksX2_sum_0 8 rfl rfl)
theorem dX2_sum_11 : decode cX2_sum 11 = .ok (.ifCond .ne 12, 3) := dk_154 0 12 (dk_at dksX2_sum_0 11 rfl rfl)
theorem dX2_sum_14 : decode cX2_sum 14 = .ok (.aload_n 0, 1) := dk_42 (dk_at dksX2_sum_0 14 rfl rfl)
theorem dX2_sum_15 : decode cX2_sum 15 = .ok (.bipush 45, 2) := dk_16 45 (dk_at dksX2_sum_0 15 rfl rfl)
theorem dX2_sum_17 : decode cX2_sum 17 = .ok (.invokevirtual 79, 3) := dk_182 0 79 (dk_at dksX2_sum_0 17 rfl rfl)
theorem dX2_sum_20 : decode cX2_sum 20 = .ok (.ifCond .eq 41, 3) := dk_153 0 41 (dk_at dksX2_sum_0 20 rfl rfl)
theorem dX2_sum_23 : decode cX2_sum 23 = .ok (.aload_n 0, 1) := dk_42 (dk_at dksX2_sum_0 23 rfl rfl)
theorem dX2_sum_24 : decode cX2_sum 24 = .ok (.bipush 43, 2) := dk_16 43 (dk_at dksX2_sum_1 0 rfl rfl)
theorem dX2_sum_26 : decode cX2_sum 26 = .ok (.invokevirtual 79, 3) := dk_182 0 79 (dk_at dksX2_sum_1 2 rfl rfl)
theorem dX2_sum_29 : decode cX2_sum 29 = .ok (.ifCond .eq 8, 3) := dk_153 0 8 (dk_at dksX2_sum_1 5 rfl rfl)
theorem dX2_sum_32 : decode cX2_sum 32 = .ok (.bipush 43, 2) := dk_16 43 (dk_at dksX2_sum_1 8 rfl rfl)
theorem dX2_sum_34 : decode cX2_sum 34 = .ok (.goto 5, 3) := dk_167 0 5 (dk_at dksX2_sum_1 10 rfl rfl)
theorem dX2_sum_37 : decode cX2_sum 37 = .ok (.bipush 45, 2) := dk_16 45 (dk_at dksX2_sum_1 13 rfl rfl)
theorem dX2_sum_39 : decode cX2_sum 39 = .ok (.istore_n 2, 1) := dk_61 (dk_at dksX2_sum_1 15 rfl rfl)
theorem dX2_sum_40 : decode cX2_sum 40 = .ok (.aload_n 0, 1) := dk_42 (dk_at dksX2_sum_1 16 rfl rfl)
theorem dX2_sum_41 : decode cX2_sum 41 = .ok (.invokevirtual 25, 3) := dk_182 0 25 (dk_at dksX2_sum_1 17 rfl rfl)
theorem dX2_sum_44 : decode cX2_sum 44 = .ok (.new 229, 3) := dk_187 0 229 (dk_at dksX2_sum_1 20 rfl rfl)
theorem dX2_sum_47 : decode cX2_sum 47 = .ok (.dup, 1) := dk_89 (dk_at dksX2_sum_1 23 rfl rfl)
theorem dX2_sum_48 : decode cX2_sum 48 = .ok (.iload_n 2, 1) := dk_28 (dk_at dksX2_sum_2 0 rfl rfl)
theorem dX2_sum_49 : decode cX2_sum 49 = .ok (.aload_n 1, 1) := dk_43 (dk_at dksX2_sum_2 1 rfl rfl)
theorem dX2_sum_50 : decode cX2_sum 50 = .ok (.aload_n 0, 1) := dk_42 (dk_at dksX2_sum_2 2 rfl rfl)
theorem dX2_sum_51 : decode cX2_sum 51 = .ok (.invokevirtual 237, 3) := dk_182 0 237 (dk_at dksX2_sum_2 3 rfl rfl)
theorem dX2_sum_54 : decode cX2_sum 54 = .ok (.invokespecial 231, 3) := dk_183 0 231 (dk_at dksX2_sum_2 6 rfl rfl)
theorem dX2_sum_57 : decode cX2_sum 57 = .ok (.astore_n 1, 1) := dk_76 (dk_at dksX2_sum_2 9 rfl rfl)
theorem dX2_sum_58 : decode cX2_sum 58 = .ok (.goto (-53), 3) := dk_167 255 203 (dk_at dksX2_sum_2 10 rfl rfl)
theorem dX2_sum_61 : decode cX2_sum 61 = .ok (.aload_n 1, 1) := dk_43 (dk_at dksX2_sum_2 13 rfl rfl)
theorem dX2_sum_62 : decode cX2_sum 62 = .ok (.areturn, 1) := dk_176 (dk_at dksX2_sum_2 14 rfl rfl)
abbrev cX2_product : ByteArray := prog_16_method_27_code
def yX2_product : MethodName := ⟨RX2, "product", "()LBeggarHeaps$Expression;"⟩
def dkwX2_product_1 : List UInt8 := [43, 42, 182, 0, 240, 183, 0, 231, 76, 167, 255, 228, 43, 176]
abbrev dktX2_product_1 : List UInt8 := dkwX2_product_1 ++ []
def dkwX2_product_0 : List UInt8 := [42, 182, 0, 240, 76, 42, 16, 42, 182, 0, 79, 153, 0, 25, 42, 182, 0, 25, 187, 0, 229, 89, 16, 42]
abbrev dktX2_product_0 : List UInt8 := dkwX2_product_0 ++ dktX2_product_1
theorem dksX2_product_0 : cX2_product.data.toList.drop 0 = dktX2_product_0 := by decide +kernel
theorem dksX2_product_1 : cX2_product.data.toList.drop 24 = dktX2_product_1 := dk_seg dksX2_product_0 24 rfl rfl
theorem dX2_product_0 : decode cX2_product 0 = .ok (.aload_n 0, 1) := dk_42 (dk_at dksX2_product_0 0 rfl rfl)
theorem dX2_product_1 : decode cX2_product 1 = .ok (.invokevirtual 240, 3) := dk_182 0 240 (dk_at dksX2_product_0 1 rfl rfl)
theorem dX2_product_4 : decode cX2_product 4 = .ok (.astore_n 1, 1) := dk_76 (dk_at dksX2_product_0 4 rfl rfl)
theorem dX2_product_5 : decode cX2_product 5 = .ok (.aload_n 0, 1) := dk_42 (dk_at dksX2_product_0 5 rfl rfl)
theorem dX2_product_6 : decode cX2_product 6 = .ok (.bipush 42, 2) := dk_16 42 (dk_at dksX2_product_0 6 rfl rfl)
theorem dX2_product_8 : decode cX2_product 8 = .ok (.invokevirtual 79, 3) := dk_182 0 79 (dk_at dksX2_product_0 8 rfl rfl)
theorem dX2_product_11 : decode cX2_product 11 = .ok (.ifCond .eq 25, 3) := dk_153 0 25 (dk_at dksX2_product_0 11 rfl rfl)
theorem dX2_product_14 : decode cX2_product 14 = .ok (.aload_n 0, 1) := dk_42 (dk_at dksX2_product_0 14 rfl rfl)
theorem dX2_product_15 : decode cX2_product 15 = .ok (.invokevirtual 25, 3) := dk_182 0 25 (dk_at dksX2_product_0 15 rfl rfl)
theorem dX2_product_18 : decode cX2_product 18 = .ok (.new 229, 3) := dk_187 0 229 (dk_at dksX2_product_0 18 rfl rfl)
theorem dX2_product_21 : decode cX2_product 21 = .ok (.dup, 1) := dk_89 (dk_at dksX2_product_0 21 rfl rfl)
theorem dX2_product_22 : decode cX2_product 22 = .ok (.bipush 42, 2) := dk_16 42 (dk_at dksX2_product_0 22 rfl rfl)
theorem dX2_product_24 : decode cX2_product 24 = .ok (.aload_n 1, 1) := dk_43 (dk_at dksX2_product_1 0 rfl rfl)
theorem dX2_product_25 : decode cX2_product 25 = .ok (.aload_n 0, 1) := dk_42 (dk_at dksX2_product_1 1 rfl rfl)
theorem dX2_product_26 : decode cX2_product 26 = .ok (.invokevirtual 240, 3) := dk_182 0 240 (dk_at dksX2_product_1 2 rfl rfl)
theorem dX2_product_29 : decode cX2_product 29 = .ok (.invokespecial 231, 3) := dk_183 0 231 (dk_at dksX2_product_1 5 rfl rfl)
theorem dX2_product_32 : decode cX2_product 32 = .ok (.astore_n 1, 1) := dk_76 (dk_at dksX2_product_1 8 rfl rfl)
theorem dX2_product_33 : decode cX2_product 33 = .ok (.goto (-28), 3) := dk_167 255 228 (dk_at dksX2_product_1 9 rfl rfl)
theorem dX2_product_36 : decode cX2_product 36 = .ok (.aload_n 1, 1) := dk_43 (dk_at dksX2_product_1 12 rfl rfl)
theorem dX2_product_37 : decode cX2_product 37 = .ok (.areturn, 1) := dk_176 (dk_at dksX2_product_1 13 rfl rfl)
abbrev cX2_part : ByteArray := prog_16_method_28_code
def yX2_part : MethodName := ⟨RX2, "part", "()LBeggarHeaps$Expression;"⟩
def dkwX2_part_7 : List UInt8 := [181, 0, 22, 25, 4, 176]
abbrev dktX2_part_7 : List UInt8 := dkwX2_part_7 ++ []
def dkwX2_part_6 : List UInt8 := [182, 0, 154, 58, 4, 29, 153, 0, 9, 42, 16, 41, 182, 0, 162, 42, 89, 180, 0, 22, 4, 100]
abbrev dktX2_part_6 : List UInt8 := dkwX2_part_6 ++ dktX2_part_7
def dkwX2_part_5 : List UInt8 := [181, 0, 22, 28, 153, 0, 17, 187, 0, 253, 89, 42, 182, 0, 240, 183, 0, 255, 167, 0, 7, 42]
abbrev dktX2_part_5 : List UInt8 := dkwX2_part_5 ++ dktX2_part_6
def dkwX2_part_4 : List UInt8 := [182, 0, 25, 27, 155, 0, 12, 187, 0, 250, 89, 27, 183, 0, 252, 176, 42, 89, 180, 0, 22, 4, 96]
abbrev dktX2_part_4 : List UInt8 := dkwX2_part_4 ++ dktX2_part_5
def dkwX2_part_3 : List UInt8 := [180, 0, 31, 5, 160, 0, 19, 187, 0, 247, 89, 42, 3, 17, 39, 15, 182, 0, 113, 183, 0, 249, 176, 42]
abbrev dktX2_part_3 : List UInt8 := dkwX2_part_3 ++ dktX2_part_4
def dkwX2_part_2 : List UInt8 := [159, 0, 9, 42, 4, 182, 0, 75, 191, 42, 180, 0, 22, 8, 160, 0, 9, 42, 8, 182, 0, 75, 191, 42]
abbrev dktX2_part_2 : List UInt8 := dkwX2_part_2 ++ dktX2_part_3
def dkwX2_part_1 : List UInt8 := [16, 40, 182, 0, 79, 62, 27, 156, 0, 25, 28, 154, 0, 21, 29, 154, 0, 17, 42, 180, 0, 31, 5]
abbrev dktX2_part_1 : List UInt8 := dkwX2_part_1 ++ dktX2_part_2
def dkwX2_part_0 : List UInt8 := [42, 18, 243, 182, 0, 71, 60, 42, 18, 245, 182, 0, 71, 155, 0, 7, 4, 167, 0, 4, 3, 61, 42]
abbrev dktX2_part_0 : List UInt8 := dkwX2_part_0 ++ dktX2_part_1
theorem dksX2_part_0 : cX2_part.data.toList.drop 0 = dktX2_part_0 := by decide +kernel
theorem dksX2_part_1 : cX2_part.data.toList.drop 23 = dktX2_part_1 := dk_seg dksX2_part_0 23 rfl rfl
theorem dksX2_part_2 : cX2_part.data.toList.drop 46 = dktX2_part_2 := dk_seg dksX2_part_1 23 rfl rfl
theorem dksX2_part_3 : cX2_part.data.toList.drop 70 = dktX2_part_3 := dk_seg dksX2_part_2 24 rfl rfl
theorem dksX2_part_4 : cX2_part.data.toList.drop 94 = dktX2_part_4 := dk_seg dksX2_part_3 24 rfl rfl
theorem dksX2_part_5 : cX2_part.data.toList.drop 117 = dktX2_part_5 := dk_seg dksX2_part_4 23 rfl rfl
theorem dksX2_part_6 : cX2_part.data.toList.drop 139 = dktX2_part_6 := dk_seg dksX2_part_5 22 rfl rfl
theorem dksX2_part_7 : cX2_part.data.toList.drop 161 = dktX2_part_7 := dk_seg dksX2_part_6 22 rfl rfl
theorem dX2_part_0 : decode cX2_part 0 = .ok (.aload_n 0, 1) := dk_42 (dk_at dksX2_part_0 0 rfl rfl)
theorem dX2_part_1 : decode cX2_part 1 = .ok (.ldc 243, 2) := dk_18 243 (dk_at dksX2_part_0 1 rfl rfl)
theorem dX2_part_3 : decode cX2_part 3 = .ok (.invokevirtual 71, 3) := dk_182 0 71 (dk_at dksX2_part_0 3 rfl rfl)
theorem dX2_part_6 : decode cX2_part 6 = .ok (.istore_n 1, 1) := dk_60 (dk_at dksX2_part_0 6 rfl rfl)
theorem dX2_part_7 : decode cX2_part 7 = .ok (.aload_n 0, 1) := dk_42 (dk_at dksX2_part_0 7 rfl rfl)
theorem dX2_part_8 : decode cX2_part 8 = .ok (.ldc 245, 2) := dk_18 245 (dk_at dksX2_part_0 8 rfl rfl)
theorem dX2_part_10 : decode cX2_part 10 = .ok (.invokevirtual 71, 3) := dk_182 0 71 (dk_at dksX2_part_0 10 rfl rfl)
theorem dX2_part_13 : decode cX2_part 13 = .ok (.ifCond .lt 7, 3) := dk_155 0 7 (dk_at dksX2_part_0 13 rfl rfl)
theorem dX2_part_16 : decode cX2_part 16 = .ok (.iconst 1, 1) := dk_4 (dk_at dksX2_part_0 16 rfl rfl)
theorem dX2_part_17 : decode cX2_part 17 = .ok (.goto 4, 3) := dk_167 0 4 (dk_at dksX2_part_0 17 rfl rfl)
theorem dX2_part_20 : decode cX2_part 20 = .ok (.iconst 0, 1) := dk_3 (dk_at dksX2_part_0 20 rfl rfl)
theorem dX2_part_21 : decode cX2_part 21 = .ok (.istore_n 2, 1) := dk_61 (dk_at dksX2_part_0 21 rfl rfl)
theorem dX2_part_22 : decode cX2_part 22 = .ok (.aload_n 0, 1) := dk_42 (dk_at dksX2_part_0 22 rfl rfl)
theorem dX2_part_23 : decode cX2_part 23 = .ok (.bipush 40, 2) := dk_16 40 (dk_at dksX2_part_1 0 rfl rfl)
theorem dX2_part_25 : decode cX2_part 25 = .ok (.invokevirtual 79, 3) := dk_182 0 79 (dk_at dksX2_part_1 2 rfl rfl)
theorem dX2_part_28 : decode cX2_part 28 = .ok (.istore_n 3, 1) := dk_62 (dk_at dksX2_part_1 5 rfl rfl)
theorem dX2_part_29 : decode cX2_part 29 = .ok (.iload_n 1, 1) := dk_27 (dk_at dksX2_part_1 6 rfl rfl)
theorem dX2_part_30 : decode cX2_part 30 = .ok (.ifCond .ge 25, 3) := dk_156 0 25 (dk_at dksX2_part_1 7 rfl rfl)
theorem dX2_part_33 : decode cX2_part 33 = .ok (.iload_n 2, 1) := dk_28 (dk_at dksX2_part_1 10 rfl rfl)
theorem dX2_part_34 : decode cX2_part 34 = .ok (.ifCond .ne 21, 3) := dk_154 0 21 (dk_at dksX2_part_1 11 rfl rfl)
theorem dX2_part_37 : decode cX2_part 37 = .ok (.iload_n 3, 1) := dk_29 (dk_at dksX2_part_1 14 rfl rfl)
theorem dX2_part_38 : decode cX2_part 38 = .ok (.ifCond .ne 17, 3) := dk_154 0 17 (dk_at dksX2_part_1 15 rfl rfl)
theorem dX2_part_41 : decode cX2_part 41 = .ok (.aload_n 0, 1) := dk_42 (dk_at dksX2_part_1 18 rfl rfl)
theorem dX2_part_42 : decode cX2_part 42 = .ok (.getfield 31, 3) := dk_180 0 31 (dk_at dksX2_part_1 19 rfl rfl)
theorem dX2_part_45 : decode cX2_part 45 = .ok (.iconst 2, 1) := dk_5 (dk_at dksX2_part_1 22 rfl rfl)
theorem dX2_part_46 : decode cX2_part 46 = .ok (.if_icmp .eq 9, 3) := dk_159 0 9 (dk_at dksX2_part_2 0 rfl rfl)
theorem dX2_part_49 : decode cX2_part 49 = .ok (.aload_n 0, 1) := dk_42 (dk_at dksX2_part_2 3 rfl rfl)
theorem dX2_part_50 : decode cX2_part 50 = .ok (.iconst 1, 1) := dk_4 (dk_at dksX2_part_2 4 rfl rfl)
theorem dX2_part_51 : decode cX2_part 51 = .ok (.invokevirtual 75, 3) := dk_182 0 75 (dk_at dksX2_part_2 5 rfl rfl)
theorem dX2_part_54 : decode cX2_part 54 = .ok (.athrow, 1) := dk_191 (dk_at dksX2_part_2 8 rfl rfl)
theorem dX2_part_55 : decode cX2_part 55 = .ok (.aload_n 0, 1) := dk_42 (dk_at dksX2_part_2 9 rfl rfl)
theorem dX2_part_56 : decode cX2_part 56 = .ok (.getfield 22, 3) := dk_180 0 22 (dk_at dksX2_part_2 10 rfl rfl)
theorem dX2_part_59 : decode cX2_part 59 = .ok (.iconst 5, 1) := dk_8 (dk_at dksX2_part_2 13 rfl rfl)
theorem dX2_part_60 : decode cX2_part 60 = .ok (.if_icmp .ne 9, 3) := dk_160 0 9 (dk_at dksX2_part_2 14 rfl rfl)
theorem dX2_part_63 : decode cX2_part 63 = .ok (.aload_n 0, 1) := dk_42 (dk_at dksX2_part_2 17 rfl rfl)
theorem dX2_part_64 : decode cX2_part 64 = .ok (.iconst 5, 1) := dk_8 (dk_at dksX2_part_2 18 rfl rfl)
theorem dX2_part_65 : decode cX2_part 65 = .ok (.invokevirtual 75, 3) := dk_182 0 75 (dk_at dksX2_part_2 19 rfl rfl)
theorem dX2_part_68 : decode cX2_part 68 = .ok (.athrow, 1) := dk_191 (dk_at dksX2_part_2 22 rfl rfl)
theorem dX2_part_69 : decode cX2_part 69 = .ok (.aload_n 0, 1) := dk_42 (dk_at dksX2_part_2 23 rfl rfl)
theorem dX2_part_70 : decode cX2_part 70 = .ok (.getfield 31, 3) := dk_180 0 31 (dk_at dksX2_part_3 0 rfl rfl)
theorem dX2_part_73 : decode cX2_part 73 = .ok (.iconst 2, 1) := dk_5 (dk_at dksX2_part_3 3 rfl rfl)
theorem dX2_part_74 : decode cX2_part 74 = .ok (.if_icmp .ne 19, 3) := dk_160 0 19 (dk_at dksX2_part_3 4 rfl rfl)
theorem dX2_part_77 : decode cX2_part 77 = .ok (.new 247, 3) := dk_187 0 247 (dk_at dksX2_part_3 7 rfl rfl)
theorem dX2_part_80 : decode cX2_part 80 = .ok (.dup, 1) := dk_89 (dk_at dksX2_part_3 10 rfl rfl)
theorem dX2_part_81 : decode cX2_part 81 = .ok (.aload_n 0, 1) := dk_42 (dk_at dksX2_part_3 11 rfl rfl)
theorem dX2_part_82 : decode cX2_part 82 = .ok (.iconst 0, 1) := dk_3 (dk_at dksX2_part_3 12 rfl rfl)
theorem dX2_part_83 : decode cX2_part 83 = .ok (.sipush 9999, 3) := dk_17 39 15 (dk_at dksX2_part_3 13 rfl rfl)
theorem dX2_part_86 : decode cX2_part 86 = .ok (.invokevirtual 113, 3) := dk_182 0 113 (dk_at dksX2_part_3 16 rfl rfl)
theorem dX2_part_89 : decode cX2_part 89 = .ok (.invokespecial 249, 3) := dk_183 0 249 (dk_at dksX2_part_3 19 rfl rfl)
theorem dX2_part_92 : decode cX2_part 92 = .ok (.areturn, 1) := dk_176 (dk_at dksX2_part_3 22 rfl rfl)
theorem dX2_part_93 : decode cX2_part 93 = .ok (.aload_n 0, 1) := dk_42 (dk_at dksX2_part_3 23 rfl rfl)
theorem dX2_part_94 : decode cX2_part 94 = .ok (.invokevirtual 25, 3) := dk_182 0 25 (dk_at dksX2_part_4 0 rfl rfl)
theorem dX2_part_97 : decode cX2_part 97 = .ok (.iload_n 1, 1) := dk_27 (dk_at dksX2_part_4 3 rfl rfl)
theorem dX2_part_98 : decode cX2_part 98 = .ok (.ifCond .lt 12, 3) := dk_155 0 12 (dk_at dksX2_part_4 4 rfl rfl)
theorem dX2_part_101 : decode cX2_part 101 = .ok (.new 250, 3) := dk_187 0 250 (dk_at dksX2_part_4 7 rfl rfl)
theorem dX2_part_104 : decode cX2_part 104 = .ok (.dup, 1) := dk_89 (dk_at dksX2_part_4 10 rfl rfl)
theorem dX2_part_105 : decode cX2_part 105 = .ok (.iload_n 1, 1) := dk_27 (dk_at dksX2_part_4 11 rfl rfl)
theorem dX2_part_106 : decode cX2_part 106 = .ok (.invokespecial 252, 3) := dk_183 0 252 (dk_at dksX2_part_4 12 rfl rfl)
theorem dX2_part_109 : decode cX2_part 109 = .ok (.areturn, 1) := dk_176 (dk_at dksX2_part_4 15 rfl rfl)
theorem dX2_part_110 : decode cX2_part 110 = .ok (.aload_n 0, 1) := dk_42 (dk_at dksX2_part_4 16 rfl rfl)
theorem dX2_part_111 : decode cX2_part 111 = .ok (.dup, 1) := dk_89 (dk_at dksX2_part_4 17 rfl rfl)
theorem dX2_part_112 : decode cX2_part 112 = .ok (.getfield 22, 3) := dk_180 0 22 (dk_at dksX2_part_4 18 rfl rfl)
theorem dX2_part_115 : decode cX2_part 115 = .ok (.iconst 1, 1) := dk_4 (dk_at dksX2_part_4 21 rfl rfl)
theorem dX2_part_116 : decode cX2_part 116 = .ok (.iadd, 1) := dk_96 (dk_at dksX2_part_4 22 rfl rfl)
theorem dX2_part_117 : decode cX2_part 117 = .ok (.putfield 22, 3) := dk_181 0 22 (dk_at dksX2_part_5 0 rfl rfl)
theorem dX2_part_120 : decode cX2_part 120 = .ok (.iload_n 2, 1) := dk_28 (dk_at dksX2_part_5 3 rfl rfl)
theorem dX2_part_121 : decode cX2_part 121 = .ok (.ifCond .eq 17, 3) := dk_153 0 17 (dk_at dksX2_part_5 4 rfl rfl)
theorem dX2_part_124 : decode cX2_part 124 = .ok (.new 253, 3) := dk_187 0 253 (dk_at dksX2_part_5 7 rfl rfl)
theorem dX2_part_127 : decode cX2_part 127 = .ok (.dup, 1) := dk_89 (dk_at dksX2_part_5 10 rfl rfl)
theorem dX2_part_128 : decode cX2_part 128 = .ok (.aload_n 0, 1) := dk_42 (dk_at dksX2_part_5 11 rfl rfl)
theorem dX2_part_129 : decode cX2_part 129 = .ok (.invokevirtual 240, 3) := dk_182 0 240 (dk_at dksX2_part_5 12 rfl rfl)
theorem dX2_part_132 : decode cX2_part 132 = .ok (.invokespecial 255, 3) := dk_183 0 255 (dk_at dksX2_part_5 15 rfl rfl)
theorem dX2_part_135 : decode cX2_part 135 = .ok (.goto 7, 3) := dk_167 0 7 (dk_at dksX2_part_5 18 rfl rfl)
theorem dX2_part_138 : decode cX2_part 138 = .ok (.aload_n 0, 1) := dk_42 (dk_at dksX2_part_5 21 rfl rfl)
theorem dX2_part_139 : decode cX2_part 139 = .ok (.invokevirtual 154, 3) := dk_182 0 154 (dk_at dksX2_part_6 0 rfl rfl)
theorem dX2_part_142 : decode cX2_part 142 = .ok (.astore 4, 2) := dk_58 4 (dk_at dksX2_part_6 3 rfl rfl)
theorem dX2_part_144 : decode cX2_part 144 = .ok (.iload_n 3, 1) := dk_29 (dk_at dksX2_part_6 5 rfl rfl)
theorem dX2_part_145 : decode cX2_part 145 = .ok (.ifCond .eq 9, 3) := dk_153 0 9 (dk_at dksX2_part_6 6 rfl rfl)
theorem dX2_part_148 : decode cX2_part 148 = .ok (.aload_n 0, 1) := dk_42 (dk_at dksX2_part_6 9 rfl rfl)
theorem dX2_part_149 : decode cX2_part 149 = .ok (.bipush 41, 2) := dk_16 41 (dk_at dksX2_part_6 10 rfl rfl)
theorem dX2_part_151 : decode cX2_part 151 = .ok (.invokevirtual 162, 3) := dk_182 0 162 (dk_at dksX2_part_6 12 rfl rfl)
theorem dX2_part_154 : decode cX2_part 154 = .ok (.aload_n 0, 1) := dk_42 (dk_at dksX2_part_6 15 rfl rfl)
theorem dX2_part_155 : decode cX2_part 155 = .ok (.dup, 1) := dk_89 (dk_at dksX2_part_6 16 rfl rfl)
theorem dX2_part_156 : decode cX2_part 156 = .ok (.getfield 22, 3) := dk_180 0 22 (dk_at dksX2_part_6 17 rfl rfl)
theorem dX2_part_159 : decode cX2_part 159 = .ok (.iconst 1, 1) := dk_4 (dk_at dksX2_part_6 20 rfl rfl)
theorem dX2_part_160 : decode cX2_part 160 = .ok (.isub, 1) := dk_100 (dk_at dksX2_part_6 21 rfl rfl)
theorem dX2_part_161 : decode cX2_part 161 = .ok (.putfield 22, 3) := dk_181 0 22 (dk_at dksX2_part_7 0 rfl rfl)
theorem dX2_part_164 : decode cX2_part 164 = .ok (.aload 4, 2) := dk_25 4 (dk_at dksX2_part_7 3 rfl rfl)
theorem dX2_part_166 : decode cX2_part 166 = .ok (.areturn, 1) := dk_176 (dk_at dksX2_part_7 5 rfl rfl)
abbrev cX2_isSign : ByteArray := prog_16_method_10_code
def yX2_isSign : MethodName := ⟨RX2, "isSign", "(C)Z"⟩
def dkwX2_isSign_1 : List UInt8 := [167, 0, 4, 3, 172]
abbrev dktX2_isSign_1 : List UInt8 := dkwX2_isSign_1 ++ []
def dkwX2_isSign_0 : List UInt8 := [42, 180, 0, 31, 6, 160, 0, 20, 42, 180, 0, 9, 42, 180, 0, 28, 51, 27, 160, 0, 7, 4]
abbrev dktX2_isSign_0 : List UInt8 := dkwX2_isSign_0 ++ dktX2_isSign_1
theorem dksX2_isSign_0 : cX2_isSign.data.toList.drop 0 = dktX2_isSign_0 := by decide +kernel
theorem dksX2_isSign_1 : cX2_isSign.data.toList.drop 22 = dktX2_isSign_1 := dk_seg dksX2_isSign_0 22 rfl rfl
theorem dX2_isSign_0 : decode cX2_isSign 0 = .ok (.aload_n 0, 1) := dk_42 (dk_at dksX2_isSign_0 0 rfl rfl)
theorem dX2_isSign_1 : decode cX2_isSign 1 = .ok (.getfield 31, 3) := dk_180 0 31 (dk_at dksX2_isSign_0 1 rfl rfl)
theorem dX2_isSign_4 : decode cX2_isSign 4 = .ok (.iconst 3, 1) := dk_6 (dk_at dksX2_isSign_0 4 rfl rfl)
theorem dX2_isSign_5 : decode cX2_isSign 5 = .ok (.if_icmp .ne 20, 3) := dk_160 0 20 (dk_at dksX2_isSign_0 5 rfl rfl)
theorem dX2_isSign_8 : decode cX2_isSign 8 = .ok (.aload_n 0, 1) := dk_42 (dk_at dksX2_isSign_0 8 rfl rfl)
theorem dX2_isSign_9 : decode cX2_isSign 9 = .ok (.getfield 9, 3) := dk_180 0 9 (dk_at dksX2_isSign_0 9 rfl rfl)
theorem dX2_isSign_12 : decode cX2_isSign 12 = .ok (.aload_n 0, 1) := dk_42 (dk_at dksX2_isSign_0 12 rfl rfl)
theorem dX2_isSign_13 : decode cX2_isSign 13 = .ok (.getfield 28, 3) := dk_180 0 28 (dk_at dksX2_isSign_0 13 rfl rfl)
theorem dX2_isSign_16 : decode cX2_isSign 16 = .ok (.baload, 1) := dk_51 (dk_at dksX2_isSign_0 16 rfl rfl)
theorem dX2_isSign_17 : decode cX2_isSign 17 = .ok (.iload_n 1, 1) := dk_27 (dk_at dksX2_isSign_0 17 rfl rfl)
theorem dX2_isSign_18 : decode cX2_isSign 18 = .ok (.if_icmp .ne 7, 3) := dk_160 0 7 (dk_at dksX2_isSign_0 18 rfl rfl)
theorem dX2_isSign_21 : decode cX2_isSign 21 = .ok (.iconst 1, 1) := dk_4 (dk_at dksX2_isSign_0 21 rfl rfl)
theorem dX2_isSign_22 : decode cX2_isSign 22 = .ok (.goto 4, 3) := dk_167 0 4 (dk_at dksX2_isSign_1 0 rfl rfl)
theorem dX2_isSign_25 : decode cX2_isSign 25 = .ok (.iconst 0, 1) := dk_3 (dk_at dksX2_isSign_1 3 rfl rfl)
theorem dX2_isSign_26 : decode cX2_isSign 26 = .ok (.ireturn, 1) := dk_172 (dk_at dksX2_isSign_1 4 rfl rfl)
abbrev cX2_number : ByteArray := prog_16_method_12_code
def yX2_number : MethodName := ⟨RX2, "number", "(II)I"⟩
def dkwX2_number_1 : List UInt8 := [180, 0, 45, 28, 164, 0, 9, 42, 7, 182, 0, 75, 191, 42, 180, 0, 45, 62, 42, 182, 0, 25, 29, 172]
abbrev dktX2_number_1 : List UInt8 := dkwX2_number_1 ++ []
def dkwX2_number_0 : List UInt8 := [42, 180, 0, 31, 5, 159, 0, 9, 42, 4, 182, 0, 75, 191, 42, 180, 0, 45, 27, 161, 0, 11, 42]
abbrev dktX2_number_0 : List UInt8 := dkwX2_number_0 ++ dktX2_number_1
theorem dksX2_number_0 : cX2_number.data.toList.drop 0 = dktX2_number_0 := by decide +kernel
theorem dksX2_number_1 : cX2_number.data.toList.drop 23 = dktX2_number_1 := dk_seg dksX2_number_0 23 rfl rfl
theorem dX2_number_0 : decode cX2_number 0 = .ok (.aload_n 0, 1) := dk_42 (dk_at dksX2_number_0 0 rfl rfl)
theorem dX2_number_1 : decode cX2_number 1 = .ok (.getfield 31, 3) := dk_180 0 31 (dk_at dksX2_number_0 1 rfl rfl)
theorem dX2_number_4 : decode cX2_number 4 = .ok (.iconst 2, 1) := dk_5 (dk_at dksX2_number_0 4 rfl rfl)
theorem dX2_number_5 : decode cX2_number 5 = .ok (.if_icmp .eq 9, 3) := dk_159 0 9 (dk_at dksX2_number_0 5 rfl rfl)
theorem dX2_number_8 : decode cX2_number 8 = .ok (.aload_n 0, 1) := dk_42 (dk_at dksX2_number_0 8 rfl rfl)
theorem dX2_number_9 : decode cX2_number 9 = .ok (.iconst 1, 1) := dk_4 (dk_at dksX2_number_0 9 rfl rfl)
theorem dX2_number_10 : decode cX2_number 10 = .ok (.invokevirtual 75, 3) := dk_182 0 75 (dk_at dksX2_number_0 10 rfl rfl)
theorem dX2_number_13 : decode cX2_number 13 = .ok (.athrow, 1) := dk_191 (dk_at dksX2_number_0 13 rfl rfl)
theorem dX2_number_14 : decode cX2_number 14 = .ok (.aload_n 0, 1) := dk_42 (dk_at dksX2_number_0 14 rfl rfl)
theorem dX2_number_15 : decode cX2_number 15 = .ok (.getfield 45, 3) := dk_180 0 45 (dk_at dksX2_number_0 15 rfl rfl)
theorem dX2_number_18 : decode cX2_number 18 = .ok (.iload_n 1, 1) := dk_27 (dk_at dksX2_number_0 18 rfl rfl)
theorem dX2_number_19 : decode cX2_number 19 = .ok (.if_icmp .lt 11, 3) := dk_161 0 11 (dk_at dksX2_number_0 19 rfl rfl)
theorem dX2_number_22 : decode cX2_number 22 = .ok (.aload_n 0, 1) := dk_42 (dk_at dksX2_number_0 22 rfl rfl)
theorem dX2_number_23 : decode cX2_number 23 = .ok (.getfield 45, 3) := dk_180 0 45 (dk_at dksX2_number_1 0 rfl rfl)
theorem dX2_number_26 : decode cX2_number 26 = .ok (.iload_n 2, 1) := dk_28 (dk_at dksX2_number_1 3 rfl rfl)
theorem dX2_number_27 : decode cX2_number 27 = .ok (.if_icmp .le 9, 3) := dk_164 0 9 (dk_at dksX2_number_1 4 rfl rfl)
theorem dX2_number_30 : decode cX2_number 30 = .ok (.aload_n 0, 1) := dk_42 (dk_at dksX2_number_1 7 rfl rfl)
theorem dX2_number_31 : decode cX2_number 31 = .ok (.iconst 4, 1) := dk_7 (dk_at dksX2_number_1 8 rfl rfl)
theorem dX2_number_32 : decode cX2_number 32 = .ok (.invokevirtual 75, 3) := dk_182 0 75 (dk_at dksX2_number_1 9 rfl rfl)
theorem dX2_number_35 : decode cX2_number 35 = .ok (.athrow, 1) := dk_191 (dk_at dksX2_number_1 12 rfl rfl)
theorem dX2_number_36 : decode cX2_number 36 = .ok (.aload_n 0, 1) := dk_42 (dk_at dksX2_number_1 13 rfl rfl)
theorem dX2_number_37 : decode cX2_number 37 = .ok (.getfield 45, 3) := dk_180 0 45 (dk_at dksX2_number_1 14 rfl rfl)
theorem dX2_number_40 : decode cX2_number 40 = .ok (.istore_n 3, 1) := dk_62 (dk_at dksX2_number_1 17 rfl rfl)
theorem dX2_number_41 : decode cX2_number 41 = .ok (.aload_n 0, 1) := dk_42 (dk_at dksX2_number_1 18 rfl rfl)
theorem dX2_number_42 : decode cX2_number 42 = .ok (.invokevirtual 25, 3) := dk_182 0 25 (dk_at dksX2_number_1 19 rfl rfl)
theorem dX2_number_45 : decode cX2_number 45 = .ok (.iload_n 3, 1) := dk_29 (dk_at dksX2_number_1 22 rfl rfl)
theorem dX2_number_46 : decode cX2_number 46 = .ok (.ireturn, 1) := dk_172 (dk_at dksX2_number_1 23 rfl rfl)
abbrev cX2_need : ByteArray := prog_16_method_11_code
def yX2_need : MethodName := ⟨RX2, "need", "(C)V"⟩
def dkwX2_need_0 : List UInt8 := [42, 27, 182, 0, 79, 154, 0, 9, 42, 4, 182, 0, 75, 191, 42, 182, 0, 25, 177]
abbrev dktX2_need_0 : List UInt8 := dkwX2_need_0 ++ []
theorem dksX2_need_0 : cX2_need.data.toList.drop 0 = dktX2_need_0 := by decide +kernel
theorem dX2_need_0 : decode cX2_need 0 = .ok (.aload_n 0, 1) := dk_42 (dk_at dksX2_need_0 0 rfl rfl)
theorem dX2_need_1 : decode cX2_need 1 = .ok (.iload_n 1, 1) := dk_27 (dk_at dksX2_need_0 1 rfl rfl)
theorem dX2_need_2 : decode cX2_need 2 = .ok (.invokevirtual 79, 3) := dk_182 0 79 (dk_at dksX2_need_0 2 rfl rfl)
theorem dX2_need_5 : decode cX2_need 5 = .ok (.ifCond .ne 9, 3) := dk_154 0 9 (dk_at dksX2_need_0 5 rfl rfl)
theorem dX2_need_8 : decode cX2_need 8 = .ok (.aload_n 0, 1) := dk_42 (dk_at dksX2_need_0 8 rfl rfl)
theorem dX2_need_9 : decode cX2_need 9 = .ok (.iconst 1, 1) := dk_4 (dk_at dksX2_need_0 9 rfl rfl)
theorem dX2_need_10 : decode cX2_need 10 = .ok (.invokevirtual 75, 3) := dk_182 0 75 (dk_at dksX2_need_0 10 rfl rfl)
theorem dX2_need_13 : decode cX2_need 13 = .ok (.athrow, 1) := dk_191 (dk_at dksX2_need_0 13 rfl rfl)
theorem dX2_need_14 : decode cX2_need 14 = .ok (.aload_n 0, 1) := dk_42 (dk_at dksX2_need_0 14 rfl rfl)
theorem dX2_need_15 : decode cX2_need 15 = .ok (.invokevirtual 25, 3) := dk_182 0 25 (dk_at dksX2_need_0 15 rfl rfl)
theorem dX2_need_18 : decode cX2_need 18 = .ok (.return_, 1) := dk_177 (dk_at dksX2_need_0 18 rfl rfl)
abbrev cX2_kind : ByteArray := prog_16_method_19_code
def yX2_kind : MethodName := ⟨RX2, "kind", "()V"⟩
def dkwX2_kind_2 : List UInt8 := [180, 0, 139, 182, 0, 143, 28, 79, 42, 180, 0, 98, 180, 0, 139, 43, 182, 0, 176, 87, 177]
abbrev dktX2_kind_2 : List UInt8 := dkwX2_kind_2 ++ []
def dkwX2_kind_1 : List UInt8 := [182, 0, 25, 42, 18, 168, 3, 16, 6, 182, 0, 170, 61, 42, 180, 0, 98, 180, 0, 173, 42, 180, 0, 98]
abbrev dktX2_kind_1 : List UInt8 := dkwX2_kind_1 ++ dktX2_kind_2
def dkwX2_kind_0 : List UInt8 := [42, 182, 0, 102, 76, 42, 180, 0, 98, 43, 182, 0, 105, 155, 0, 9, 42, 6, 182, 0, 75, 191, 42]
abbrev dktX2_kind_0 : List UInt8 := dkwX2_kind_0 ++ dktX2_kind_1
theorem dksX2_kind_0 : cX2_kind.data.toList.drop 0 = dktX2_kind_0 := by decide +kernel
theorem dksX2_kind_1 : cX2_kind.data.toList.drop 23 = dktX2_kind_1 := dk_seg dksX2_kind_0 23 rfl rfl
theorem dksX2_kind_2 : cX2_kind.data.toList.drop 47 = dktX2_kind_2 := dk_seg dksX2_kind_1 24 rfl rfl
theorem dX2_kind_0 : decode cX2_kind 0 = .ok (.aload_n 0, 1) := dk_42 (dk_at dksX2_kind_0 0 rfl rfl)
theorem dX2_kind_1 : decode cX2_kind 1 = .ok (.invokevirtual 102, 3) := dk_182 0 102 (dk_at dksX2_kind_0 1 rfl rfl)
theorem dX2_kind_4 : decode cX2_kind 4 = .ok (.astore_n 1, 1) := dk_76 (dk_at dksX2_kind_0 4 rfl rfl)
theorem dX2_kind_5 : decode cX2_kind 5 = .ok (.aload_n 0, 1) := dk_42 (dk_at dksX2_kind_0 5 rfl rfl)
theorem dX2_kind_6 : decode cX2_kind 6 = .ok (.getfield 98, 3) := dk_180 0 98 (dk_at dksX2_kind_0 6 rfl rfl)
theorem dX2_kind_9 : decode cX2_kind 9 = .ok (.aload_n 1, 1) := dk_43 (dk_at dksX2_kind_0 9 rfl rfl)
theorem dX2_kind_10 : decode cX2_kind 10 = .ok (.invokevirtual 105, 3) := dk_182 0 105 (dk_at dksX2_kind_0 10 rfl rfl)
theorem dX2_kind_13 : decode cX2_kind 13 = .ok (.ifCond .lt 9, 3) := dk_155 0 9 (dk_at dksX2_kind_0 13 rfl rfl)
theorem dX2_kind_16 : decode cX2_kind 16 = .ok (.aload_n 0, 1) := dk_42 (dk_at dksX2_kind_0 16 rfl rfl)
theorem dX2_kind_17 : decode cX2_kind 17 = .ok (.iconst 3, 1) := dk_6 (dk_at dksX2_kind_0 17 rfl rfl)
theorem dX2_kind_18 : decode cX2_kind 18 = .ok (.invokevirtual 75, 3) := dk_182 0 75 (dk_at dksX2_kind_0 18 rfl rfl)
theorem dX2_kind_21 : decode cX2_kind 21 = .ok (.athrow, 1) := dk_191 (dk_at dksX2_kind_0 21 rfl rfl)
theorem dX2_kind_22 : decode cX2_kind 22 = .ok (.aload_n 0, 1) := dk_42 (dk_at dksX2_kind_0 22 rfl rfl)
theorem dX2_kind_23 : decode cX2_kind 23 = .ok (.invokevirtual 25, 3) := dk_182 0 25 (dk_at dksX2_kind_1 0 rfl rfl)
theorem dX2_kind_26 : decode cX2_kind 26 = .ok (.aload_n 0, 1) := dk_42 (dk_at dksX2_kind_1 3 rfl rfl)
theorem dX2_kind_27 : decode cX2_kind 27 = .ok (.ldc 168, 2) := dk_18 168 (dk_at dksX2_kind_1 4 rfl rfl)
theorem dX2_kind_29 : decode cX2_kind 29 = .ok (.iconst 0, 1) := dk_3 (dk_at dksX2_kind_1 6 rfl rfl)
theorem dX2_kind_30 : decode cX2_kind 30 = .ok (.bipush 6, 2) := dk_16 6 (dk_at dksX2_kind_1 7 rfl rfl)
theorem dX2_kind_32 : decode cX2_kind 32 = .ok (.invokevirtual 170, 3) := dk_182 0 170 (dk_at dksX2_kind_1 9 rfl rfl)
theorem dX2_kind_35 : decode cX2_kind 35 = .ok (.istore_n 2, 1) := dk_61 (dk_at dksX2_kind_1 12 rfl rfl)
theorem dX2_kind_36 : decode cX2_kind 36 = .ok (.aload_n 0, 1) := dk_42 (dk_at dksX2_kind_1 13 rfl rfl)
theorem dX2_kind_37 : decode cX2_kind 37 = .ok (.getfield 98, 3) := dk_180 0 98 (dk_at dksX2_kind_1 14 rfl rfl)
theorem dX2_kind_40 : decode cX2_kind 40 = .ok (.getfield 173, 3) := dk_180 0 173 (dk_at dksX2_kind_1 17 rfl rfl)
theorem dX2_kind_43 : decode cX2_kind 43 = .ok (.aload_n 0, 1) := dk_42 (dk_at dksX2_kind_1 20 rfl rfl)
theorem dX2_kind_44 : decode cX2_kind 44 = .ok (.getfield 98, 3) := dk_180 0 98 (dk_at dksX2_kind_1 21 rfl rfl)
theorem dX2_kind_47 : decode cX2_kind 47 = .ok (.getfield 139, 3) := dk_180 0 139 (dk_at dksX2_kind_2 0 rfl rfl)
theorem dX2_kind_50 : decode cX2_kind 50 = .ok (.invokevirtual 143, 3) := dk_182 0 143 (dk_at dksX2_kind_2 3 rfl rfl)
theorem dX2_kind_53 : decode cX2_kind 53 = .ok (.iload_n 2, 1) := dk_28 (dk_at dksX2_kind_2 6 rfl rfl)
theorem dX2_kind_54 : decode cX2_kind 54 = .ok (.iastore, 1) := dk_79 (dk_at dksX2_kind_2 7 rfl rfl)
theorem dX2_kind_55 : decode cX2_kind 55 = .ok (.aload_n 0, 1) := dk_42 (dk_at dksX2_kind_2 8 rfl rfl)
theorem dX2_kind_56 : decode cX2_kind 56 = .ok (.getfield 98, 3) := dk_180 0 98 (dk_at dksX2_kind_2 9 rfl rfl)
theorem dX2_kind_59 : decode cX2_kind 59 = .ok (.getfield 139, 3) := dk_180 0 139 (dk_at dksX2_kind_2 12 rfl rfl)
theorem dX2_kind_62 : decode cX2_kind 62 = .ok (.aload_n 1, 1) := dk_43 (dk_at dksX2_kind_2 15 rfl rfl)
theorem dX2_kind_63 : decode cX2_kind 63 = .ok (.invokevirtual 176, 3) := dk_182 0 176 (dk_at dksX2_kind_2 16 rfl rfl)
theorem dX2_kind_66 : decode cX2_kind 66 = .ok (.pop, 1) := dk_87 (dk_at dksX2_kind_2 19 rfl rfl)
theorem dX2_kind_67 : decode cX2_kind 67 = .ok (.return_, 1) := dk_177 (dk_at dksX2_kind_2 20 rfl rfl)
abbrev cX2_name : ByteArray := prog_16_method_13_code
def yX2_name : MethodName := ⟨RX2, "name", "()Ljava/lang/String;"⟩
def dkwX2_name_2 : List UInt8 := [42, 180, 0, 9, 28, 51, 146, 182, 0, 90, 87, 132, 2, 1, 167, 255, 233, 43, 182, 0, 94, 176]
abbrev dktX2_name_2 : List UInt8 := dkwX2_name_2 ++ []
def dkwX2_name_1 : List UInt8 := [187, 0, 85, 89, 16, 8, 183, 0, 87, 76, 42, 180, 0, 28, 61, 28, 42, 180, 0, 19, 162, 0, 21, 43]
abbrev dktX2_name_1 : List UInt8 := dkwX2_name_1 ++ dktX2_name_2
def dkwX2_name_0 : List UInt8 := [42, 180, 0, 31, 4, 160, 0, 12, 42, 18, 83, 182, 0, 71, 155, 0, 9, 42, 4, 182, 0, 75, 191]
abbrev dktX2_name_0 : List UInt8 := dkwX2_name_0 ++ dktX2_name_1
theorem dksX2_name_0 : cX2_name.data.toList.drop 0 = dktX2_name_0 := by decide +kernel
theorem dksX2_name_1 : cX2_name.data.toList.drop 23 = dktX2_name_1 := dk_seg dksX2_name_0 23 rfl rfl
theorem dksX2_name_2 : cX2_name.data.toList.drop 47 = dktX2_name_2 := dk_seg dksX2_name_1 24 rfl rfl
theorem dX2_name_0 : decode cX2_name 0 = .ok (.aload_n 0, 1) := dk_42 (dk_at dksX2_name_0 0 rfl rfl)
theorem dX2_name_1 : decode cX2_name 1 = .ok (.getfield 31, 3) := dk_180 0 31 (dk_at dksX2_name_0 1 rfl rfl)
theorem dX2_name_4 : decode cX2_name 4 = .ok (.iconst 1, 1) := dk_4 (dk_at dksX2_name_0 4 rfl rfl)
theorem dX2_name_5 : decode cX2_name 5 = .ok (.if_icmp .ne 12, 3) := dk_160 0 12 (dk_at dksX2_name_0 5 rfl rfl)
theorem dX2_name_8 : decode cX2_name 8 = .ok (.aload_n 0, 1) := dk_42 (dk_at dksX2_name_0 8 rfl rfl)
theorem dX2_name_9 : decode cX2_name 9 = .ok (.ldc 83, 2) := dk_18 83 (dk_at dksX2_name_0 9 rfl rfl)
theorem dX2_name_11 : decode cX2_name 11 = .ok (.invokevirtual 71, 3) := dk_182 0 71 (dk_at dksX2_name_0 11 rfl rfl)
theorem dX2_name_14 : decode cX2_name 14 = .ok (.ifCond .lt 9, 3) := dk_155 0 9 (dk_at dksX2_name_0 14 rfl rfl)
theorem dX2_name_17 : decode cX2_name 17 = .ok (.aload_n 0, 1) := dk_42 (dk_at dksX2_name_0 17 rfl rfl)
theorem dX2_name_18 : decode cX2_name 18 = .ok (.iconst 1, 1) := dk_4 (dk_at dksX2_name_0 18 rfl rfl)
theorem dX2_name_19 : decode cX2_name 19 = .ok (.invokevirtual 75, 3) := dk_182 0 75 (dk_at dksX2_name_0 19 rfl rfl)
theorem dX2_name_22 : decode cX2_name 22 = .ok (.athrow, 1) := dk_191 (dk_at dksX2_name_0 22 rfl rfl)
theorem dX2_name_23 : decode cX2_name 23 = .ok (.new 85, 3) := dk_187 0 85 (dk_at dksX2_name_1 0 rfl rfl)
theorem dX2_name_26 : decode cX2_name 26 = .ok (.dup, 1) := dk_89 (dk_at dksX2_name_1 3 rfl rfl)
theorem dX2_name_27 : decode cX2_name 27 = .ok (.bipush 8, 2) := dk_16 8 (dk_at dksX2_name_1 4 rfl rfl)
theorem dX2_name_29 : decode cX2_name 29 = .ok (.invokespecial 87, 3) := dk_183 0 87 (dk_at dksX2_name_1 6 rfl rfl)
theorem dX2_name_32 : decode cX2_name 32 = .ok (.astore_n 1, 1) := dk_76 (dk_at dksX2_name_1 9 rfl rfl)
theorem dX2_name_33 : decode cX2_name 33 = .ok (.aload_n 0, 1) := dk_42 (dk_at dksX2_name_1 10 rfl rfl)
theorem dX2_name_34 : decode cX2_name 34 = .ok (.getfield 28, 3) := dk_180 0 28 (dk_at dksX2_name_1 11 rfl rfl)
theorem dX2_name_37 : decode cX2_name 37 = .ok (.istore_n 2, 1) := dk_61 (dk_at dksX2_name_1 14 rfl rfl)
theorem dX2_name_38 : decode cX2_name 38 = .ok (.iload_n 2, 1) := dk_28 (dk_at dksX2_name_1 15 rfl rfl)
theorem dX2_name_39 : decode cX2_name 39 = .ok (.aload_n 0, 1) := dk_42 (dk_at dksX2_name_1 16 rfl rfl)
theorem dX2_name_40 : decode cX2_name 40 = .ok (.getfield 19, 3) := dk_180 0 19 (dk_at dksX2_name_1 17 rfl rfl)
theorem dX2_name_43 : decode cX2_name 43 = .ok (.if_icmp .ge 21, 3) := dk_162 0 21 (dk_at dksX2_name_1 20 rfl rfl)
theorem dX2_name_46 : decode cX2_name 46 = .ok (.aload_n 1, 1) := dk_43 (dk_at dksX2_name_1 23 rfl rfl)
theorem dX2_name_47 : decode cX2_name 47 = .ok (.aload_n 0, 1) := dk_42 (dk_at dksX2_name_2 0 rfl rfl)
theorem dX2_name_48 : decode cX2_name 48 = .ok (.getfield 9, 3) := dk_180 0 9 (dk_at dksX2_name_2 1 rfl rfl)
theorem dX2_name_51 : decode cX2_name 51 = .ok (.iload_n 2, 1) := dk_28 (dk_at dksX2_name_2 4 rfl rfl)
theorem dX2_name_52 : decode cX2_name 52 = .ok (.baload, 1) := dk_51 (dk_at dksX2_name_2 5 rfl rfl)
theorem dX2_name_53 : decode cX2_name 53 = .ok (.i2c, 1) := dk_146 (dk_at dksX2_name_2 6 rfl rfl)
theorem dX2_name_54 : decode cX2_name 54 = .ok (.invokevirtual 90, 3) := dk_182 0 90 (dk_at dksX2_name_2 7 rfl rfl)
theorem dX2_name_57 : decode cX2_name 57 = .ok (.pop, 1) := dk_87 (dk_at dksX2_name_2 10 rfl rfl)
theorem dX2_name_58 : decode cX2_name 58 = .ok (.iinc 2 1, 3) := dk_132 2 1 (dk_at dksX2_name_2 11 rfl rfl)
theorem dX2_name_61 : decode cX2_name 61 = .ok (.goto (-23), 3) := dk_167 255 233 (dk_at dksX2_name_2 14 rfl rfl)
theorem dX2_name_64 : decode cX2_name 64 = .ok (.aload_n 1, 1) := dk_43 (dk_at dksX2_name_2 17 rfl rfl)
theorem dX2_name_65 : decode cX2_name 65 = .ok (.invokevirtual 94, 3) := dk_182 0 94 (dk_at dksX2_name_2 18 rfl rfl)
theorem dX2_name_68 : decode cX2_name 68 = .ok (.areturn, 1) := dk_176 (dk_at dksX2_name_2 21 rfl rfl)
abbrev cX2_number_2 : ByteArray := prog_16_method_15_code
def yX2_number_2 : MethodName := ⟨RX2, "number", "(Ljava/lang/String;II)I"⟩
def dkwX2_number_2_0 : List UInt8 := [42, 43, 182, 0, 109, 42, 28, 29, 182, 0, 113, 172]
abbrev dktX2_number_2_0 : List UInt8 := dkwX2_number_2_0 ++ []
theorem dksX2_number_2_0 : cX2_number_2.data.toList.drop 0 = dktX2_number_2_0 := by decide +kernel
theorem dX2_number_2_0 : decode cX2_number_2 0 = .ok (.aload_n 0, 1) := dk_42 (dk_at dksX2_number_2_0 0 rfl rfl)
theorem dX2_number_2_1 : decode cX2_number_2 1 = .ok (.aload_n 1, 1) := dk_43 (dk_at dksX2_number_2_0 1 rfl rfl)
theorem dX2_number_2_2 : decode cX2_number_2 2 = .ok (.invokevirtual 109, 3) := dk_182 0 109 (dk_at dksX2_number_2_0 2 rfl rfl)
theorem dX2_number_2_5 : decode cX2_number_2 5 = .ok (.aload_n 0, 1) := dk_42 (dk_at dksX2_number_2_0 5 rfl rfl)
theorem dX2_number_2_6 : decode cX2_number_2 6 = .ok (.iload_n 2, 1) := dk_28 (dk_at dksX2_number_2_0 6 rfl rfl)
theorem dX2_number_2_7 : decode cX2_number_2 7 = .ok (.iload_n 3, 1) := dk_29 (dk_at dksX2_number_2_0 7 rfl rfl)
theorem dX2_number_2_8 : decode cX2_number_2 8 = .ok (.invokevirtual 113, 3) := dk_182 0 113 (dk_at dksX2_number_2_0 8 rfl rfl)
theorem dX2_number_2_11 : decode cX2_number_2 11 = .ok (.ireturn, 1) := dk_172 (dk_at dksX2_number_2_0 11 rfl rfl)
abbrev cX2_need_2 : ByteArray := prog_16_method_9_code
def yX2_need_2 : MethodName := ⟨RX2, "need", "(Ljava/lang/String;)V"⟩
def dkwX2_need_2_0 : List UInt8 := [42, 43, 182, 0, 71, 156, 0, 9, 42, 4, 182, 0, 75, 191, 42, 182, 0, 25, 177]
abbrev dktX2_need_2_0 : List UInt8 := dkwX2_need_2_0 ++ []
theorem dksX2_need_2_0 : cX2_need_2.data.toList.drop 0 = dktX2_need_2_0 := by decide +kernel
theorem dX2_need_2_0 : decode cX2_need_2 0 = .ok (.aload_n 0, 1) := dk_42 (dk_at dksX2_need_2_0 0 rfl rfl)
theorem dX2_need_2_1 : decode cX2_need_2 1 = .ok (.aload_n 1, 1) := dk_43 (dk_at dksX2_need_2_0 1 rfl rfl)
theorem dX2_need_2_2 : decode cX2_need_2 2 = .ok (.invokevirtual 71, 3) := dk_182 0 71 (dk_at dksX2_need_2_0 2 rfl rfl)
theorem dX2_need_2_5 : decode cX2_need_2 5 = .ok (.ifCond .ge 9, 3) := dk_156 0 9 (dk_at dksX2_need_2_0 5 rfl rfl)
theorem dX2_need_2_8 : decode cX2_need_2 8 = .ok (.aload_n 0, 1) := dk_42 (dk_at dksX2_need_2_0 8 rfl rfl)
theorem dX2_need_2_9 : decode cX2_need_2 9 = .ok (.iconst 1, 1) := dk_4 (dk_at dksX2_need_2_0 9 rfl rfl)
theorem dX2_need_2_10 : decode cX2_need_2 10 = .ok (.invokevirtual 75, 3) := dk_182 0 75 (dk_at dksX2_need_2_0 10 rfl rfl)
theorem dX2_need_2_13 : decode cX2_need_2 13 = .ok (.athrow, 1) := dk_191 (dk_at dksX2_need_2_0 13 rfl rfl)
theorem dX2_need_2_14 : decode cX2_need_2 14 = .ok (.aload_n 0, 1) := dk_42 (dk_at dksX2_need_2_0 14 rfl rfl)
theorem dX2_need_2_15 : decode cX2_need_2 15 = .ok (.invokevirtual 25, 3) := dk_182 0 25 (dk_at dksX2_need_2_0 15 rfl rfl)
theorem dX2_need_2_18 : decode cX2_need_2 18 = .ok (.return_, 1) := dk_177 (dk_at dksX2_need_2_0 18 rfl rfl)
abbrev cX2_pack : ByteArray := prog_16_method_20_code
def yX2_pack : MethodName := ⟨RX2, "pack", "()V"⟩
def dkwX2_pack_2 : List UInt8 := [100, 184, 0, 186, 182, 0, 113, 79, 177]
abbrev dktX2_pack_2 : List UInt8 := dkwX2_pack_2 ++ []
def dkwX2_pack_1 : List UInt8 := [182, 0, 25, 42, 180, 0, 98, 180, 0, 130, 27, 42, 3, 16, 12, 16, 24, 42, 180, 0, 98, 182, 0, 183]
abbrev dktX2_pack_1 : List UInt8 := dkwX2_pack_1 ++ dktX2_pack_2
def dkwX2_pack_0 : List UInt8 := [42, 182, 0, 180, 60, 42, 180, 0, 98, 180, 0, 130, 27, 46, 155, 0, 9, 42, 6, 182, 0, 75, 191, 42]
abbrev dktX2_pack_0 : List UInt8 := dkwX2_pack_0 ++ dktX2_pack_1
theorem dksX2_pack_0 : cX2_pack.data.toList.drop 0 = dktX2_pack_0 := by decide +kernel
theorem dksX2_pack_1 : cX2_pack.data.toList.drop 24 = dktX2_pack_1 := dk_seg dksX2_pack_0 24 rfl rfl
theorem dksX2_pack_2 : cX2_pack.data.toList.drop 48 = dktX2_pack_2 := dk_seg dksX2_pack_1 24 rfl rfl
theorem dX2_pack_0 : decode cX2_pack 0 = .ok (.aload_n 0, 1) := dk_42 (dk_at dksX2_pack_0 0 rfl rfl)
theorem dX2_pack_1 : decode cX2_pack 1 = .ok (.invokevirtual 180, 3) := dk_182 0 180 (dk_at dksX2_pack_0 1 rfl rfl)
theorem dX2_pack_4 : decode cX2_pack 4 = .ok (.istore_n 1, 1) := dk_60 (dk_at dksX2_pack_0 4 rfl rfl)
theorem dX2_pack_5 : decode cX2_pack 5 = .ok (.aload_n 0, 1) := dk_42 (dk_at dksX2_pack_0 5 rfl rfl)
theorem dX2_pack_6 : decode cX2_pack 6 = .ok (.getfield 98, 3) := dk_180 0 98 (dk_at dksX2_pack_0 6 rfl rfl)
theorem dX2_pack_9 : decode cX2_pack 9 = .ok (.getfield 130, 3) := dk_180 0 130 (dk_at dksX2_pack_0 9 rfl rfl)
theorem dX2_pack_12 : decode cX2_pack 12 = .ok (.iload_n 1, 1) := dk_27 (dk_at dksX2_pack_0 12 rfl rfl)
theorem dX2_pack_13 : decode cX2_pack 13 = .ok (.iaload, 1) := dk_46 (dk_at dksX2_pack_0 13 rfl rfl)
theorem dX2_pack_14 : decode cX2_pack 14 = .ok (.ifCond .lt 9, 3) := dk_155 0 9 (dk_at dksX2_pack_0 14 rfl rfl)
theorem dX2_pack_17 : decode cX2_pack 17 = .ok (.aload_n 0, 1) := dk_42 (dk_at dksX2_pack_0 17 rfl rfl)
theorem dX2_pack_18 : decode cX2_pack 18 = .ok (.iconst 3, 1) := dk_6 (dk_at dksX2_pack_0 18 rfl rfl)
theorem dX2_pack_19 : decode cX2_pack 19 = .ok (.invokevirtual 75, 3) := dk_182 0 75 (dk_at dksX2_pack_0 19 rfl rfl)
theorem dX2_pack_22 : decode cX2_pack 22 = .ok (.athrow, 1) := dk_191 (dk_at dksX2_pack_0 22 rfl rfl)
theorem dX2_pack_23 : decode cX2_pack 23 = .ok (.aload_n 0, 1) := dk_42 (dk_at dksX2_pack_0 23 rfl rfl)
theorem dX2_pack_24 : decode cX2_pack 24 = .ok (.invokevirtual 25, 3) := dk_182 0 25 (dk_at dksX2_pack_1 0 rfl rfl)
theorem dX2_pack_27 : decode cX2_pack 27 = .ok (.aload_n 0, 1) := dk_42 (dk_at dksX2_pack_1 3 rfl rfl)
theorem dX2_pack_28 : decode cX2_pack 28 = .ok (.getfield 98, 3) := dk_180 0 98 (dk_at dksX2_pack_1 4 rfl rfl)
theorem dX2_pack_31 : decode cX2_pack 31 = .ok (.getfield 130, 3) := dk_180 0 130 (dk_at dksX2_pack_1 7 rfl rfl)
theorem dX2_pack_34 : decode cX2_pack 34 = .ok (.iload_n 1, 1) := dk_27 (dk_at dksX2_pack_1 10 rfl rfl)
theorem dX2_pack_35 : decode cX2_pack 35 = .ok (.aload_n 0, 1) := dk_42 (dk_at dksX2_pack_1 11 rfl rfl)
theorem dX2_pack_36 : decode cX2_pack 36 = .ok (.iconst 0, 1) := dk_3 (dk_at dksX2_pack_1 12 rfl rfl)
theorem dX2_pack_37 : decode cX2_pack 37 = .ok (.bipush 12, 2) := dk_16 12 (dk_at dksX2_pack_1 13 rfl rfl)
theorem dX2_pack_39 : decode cX2_pack 39 = .ok (.bipush 24, 2) := dk_16 24 (dk_at dksX2_pack_1 15 rfl rfl)
theorem dX2_pack_41 : decode cX2_pack 41 = .ok (.aload_n 0, 1) := dk_42 (dk_at dksX2_pack_1 17 rfl rfl)
theorem dX2_pack_42 : decode cX2_pack 42 = .ok (.getfield 98, 3) := dk_180 0 98 (dk_at dksX2_pack_1 18 rfl rfl)
theorem dX2_pack_45 : decode cX2_pack 45 = .ok (.invokevirtual 183, 3) := dk_182 0 183 (dk_at dksX2_pack_1 21 rfl rfl)
theorem dX2_pack_48 : decode cX2_pack 48 = .ok (.isub, 1) := dk_100 (dk_at dksX2_pack_2 0 rfl rfl)
theorem dX2_pack_49 : decode cX2_pack 49 = .ok (.invokestatic 186, 3) := dk_184 0 186 (dk_at dksX2_pack_2 1 rfl rfl)
theorem dX2_pack_52 : decode cX2_pack 52 = .ok (.invokevirtual 113, 3) := dk_182 0 113 (dk_at dksX2_pack_2 4 rfl rfl)
theorem dX2_pack_55 : decode cX2_pack 55 = .ok (.iastore, 1) := dk_79 (dk_at dksX2_pack_2 7 rfl rfl)
theorem dX2_pack_56 : decode cX2_pack 56 = .ok (.return_, 1) := dk_177 (dk_at dksX2_pack_2 8 rfl rfl)
abbrev cX2_told : ByteArray := prog_16_method_14_code
def yX2_told : MethodName := ⟨RX2, "told", "()I"⟩
def dkwX2_told_0 : List UInt8 := [42, 180, 0, 98, 42, 182, 0, 102, 182, 0, 105, 60, 27, 156, 0, 9, 42, 5, 182, 0, 75, 191, 27, 172]
abbrev dktX2_told_0 : List UInt8 := dkwX2_told_0 ++ []
theorem dksX2_told_0 : cX2_told.data.toList.drop 0 = dktX2_told_0 := by decide +kernel
theorem dX2_told_0 : decode cX2_told 0 = .ok (.aload_n 0, 1) := dk_42 (dk_at dksX2_told_0 0 rfl rfl)
theorem dX2_told_1 : decode cX2_told 1 = .ok (.getfield 98, 3) := dk_180 0 98 (dk_at dksX2_told_0 1 rfl rfl)
theorem dX2_told_4 : decode cX2_told 4 = .ok (.aload_n 0, 1) := dk_42 (dk_at dksX2_told_0 4 rfl rfl)
theorem dX2_told_5 : decode cX2_told 5 = .ok (.invokevirtual 102, 3) := dk_182 0 102 (dk_at dksX2_told_0 5 rfl rfl)
theorem dX2_told_8 : decode cX2_told 8 = .ok (.invokevirtual 105, 3) := dk_182 0 105 (dk_at dksX2_told_0 8 rfl rfl)
theorem dX2_told_11 : decode cX2_told 11 = .ok (.istore_n 1, 1) := dk_60 (dk_at dksX2_told_0 11 rfl rfl)
theorem dX2_told_12 : decode cX2_told 12 = .ok (.iload_n 1, 1) := dk_27 (dk_at dksX2_told_0 12 rfl rfl)
theorem dX2_told_13 : decode cX2_told 13 = .ok (.ifCond .ge 9, 3) := dk_156 0 9 (dk_at dksX2_told_0 13 rfl rfl)
theorem dX2_told_16 : decode cX2_told 16 = .ok (.aload_n 0, 1) := dk_42 (dk_at dksX2_told_0 16 rfl rfl)
theorem dX2_told_17 : decode cX2_told 17 = .ok (.iconst 2, 1) := dk_5 (dk_at dksX2_told_0 17 rfl rfl)
theorem dX2_told_18 : decode cX2_told 18 = .ok (.invokevirtual 75, 3) := dk_182 0 75 (dk_at dksX2_told_0 18 rfl rfl)
theorem dX2_told_21 : decode cX2_told 21 = .ok (.athrow, 1) := dk_191 (dk_at dksX2_told_0 21 rfl rfl)
theorem dX2_told_22 : decode cX2_told 22 = .ok (.iload_n 1, 1) := dk_27 (dk_at dksX2_told_0 22 rfl rfl)
theorem dX2_told_23 : decode cX2_told 23 = .ok (.ireturn, 1) := dk_172 (dk_at dksX2_told_0 23 rfl rfl)
abbrev cX2_deal : ByteArray := prog_16_method_22_code
def yX2_deal : MethodName := ⟨RX2, "deal", "(LBeggarHeaps$Table;)[LBeggarHeaps$Row;"⟩
def dkwX2_deal_3 : List UInt8 := [16, 59, 182, 0, 162, 167, 255, 191, 44, 176]
abbrev dktX2_deal_3 : List UInt8 := dkwX2_deal_3 ++ []
def dkwX2_deal_2 : List UInt8 := [182, 0, 25, 44, 29, 187, 0, 194, 89, 183, 0, 201, 83, 42, 44, 29, 50, 16, 24, 182, 0, 202, 42]
abbrev dktX2_deal_2 : List UInt8 := dkwX2_deal_2 ++ dktX2_deal_3
def dkwX2_deal_1 : List UInt8 := [29, 156, 0, 9, 42, 4, 182, 0, 75, 191, 44, 29, 50, 198, 0, 9, 42, 6, 182, 0, 75, 191, 42]
abbrev dktX2_deal_1 : List UInt8 := dkwX2_deal_1 ++ dktX2_deal_2
def dkwX2_deal_0 : List UInt8 := [42, 43, 181, 0, 98, 5, 189, 0, 194, 77, 42, 180, 0, 31, 153, 0, 64, 42, 18, 152, 182, 0, 71, 62]
abbrev dktX2_deal_0 : List UInt8 := dkwX2_deal_0 ++ dktX2_deal_1
theorem dksX2_deal_0 : cX2_deal.data.toList.drop 0 = dktX2_deal_0 := by decide +kernel
theorem dksX2_deal_1 : cX2_deal.data.toList.drop 24 = dktX2_deal_1 := dk_seg dksX2_deal_0 24 rfl rfl
theorem dksX2_deal_2 : cX2_deal.data.toList.drop 47 = dktX2_deal_2 := dk_seg dksX2_deal_1 23 rfl rfl
theorem dksX2_deal_3 : cX2_deal.data.toList.drop 70 = dktX2_deal_3 := dk_seg dksX2_deal_2 23 rfl rfl
theorem dX2_deal_0 : decode cX2_deal 0 = .ok (.aload_n 0, 1) := dk_42 (dk_at dksX2_deal_0 0 rfl rfl)
theorem dX2_deal_1 : decode cX2_deal 1 = .ok (.aload_n 1, 1) := dk_43 (dk_at dksX2_deal_0 1 rfl rfl)
theorem dX2_deal_2 : decode cX2_deal 2 = .ok (.putfield 98, 3) := dk_181 0 98 (dk_at dksX2_deal_0 2 rfl rfl)
theorem dX2_deal_5 : decode cX2_deal 5 = .ok (.iconst 2, 1) := dk_5 (dk_at dksX2_deal_0 5 rfl rfl)
theorem dX2_deal_6 : decode cX2_deal 6 = .ok (.anewarray 194, 3) := dk_189 0 194 (dk_at dksX2_deal_0 6 rfl rfl)
theorem dX2_deal_9 : decode cX2_deal 9 = .ok (.astore_n 2, 1) := dk_77 (dk_at dksX2_deal_0 9 rfl rfl)
theorem dX2_deal_10 : decode cX2_deal 10 = .ok (.aload_n 0, 1) := dk_42 (dk_at dksX2_deal_0 10 rfl rfl)
theorem dX2_deal_11 : decode cX2_deal 11 = .ok (.getfield 31, 3) := dk_180 0 31 (dk_at dksX2_deal_0 11 rfl rfl)
theorem dX2_deal_14 : decode cX2_deal 14 = .ok (.ifCond .eq 64, 3) := dk_153 0 64 (dk_at dksX2_deal_0 14 rfl rfl)
theorem dX2_deal_17 : decode cX2_deal 17 = .ok (.aload_n 0, 1) := dk_42 (dk_at dksX2_deal_0 17 rfl rfl)
theorem dX2_deal_18 : decode cX2_deal 18 = .ok (.ldc 152, 2) := dk_18 152 (dk_at dksX2_deal_0 18 rfl rfl)
theorem dX2_deal_20 : decode cX2_deal 20 = .ok (.invokevirtual 71, 3) := dk_182 0 71 (dk_at dksX2_deal_0 20 rfl rfl)
theorem dX2_deal_23 : decode cX2_deal 23 = .ok (.istore_n 3, 1) := dk_62 (dk_at dksX2_deal_0 23 rfl rfl)
theorem dX2_deal_24 : decode cX2_deal 24 = .ok (.iload_n 3, 1) := dk_29 (dk_at dksX2_deal_1 0 rfl rfl)
theorem dX2_deal_25 : decode cX2_deal 25 = .ok (.ifCond .ge 9, 3) := dk_156 0 9 (dk_at dksX2_deal_1 1 rfl rfl)
theorem dX2_deal_28 : decode cX2_deal 28 = .ok (.aload_n 0, 1) := dk_42 (dk_at dksX2_deal_1 4 rfl rfl)
theorem dX2_deal_29 : decode cX2_deal 29 = .ok (.iconst 1, 1) := dk_4 (dk_at dksX2_deal_1 5 rfl rfl)
theorem dX2_deal_30 : decode cX2_deal 30 = .ok (.invokevirtual 75, 3) := dk_182 0 75 (dk_at dksX2_deal_1 6 rfl rfl)
theorem dX2_deal_33 : decode cX2_deal 33 = .ok (.athrow, 1) := dk_191 (dk_at dksX2_deal_1 9 rfl rfl)
theorem dX2_deal_34 : decode cX2_deal 34 = .ok (.aload_n 2, 1) := dk_44 (dk_at dksX2_deal_1 10 rfl rfl)
theorem dX2_deal_35 : decode cX2_deal 35 = .ok (.iload_n 3, 1) := dk_29 (dk_at dksX2_deal_1 11 rfl rfl)
theorem dX2_deal_36 : decode cX2_deal 36 = .ok (.aaload, 1) := dk_50 (dk_at dksX2_deal_1 12 rfl rfl)
theorem dX2_deal_37 : decode cX2_deal 37 = .ok (.ifnull 9, 3) := dk_198 0 9 (dk_at dksX2_deal_1 13 rfl rfl)
theorem dX2_deal_40 : decode cX2_deal 40 = .ok (.aload_n 0, 1) := dk_42 (dk_at dksX2_deal_1 16 rfl rfl)
theorem dX2_deal_41 : decode cX2_deal 41 = .ok (.iconst 3, 1) := dk_6 (dk_at dksX2_deal_1 17 rfl rfl)
theorem dX2_deal_42 : decode cX2_deal 42 = .ok (.invokevirtual 75, 3) := dk_182 0 75 (dk_at dksX2_deal_1 18 rfl rfl)
theorem dX2_deal_45 : decode cX2_deal 45 = .ok (.athrow, 1) := dk_191 (dk_at dksX2_deal_1 21 rfl rfl)
theorem dX2_deal_46 : decode cX2_deal 46 = .ok (.aload_n 0, 1) := dk_42 (dk_at dksX2_deal_1 22 rfl rfl)
theorem dX2_deal_47 : decode cX2_deal 47 = .ok (.invokevirtual 25, 3) := dk_182 0 25 (dk_at dksX2_deal_2 0 rfl rfl)
theorem dX2_deal_50 : decode cX2_deal 50 = .ok (.aload_n 2, 1) := dk_44 (dk_at dksX2_deal_2 3 rfl rfl)
theorem dX2_deal_51 : decode cX2_deal 51 = .ok (.iload_n 3, 1) := dk_29 (dk_at dksX2_deal_2 4 rfl rfl)
theorem dX2_deal_52 : decode cX2_deal 52 = .ok (.new 194, 3) := dk_187 0 194 (dk_at dksX2_deal_2 5 rfl rfl)
theorem dX2_deal_55 : decode cX2_deal 55 = .ok (.dup, 1) := dk_89 (dk_at dksX2_deal_2 8 rfl rfl)
theorem dX2_deal_56 : decode cX2_deal 56 = .ok (.invokespecial 201, 3) := dk_183 0 201 (dk_at dksX2_deal_2 9 rfl rfl)
theorem dX2_deal_59 : decode cX2_deal 59 = .ok (.aastore, 1) := dk_83 (dk_at dksX2_deal_2 12 rfl rfl)
theorem dX2_deal_60 : decode cX2_deal 60 = .ok (.aload_n 0, 1) := dk_42 (dk_at dksX2_deal_2 13 rfl rfl)
theorem dX2_deal_61 : decode cX2_deal 61 = .ok (.aload_n 2, 1) := dk_44 (dk_at dksX2_deal_2 14 rfl rfl)
theorem dX2_deal_62 : decode cX2_deal 62 = .ok (.iload_n 3, 1) := dk_29 (dk_at dksX2_deal_2 15 rfl rfl)
theorem dX2_deal_63 : decode cX2_deal 63 = .ok (.aaload, 1) := dk_50 (dk_at dksX2_deal_2 16 rfl rfl)
theorem dX2_deal_64 : decode cX2_deal 64 = .ok (.bipush 24, 2) := dk_16 24 (dk_at dksX2_deal_2 17 rfl rfl)
theorem dX2_deal_66 : decode cX2_deal 66 = .ok (.invokevirtual 202, 3) := dk_182 0 202 (dk_at dksX2_deal_2 19 rfl rfl)
theorem dX2_deal_69 : decode cX2_deal 69 = .ok (.aload_n 0, 1) := dk_42 (dk_at dksX2_deal_2 22 rfl rfl)
theorem dX2_deal_70 : decode cX2_deal 70 = .ok (.bipush 59, 2) := dk_16 59 (dk_at dksX2_deal_3 0 rfl rfl)
theorem dX2_deal_72 : decode cX2_deal 72 = .ok (.invokevirtual 162, 3) := dk_182 0 162 (dk_at dksX2_deal_3 2 rfl rfl)
theorem dX2_deal_75 : decode cX2_deal 75 = .ok (.goto (-65), 3) := dk_167 255 191 (dk_at dksX2_deal_3 5 rfl rfl)
theorem dX2_deal_78 : decode cX2_deal 78 = .ok (.aload_n 2, 1) := dk_44 (dk_at dksX2_deal_3 8 rfl rfl)
theorem dX2_deal_79 : decode cX2_deal 79 = .ok (.areturn, 1) := dk_176 (dk_at dksX2_deal_3 9 rfl rfl)
abbrev cX2_row : ByteArray := prog_16_method_21_code
def yX2_row : MethodName := ⟨RX2, "row", "(LBeggarHeaps$Row;I)V"⟩
def dkwX2_row_4 : List UInt8 := [132, 5, 1, 167, 255, 229, 42, 182, 0, 25, 167, 255, 152, 177]
abbrev dktX2_row_4 : List UInt8 := dkwX2_row_4 ++ []
def dkwX2_row_3 : List UInt8 := [21, 5, 29, 162, 0, 27, 43, 180, 0, 198, 43, 89, 180, 0, 193, 90, 4, 96, 181, 0, 193, 21, 4, 79]
abbrev dktX2_row_3 : List UInt8 := dkwX2_row_3 ++ dktX2_row_4
def dkwX2_row_2 : List UInt8 := [182, 0, 180, 54, 4, 43, 180, 0, 193, 29, 96, 28, 164, 0, 9, 42, 8, 182, 0, 75, 191, 3, 54, 5]
abbrev dktX2_row_2 : List UInt8 := dkwX2_row_2 ++ dktX2_row_3
def dkwX2_row_1 : List UInt8 := [160, 0, 85, 42, 180, 0, 31, 5, 160, 0, 13, 42, 4, 16, 12, 182, 0, 113, 167, 0, 4, 4, 62, 42]
abbrev dktX2_row_1 : List UInt8 := dkwX2_row_1 ++ dktX2_row_2
def dkwX2_row_0 : List UInt8 := [42, 180, 0, 31, 4, 160, 0, 12, 42, 18, 191, 182, 0, 71, 155, 0, 11, 42, 180, 0, 31, 5]
abbrev dktX2_row_0 : List UInt8 := dkwX2_row_0 ++ dktX2_row_1
theorem dksX2_row_0 : cX2_row.data.toList.drop 0 = dktX2_row_0 := by decide +kernel
theorem dksX2_row_1 : cX2_row.data.toList.drop 22 = dktX2_row_1 := dk_seg dksX2_row_0 22 rfl rfl
theorem dksX2_row_2 : cX2_row.data.toList.drop 46 = dktX2_row_2 := dk_seg dksX2_row_1 24 rfl rfl
theorem dksX2_row_3 : cX2_row.data.toList.drop 70 = dktX2_row_3 := dk_seg dksX2_row_2 24 rfl rfl
theorem dksX2_row_4 : cX2_row.data.toList.drop 94 = dktX2_row_4 := dk_seg dksX2_row_3 24 rfl rfl
theorem dX2_row_0 : decode cX2_row 0 = .ok (.aload_n 0, 1) := dk_42 (dk_at dksX2_row_0 0 rfl rfl)
theorem dX2_row_1 : decode cX2_row 1 = .ok (.getfield 31, 3) := dk_180 0 31 (dk_at dksX2_row_0 1 rfl rfl)
theorem dX2_row_4 : decode cX2_row 4 = .ok (.iconst 1, 1) := dk_4 (dk_at dksX2_row_0 4 rfl rfl)
theorem dX2_row_5 : decode cX2_row 5 = .ok (.if_icmp .ne 12, 3) := dk_160 0 12 (dk_at dksX2_row_0 5 rfl rfl)
theorem dX2_row_8 : decode cX2_row 8 = .ok (.aload_n 0, 1) := dk_42 (dk_at dksX2_row_0 8 rfl rfl)
theorem dX2_row_9 : decode cX2_row 9 = .ok (.ldc 191, 2) := dk_18 191 (dk_at dksX2_row_0 9 rfl rfl)
theorem dX2_row_11 : decode cX2_row 11 = .ok (.invokevirtual 71, 3) := dk_182 0 71 (dk_at dksX2_row_0 11 rfl rfl)
theorem dX2_row_14 : decode cX2_row 14 = .ok (.ifCond .lt 11, 3) := dk_155 0 11 (dk_at dksX2_row_0 14 rfl rfl)
theorem dX2_row_17 : decode cX2_row 17 = .ok (.aload_n 0, 1) := dk_42 (dk_at dksX2_row_0 17 rfl rfl)
theorem dX2_row_18 : decode cX2_row 18 = .ok (.getfield 31, 3) := dk_180 0 31 (dk_at dksX2_row_0 18 rfl rfl)
theorem dX2_row_21 : decode cX2_row 21 = .ok (.iconst 2, 1) := dk_5 (dk_at dksX2_row_0 21 rfl rfl)
theorem dX2_row_22 : decode cX2_row 22 = .ok (.if_icmp .ne 85, 3) := dk_160 0 85 (dk_at dksX2_row_1 0 rfl rfl)
theorem dX2_row_25 : decode cX2_row 25 = .ok (.aload_n 0, 1) := dk_42 (dk_at dksX2_row_1 3 rfl rfl)
theorem dX2_row_26 : decode cX2_row 26 = .ok (.getfield 31, 3) := dk_180 0 31 (dk_at dksX2_row_1 4 rfl rfl)
theorem dX2_row_29 : decode cX2_row 29 = .ok (.iconst 2, 1) := dk_5 (dk_at dksX2_row_1 7 rfl rfl)
theorem dX2_row_30 : decode cX2_row 30 = .ok (.if_icmp .ne 13, 3) := dk_160 0 13 (dk_at dksX2_row_1 8 rfl rfl)
theorem dX2_row_33 : decode cX2_row 33 = .ok (.aload_n 0, 1) := dk_42 (dk_at dksX2_row_1 11 rfl rfl)
theorem dX2_row_34 : decode cX2_row 34 = .ok (.iconst 1, 1) := dk_4 (dk_at dksX2_row_1 12 rfl rfl)
theorem dX2_row_35 : decode cX2_row 35 = .ok (.bipush 12, 2) := dk_16 12 (dk_at dksX2_row_1 13 rfl rfl)
theorem dX2_row_37 : decode cX2_row 37 = .ok (.invokevirtual 113, 3) := dk_182 0 113 (dk_at dksX2_row_1 15 rfl rfl)
theorem dX2_row_40 : decode cX2_row 40 = .ok (.goto 4, 3) := dk_167 0 4 (dk_at dksX2_row_1 18 rfl rfl)
theorem dX2_row_43 : decode cX2_row 43 = .ok (.iconst 1, 1) := dk_4 (dk_at dksX2_row_1 21 rfl rfl)
theorem dX2_row_44 : decode cX2_row 44 = .ok (.istore_n 3, 1) := dk_62 (dk_at dksX2_row_1 22 rfl rfl)
theorem dX2_row_45 : decode cX2_row 45 = .ok (.aload_n 0, 1) := dk_42 (dk_at dksX2_row_1 23 rfl rfl)
theorem dX2_row_46 : decode cX2_row 46 = .ok (.invokevirtual 180, 3) := dk_182 0 180 (dk_at dksX2_row_2 0 rfl rfl)
theorem dX2_row_49 : decode cX2_row 49 = .ok (.istore 4, 2) := dk_54 4 (dk_at dksX2_row_2 3 rfl rfl)
theorem dX2_row_51 : decode cX2_row 51 = .ok (.aload_n 1, 1) := dk_43 (dk_at dksX2_row_2 5 rfl rfl)
theorem dX2_row_52 : decode cX2_row 52 = .ok (.getfield 193, 3) := dk_180 0 193 (dk_at dksX2_row_2 6 rfl rfl)
theorem dX2_row_55 : decode cX2_row 55 = .ok (.iload_n 3, 1) := dk_29 (dk_at dksX2_row_2 9 rfl rfl)
theorem dX2_row_56 : decode cX2_row 56 = .ok (.iadd, 1) := dk_96 (dk_at dksX2_row_2 10 rfl rfl)
theorem dX2_row_57 : decode cX2_row 57 = .ok (.iload_n 2, 1) := dk_28 (dk_at dksX2_row_2 11 rfl rfl)
theorem dX2_row_58 : decode cX2_row 58 = .ok (.if_icmp .le 9, 3) := dk_164 0 9 (dk_at dksX2_row_2 12 rfl rfl)
theorem dX2_row_61 : decode cX2_row 61 = .ok (.aload_n 0, 1) := dk_42 (dk_at dksX2_row_2 15 rfl rfl)
theorem dX2_row_62 : decode cX2_row 62 = .ok (.iconst 5, 1) := dk_8 (dk_at dksX2_row_2 16 rfl rfl)
theorem dX2_row_63 : decode cX2_row 63 = .ok (.invokevirtual 75, 3) := dk_182 0 75 (dk_at dksX2_row_2 17 rfl rfl)
theorem dX2_row_66 : decode cX2_row 66 = .ok (.athrow, 1) := dk_191 (dk_at dksX2_row_2 20 rfl rfl)
theorem dX2_row_67 : decode cX2_row 67 = .ok (.iconst 0, 1) := dk_3 (dk_at dksX2_row_2 21 rfl rfl)
theorem dX2_row_68 : decode cX2_row 68 = .ok (.istore 5, 2) := dk_54 5 (dk_at dksX2_row_2 22 rfl rfl)
theorem dX2_row_70 : decode cX2_row 70 = .ok (.iload 5, 2) := dk_21 5 (dk_at dksX2_row_3 0 rfl rfl)
theorem dX2_row_72 : decode cX2_row 72 = .ok (.iload_n 3, 1) := dk_29 (dk_at dksX2_row_3 2 rfl rfl)
theorem dX2_row_73 : decode cX2_row 73 = .ok (.if_icmp .ge 27, 3) := dk_162 0 27 (dk_at dksX2_row_3 3 rfl rfl)
theorem dX2_row_76 : decode cX2_row 76 = .ok (.aload_n 1, 1) := dk_43 (dk_at dksX2_row_3 6 rfl rfl)
theorem dX2_row_77 : decode cX2_row 77 = .ok (.getfield 198, 3) := dk_180 0 198 (dk_at dksX2_row_3 7 rfl rfl)
theorem dX2_row_80 : decode cX2_row 80 = .ok (.aload_n 1, 1) := dk_43 (dk_at dksX2_row_3 10 rfl rfl)
theorem dX2_row_81 : decode cX2_row 81 = .ok (.dup, 1) := dk_89 (dk_at dksX2_row_3 11 rfl rfl)
theorem dX2_row_82 : decode cX2_row 82 = .ok (.getfield 193, 3) := dk_180 0 193 (dk_at dksX2_row_3 12 rfl rfl)
theorem dX2_row_85 : decode cX2_row 85 = .ok (.dup_x1, 1) := dk_90 (dk_at dksX2_row_3 15 rfl rfl)
theorem dX2_row_86 : decode cX2_row 86 = .ok (.iconst 1, 1) := dk_4 (dk_at dksX2_row_3 16 rfl rfl)
theorem dX2_row_87 : decode cX2_row 87 = .ok (.iadd, 1) := dk_96 (dk_at dksX2_row_3 17 rfl rfl)
theorem dX2_row_88 : decode cX2_row 88 = .ok (.putfield 193, 3) := dk_181 0 193 (dk_at dksX2_row_3 18 rfl rfl)
theorem dX2_row_91 : decode cX2_row 91 = .ok (.iload 4, 2) := dk_21 4 (dk_at dksX2_row_3 21 rfl rfl)
theorem dX2_row_93 : decode cX2_row 93 = .ok (.iastore, 1) := dk_79 (dk_at dksX2_row_3 23 rfl rfl)
theorem dX2_row_94 : decode cX2_row 94 = .ok (.iinc 5 1, 3) := dk_132 5 1 (dk_at dksX2_row_4 0 rfl rfl)
theorem dX2_row_97 : decode cX2_row 97 = .ok (.goto (-27), 3) := dk_167 255 229 (dk_at dksX2_row_4 3 rfl rfl)
theorem dX2_row_100 : decode cX2_row 100 = .ok (.aload_n 0, 1) := dk_42 (dk_at dksX2_row_4 6 rfl rfl)
theorem dX2_row_101 : decode cX2_row 101 = .ok (.invokevirtual 25, 3) := dk_182 0 25 (dk_at dksX2_row_4 7 rfl rfl)
theorem dX2_row_104 : decode cX2_row 104 = .ok (.goto (-104), 3) := dk_167 255 152 (dk_at dksX2_row_4 10 rfl rfl)
theorem dX2_row_107 : decode cX2_row 107 = .ok (.return_, 1) := dk_177 (dk_at dksX2_row_4 13 rfl rfl)
abbrev cX2_book : ByteArray := prog_16_method_23_code
def yX2_book : MethodName := ⟨RX2, "book", "(LBeggarHeaps$Table;)Ljava/util/ArrayList;"⟩
def dkwX2_book_5 : List UInt8 := [87, 167, 255, 153, 44, 176]
abbrev dktX2_book_5 : List UInt8 := dkwX2_book_5 ++ []
def dkwX2_book_4 : List UInt8 := [182, 0, 109, 45, 42, 18, 219, 182, 0, 149, 181, 0, 221, 42, 16, 59, 182, 0, 162, 44, 45, 182, 0, 176]
abbrev dktX2_book_4 : List UInt8 := dkwX2_book_4 ++ dktX2_book_5
def dkwX2_book_3 : List UInt8 := [182, 0, 202, 42, 16, 44, 182, 0, 162, 42, 45, 180, 0, 216, 16, 6, 182, 0, 202, 42, 18, 191]
abbrev dktX2_book_3 : List UInt8 := dkwX2_book_3 ++ dktX2_book_4
def dkwX2_book_2 : List UInt8 := [182, 0, 75, 191, 42, 182, 0, 25, 187, 0, 209, 89, 183, 0, 211, 78, 42, 45, 180, 0, 212, 16, 6]
abbrev dktX2_book_2 : List UInt8 := dkwX2_book_2 ++ dktX2_book_3
def dkwX2_book_1 : List UInt8 := [182, 0, 71, 156, 0, 9, 42, 4, 182, 0, 75, 191, 44, 182, 0, 143, 16, 12, 160, 0, 9, 42, 8]
abbrev dktX2_book_1 : List UInt8 := dkwX2_book_1 ++ dktX2_book_2
def dkwX2_book_0 : List UInt8 := [42, 43, 181, 0, 98, 187, 0, 144, 89, 7, 183, 0, 206, 77, 42, 180, 0, 31, 153, 0, 102, 42, 18, 207]
abbrev dktX2_book_0 : List UInt8 := dkwX2_book_0 ++ dktX2_book_1
theorem dksX2_book_0 : cX2_book.data.toList.drop 0 = dktX2_book_0 := by decide +kernel
theorem dksX2_book_1 : cX2_book.data.toList.drop 24 = dktX2_book_1 := dk_seg dksX2_book_0 24 rfl rfl
theorem dksX2_book_2 : cX2_book.data.toList.drop 47 = dktX2_book_2 := dk_seg dksX2_book_1 23 rfl rfl
theorem dksX2_book_3 : cX2_book.data.toList.drop 70 = dktX2_book_3 := dk_seg dksX2_book_2 23 rfl rfl
theorem dksX2_book_4 : cX2_book.data.toList.drop 92 = dktX2_book_4 := dk_seg dksX2_book_3 22 rfl rfl
theorem dksX2_book_5 : cX2_book.data.toList.drop 116 = dktX2_book_5 := dk_seg dksX2_book_4 24 rfl rfl
theorem dX2_book_0 : decode cX2_book 0 = .ok (.aload_n 0, 1) := dk_42 (dk_at dksX2_book_0 0 rfl rfl)
theorem dX2_book_1 : decode cX2_book 1 = .ok (.aload_n 1, 1) := dk_43 (dk_at dksX2_book_0 1 rfl rfl)
theorem dX2_book_2 : decode cX2_book 2 = .ok (.putfield 98, 3) := dk_181 0 98 (dk_at dksX2_book_0 2 rfl rfl)
theorem dX2_book_5 : decode cX2_book 5 = .ok (.new 144, 3) := dk_187 0 144 (dk_at dksX2_book_0 5 rfl rfl)
theorem dX2_book_8 : decode cX2_book 8 = .ok (.dup, 1) := dk_89 (dk_at dksX2_book_0 8 rfl rfl)
theorem dX2_book_9 : decode cX2_book 9 = .ok (.iconst 4, 1) := dk_7 (dk_at dksX2_book_0 9 rfl rfl)
theorem dX2_book_10 : decode cX2_book 10 = .ok (.invokespecial 206, 3) := dk_183 0 206 (dk_at dksX2_book_0 10 rfl rfl)
theorem dX2_book_13 : decode cX2_book 13 = .ok (.astore_n 2, 1) := dk_77 (dk_at dksX2_book_0 13 rfl rfl)
theorem dX2_book_14 : decode cX2_book 14 = .ok (.aload_n 0, 1) := dk_42 (dk_at dksX2_book_0 14 rfl rfl)
theorem dX2_book_15 : decode cX2_book 15 = .ok (.getfield 31, 3) := dk_180 0 31 (dk_at dksX2_book_0 15 rfl rfl)
theorem dX2_book_18 : decode cX2_book 18 = .ok (.ifCond .eq 102, 3) := dk_153 0 102 (dk_at dksX2_book_0 18 rfl rfl)
theorem dX2_book_21 : decode cX2_book 21 = .ok (.aload_n 0, 1) := dk_42 (dk_at dksX2_book_0 21 rfl rfl)
theorem dX2_book_22 : decode cX2_book 22 = .ok (.ldc 207, 2) := dk_18 207 (dk_at dksX2_book_0 22 rfl rfl)
theorem dX2_book_24 : decode cX2_book 24 = .ok (.invokevirtual 71, 3) := dk_182 0 71 (dk_at dksX2_book_1 0 rfl rfl)
theorem dX2_book_27 : decode cX2_book 27 = .ok (.ifCond .ge 9, 3) := dk_156 0 9 (dk_at dksX2_book_1 3 rfl rfl)
theorem dX2_book_30 : decode cX2_book 30 = .ok (.aload_n 0, 1) := dk_42 (dk_at dksX2_book_1 6 rfl rfl)
theorem dX2_book_31 : decode cX2_book 31 = .ok (.iconst 1, 1) := dk_4 (dk_at dksX2_book_1 7 rfl rfl)
theorem dX2_book_32 : decode cX2_book 32 = .ok (.invokevirtual 75, 3) := dk_182 0 75 (dk_at dksX2_book_1 8 rfl rfl)
theorem dX2_book_35 : decode cX2_book 35 = .ok (.athrow, 1) := dk_191 (dk_at dksX2_book_1 11 rfl rfl)
theorem dX2_book_36 : decode cX2_book 36 = .ok (.aload_n 2, 1) := dk_44 (dk_at dksX2_book_1 12 rfl rfl)
theorem dX2_book_37 : decode cX2_book 37 = .ok (.invokevirtual 143, 3) := dk_182 0 143 (dk_at dksX2_book_1 13 rfl rfl)
theorem dX2_book_40 : decode cX2_book 40 = .ok (.bipush 12, 2) := dk_16 12 (dk_at dksX2_book_1 16 rfl rfl)
theorem dX2_book_42 : decode cX2_book 42 = .ok (.if_icmp .ne 9, 3) := dk_160 0 9 (dk_at dksX2_book_1 18 rfl rfl)
theorem dX2_book_45 : decode cX2_book 45 = .ok (.aload_n 0, 1) := dk_42 (dk_at dksX2_book_1 21 rfl rfl)
theorem dX2_book_46 : decode cX2_book 46 = .ok (.iconst 5, 1) := dk_8 (dk_at dksX2_book_1 22 rfl rfl)
theorem dX2_book_47 : decode cX2_book 47 = .ok (.invokevirtual 75, 3) := dk_182 0 75 (dk_at dksX2_book_2 0 rfl rfl)
theorem dX2_book_50 : decode cX2_book 50 = .ok (.athrow, 1) := dk_191 (dk_at dksX2_book_2 3 rfl rfl)
theorem dX2_book_51 : decode cX2_book 51 = .ok (.aload_n 0, 1) := dk_42 (dk_at dksX2_book_2 4 rfl rfl)
theorem dX2_book_52 : decode cX2_book 52 = .ok (.invokevirtual 25, 3) := dk_182 0 25 (dk_at dksX2_book_2 5 rfl rfl)
theorem dX2_book_55 : decode cX2_book 55 = .ok (.new 209, 3) := dk_187 0 209 (dk_at dksX2_book_2 8 rfl rfl)
theorem dX2_book_58 : decode cX2_book 58 = .ok (.dup, 1) := dk_89 (dk_at dksX2_book_2 11 rfl rfl)
theorem dX2_book_59 : decode cX2_book 59 = .ok (.invokespecial 211, 3) := dk_183 0 211 (dk_at dksX2_book_2 12 rfl rfl)
theorem dX2_book_62 : decode cX2_book 62 = .ok (.astore_n 3, 1) := dk_78 (dk_at dksX2_book_2 15 rfl rfl)
theorem dX2_book_63 : decode cX2_book 63 = .ok (.aload_n 0, 1) := dk_42 (dk_at dksX2_book_2 16 rfl rfl)
theorem dX2_book_64 : decode cX2_book 64 = .ok (.aload_n 3, 1) := dk_45 (dk_at dksX2_book_2 17 rfl rfl)
theorem dX2_book_65 : decode cX2_book 65 = .ok (.getfield 212, 3) := dk_180 0 212 (dk_at dksX2_book_2 18 rfl rfl)
theorem dX2_book_68 : decode cX2_book 68 = .ok (.bipush 6, 2) := dk_16 6 (dk_at dksX2_book_2 21 rfl rfl)
theorem dX2_book_70 : decode cX2_book 70 = .ok (.invokevirtual 202, 3) := dk_182 0 202 (dk_at dksX2_book_3 0 rfl rfl)
theorem dX2_book_73 : decode cX2_book 73 = .ok (.aload_n 0, 1) := dk_42 (dk_at dksX2_book_3 3 rfl rfl)
theorem dX2_book_74 : decode cX2_book 74 = .ok (.bipush 44, 2) := dk_16 44 (dk_at dksX2_book_3 4 rfl rfl)
theorem dX2_book_76 : decode cX2_book 76 = .ok (.invokevirtual 162, 3) := dk_182 0 162 (dk_at dksX2_book_3 6 rfl rfl)
theorem dX2_book_79 : decode cX2_book 79 = .ok (.aload_n 0, 1) := dk_42 (dk_at dksX2_book_3 9 rfl rfl)
theorem dX2_book_80 : decode cX2_book 80 = .ok (.aload_n 3, 1) := dk_45 (dk_at dksX2_book_3 10 rfl rfl)
theorem dX2_book_81 : decode cX2_book 81 = .ok (.getfield 216, 3) := dk_180 0 216 (dk_at dksX2_book_3 11 rfl rfl)
theorem dX2_book_84 : decode cX2_book 84 = .ok (.bipush 6, 2) := dk_16 6 (dk_at dksX2_book_3 14 rfl rfl)
theorem dX2_book_86 : decode cX2_book 86 = .ok (.invokevirtual 202, 3) := dk_182 0 202 (dk_at dksX2_book_3 16 rfl rfl)
theorem dX2_book_89 : decode cX2_book 89 = .ok (.aload_n 0, 1) := dk_42 (dk_at dksX2_book_3 19 rfl rfl)
theorem dX2_book_90 : decode cX2_book 90 = .ok (.ldc 191, 2) := dk_18 191 (dk_at dksX2_book_3 20 rfl rfl)
theorem dX2_book_92 : decode cX2_book 92 = .ok (.invokevirtual 109, 3) := dk_182 0 109 (dk_at dksX2_book_4 0 rfl rfl)
theorem dX2_book_95 : decode cX2_book 95 = .ok (.aload_n 3, 1) := dk_45 (dk_at dksX2_book_4 3 rfl rfl)
theorem dX2_book_96 : decode cX2_book 96 = .ok (.aload_n 0, 1) := dk_42 (dk_at dksX2_book_4 4 rfl rfl)
theorem dX2_book_97 : decode cX2_book 97 = .ok (.ldc 219, 2) := dk_18 219 (dk_at dksX2_book_4 5 rfl rfl)
theorem dX2_book_99 : decode cX2_book 99 = .ok (.invokevirtual 149, 3) := dk_182 0 149 (dk_at dksX2_book_4 7 rfl rfl)
theorem dX2_book_102 : decode cX2_book 102 = .ok (.putfield 221, 3) := dk_181 0 221 (dk_at dksX2_book_4 10 rfl rfl)
theorem dX2_book_105 : decode cX2_book 105 = .ok (.aload_n 0, 1) := dk_42 (dk_at dksX2_book_4 13 rfl rfl)
theorem dX2_book_106 : decode cX2_book 106 = .ok (.bipush 59, 2) := dk_16 59 (dk_at dksX2_book_4 14 rfl rfl)
theorem dX2_book_108 : decode cX2_book 108 = .ok (.invokevirtual 162, 3) := dk_182 0 162 (dk_at dksX2_book_4 16 rfl rfl)
theorem dX2_book_111 : decode cX2_book 111 = .ok (.aload_n 2, 1) := dk_44 (dk_at dksX2_book_4 19 rfl rfl)
theorem dX2_book_112 : decode cX2_book 112 = .ok (.aload_n 3, 1) := dk_45 (dk_at dksX2_book_4 20 rfl rfl)
theorem dX2_book_113 : decode cX2_book 113 = .ok (.invokevirtual 176, 3) := dk_182 0 176 (dk_at dksX2_book_4 21 rfl rfl)
theorem dX2_book_116 : decode cX2_book 116 = .ok (.pop, 1) := dk_87 (dk_at dksX2_book_5 0 rfl rfl)
theorem dX2_book_117 : decode cX2_book 117 = .ok (.goto (-103), 3) := dk_167 255 153 (dk_at dksX2_book_5 1 rfl rfl)
theorem dX2_book_120 : decode cX2_book 120 = .ok (.aload_n 2, 1) := dk_44 (dk_at dksX2_book_5 4 rfl rfl)
theorem dX2_book_121 : decode cX2_book 121 = .ok (.areturn, 1) := dk_176 (dk_at dksX2_book_5 5 rfl rfl)
theorem q123 : (Jvm.Cond.initialized "BeggarHeaps$Reader") ∈ lw_all := lw_g (lw_at lw_m1 2 rfl) rfl
theorem q173 : (Jvm.Cond.instantiable "BeggarHeaps$Reader" (8 : Nat)) ∈ lw_all := lw_g (lw_at lw_m1 52 rfl) rfl
theorem q175 : (Jvm.Cond.instanceMethod ({ cls := "BeggarHeaps$Reader", name := "<init>", desc := "()V" } : Jvm.MethodName)) ∈ lw_all := lw_g (lw_at lw_m1 54 rfl) rfl
theorem q176 : (Jvm.Cond.code ({ cls := "BeggarHeaps$Reader", name := "<init>", desc := "()V" } : Jvm.MethodName) prog_16_method_1_code (1 : Nat) (Option.none : Option Jvm.ClassFile.FieldType)) ∈ lw_all := lw_g (lw_at lw_m1 55 rfl) rfl
theorem q177 : (Jvm.Cond.methodLink "BeggarHeaps$Reader" (3 : Nat) ({ cls := "java/lang/Object", name := "<init>", desc := "()V" } : Jvm.MethodName)) ∈ lw_all := lw_g (lw_at lw_m1 56 rfl) rfl
theorem q178 : (Jvm.Cond.fieldLink "BeggarHeaps$Reader" (9 : Nat) "BeggarHeaps$Reader" "text" "[B") ∈ lw_all := lw_g (lw_at lw_m1 57 rfl) rfl
theorem q179 : (Jvm.Cond.fieldLink "BeggarHeaps$Reader" (15 : Nat) "BeggarHeaps$Reader" "size" "I") ∈ lw_all := lw_g (lw_at lw_m1 58 rfl) rfl
theorem q180 : (Jvm.Cond.fieldLink "BeggarHeaps$Reader" (19 : Nat) "BeggarHeaps$Reader" "to" "I") ∈ lw_all := lw_g (lw_at lw_m1 59 rfl) rfl
theorem q181 : (Jvm.Cond.fieldLink "BeggarHeaps$Reader" (31 : Nat) "BeggarHeaps$Reader" "kind" "I") ∈ lw_all := lw_g (lw_at lw_m1 60 rfl) rfl
theorem q182 : (Jvm.Cond.fieldLink "BeggarHeaps$Reader" (28 : Nat) "BeggarHeaps$Reader" "from" "I") ∈ lw_all := lw_g (lw_at lw_m1 61 rfl) rfl
theorem q183 : (Jvm.Cond.fieldLink "BeggarHeaps$Reader" (45 : Nat) "BeggarHeaps$Reader" "value" "I") ∈ lw_all := lw_g (lw_at lw_m1 62 rfl) rfl
theorem q184 : (Jvm.Cond.fieldLink "BeggarHeaps$Reader" (22 : Nat) "BeggarHeaps$Reader" "within" "I") ∈ lw_all := lw_g (lw_at lw_m1 63 rfl) rfl
theorem q185 : (Jvm.Cond.fieldLink "BeggarHeaps$Reader" (98 : Nat) "BeggarHeaps$Reader" "table" "LBeggarHeaps$Table;") ∈ lw_all := lw_g (lw_at lw_m1 64 rfl) rfl
theorem q186 : (Jvm.Cond.lays "BeggarHeaps$Reader" "BeggarHeaps$Reader" "text" "[B") ∈ lw_all := lw_g (lw_at lw_m1 65 rfl) rfl
theorem q187 : (Jvm.Cond.soleField "BeggarHeaps$Reader" "text") ∈ lw_all := lw_g (lw_at lw_m1 66 rfl) rfl
theorem q188 : (Jvm.Cond.lays "BeggarHeaps$Reader" "BeggarHeaps$Reader" "size" "I") ∈ lw_all := lw_g (lw_at lw_m1 67 rfl) rfl
theorem q189 : (Jvm.Cond.soleField "BeggarHeaps$Reader" "size") ∈ lw_all := lw_g (lw_at lw_m1 68 rfl) rfl
theorem q190 : (Jvm.Cond.lays "BeggarHeaps$Reader" "BeggarHeaps$Reader" "to" "I") ∈ lw_all := lw_g (lw_at lw_m1 69 rfl) rfl
theorem q191 : (Jvm.Cond.soleField "BeggarHeaps$Reader" "to") ∈ lw_all := lw_g (lw_at lw_m1 70 rfl) rfl
theorem q192 : (Jvm.Cond.lays "BeggarHeaps$Reader" "BeggarHeaps$Reader" "kind" "I") ∈ lw_all := lw_g (lw_at lw_m1 71 rfl) rfl
theorem q193 : (Jvm.Cond.soleField "BeggarHeaps$Reader" "kind") ∈ lw_all := lw_g (lw_at lw_m1 72 rfl) rfl
theorem q194 : (Jvm.Cond.lays "BeggarHeaps$Reader" "BeggarHeaps$Reader" "from" "I") ∈ lw_all := lw_g (lw_at lw_m1 73 rfl) rfl
theorem q195 : (Jvm.Cond.soleField "BeggarHeaps$Reader" "from") ∈ lw_all := lw_g (lw_at lw_m1 74 rfl) rfl
theorem q196 : (Jvm.Cond.lays "BeggarHeaps$Reader" "BeggarHeaps$Reader" "value" "I") ∈ lw_all := lw_g (lw_at lw_m1 75 rfl) rfl
theorem q197 : (Jvm.Cond.soleField "BeggarHeaps$Reader" "value") ∈ lw_all := lw_g (lw_at lw_m1 76 rfl) rfl
theorem q198 : (Jvm.Cond.lays "BeggarHeaps$Reader" "BeggarHeaps$Reader" "within" "I") ∈ lw_all := lw_g (lw_at lw_m1 77 rfl) rfl
theorem q199 : (Jvm.Cond.soleField "BeggarHeaps$Reader" "within") ∈ lw_all := lw_g (lw_at lw_m1 78 rfl) rfl
theorem q200 : (Jvm.Cond.lays "BeggarHeaps$Reader" "BeggarHeaps$Reader" "table" "LBeggarHeaps$Table;") ∈ lw_all := lw_g (lw_at lw_m1 79 rfl) rfl
theorem q201 : (Jvm.Cond.soleField "BeggarHeaps$Reader" "table") ∈ lw_all := lw_g (lw_at lw_m1 80 rfl) rfl
theorem q202 : (Jvm.Cond.superclass "BeggarHeaps$Reader" "java/lang/Object") ∈ lw_all := lw_g (lw_at lw_m1 81 rfl) rfl
theorem q332 : (Jvm.Cond.fieldLinkNest "BeggarHeaps$Reader" (139 : Nat) "BeggarHeaps$Table" "kinds" "Ljava/util/ArrayList;" "BeggarHeaps") ∈ lw_tbl := lw_at lw_m1 211 rfl
theorem q335 : (Jvm.Cond.fieldLinkNest "BeggarHeaps$Reader" (173 : Nat) "BeggarHeaps$Table" "pays" "[I" "BeggarHeaps") ∈ lw_tbl := lw_at lw_m1 214 rfl
theorem q337 : (Jvm.Cond.fieldLinkNest "BeggarHeaps$Reader" (130 : Nat) "BeggarHeaps$Table" "pack" "[I" "BeggarHeaps") ∈ lw_tbl := lw_at lw_m1 216 rfl
theorem q340 : (Jvm.Cond.fieldLinkNest "BeggarHeaps$Reader" (116 : Nat) "BeggarHeaps$Table" "order" "I" "BeggarHeaps") ∈ lw_tbl := lw_at lw_m1 219 rfl
theorem q342 : (Jvm.Cond.fieldLinkNest "BeggarHeaps$Reader" (119 : Nat) "BeggarHeaps$Table" "first" "I" "BeggarHeaps") ∈ lw_tbl := lw_at lw_m1 221 rfl
theorem q344 : (Jvm.Cond.fieldLinkNest "BeggarHeaps$Reader" (126 : Nat) "BeggarHeaps$Table" "limit" "I" "BeggarHeaps") ∈ lw_tbl := lw_at lw_m1 223 rfl
theorem q345 : (Jvm.Cond.fieldLinkNest "BeggarHeaps$Reader" (122 : Nat) "BeggarHeaps$Table" "bet" "LBeggarHeaps$Expression;" "BeggarHeaps") ∈ lw_tbl := lw_at lw_m1 224 rfl
theorem q485 : (Jvm.Cond.fieldLinkNest "BeggarHeaps$Reader" (198 : Nat) "BeggarHeaps$Row" "card" "[I" "BeggarHeaps") ∈ lw_tbl := lw_at lw_m2 124 rfl
theorem q487 : (Jvm.Cond.fieldLinkNest "BeggarHeaps$Reader" (193 : Nat) "BeggarHeaps$Row" "many" "I" "BeggarHeaps") ∈ lw_tbl := lw_at lw_m2 126 rfl
theorem q590 : (Jvm.Cond.instanceMethod ({ cls := "BeggarHeaps$Reader", name := "begin", desc := "([BI)V" } : Jvm.MethodName)) ∈ lw_all := lw_g (lw_at lw_m2 229 rfl) rfl
theorem q591 : (Jvm.Cond.selects "BeggarHeaps$Reader" ({ cls := "BeggarHeaps$Reader", name := "begin", desc := "([BI)V" } : Jvm.MethodName) ({ cls := "BeggarHeaps$Reader", name := "begin", desc := "([BI)V" } : Jvm.MethodName)) ∈ lw_all := lw_g (lw_at lw_m2 230 rfl) rfl
theorem q592 : (Jvm.Cond.code ({ cls := "BeggarHeaps$Reader", name := "begin", desc := "([BI)V" } : Jvm.MethodName) prog_16_method_2_code (3 : Nat) (Option.none : Option Jvm.ClassFile.FieldType)) ∈ lw_all := lw_g (lw_at lw_m2 231 rfl) rfl
theorem q593 : (Jvm.Cond.methodLink "BeggarHeaps$Reader" (25 : Nat) ({ cls := "BeggarHeaps$Reader", name := "next", desc := "()V" } : Jvm.MethodName)) ∈ lw_all := lw_g (lw_at lw_m2 232 rfl) rfl
theorem q594 : (Jvm.Cond.privateMethod ({ cls := "BeggarHeaps$Reader", name := "next", desc := "()V" } : Jvm.MethodName)) ∈ lw_tbl := lw_at lw_m2 233 rfl
theorem q595 : (Jvm.Cond.instanceMethod ({ cls := "BeggarHeaps$Reader", name := "next", desc := "()V" } : Jvm.MethodName)) ∈ lw_all := lw_g (lw_at lw_m2 234 rfl) rfl
theorem q596 : (Jvm.Cond.code ({ cls := "BeggarHeaps$Reader", name := "next", desc := "()V" } : Jvm.MethodName) prog_16_method_6_code (1 : Nat) (Option.none : Option Jvm.ClassFile.FieldType)) ∈ lw_all := lw_g (lw_at lw_m2 235 rfl) rfl
theorem q597 : (Jvm.Cond.methodLink "BeggarHeaps$Reader" (34 : Nat) ({ cls := "BeggarHeaps$Reader", name := "at", desc := "(I)I" } : Jvm.MethodName)) ∈ lw_all := lw_g (lw_at lw_m2 236 rfl) rfl
theorem q598 : (Jvm.Cond.privateMethod ({ cls := "BeggarHeaps$Reader", name := "at", desc := "(I)I" } : Jvm.MethodName)) ∈ lw_tbl := lw_at lw_m2 237 rfl
theorem q599 : (Jvm.Cond.instanceMethod ({ cls := "BeggarHeaps$Reader", name := "at", desc := "(I)I" } : Jvm.MethodName)) ∈ lw_all := lw_g (lw_at lw_m2 238 rfl) rfl
theorem q600 : (Jvm.Cond.code ({ cls := "BeggarHeaps$Reader", name := "at", desc := "(I)I" } : Jvm.MethodName) prog_16_method_3_code (2 : Nat) (Option.some Jvm.ClassFile.FieldType.int)) ∈ lw_all := lw_g (lw_at lw_m2 239 rfl) rfl
theorem q601 : (Jvm.Cond.methodLink "BeggarHeaps$Reader" (38 : Nat) ({ cls := "BeggarHeaps$Reader", name := "isLetter", desc := "(I)Z" } : Jvm.MethodName)) ∈ lw_all := lw_g (lw_at lw_m3 0 rfl) rfl
theorem q602 : (Jvm.Cond.static ({ cls := "BeggarHeaps$Reader", name := "isLetter", desc := "(I)Z" } : Jvm.MethodName)) ∈ lw_all := lw_g (lw_at lw_m3 1 rfl) rfl
theorem q603 : (Jvm.Cond.code ({ cls := "BeggarHeaps$Reader", name := "isLetter", desc := "(I)Z" } : Jvm.MethodName) prog_16_method_4_code (1 : Nat) (Option.some Jvm.ClassFile.FieldType.boolean)) ∈ lw_all := lw_g (lw_at lw_m3 2 rfl) rfl
theorem q604 : (Jvm.Cond.methodLink "BeggarHeaps$Reader" (42 : Nat) ({ cls := "BeggarHeaps$Reader", name := "isDigit", desc := "(I)Z" } : Jvm.MethodName)) ∈ lw_all := lw_g (lw_at lw_m3 3 rfl) rfl
theorem q605 : (Jvm.Cond.static ({ cls := "BeggarHeaps$Reader", name := "isDigit", desc := "(I)Z" } : Jvm.MethodName)) ∈ lw_all := lw_g (lw_at lw_m3 4 rfl) rfl
theorem q606 : (Jvm.Cond.code ({ cls := "BeggarHeaps$Reader", name := "isDigit", desc := "(I)Z" } : Jvm.MethodName) prog_16_method_5_code (1 : Nat) (Option.some Jvm.ClassFile.FieldType.boolean)) ∈ lw_all := lw_g (lw_at lw_m3 5 rfl) rfl
theorem q607 : (Jvm.Cond.stringRef "BeggarHeaps$Reader" (48 : Nat) "()<=+-*,;") ∈ lw_tbl := lw_at lw_m3 6 rfl
theorem q608 : (Jvm.Cond.methodLink "BeggarHeaps$Reader" (50 : Nat) ({ cls := "java/lang/String", name := "indexOf", desc := "(I)I" } : Jvm.MethodName)) ∈ lw_all := lw_g (lw_at lw_m3 7 rfl) rfl
theorem q695 : (Jvm.Cond.instanceMethod ({ cls := "BeggarHeaps$Reader", name := "table", desc := "()LBeggarHeaps$Table;" } : Jvm.MethodName)) ∈ lw_all := lw_g (lw_at lw_m3 94 rfl) rfl
theorem q696 : (Jvm.Cond.selects "BeggarHeaps$Reader" ({ cls := "BeggarHeaps$Reader", name := "table", desc := "()LBeggarHeaps$Table;" } : Jvm.MethodName) ({ cls := "BeggarHeaps$Reader", name := "table", desc := "()LBeggarHeaps$Table;" } : Jvm.MethodName)) ∈ lw_all := lw_g (lw_at lw_m3 95 rfl) rfl
theorem q697 : (Jvm.Cond.code ({ cls := "BeggarHeaps$Reader", name := "table", desc := "()LBeggarHeaps$Table;" } : Jvm.MethodName) prog_16_method_18_code (2 : Nat) (Option.some (Jvm.ClassFile.FieldType.object "BeggarHeaps$Table"))) ∈ lw_all := lw_g (lw_at lw_m3 96 rfl) rfl
theorem q698 : (Jvm.Cond.classLink "BeggarHeaps$Reader" (106 : Nat) "BeggarHeaps$Table") ∈ lw_all := lw_g (lw_at lw_m3 97 rfl) rfl
theorem q699 : (Jvm.Cond.methodLinkNest "BeggarHeaps$Reader" (129 : Nat) ({ cls := "BeggarHeaps$Table", name := "<init>", desc := "()V" } : Jvm.MethodName) "BeggarHeaps") ∈ lw_tbl := lw_at lw_m3 98 rfl
theorem q700 : (Jvm.Cond.stringRef "BeggarHeaps$Reader" (134 : Nat) "lay first bet limit kind pack ") ∈ lw_tbl := lw_at lw_m3 99 rfl
theorem q701 : (Jvm.Cond.methodLink "BeggarHeaps$Reader" (71 : Nat) ({ cls := "BeggarHeaps$Reader", name := "which", desc := "(Ljava/lang/String;)I" } : Jvm.MethodName)) ∈ lw_all := lw_g (lw_at lw_m3 100 rfl) rfl
theorem q702 : (Jvm.Cond.privateMethod ({ cls := "BeggarHeaps$Reader", name := "which", desc := "(Ljava/lang/String;)I" } : Jvm.MethodName)) ∈ lw_tbl := lw_at lw_m3 101 rfl
theorem q703 : (Jvm.Cond.instanceMethod ({ cls := "BeggarHeaps$Reader", name := "which", desc := "(Ljava/lang/String;)I" } : Jvm.MethodName)) ∈ lw_all := lw_g (lw_at lw_m3 102 rfl) rfl
theorem q704 : (Jvm.Cond.code ({ cls := "BeggarHeaps$Reader", name := "which", desc := "(Ljava/lang/String;)I" } : Jvm.MethodName) prog_16_method_8_code (7 : Nat) (Option.some Jvm.ClassFile.FieldType.int)) ∈ lw_all := lw_g (lw_at lw_m3 103 rfl) rfl
theorem q705 : (Jvm.Cond.methodLink "BeggarHeaps$Reader" (60 : Nat) ({ cls := "java/lang/String", name := "length", desc := "()I" } : Jvm.MethodName)) ∈ lw_all := lw_g (lw_at lw_m3 104 rfl) rfl
theorem q706 : (Jvm.Cond.methodLink "BeggarHeaps$Reader" (64 : Nat) ({ cls := "java/lang/String", name := "indexOf", desc := "(II)I" } : Jvm.MethodName)) ∈ lw_all := lw_g (lw_at lw_m3 105 rfl) rfl
theorem q707 : (Jvm.Cond.methodLink "BeggarHeaps$Reader" (67 : Nat) ({ cls := "java/lang/String", name := "charAt", desc := "(I)C" } : Jvm.MethodName)) ∈ lw_all := lw_g (lw_at lw_m3 106 rfl) rfl
theorem q727 : (Jvm.Cond.methodLink "BeggarHeaps$Reader" (75 : Nat) ({ cls := "BeggarHeaps$Reader", name := "wrong", desc := "(I)LBeggarHeaps$Wrong;" } : Jvm.MethodName)) ∈ lw_all := lw_g (lw_at lw_m3 126 rfl) rfl
theorem q728 : (Jvm.Cond.privateMethod ({ cls := "BeggarHeaps$Reader", name := "wrong", desc := "(I)LBeggarHeaps$Wrong;" } : Jvm.MethodName)) ∈ lw_tbl := lw_at lw_m3 127 rfl
theorem q729 : (Jvm.Cond.instanceMethod ({ cls := "BeggarHeaps$Reader", name := "wrong", desc := "(I)LBeggarHeaps$Wrong;" } : Jvm.MethodName)) ∈ lw_all := lw_g (lw_at lw_m3 128 rfl) rfl
theorem q730 : (Jvm.Cond.code ({ cls := "BeggarHeaps$Reader", name := "wrong", desc := "(I)LBeggarHeaps$Wrong;" } : Jvm.MethodName) prog_16_method_7_code (2 : Nat) (Option.some (Jvm.ClassFile.FieldType.object "BeggarHeaps$Wrong"))) ∈ lw_all := lw_g (lw_at lw_m3 129 rfl) rfl
theorem q731 : (Jvm.Cond.classLink "BeggarHeaps$Reader" (55 : Nat) "BeggarHeaps$Wrong") ∈ lw_all := lw_g (lw_at lw_m3 130 rfl) rfl
theorem q771 : (Jvm.Cond.methodLink "BeggarHeaps$Reader" (57 : Nat) ({ cls := "BeggarHeaps$Wrong", name := "<init>", desc := "(II)V" } : Jvm.MethodName)) ∈ lw_all := lw_g (lw_at lw_m3 170 rfl) rfl
theorem q800 : (Jvm.Cond.methodLink "BeggarHeaps$Reader" (136 : Nat) ({ cls := "BeggarHeaps$Reader", name := "isTold", desc := "(I)Z" } : Jvm.MethodName)) ∈ lw_all := lw_g (lw_at lw_m3 199 rfl) rfl
theorem q801 : (Jvm.Cond.privateMethod ({ cls := "BeggarHeaps$Reader", name := "isTold", desc := "(I)Z" } : Jvm.MethodName)) ∈ lw_tbl := lw_at lw_m3 200 rfl
theorem q802 : (Jvm.Cond.instanceMethod ({ cls := "BeggarHeaps$Reader", name := "isTold", desc := "(I)Z" } : Jvm.MethodName)) ∈ lw_all := lw_g (lw_at lw_m3 201 rfl) rfl
theorem q803 : (Jvm.Cond.code ({ cls := "BeggarHeaps$Reader", name := "isTold", desc := "(I)Z" } : Jvm.MethodName) prog_16_method_17_code (2 : Nat) (Option.some Jvm.ClassFile.FieldType.boolean)) ∈ lw_all := lw_g (lw_at lw_m3 202 rfl) rfl
theorem q804 : (Jvm.Cond.methodLink "BeggarHeaps$Reader" (143 : Nat) ({ cls := "java/util/ArrayList", name := "size", desc := "()I" } : Jvm.MethodName)) ∈ lw_all := lw_g (lw_at lw_m3 203 rfl) rfl
theorem q808 : (Jvm.Cond.stringRef "BeggarHeaps$Reader" (147 : Nat) "under about high low halves ") ∈ lw_tbl := lw_at lw_m3 207 rfl
theorem q809 : (Jvm.Cond.methodLink "BeggarHeaps$Reader" (149 : Nat) ({ cls := "BeggarHeaps$Reader", name := "one", desc := "(Ljava/lang/String;)I" } : Jvm.MethodName)) ∈ lw_all := lw_g (lw_at lw_m3 208 rfl) rfl
theorem q810 : (Jvm.Cond.privateMethod ({ cls := "BeggarHeaps$Reader", name := "one", desc := "(Ljava/lang/String;)I" } : Jvm.MethodName)) ∈ lw_tbl := lw_at lw_m3 209 rfl
theorem q811 : (Jvm.Cond.instanceMethod ({ cls := "BeggarHeaps$Reader", name := "one", desc := "(Ljava/lang/String;)I" } : Jvm.MethodName)) ∈ lw_all := lw_g (lw_at lw_m3 210 rfl) rfl
theorem q812 : (Jvm.Cond.code ({ cls := "BeggarHeaps$Reader", name := "one", desc := "(Ljava/lang/String;)I" } : Jvm.MethodName) prog_16_method_16_code (3 : Nat) (Option.some Jvm.ClassFile.FieldType.int)) ∈ lw_all := lw_g (lw_at lw_m3 211 rfl) rfl
theorem q813 : (Jvm.Cond.stringRef "BeggarHeaps$Reader" (152 : Nat) "left right ") ∈ lw_tbl := lw_at lw_m3 212 rfl
theorem q814 : (Jvm.Cond.methodLink "BeggarHeaps$Reader" (154 : Nat) ({ cls := "BeggarHeaps$Reader", name := "expression", desc := "()LBeggarHeaps$Expression;" } : Jvm.MethodName)) ∈ lw_all := lw_g (lw_at lw_m3 213 rfl) rfl
theorem q815 : (Jvm.Cond.privateMethod ({ cls := "BeggarHeaps$Reader", name := "expression", desc := "()LBeggarHeaps$Expression;" } : Jvm.MethodName)) ∈ lw_tbl := lw_at lw_m3 214 rfl
theorem q816 : (Jvm.Cond.instanceMethod ({ cls := "BeggarHeaps$Reader", name := "expression", desc := "()LBeggarHeaps$Expression;" } : Jvm.MethodName)) ∈ lw_all := lw_g (lw_at lw_m3 215 rfl) rfl
theorem q817 : (Jvm.Cond.code ({ cls := "BeggarHeaps$Reader", name := "expression", desc := "()LBeggarHeaps$Expression;" } : Jvm.MethodName) prog_16_method_24_code (3 : Nat) (Option.some (Jvm.ClassFile.FieldType.object "BeggarHeaps$Expression"))) ∈ lw_all := lw_g (lw_at lw_m3 216 rfl) rfl
theorem q818 : (Jvm.Cond.methodLink "BeggarHeaps$Reader" (224 : Nat) ({ cls := "BeggarHeaps$Reader", name := "test", desc := "()LBeggarHeaps$Expression;" } : Jvm.MethodName)) ∈ lw_all := lw_g (lw_at lw_m3 217 rfl) rfl
theorem q819 : (Jvm.Cond.privateMethod ({ cls := "BeggarHeaps$Reader", name := "test", desc := "()LBeggarHeaps$Expression;" } : Jvm.MethodName)) ∈ lw_tbl := lw_at lw_m3 218 rfl
theorem q820 : (Jvm.Cond.instanceMethod ({ cls := "BeggarHeaps$Reader", name := "test", desc := "()LBeggarHeaps$Expression;" } : Jvm.MethodName)) ∈ lw_all := lw_g (lw_at lw_m3 219 rfl) rfl
theorem q821 : (Jvm.Cond.code ({ cls := "BeggarHeaps$Reader", name := "test", desc := "()LBeggarHeaps$Expression;" } : Jvm.MethodName) prog_16_method_25_code (3 : Nat) (Option.some (Jvm.ClassFile.FieldType.object "BeggarHeaps$Expression"))) ∈ lw_all := lw_g (lw_at lw_m3 220 rfl) rfl
theorem q822 : (Jvm.Cond.methodLink "BeggarHeaps$Reader" (234 : Nat) ({ cls := "BeggarHeaps$Reader", name := "sum", desc := "()LBeggarHeaps$Expression;" } : Jvm.MethodName)) ∈ lw_all := lw_g (lw_at lw_m3 221 rfl) rfl
theorem q823 : (Jvm.Cond.privateMethod ({ cls := "BeggarHeaps$Reader", name := "sum", desc := "()LBeggarHeaps$Expression;" } : Jvm.MethodName)) ∈ lw_tbl := lw_at lw_m3 222 rfl
theorem q824 : (Jvm.Cond.instanceMethod ({ cls := "BeggarHeaps$Reader", name := "sum", desc := "()LBeggarHeaps$Expression;" } : Jvm.MethodName)) ∈ lw_all := lw_g (lw_at lw_m3 223 rfl) rfl
theorem q825 : (Jvm.Cond.code ({ cls := "BeggarHeaps$Reader", name := "sum", desc := "()LBeggarHeaps$Expression;" } : Jvm.MethodName) prog_16_method_26_code (3 : Nat) (Option.some (Jvm.ClassFile.FieldType.object "BeggarHeaps$Expression"))) ∈ lw_all := lw_g (lw_at lw_m3 224 rfl) rfl
theorem q826 : (Jvm.Cond.methodLink "BeggarHeaps$Reader" (237 : Nat) ({ cls := "BeggarHeaps$Reader", name := "product", desc := "()LBeggarHeaps$Expression;" } : Jvm.MethodName)) ∈ lw_all := lw_g (lw_at lw_m3 225 rfl) rfl
theorem q827 : (Jvm.Cond.privateMethod ({ cls := "BeggarHeaps$Reader", name := "product", desc := "()LBeggarHeaps$Expression;" } : Jvm.MethodName)) ∈ lw_tbl := lw_at lw_m3 226 rfl
theorem q828 : (Jvm.Cond.instanceMethod ({ cls := "BeggarHeaps$Reader", name := "product", desc := "()LBeggarHeaps$Expression;" } : Jvm.MethodName)) ∈ lw_all := lw_g (lw_at lw_m3 227 rfl) rfl
theorem q829 : (Jvm.Cond.code ({ cls := "BeggarHeaps$Reader", name := "product", desc := "()LBeggarHeaps$Expression;" } : Jvm.MethodName) prog_16_method_27_code (2 : Nat) (Option.some (Jvm.ClassFile.FieldType.object "BeggarHeaps$Expression"))) ∈ lw_all := lw_g (lw_at lw_m3 228 rfl) rfl
theorem q830 : (Jvm.Cond.methodLink "BeggarHeaps$Reader" (240 : Nat) ({ cls := "BeggarHeaps$Reader", name := "part", desc := "()LBeggarHeaps$Expression;" } : Jvm.MethodName)) ∈ lw_all := lw_g (lw_at lw_m3 229 rfl) rfl
theorem q831 : (Jvm.Cond.privateMethod ({ cls := "BeggarHeaps$Reader", name := "part", desc := "()LBeggarHeaps$Expression;" } : Jvm.MethodName)) ∈ lw_tbl := lw_at lw_m3 230 rfl
theorem q832 : (Jvm.Cond.instanceMethod ({ cls := "BeggarHeaps$Reader", name := "part", desc := "()LBeggarHeaps$Expression;" } : Jvm.MethodName)) ∈ lw_all := lw_g (lw_at lw_m3 231 rfl) rfl
theorem q833 : (Jvm.Cond.code ({ cls := "BeggarHeaps$Reader", name := "part", desc := "()LBeggarHeaps$Expression;" } : Jvm.MethodName) prog_16_method_28_code (5 : Nat) (Option.some (Jvm.ClassFile.FieldType.object "BeggarHeaps$Expression"))) ∈ lw_all := lw_g (lw_at lw_m3 232 rfl) rfl
theorem q834 : (Jvm.Cond.stringRef "BeggarHeaps$Reader" (243 : Nat) "ahead more heaps turns ") ∈ lw_tbl := lw_at lw_m3 233 rfl
theorem q835 : (Jvm.Cond.stringRef "BeggarHeaps$Reader" (245 : Nat) "not ") ∈ lw_tbl := lw_at lw_m3 234 rfl
theorem q836 : (Jvm.Cond.methodLink "BeggarHeaps$Reader" (79 : Nat) ({ cls := "BeggarHeaps$Reader", name := "isSign", desc := "(C)Z" } : Jvm.MethodName)) ∈ lw_all := lw_g (lw_at lw_m3 235 rfl) rfl
theorem q837 : (Jvm.Cond.privateMethod ({ cls := "BeggarHeaps$Reader", name := "isSign", desc := "(C)Z" } : Jvm.MethodName)) ∈ lw_tbl := lw_at lw_m3 236 rfl
theorem q838 : (Jvm.Cond.instanceMethod ({ cls := "BeggarHeaps$Reader", name := "isSign", desc := "(C)Z" } : Jvm.MethodName)) ∈ lw_all := lw_g (lw_at lw_m3 237 rfl) rfl
theorem q839 : (Jvm.Cond.code ({ cls := "BeggarHeaps$Reader", name := "isSign", desc := "(C)Z" } : Jvm.MethodName) prog_16_method_10_code (2 : Nat) (Option.some Jvm.ClassFile.FieldType.boolean)) ∈ lw_all := lw_g (lw_at lw_m3 238 rfl) rfl
theorem q840 : (Jvm.Cond.classLink "BeggarHeaps$Reader" (247 : Nat) "BeggarHeaps$Given") ∈ lw_all := lw_g (lw_at lw_m3 239 rfl) rfl
theorem q842 : (Jvm.Cond.methodLink "BeggarHeaps$Reader" (113 : Nat) ({ cls := "BeggarHeaps$Reader", name := "number", desc := "(II)I" } : Jvm.MethodName)) ∈ lw_all := lw_g (lw_at lw_m4 1 rfl) rfl
theorem q843 : (Jvm.Cond.privateMethod ({ cls := "BeggarHeaps$Reader", name := "number", desc := "(II)I" } : Jvm.MethodName)) ∈ lw_tbl := lw_at lw_m4 2 rfl
theorem q844 : (Jvm.Cond.instanceMethod ({ cls := "BeggarHeaps$Reader", name := "number", desc := "(II)I" } : Jvm.MethodName)) ∈ lw_all := lw_g (lw_at lw_m4 3 rfl) rfl
theorem q845 : (Jvm.Cond.code ({ cls := "BeggarHeaps$Reader", name := "number", desc := "(II)I" } : Jvm.MethodName) prog_16_method_12_code (4 : Nat) (Option.some Jvm.ClassFile.FieldType.int)) ∈ lw_all := lw_g (lw_at lw_m4 4 rfl) rfl
theorem q846 : (Jvm.Cond.methodLink "BeggarHeaps$Reader" (249 : Nat) ({ cls := "BeggarHeaps$Given", name := "<init>", desc := "(I)V" } : Jvm.MethodName)) ∈ lw_all := lw_g (lw_at lw_m4 5 rfl) rfl
theorem q857 : (Jvm.Cond.classLink "BeggarHeaps$Reader" (250 : Nat) "BeggarHeaps$Fact") ∈ lw_all := lw_g (lw_at lw_m4 16 rfl) rfl
theorem q859 : (Jvm.Cond.methodLink "BeggarHeaps$Reader" (252 : Nat) ({ cls := "BeggarHeaps$Fact", name := "<init>", desc := "(I)V" } : Jvm.MethodName)) ∈ lw_all := lw_g (lw_at lw_m4 18 rfl) rfl
theorem q867 : (Jvm.Cond.classLink "BeggarHeaps$Reader" (253 : Nat) "BeggarHeaps$Not") ∈ lw_all := lw_g (lw_at lw_m4 26 rfl) rfl
theorem q869 : (Jvm.Cond.methodLink "BeggarHeaps$Reader" (255 : Nat) ({ cls := "BeggarHeaps$Not", name := "<init>", desc := "(LBeggarHeaps$Expression;)V" } : Jvm.MethodName)) ∈ lw_all := lw_g (lw_at lw_m4 28 rfl) rfl
theorem q877 : (Jvm.Cond.methodLink "BeggarHeaps$Reader" (162 : Nat) ({ cls := "BeggarHeaps$Reader", name := "need", desc := "(C)V" } : Jvm.MethodName)) ∈ lw_all := lw_g (lw_at lw_m4 36 rfl) rfl
theorem q878 : (Jvm.Cond.privateMethod ({ cls := "BeggarHeaps$Reader", name := "need", desc := "(C)V" } : Jvm.MethodName)) ∈ lw_tbl := lw_at lw_m4 37 rfl
theorem q879 : (Jvm.Cond.instanceMethod ({ cls := "BeggarHeaps$Reader", name := "need", desc := "(C)V" } : Jvm.MethodName)) ∈ lw_all := lw_g (lw_at lw_m4 38 rfl) rfl
theorem q880 : (Jvm.Cond.code ({ cls := "BeggarHeaps$Reader", name := "need", desc := "(C)V" } : Jvm.MethodName) prog_16_method_11_code (2 : Nat) (Option.none : Option Jvm.ClassFile.FieldType)) ∈ lw_all := lw_g (lw_at lw_m4 39 rfl) rfl
theorem q881 : (Jvm.Cond.classLink "BeggarHeaps$Reader" (229 : Nat) "BeggarHeaps$Two") ∈ lw_all := lw_g (lw_at lw_m4 40 rfl) rfl
theorem q883 : (Jvm.Cond.methodLink "BeggarHeaps$Reader" (231 : Nat) ({ cls := "BeggarHeaps$Two", name := "<init>", desc := "(CLBeggarHeaps$Expression;LBeggarHeaps$Expression;)V" } : Jvm.MethodName)) ∈ lw_all := lw_g (lw_at lw_m4 42 rfl) rfl
theorem q897 : (Jvm.Cond.stringRef "BeggarHeaps$Reader" (227 : Nat) "and or ") ∈ lw_tbl := lw_at lw_m4 56 rfl
theorem q898 : (Jvm.Cond.methodLink "BeggarHeaps$Reader" (158 : Nat) ({ cls := "BeggarHeaps$Reader", name := "kind", desc := "()V" } : Jvm.MethodName)) ∈ lw_all := lw_g (lw_at lw_m4 57 rfl) rfl
theorem q899 : (Jvm.Cond.privateMethod ({ cls := "BeggarHeaps$Reader", name := "kind", desc := "()V" } : Jvm.MethodName)) ∈ lw_tbl := lw_at lw_m4 58 rfl
theorem q900 : (Jvm.Cond.instanceMethod ({ cls := "BeggarHeaps$Reader", name := "kind", desc := "()V" } : Jvm.MethodName)) ∈ lw_all := lw_g (lw_at lw_m4 59 rfl) rfl
theorem q901 : (Jvm.Cond.code ({ cls := "BeggarHeaps$Reader", name := "kind", desc := "()V" } : Jvm.MethodName) prog_16_method_19_code (3 : Nat) (Option.none : Option Jvm.ClassFile.FieldType)) ∈ lw_all := lw_g (lw_at lw_m4 60 rfl) rfl
theorem q902 : (Jvm.Cond.methodLink "BeggarHeaps$Reader" (102 : Nat) ({ cls := "BeggarHeaps$Reader", name := "name", desc := "()Ljava/lang/String;" } : Jvm.MethodName)) ∈ lw_all := lw_g (lw_at lw_m4 61 rfl) rfl
theorem q903 : (Jvm.Cond.privateMethod ({ cls := "BeggarHeaps$Reader", name := "name", desc := "()Ljava/lang/String;" } : Jvm.MethodName)) ∈ lw_tbl := lw_at lw_m4 62 rfl
theorem q904 : (Jvm.Cond.instanceMethod ({ cls := "BeggarHeaps$Reader", name := "name", desc := "()Ljava/lang/String;" } : Jvm.MethodName)) ∈ lw_all := lw_g (lw_at lw_m4 63 rfl) rfl
theorem q905 : (Jvm.Cond.code ({ cls := "BeggarHeaps$Reader", name := "name", desc := "()Ljava/lang/String;" } : Jvm.MethodName) prog_16_method_13_code (3 : Nat) (Option.some (Jvm.ClassFile.FieldType.object "java/lang/String"))) ∈ lw_all := lw_g (lw_at lw_m4 64 rfl) rfl
theorem q906 : (Jvm.Cond.stringRef "BeggarHeaps$Reader" (83 : Nat) "kind pays pack lay first bet limit under about high low halves left right nobody opening won not and or ") ∈ lw_tbl := lw_at lw_m4 65 rfl
theorem q907 : (Jvm.Cond.classLink "BeggarHeaps$Reader" (85 : Nat) "java/lang/StringBuilder") ∈ lw_all := lw_g (lw_at lw_m4 66 rfl) rfl
theorem q909 : (Jvm.Cond.methodLink "BeggarHeaps$Reader" (87 : Nat) ({ cls := "java/lang/StringBuilder", name := "<init>", desc := "(I)V" } : Jvm.MethodName)) ∈ lw_all := lw_g (lw_at lw_m4 68 rfl) rfl
theorem q937 : (Jvm.Cond.methodLink "BeggarHeaps$Reader" (90 : Nat) ({ cls := "java/lang/StringBuilder", name := "append", desc := "(C)Ljava/lang/StringBuilder;" } : Jvm.MethodName)) ∈ lw_all := lw_g (lw_at lw_m4 96 rfl) rfl
theorem q1008 : (Jvm.Cond.methodLink "BeggarHeaps$Reader" (94 : Nat) ({ cls := "java/lang/StringBuilder", name := "toString", desc := "()Ljava/lang/String;" } : Jvm.MethodName)) ∈ lw_all := lw_g (lw_at lw_m4 167 rfl) rfl
theorem q1065 : (Jvm.Cond.methodLink "BeggarHeaps$Reader" (105 : Nat) ({ cls := "BeggarHeaps$Table", name := "kind", desc := "(Ljava/lang/String;)I" } : Jvm.MethodName)) ∈ lw_all := lw_g (lw_at lw_m4 224 rfl) rfl
theorem q1091 : (Jvm.Cond.stringRef "BeggarHeaps$Reader" (168 : Nat) "pays ") ∈ lw_tbl := lw_at lw_m5 10 rfl
theorem q1092 : (Jvm.Cond.methodLink "BeggarHeaps$Reader" (170 : Nat) ({ cls := "BeggarHeaps$Reader", name := "number", desc := "(Ljava/lang/String;II)I" } : Jvm.MethodName)) ∈ lw_all := lw_g (lw_at lw_m5 11 rfl) rfl
theorem q1093 : (Jvm.Cond.privateMethod ({ cls := "BeggarHeaps$Reader", name := "number", desc := "(Ljava/lang/String;II)I" } : Jvm.MethodName)) ∈ lw_tbl := lw_at lw_m5 12 rfl
theorem q1094 : (Jvm.Cond.instanceMethod ({ cls := "BeggarHeaps$Reader", name := "number", desc := "(Ljava/lang/String;II)I" } : Jvm.MethodName)) ∈ lw_all := lw_g (lw_at lw_m5 13 rfl) rfl
theorem q1095 : (Jvm.Cond.code ({ cls := "BeggarHeaps$Reader", name := "number", desc := "(Ljava/lang/String;II)I" } : Jvm.MethodName) prog_16_method_15_code (4 : Nat) (Option.some Jvm.ClassFile.FieldType.int)) ∈ lw_all := lw_g (lw_at lw_m5 14 rfl) rfl
theorem q1096 : (Jvm.Cond.methodLink "BeggarHeaps$Reader" (109 : Nat) ({ cls := "BeggarHeaps$Reader", name := "need", desc := "(Ljava/lang/String;)V" } : Jvm.MethodName)) ∈ lw_all := lw_g (lw_at lw_m5 15 rfl) rfl
theorem q1097 : (Jvm.Cond.privateMethod ({ cls := "BeggarHeaps$Reader", name := "need", desc := "(Ljava/lang/String;)V" } : Jvm.MethodName)) ∈ lw_tbl := lw_at lw_m5 16 rfl
theorem q1098 : (Jvm.Cond.instanceMethod ({ cls := "BeggarHeaps$Reader", name := "need", desc := "(Ljava/lang/String;)V" } : Jvm.MethodName)) ∈ lw_all := lw_g (lw_at lw_m5 17 rfl) rfl
theorem q1099 : (Jvm.Cond.code ({ cls := "BeggarHeaps$Reader", name := "need", desc := "(Ljava/lang/String;)V" } : Jvm.MethodName) prog_16_method_9_code (2 : Nat) (Option.none : Option Jvm.ClassFile.FieldType)) ∈ lw_all := lw_g (lw_at lw_m5 18 rfl) rfl
theorem q1100 : (Jvm.Cond.methodLink "BeggarHeaps$Reader" (176 : Nat) ({ cls := "java/util/ArrayList", name := "add", desc := "(Ljava/lang/Object;)Z" } : Jvm.MethodName)) ∈ lw_all := lw_g (lw_at lw_m5 19 rfl) rfl
theorem q1138 : (Jvm.Cond.selects "BeggarHeaps$Reader" ({ cls := "java/lang/Object", name := "getClass", desc := "()Ljava/lang/Class;" } : Jvm.MethodName) ({ cls := "java/lang/Object", name := "getClass", desc := "()Ljava/lang/Class;" } : Jvm.MethodName)) ∈ lw_all := lw_g (lw_at lw_m5 57 rfl) rfl
theorem q1157 : (Jvm.Cond.methodLink "BeggarHeaps$Reader" (160 : Nat) ({ cls := "BeggarHeaps$Reader", name := "pack", desc := "()V" } : Jvm.MethodName)) ∈ lw_all := lw_g (lw_at lw_m5 76 rfl) rfl
theorem q1158 : (Jvm.Cond.privateMethod ({ cls := "BeggarHeaps$Reader", name := "pack", desc := "()V" } : Jvm.MethodName)) ∈ lw_tbl := lw_at lw_m5 77 rfl
theorem q1159 : (Jvm.Cond.instanceMethod ({ cls := "BeggarHeaps$Reader", name := "pack", desc := "()V" } : Jvm.MethodName)) ∈ lw_all := lw_g (lw_at lw_m5 78 rfl) rfl
theorem q1160 : (Jvm.Cond.code ({ cls := "BeggarHeaps$Reader", name := "pack", desc := "()V" } : Jvm.MethodName) prog_16_method_20_code (2 : Nat) (Option.none : Option Jvm.ClassFile.FieldType)) ∈ lw_all := lw_g (lw_at lw_m5 79 rfl) rfl
theorem q1161 : (Jvm.Cond.methodLink "BeggarHeaps$Reader" (180 : Nat) ({ cls := "BeggarHeaps$Reader", name := "told", desc := "()I" } : Jvm.MethodName)) ∈ lw_all := lw_g (lw_at lw_m5 80 rfl) rfl
theorem q1162 : (Jvm.Cond.privateMethod ({ cls := "BeggarHeaps$Reader", name := "told", desc := "()I" } : Jvm.MethodName)) ∈ lw_tbl := lw_at lw_m5 81 rfl
theorem q1163 : (Jvm.Cond.instanceMethod ({ cls := "BeggarHeaps$Reader", name := "told", desc := "()I" } : Jvm.MethodName)) ∈ lw_all := lw_g (lw_at lw_m5 82 rfl) rfl
theorem q1164 : (Jvm.Cond.code ({ cls := "BeggarHeaps$Reader", name := "told", desc := "()I" } : Jvm.MethodName) prog_16_method_14_code (2 : Nat) (Option.some Jvm.ClassFile.FieldType.int)) ∈ lw_all := lw_g (lw_at lw_m5 83 rfl) rfl
theorem q1165 : (Jvm.Cond.methodLink "BeggarHeaps$Reader" (183 : Nat) ({ cls := "BeggarHeaps$Table", name := "cards", desc := "()I" } : Jvm.MethodName)) ∈ lw_all := lw_g (lw_at lw_m5 84 rfl) rfl
theorem q1170 : (Jvm.Cond.methodLink "BeggarHeaps$Reader" (186 : Nat) ({ cls := "java/lang/Math", name := "min", desc := "(II)I" } : Jvm.MethodName)) ∈ lw_all := lw_g (lw_at lw_m5 89 rfl) rfl
theorem q1171 : (Jvm.Cond.methodLink "BeggarHeaps$Reader" (165 : Nat) ({ cls := "BeggarHeaps$Table", name := "ends", desc := "()V" } : Jvm.MethodName)) ∈ lw_all := lw_g (lw_at lw_m5 90 rfl) rfl
theorem q1193 : (Jvm.Cond.instanceMethod ({ cls := "BeggarHeaps$Reader", name := "deal", desc := "(LBeggarHeaps$Table;)[LBeggarHeaps$Row;" } : Jvm.MethodName)) ∈ lw_all := lw_g (lw_at lw_m5 112 rfl) rfl
theorem q1194 : (Jvm.Cond.selects "BeggarHeaps$Reader" ({ cls := "BeggarHeaps$Reader", name := "deal", desc := "(LBeggarHeaps$Table;)[LBeggarHeaps$Row;" } : Jvm.MethodName) ({ cls := "BeggarHeaps$Reader", name := "deal", desc := "(LBeggarHeaps$Table;)[LBeggarHeaps$Row;" } : Jvm.MethodName)) ∈ lw_all := lw_g (lw_at lw_m5 113 rfl) rfl
theorem q1195 : (Jvm.Cond.code ({ cls := "BeggarHeaps$Reader", name := "deal", desc := "(LBeggarHeaps$Table;)[LBeggarHeaps$Row;" } : Jvm.MethodName) prog_16_method_22_code (4 : Nat) (Option.some (Jvm.ClassFile.FieldType.array (Jvm.ClassFile.FieldType.object "BeggarHeaps$Row")))) ∈ lw_all := lw_g (lw_at lw_m5 114 rfl) rfl
theorem q1196 : (Jvm.Cond.classLink "BeggarHeaps$Reader" (194 : Nat) "BeggarHeaps$Row") ∈ lw_all := lw_g (lw_at lw_m5 115 rfl) rfl
theorem q1198 : (Jvm.Cond.methodLinkNest "BeggarHeaps$Reader" (201 : Nat) ({ cls := "BeggarHeaps$Row", name := "<init>", desc := "()V" } : Jvm.MethodName) "BeggarHeaps") ∈ lw_tbl := lw_at lw_m5 117 rfl
theorem q1199 : (Jvm.Cond.methodLink "BeggarHeaps$Reader" (202 : Nat) ({ cls := "BeggarHeaps$Reader", name := "row", desc := "(LBeggarHeaps$Row;I)V" } : Jvm.MethodName)) ∈ lw_all := lw_g (lw_at lw_m5 118 rfl) rfl
theorem q1200 : (Jvm.Cond.privateMethod ({ cls := "BeggarHeaps$Reader", name := "row", desc := "(LBeggarHeaps$Row;I)V" } : Jvm.MethodName)) ∈ lw_tbl := lw_at lw_m5 119 rfl
theorem q1201 : (Jvm.Cond.instanceMethod ({ cls := "BeggarHeaps$Reader", name := "row", desc := "(LBeggarHeaps$Row;I)V" } : Jvm.MethodName)) ∈ lw_all := lw_g (lw_at lw_m5 120 rfl) rfl
theorem q1202 : (Jvm.Cond.code ({ cls := "BeggarHeaps$Reader", name := "row", desc := "(LBeggarHeaps$Row;I)V" } : Jvm.MethodName) prog_16_method_21_code (6 : Nat) (Option.none : Option Jvm.ClassFile.FieldType)) ∈ lw_all := lw_g (lw_at lw_m5 121 rfl) rfl
theorem q1203 : (Jvm.Cond.stringRef "BeggarHeaps$Reader" (191 : Nat) "won ") ∈ lw_tbl := lw_at lw_m5 122 rfl
theorem q1212 : (Jvm.Cond.instanceMethod ({ cls := "BeggarHeaps$Reader", name := "book", desc := "(LBeggarHeaps$Table;)Ljava/util/ArrayList;" } : Jvm.MethodName)) ∈ lw_all := lw_g (lw_at lw_m5 131 rfl) rfl
theorem q1213 : (Jvm.Cond.selects "BeggarHeaps$Reader" ({ cls := "BeggarHeaps$Reader", name := "book", desc := "(LBeggarHeaps$Table;)Ljava/util/ArrayList;" } : Jvm.MethodName) ({ cls := "BeggarHeaps$Reader", name := "book", desc := "(LBeggarHeaps$Table;)Ljava/util/ArrayList;" } : Jvm.MethodName)) ∈ lw_all := lw_g (lw_at lw_m5 132 rfl) rfl
theorem q1214 : (Jvm.Cond.code ({ cls := "BeggarHeaps$Reader", name := "book", desc := "(LBeggarHeaps$Table;)Ljava/util/ArrayList;" } : Jvm.MethodName) prog_16_method_23_code (4 : Nat) (Option.some (Jvm.ClassFile.FieldType.object "java/util/ArrayList"))) ∈ lw_all := lw_g (lw_at lw_m5 133 rfl) rfl
theorem q1215 : (Jvm.Cond.classLink "BeggarHeaps$Reader" (144 : Nat) "java/util/ArrayList") ∈ lw_all := lw_g (lw_at lw_m5 134 rfl) rfl
theorem q1216 : (Jvm.Cond.methodLink "BeggarHeaps$Reader" (206 : Nat) ({ cls := "java/util/ArrayList", name := "<init>", desc := "(I)V" } : Jvm.MethodName)) ∈ lw_all := lw_g (lw_at lw_m5 135 rfl) rfl
theorem q1217 : (Jvm.Cond.stringRef "BeggarHeaps$Reader" (207 : Nat) "opening ") ∈ lw_tbl := lw_at lw_m5 136 rfl
theorem q1218 : (Jvm.Cond.classLink "BeggarHeaps$Reader" (209 : Nat) "BeggarHeaps$Opening") ∈ lw_all := lw_g (lw_at lw_m5 137 rfl) rfl
theorem q1220 : (Jvm.Cond.methodLinkNest "BeggarHeaps$Reader" (211 : Nat) ({ cls := "BeggarHeaps$Opening", name := "<init>", desc := "()V" } : Jvm.MethodName) "BeggarHeaps") ∈ lw_tbl := lw_at lw_m5 139 rfl
theorem q1227 : (Jvm.Cond.fieldLinkNest "BeggarHeaps$Reader" (212 : Nat) "BeggarHeaps$Opening" "left" "LBeggarHeaps$Row;" "BeggarHeaps") ∈ lw_tbl := lw_at lw_m5 146 rfl
theorem q1230 : (Jvm.Cond.fieldLinkNest "BeggarHeaps$Reader" (216 : Nat) "BeggarHeaps$Opening" "right" "LBeggarHeaps$Row;" "BeggarHeaps") ∈ lw_tbl := lw_at lw_m5 149 rfl
theorem q1232 : (Jvm.Cond.fieldLinkNest "BeggarHeaps$Reader" (221 : Nat) "BeggarHeaps$Opening" "won" "I" "BeggarHeaps") ∈ lw_tbl := lw_at lw_m5 151 rfl
theorem q1241 : (Jvm.Cond.stringRef "BeggarHeaps$Reader" (219 : Nat) "left right nobody ") ∈ lw_tbl := lw_at lw_m5 160 rfl
theorem q2369 : (Jvm.Cond.castable "BeggarHeaps$Reader" "java/lang/Object") ∈ lw_tbl := lw_at lw_m10 88 rfl
theorem in_X2 : ∀ w ∈ wsX20, w ∈ lw_all := lw_in wsX20 [186, 188, 190, 192, 194, 196, 198, 200] (by decide +kernel) (by decide +kernel)

/-! BeggarHeaps$Opening -/
set_option maxRecDepth 100000
def RX20 : String := "BeggarHeaps$Opening"
def TX20 : u_T := fun k => match k with
  | 0 => ("BeggarHeaps$Opening", "left", "LBeggarHeaps$Row;", true)
  | 1 => ("BeggarHeaps$Opening", "right", "LBeggarHeaps$Row;", true)
  | _ => ("BeggarHeaps$Opening", "won", "I", false)
def tyX20 : Nat → FieldType := fun k => match k with
  | 0 => .object "BeggarHeaps$Row"
  | 1 => .object "BeggarHeaps$Row"
  | _ => .int
abbrev wsX200 : List Cond := u_ws RX20 TX20 3
theorem nmX20 : ∀ a, a < 3 → ∀ b, b < 3 → a ≠ b → (TX20 a).2.1 ≠ (TX20 b).2.1 := by decide +kernel
theorem tyX20_ok : ∀ k, k < 3 → parseFieldDescriptor (TX20 k).2.2.1 = some (tyX20 k) := by decide +kernel
abbrev cX20_init : ByteArray := prog_14_method_1_code
def yX20_init : MethodName := ⟨RX20, "<init>", "()V"⟩
def dkwX20_init_1 : List UInt8 := [181, 0, 16, 177]
abbrev dktX20_init_1 : List UInt8 := dkwX20_init_1 ++ []
def dkwX20_init_0 : List UInt8 := [42, 183, 0, 1, 42, 187, 0, 7, 89, 183, 0, 9, 181, 0, 10, 42, 187, 0, 7, 89, 183, 0, 9]
abbrev dktX20_init_0 : List UInt8 := dkwX20_init_0 ++ dktX20_init_1
theorem dksX20_init_0 : cX20_init.data.toList.drop 0 = dktX20_init_0 := by decide +kernel
theorem dksX20_init_1 : cX20_init.data.toList.drop 23 = dktX20_init_1 := dk_seg dksX20_init_0 23 rfl rfl
theorem dX20_init_0 : decode cX20_init 0 = .ok (.aload_n 0, 1) := dk_42 (dk_at dksX20_init_0 0 rfl rfl)
theorem dX20_init_1 : decode cX20_init 1 = .ok (.invokespecial 1, 3) := dk_183 0 1 (dk_at dksX20_init_0 1 rfl rfl)
theorem dX20_init_4 : decode cX20_init 4 = .ok (.aload_n 0, 1) := dk_42 (dk_at dksX20_init_0 4 rfl rfl)
theorem dX20_init_5 : decode cX20_init 5 = .ok (.new 7, 3) := dk_187 0 7 (dk_at dksX20_init_0 5 rfl rfl)
theorem dX20_init_8 : decode cX20_init 8 = .ok (.dup, 1) := dk_89 (dk_at dksX20_init_0 8 rfl rfl)
theorem dX20_init_9 : decode cX20_init 9 = .ok (.invokespecial 9, 3) := dk_183 0 9 (dk_at dksX20_init_0 9 rfl rfl)
theorem dX20_init_12 : decode cX20_init 12 = .ok (.putfield 10, 3) := dk_181 0 10 (dk_at dksX20_init_0 12 rfl rfl)
theorem dX20_init_15 : decode cX20_init 15 = .ok (.aload_n 0, 1) := dk_42 (dk_at dksX20_init_0 15 rfl rfl)
theorem dX20_init_16 : decode cX20_init 16 = .ok (.new 7, 3) := dk_187 0 7 (dk_at dksX20_init_0 16 rfl rfl)
theorem dX20_init_19 : decode cX20_init 19 = .ok (.dup, 1) := dk_89 (dk_at dksX20_init_0 19 rfl rfl)
theorem dX20_init_20 : decode cX20_init 20 = .ok (.invokespecial 9, 3) := dk_183 0 9 (dk_at dksX20_init_0 20 rfl rfl)
theorem dX20_init_23 : decode cX20_init 23 = .ok (.putfield 16, 3) := dk_181 0 16 (dk_at dksX20_init_1 0 rfl rfl)
theorem dX20_init_26 : decode cX20_init 26 = .ok (.return_, 1) := dk_177 (dk_at dksX20_init_1 3 rfl rfl)
theorem q159 : (Jvm.Cond.initialized "BeggarHeaps$Opening") ∈ lw_all := lw_g (lw_at lw_m1 38 rfl) rfl
theorem q1137 : (Jvm.Cond.selects "BeggarHeaps$Opening" ({ cls := "java/lang/Object", name := "getClass", desc := "()Ljava/lang/Class;" } : Jvm.MethodName) ({ cls := "java/lang/Object", name := "getClass", desc := "()Ljava/lang/Class;" } : Jvm.MethodName)) ∈ lw_all := lw_g (lw_at lw_m5 56 rfl) rfl
theorem q1219 : (Jvm.Cond.instantiable "BeggarHeaps$Opening" (3 : Nat)) ∈ lw_all := lw_g (lw_at lw_m5 138 rfl) rfl
theorem q1221 : (Jvm.Cond.instanceMethod ({ cls := "BeggarHeaps$Opening", name := "<init>", desc := "()V" } : Jvm.MethodName)) ∈ lw_all := lw_g (lw_at lw_m5 140 rfl) rfl
theorem q1222 : (Jvm.Cond.code ({ cls := "BeggarHeaps$Opening", name := "<init>", desc := "()V" } : Jvm.MethodName) prog_14_method_1_code (1 : Nat) (Option.none : Option Jvm.ClassFile.FieldType)) ∈ lw_all := lw_g (lw_at lw_m5 141 rfl) rfl
theorem q1223 : (Jvm.Cond.methodLink "BeggarHeaps$Opening" (1 : Nat) ({ cls := "java/lang/Object", name := "<init>", desc := "()V" } : Jvm.MethodName)) ∈ lw_all := lw_g (lw_at lw_m5 142 rfl) rfl
theorem q1224 : (Jvm.Cond.classLink "BeggarHeaps$Opening" (7 : Nat) "BeggarHeaps$Row") ∈ lw_all := lw_g (lw_at lw_m5 143 rfl) rfl
theorem q1225 : (Jvm.Cond.methodLinkNest "BeggarHeaps$Opening" (9 : Nat) ({ cls := "BeggarHeaps$Row", name := "<init>", desc := "()V" } : Jvm.MethodName) "BeggarHeaps") ∈ lw_tbl := lw_at lw_m5 144 rfl
theorem q1226 : (Jvm.Cond.fieldLink "BeggarHeaps$Opening" (10 : Nat) "BeggarHeaps$Opening" "left" "LBeggarHeaps$Row;") ∈ lw_all := lw_g (lw_at lw_m5 145 rfl) rfl
theorem q1229 : (Jvm.Cond.fieldLink "BeggarHeaps$Opening" (16 : Nat) "BeggarHeaps$Opening" "right" "LBeggarHeaps$Row;") ∈ lw_all := lw_g (lw_at lw_m5 148 rfl) rfl
theorem q1234 : (Jvm.Cond.laysFinal "BeggarHeaps$Opening" "BeggarHeaps$Opening" "left" "LBeggarHeaps$Row;") ∈ lw_all := lw_g (lw_at lw_m5 153 rfl) rfl
theorem q1235 : (Jvm.Cond.soleField "BeggarHeaps$Opening" "left") ∈ lw_all := lw_g (lw_at lw_m5 154 rfl) rfl
theorem q1236 : (Jvm.Cond.laysFinal "BeggarHeaps$Opening" "BeggarHeaps$Opening" "right" "LBeggarHeaps$Row;") ∈ lw_all := lw_g (lw_at lw_m5 155 rfl) rfl
theorem q1237 : (Jvm.Cond.soleField "BeggarHeaps$Opening" "right") ∈ lw_all := lw_g (lw_at lw_m5 156 rfl) rfl
theorem q1238 : (Jvm.Cond.lays "BeggarHeaps$Opening" "BeggarHeaps$Opening" "won" "I") ∈ lw_all := lw_g (lw_at lw_m5 157 rfl) rfl
theorem q1239 : (Jvm.Cond.soleField "BeggarHeaps$Opening" "won") ∈ lw_all := lw_g (lw_at lw_m5 158 rfl) rfl
theorem q1240 : (Jvm.Cond.superclass "BeggarHeaps$Opening" "java/lang/Object") ∈ lw_all := lw_g (lw_at lw_m5 159 rfl) rfl
theorem q2386 : (Jvm.Cond.castable "BeggarHeaps$Opening" "java/lang/Object") ∈ lw_tbl := lw_at lw_m10 105 rfl
theorem in_X20 : ∀ w ∈ wsX200, w ∈ lw_all := lw_in wsX200 [1234, 1236, 1238] (by decide +kernel) (by decide +kernel)

/-! BeggarHeaps$Heap -/
set_option maxRecDepth 100000
def RX21 : String := "BeggarHeaps$Heap"
def TX21 : u_T := fun k => match k with
  | 0 => ("BeggarHeaps$Heap", "who", "I", true)
  | 1 => ("BeggarHeaps$Heap", "cards", "I", true)
  | 2 => ("BeggarHeaps$Heap", "pictures", "I", true)
  | _ => ("BeggarHeaps$Heap", "rounds", "I", true)
def tyX21 : Nat → FieldType := fun k => match k with
  | 0 => .int
  | 1 => .int
  | 2 => .int
  | _ => .int
abbrev wsX210 : List Cond := u_ws RX21 TX21 4
theorem nmX21 : ∀ a, a < 4 → ∀ b, b < 4 → a ≠ b → (TX21 a).2.1 ≠ (TX21 b).2.1 := by decide +kernel
theorem tyX21_ok : ∀ k, k < 4 → parseFieldDescriptor (TX21 k).2.2.1 = some (tyX21 k) := by decide +kernel
abbrev cX21_init : ByteArray := prog_9_method_1_code
def yX21_init : MethodName := ⟨RX21, "<init>", "(IIII)V"⟩
def dkwX21_init_1 : List UInt8 := [181, 0, 19, 177]
abbrev dktX21_init_1 : List UInt8 := dkwX21_init_1 ++ []
def dkwX21_init_0 : List UInt8 := [42, 183, 0, 1, 42, 27, 181, 0, 7, 42, 28, 181, 0, 13, 42, 29, 181, 0, 16, 42, 21, 4]
abbrev dktX21_init_0 : List UInt8 := dkwX21_init_0 ++ dktX21_init_1
theorem dksX21_init_0 : cX21_init.data.toList.drop 0 = dktX21_init_0 := by decide +kernel
theorem dksX21_init_1 : cX21_init.data.toList.drop 22 = dktX21_init_1 := dk_seg dksX21_init_0 22 rfl rfl
theorem dX21_init_0 : decode cX21_init 0 = .ok (.aload_n 0, 1) := dk_42 (dk_at dksX21_init_0 0 rfl rfl)
theorem dX21_init_1 : decode cX21_init 1 = .ok (.invokespecial 1, 3) := dk_183 0 1 (dk_at dksX21_init_0 1 rfl rfl)
theorem dX21_init_4 : decode cX21_init 4 = .ok (.aload_n 0, 1) := dk_42 (dk_at dksX21_init_0 4 rfl rfl)
theorem dX21_init_5 : decode cX21_init 5 = .ok (.iload_n 1, 1) := dk_27 (dk_at dksX21_init_0 5 rfl rfl)
theorem dX21_init_6 : decode cX21_init 6 = .ok (.putfield 7, 3) := dk_181 0 7 (dk_at dksX21_init_0 6 rfl rfl)
theorem dX21_init_9 : decode cX21_init 9 = .ok (.aload_n 0, 1) := dk_42 (dk_at dksX21_init_0 9 rfl rfl)
theorem dX21_init_10 : decode cX21_init 10 = .ok (.iload_n 2, 1) := dk_28 (dk_at dksX21_init_0 10 rfl rfl)
theorem dX21_init_11 : decode cX21_init 11 = .ok (.putfield 13, 3) := dk_181 0 13 (dk_at dksX21_init_0 11 rfl rfl)
theorem dX21_init_14 : decode cX21_init 14 = .ok (.aload_n 0, 1) := dk_42 (dk_at dksX21_init_0 14 rfl rfl)
theorem dX21_init_15 : decode cX21_init 15 = .ok (.iload_n 3, 1) := dk_29 (dk_at dksX21_init_0 15 rfl rfl)
theorem dX21_init_16 : decode cX21_init 16 = .ok (.putfield 16, 3) := dk_181 0 16 (dk_at dksX21_init_0 16 rfl rfl)
theorem dX21_init_19 : decode cX21_init 19 = .ok (.aload_n 0, 1) := dk_42 (dk_at dksX21_init_0 19 rfl rfl)
theorem dX21_init_20 : decode cX21_init 20 = .ok (.iload 4, 2) := dk_21 4 (dk_at dksX21_init_0 20 rfl rfl)
theorem dX21_init_22 : decode cX21_init 22 = .ok (.putfield 19, 3) := dk_181 0 19 (dk_at dksX21_init_1 0 rfl rfl)
theorem dX21_init_25 : decode cX21_init 25 = .ok (.return_, 1) := dk_177 (dk_at dksX21_init_1 3 rfl rfl)
theorem q160 : (Jvm.Cond.initialized "BeggarHeaps$Heap") ∈ lw_all := lw_g (lw_at lw_m1 39 rfl) rfl
theorem q1132 : (Jvm.Cond.selects "BeggarHeaps$Heap" ({ cls := "java/lang/Object", name := "getClass", desc := "()Ljava/lang/Class;" } : Jvm.MethodName) ({ cls := "java/lang/Object", name := "getClass", desc := "()Ljava/lang/Class;" } : Jvm.MethodName)) ∈ lw_all := lw_g (lw_at lw_m5 51 rfl) rfl
theorem q1341 : (Jvm.Cond.instantiable "BeggarHeaps$Heap" (4 : Nat)) ∈ lw_all := lw_g (lw_at lw_m6 20 rfl) rfl
theorem q1343 : (Jvm.Cond.instanceMethod ({ cls := "BeggarHeaps$Heap", name := "<init>", desc := "(IIII)V" } : Jvm.MethodName)) ∈ lw_all := lw_g (lw_at lw_m6 22 rfl) rfl
theorem q1344 : (Jvm.Cond.code ({ cls := "BeggarHeaps$Heap", name := "<init>", desc := "(IIII)V" } : Jvm.MethodName) prog_9_method_1_code (5 : Nat) (Option.none : Option Jvm.ClassFile.FieldType)) ∈ lw_all := lw_g (lw_at lw_m6 23 rfl) rfl
theorem q1345 : (Jvm.Cond.methodLink "BeggarHeaps$Heap" (1 : Nat) ({ cls := "java/lang/Object", name := "<init>", desc := "()V" } : Jvm.MethodName)) ∈ lw_all := lw_g (lw_at lw_m6 24 rfl) rfl
theorem q1346 : (Jvm.Cond.fieldLink "BeggarHeaps$Heap" (7 : Nat) "BeggarHeaps$Heap" "who" "I") ∈ lw_all := lw_g (lw_at lw_m6 25 rfl) rfl
theorem q1348 : (Jvm.Cond.fieldLink "BeggarHeaps$Heap" (13 : Nat) "BeggarHeaps$Heap" "cards" "I") ∈ lw_all := lw_g (lw_at lw_m6 27 rfl) rfl
theorem q1350 : (Jvm.Cond.fieldLink "BeggarHeaps$Heap" (16 : Nat) "BeggarHeaps$Heap" "pictures" "I") ∈ lw_all := lw_g (lw_at lw_m6 29 rfl) rfl
theorem q1352 : (Jvm.Cond.fieldLink "BeggarHeaps$Heap" (19 : Nat) "BeggarHeaps$Heap" "rounds" "I") ∈ lw_all := lw_g (lw_at lw_m6 31 rfl) rfl
theorem q1354 : (Jvm.Cond.laysFinal "BeggarHeaps$Heap" "BeggarHeaps$Heap" "who" "I") ∈ lw_all := lw_g (lw_at lw_m6 33 rfl) rfl
theorem q1355 : (Jvm.Cond.soleField "BeggarHeaps$Heap" "who") ∈ lw_all := lw_g (lw_at lw_m6 34 rfl) rfl
theorem q1356 : (Jvm.Cond.laysFinal "BeggarHeaps$Heap" "BeggarHeaps$Heap" "cards" "I") ∈ lw_all := lw_g (lw_at lw_m6 35 rfl) rfl
theorem q1357 : (Jvm.Cond.soleField "BeggarHeaps$Heap" "cards") ∈ lw_all := lw_g (lw_at lw_m6 36 rfl) rfl
theorem q1358 : (Jvm.Cond.laysFinal "BeggarHeaps$Heap" "BeggarHeaps$Heap" "pictures" "I") ∈ lw_all := lw_g (lw_at lw_m6 37 rfl) rfl
theorem q1359 : (Jvm.Cond.soleField "BeggarHeaps$Heap" "pictures") ∈ lw_all := lw_g (lw_at lw_m6 38 rfl) rfl
theorem q1360 : (Jvm.Cond.laysFinal "BeggarHeaps$Heap" "BeggarHeaps$Heap" "rounds" "I") ∈ lw_all := lw_g (lw_at lw_m6 39 rfl) rfl
theorem q1361 : (Jvm.Cond.soleField "BeggarHeaps$Heap" "rounds") ∈ lw_all := lw_g (lw_at lw_m6 40 rfl) rfl
theorem q1362 : (Jvm.Cond.superclass "BeggarHeaps$Heap" "java/lang/Object") ∈ lw_all := lw_g (lw_at lw_m6 41 rfl) rfl
theorem q2387 : (Jvm.Cond.castable "BeggarHeaps$Heap" "java/lang/Object") ∈ lw_tbl := lw_at lw_m10 106 rfl
theorem in_X21 : ∀ w ∈ wsX210, w ∈ lw_all := lw_in wsX210 [1354, 1356, 1358, 1360] (by decide +kernel) (by decide +kernel)

/-! BeggarHeaps$Bet -/
set_option maxRecDepth 100000
def RX22 : String := "BeggarHeaps$Bet"
def TX22 : u_T := fun k => match k with
  | 0 => ("BeggarHeaps$Bet", "side", "I", true)
  | 1 => ("BeggarHeaps$Bet", "coins", "I", true)
  | _ => ("BeggarHeaps$Bet", "offer", "I", true)
def tyX22 : Nat → FieldType := fun k => match k with
  | 0 => .int
  | 1 => .int
  | _ => .int
abbrev wsX220 : List Cond := u_ws RX22 TX22 3
theorem nmX22 : ∀ a, a < 3 → ∀ b, b < 3 → a ≠ b → (TX22 a).2.1 ≠ (TX22 b).2.1 := by decide +kernel
theorem tyX22_ok : ∀ k, k < 3 → parseFieldDescriptor (TX22 k).2.2.1 = some (tyX22 k) := by decide +kernel
abbrev cX22_init : ByteArray := prog_3_method_1_code
def yX22_init : MethodName := ⟨RX22, "<init>", "(III)V"⟩
def dkwX22_init_0 : List UInt8 := [42, 183, 0, 1, 42, 27, 181, 0, 7, 42, 28, 181, 0, 13, 42, 29, 181, 0, 16, 177]
abbrev dktX22_init_0 : List UInt8 := dkwX22_init_0 ++ []
theorem dksX22_init_0 : cX22_init.data.toList.drop 0 = dktX22_init_0 := by decide +kernel
theorem dX22_init_0 : decode cX22_init 0 = .ok (.aload_n 0, 1) := dk_42 (dk_at dksX22_init_0 0 rfl rfl)
theorem dX22_init_1 : decode cX22_init 1 = .ok (.invokespecial 1, 3) := dk_183 0 1 (dk_at dksX22_init_0 1 rfl rfl)
theorem dX22_init_4 : decode cX22_init 4 = .ok (.aload_n 0, 1) := dk_42 (dk_at dksX22_init_0 4 rfl rfl)
theorem dX22_init_5 : decode cX22_init 5 = .ok (.iload_n 1, 1) := dk_27 (dk_at dksX22_init_0 5 rfl rfl)
theorem dX22_init_6 : decode cX22_init 6 = .ok (.putfield 7, 3) := dk_181 0 7 (dk_at dksX22_init_0 6 rfl rfl)
theorem dX22_init_9 : decode cX22_init 9 = .ok (.aload_n 0, 1) := dk_42 (dk_at dksX22_init_0 9 rfl rfl)
theorem dX22_init_10 : decode cX22_init 10 = .ok (.iload_n 2, 1) := dk_28 (dk_at dksX22_init_0 10 rfl rfl)
theorem dX22_init_11 : decode cX22_init 11 = .ok (.putfield 13, 3) := dk_181 0 13 (dk_at dksX22_init_0 11 rfl rfl)
theorem dX22_init_14 : decode cX22_init 14 = .ok (.aload_n 0, 1) := dk_42 (dk_at dksX22_init_0 14 rfl rfl)
theorem dX22_init_15 : decode cX22_init 15 = .ok (.iload_n 3, 1) := dk_29 (dk_at dksX22_init_0 15 rfl rfl)
theorem dX22_init_16 : decode cX22_init 16 = .ok (.putfield 16, 3) := dk_181 0 16 (dk_at dksX22_init_0 16 rfl rfl)
theorem dX22_init_19 : decode cX22_init 19 = .ok (.return_, 1) := dk_177 (dk_at dksX22_init_0 19 rfl rfl)
theorem q161 : (Jvm.Cond.initialized "BeggarHeaps$Bet") ∈ lw_all := lw_g (lw_at lw_m1 40 rfl) rfl
theorem q1127 : (Jvm.Cond.selects "BeggarHeaps$Bet" ({ cls := "java/lang/Object", name := "getClass", desc := "()Ljava/lang/Class;" } : Jvm.MethodName) ({ cls := "java/lang/Object", name := "getClass", desc := "()Ljava/lang/Class;" } : Jvm.MethodName)) ∈ lw_all := lw_g (lw_at lw_m5 46 rfl) rfl
theorem q1554 : (Jvm.Cond.instantiable "BeggarHeaps$Bet" (3 : Nat)) ∈ lw_all := lw_g (lw_at lw_m6 233 rfl) rfl
theorem q1557 : (Jvm.Cond.instanceMethod ({ cls := "BeggarHeaps$Bet", name := "<init>", desc := "(III)V" } : Jvm.MethodName)) ∈ lw_all := lw_g (lw_at lw_m6 236 rfl) rfl
theorem q1558 : (Jvm.Cond.code ({ cls := "BeggarHeaps$Bet", name := "<init>", desc := "(III)V" } : Jvm.MethodName) prog_3_method_1_code (4 : Nat) (Option.none : Option Jvm.ClassFile.FieldType)) ∈ lw_all := lw_g (lw_at lw_m6 237 rfl) rfl
theorem q1559 : (Jvm.Cond.methodLink "BeggarHeaps$Bet" (1 : Nat) ({ cls := "java/lang/Object", name := "<init>", desc := "()V" } : Jvm.MethodName)) ∈ lw_all := lw_g (lw_at lw_m6 238 rfl) rfl
theorem q1560 : (Jvm.Cond.fieldLink "BeggarHeaps$Bet" (7 : Nat) "BeggarHeaps$Bet" "side" "I") ∈ lw_all := lw_g (lw_at lw_m6 239 rfl) rfl
theorem q1562 : (Jvm.Cond.fieldLink "BeggarHeaps$Bet" (13 : Nat) "BeggarHeaps$Bet" "coins" "I") ∈ lw_all := lw_g (lw_at lw_m7 1 rfl) rfl
theorem q1564 : (Jvm.Cond.fieldLink "BeggarHeaps$Bet" (16 : Nat) "BeggarHeaps$Bet" "offer" "I") ∈ lw_all := lw_g (lw_at lw_m7 3 rfl) rfl
theorem q1566 : (Jvm.Cond.laysFinal "BeggarHeaps$Bet" "BeggarHeaps$Bet" "side" "I") ∈ lw_all := lw_g (lw_at lw_m7 5 rfl) rfl
theorem q1567 : (Jvm.Cond.soleField "BeggarHeaps$Bet" "side") ∈ lw_all := lw_g (lw_at lw_m7 6 rfl) rfl
theorem q1568 : (Jvm.Cond.laysFinal "BeggarHeaps$Bet" "BeggarHeaps$Bet" "coins" "I") ∈ lw_all := lw_g (lw_at lw_m7 7 rfl) rfl
theorem q1569 : (Jvm.Cond.soleField "BeggarHeaps$Bet" "coins") ∈ lw_all := lw_g (lw_at lw_m7 8 rfl) rfl
theorem q1570 : (Jvm.Cond.laysFinal "BeggarHeaps$Bet" "BeggarHeaps$Bet" "offer" "I") ∈ lw_all := lw_g (lw_at lw_m7 9 rfl) rfl
theorem q1571 : (Jvm.Cond.soleField "BeggarHeaps$Bet" "offer") ∈ lw_all := lw_g (lw_at lw_m7 10 rfl) rfl
theorem q1572 : (Jvm.Cond.superclass "BeggarHeaps$Bet" "java/lang/Object") ∈ lw_all := lw_g (lw_at lw_m7 11 rfl) rfl
theorem q2388 : (Jvm.Cond.castable "BeggarHeaps$Bet" "java/lang/Object") ∈ lw_tbl := lw_at lw_m10 107 rfl
theorem in_X22 : ∀ w ∈ wsX220, w ∈ lw_all := lw_in wsX220 [1566, 1568, 1570] (by decide +kernel) (by decide +kernel)

/-! BeggarHeaps$Mark -/
set_option maxRecDepth 100000
def RX23 : String := "BeggarHeaps$Mark"
def TX23 : u_T := fun k => match k with
  | 0 => ("BeggarHeaps$Mark", "game", "LBeggarHeaps$Game;", true)
  | 1 => ("BeggarHeaps$Mark", "left", "LBeggarHeaps$Row;", true)
  | 2 => ("BeggarHeaps$Mark", "right", "LBeggarHeaps$Row;", true)
  | _ => ("BeggarHeaps$Mark", "isDealt", "Z", false)
def tyX23 : Nat → FieldType := fun k => match k with
  | 0 => .object "BeggarHeaps$Game"
  | 1 => .object "BeggarHeaps$Row"
  | 2 => .object "BeggarHeaps$Row"
  | _ => .boolean
abbrev wsX230 : List Cond := u_ws RX23 TX23 4
theorem nmX23 : ∀ a, a < 4 → ∀ b, b < 4 → a ≠ b → (TX23 a).2.1 ≠ (TX23 b).2.1 := by decide +kernel
theorem tyX23_ok : ∀ k, k < 4 → parseFieldDescriptor (TX23 k).2.2.1 = some (tyX23 k) := by decide +kernel
abbrev cX23_init : ByteArray := prog_12_method_1_code
def yX23_init : MethodName := ⟨RX23, "<init>", "()V"⟩
def dkwX23_init_1 : List UInt8 := [181, 0, 19, 42, 187, 0, 16, 89, 183, 0, 18, 181, 0, 23, 177]
abbrev dktX23_init_1 : List UInt8 := dkwX23_init_1 ++ []
def dkwX23_init_0 : List UInt8 := [42, 183, 0, 1, 42, 187, 0, 7, 89, 183, 0, 9, 181, 0, 10, 42, 187, 0, 16, 89, 183, 0, 18]
abbrev dktX23_init_0 : List UInt8 := dkwX23_init_0 ++ dktX23_init_1
theorem dksX23_init_0 : cX23_init.data.toList.drop 0 = dktX23_init_0 := by decide +kernel
theorem dksX23_init_1 : cX23_init.data.toList.drop 23 = dktX23_init_1 := dk_seg dksX23_init_0 23 rfl rfl
theorem dX23_init_0 : decode cX23_init 0 = .ok (.aload_n 0, 1) := dk_42 (dk_at dksX23_init_0 0 rfl rfl)
theorem dX23_init_1 : decode cX23_init 1 = .ok (.invokespecial 1, 3) := dk_183 0 1 (dk_at dksX23_init_0 1 rfl rfl)
theorem dX23_init_4 : decode cX23_init 4 = .ok (.aload_n 0, 1) := dk_42 (dk_at dksX23_init_0 4 rfl rfl)
theorem dX23_init_5 : decode cX23_init 5 = .ok (.new 7, 3) := dk_187 0 7 (dk_at dksX23_init_0 5 rfl rfl)
theorem dX23_init_8 : decode cX23_init 8 = .ok (.dup, 1) := dk_89 (dk_at dksX23_init_0 8 rfl rfl)
theorem dX23_init_9 : decode cX23_init 9 = .ok (.invokespecial 9, 3) := dk_183 0 9 (dk_at dksX23_init_0 9 rfl rfl)
theorem dX23_init_12 : decode cX23_init 12 = .ok (.putfield 10, 3) := dk_181 0 10 (dk_at dksX23_init_0 12 rfl rfl)
theorem dX23_init_15 : decode cX23_init 15 = .ok (.aload_n 0, 1) := dk_42 (dk_at dksX23_init_0 15 rfl rfl)
theorem dX23_init_16 : decode cX23_init 16 = .ok (.new 16, 3) := dk_187 0 16 (dk_at dksX23_init_0 16 rfl rfl)
theorem dX23_init_19 : decode cX23_init 19 = .ok (.dup, 1) := dk_89 (dk_at dksX23_init_0 19 rfl rfl)
theorem dX23_init_20 : decode cX23_init 20 = .ok (.invokespecial 18, 3) := dk_183 0 18 (dk_at dksX23_init_0 20 rfl rfl)
theorem dX23_init_23 : decode cX23_init 23 = .ok (.putfield 19, 3) := dk_181 0 19 (dk_at dksX23_init_1 0 rfl rfl)
theorem dX23_init_26 : decode cX23_init 26 = .ok (.aload_n 0, 1) := dk_42 (dk_at dksX23_init_1 3 rfl rfl)
theorem dX23_init_27 : decode cX23_init 27 = .ok (.new 16, 3) := dk_187 0 16 (dk_at dksX23_init_1 4 rfl rfl)
theorem dX23_init_30 : decode cX23_init 30 = .ok (.dup, 1) := dk_89 (dk_at dksX23_init_1 7 rfl rfl)
theorem dX23_init_31 : decode cX23_init 31 = .ok (.invokespecial 18, 3) := dk_183 0 18 (dk_at dksX23_init_1 8 rfl rfl)
theorem dX23_init_34 : decode cX23_init 34 = .ok (.putfield 23, 3) := dk_181 0 23 (dk_at dksX23_init_1 11 rfl rfl)
theorem dX23_init_37 : decode cX23_init 37 = .ok (.return_, 1) := dk_177 (dk_at dksX23_init_1 14 rfl rfl)
theorem q163 : (Jvm.Cond.initialized "BeggarHeaps$Mark") ∈ lw_all := lw_g (lw_at lw_m1 42 rfl) rfl
theorem q1135 : (Jvm.Cond.selects "BeggarHeaps$Mark" ({ cls := "java/lang/Object", name := "getClass", desc := "()Ljava/lang/Class;" } : Jvm.MethodName) ({ cls := "java/lang/Object", name := "getClass", desc := "()Ljava/lang/Class;" } : Jvm.MethodName)) ∈ lw_all := lw_g (lw_at lw_m5 54 rfl) rfl
theorem q1646 : (Jvm.Cond.instantiable "BeggarHeaps$Mark" (4 : Nat)) ∈ lw_all := lw_g (lw_at lw_m7 85 rfl) rfl
theorem q1648 : (Jvm.Cond.instanceMethod ({ cls := "BeggarHeaps$Mark", name := "<init>", desc := "()V" } : Jvm.MethodName)) ∈ lw_all := lw_g (lw_at lw_m7 87 rfl) rfl
theorem q1649 : (Jvm.Cond.code ({ cls := "BeggarHeaps$Mark", name := "<init>", desc := "()V" } : Jvm.MethodName) prog_12_method_1_code (1 : Nat) (Option.none : Option Jvm.ClassFile.FieldType)) ∈ lw_all := lw_g (lw_at lw_m7 88 rfl) rfl
theorem q1650 : (Jvm.Cond.methodLink "BeggarHeaps$Mark" (1 : Nat) ({ cls := "java/lang/Object", name := "<init>", desc := "()V" } : Jvm.MethodName)) ∈ lw_all := lw_g (lw_at lw_m7 89 rfl) rfl
theorem q1651 : (Jvm.Cond.classLink "BeggarHeaps$Mark" (7 : Nat) "BeggarHeaps$Game") ∈ lw_all := lw_g (lw_at lw_m7 90 rfl) rfl
theorem q1652 : (Jvm.Cond.methodLinkNest "BeggarHeaps$Mark" (9 : Nat) ({ cls := "BeggarHeaps$Game", name := "<init>", desc := "()V" } : Jvm.MethodName) "BeggarHeaps") ∈ lw_tbl := lw_at lw_m7 91 rfl
theorem q1653 : (Jvm.Cond.classLink "BeggarHeaps$Mark" (16 : Nat) "BeggarHeaps$Row") ∈ lw_all := lw_g (lw_at lw_m7 92 rfl) rfl
theorem q1654 : (Jvm.Cond.methodLinkNest "BeggarHeaps$Mark" (18 : Nat) ({ cls := "BeggarHeaps$Row", name := "<init>", desc := "()V" } : Jvm.MethodName) "BeggarHeaps") ∈ lw_tbl := lw_at lw_m7 93 rfl
theorem q1655 : (Jvm.Cond.fieldLink "BeggarHeaps$Mark" (10 : Nat) "BeggarHeaps$Mark" "game" "LBeggarHeaps$Game;") ∈ lw_all := lw_g (lw_at lw_m7 94 rfl) rfl
theorem q1657 : (Jvm.Cond.fieldLink "BeggarHeaps$Mark" (19 : Nat) "BeggarHeaps$Mark" "left" "LBeggarHeaps$Row;") ∈ lw_all := lw_g (lw_at lw_m7 96 rfl) rfl
theorem q1659 : (Jvm.Cond.fieldLink "BeggarHeaps$Mark" (23 : Nat) "BeggarHeaps$Mark" "right" "LBeggarHeaps$Row;") ∈ lw_all := lw_g (lw_at lw_m7 98 rfl) rfl
theorem q1662 : (Jvm.Cond.laysFinal "BeggarHeaps$Mark" "BeggarHeaps$Mark" "game" "LBeggarHeaps$Game;") ∈ lw_all := lw_g (lw_at lw_m7 101 rfl) rfl
theorem q1663 : (Jvm.Cond.soleField "BeggarHeaps$Mark" "game") ∈ lw_all := lw_g (lw_at lw_m7 102 rfl) rfl
theorem q1664 : (Jvm.Cond.laysFinal "BeggarHeaps$Mark" "BeggarHeaps$Mark" "left" "LBeggarHeaps$Row;") ∈ lw_all := lw_g (lw_at lw_m7 103 rfl) rfl
theorem q1665 : (Jvm.Cond.soleField "BeggarHeaps$Mark" "left") ∈ lw_all := lw_g (lw_at lw_m7 104 rfl) rfl
theorem q1666 : (Jvm.Cond.laysFinal "BeggarHeaps$Mark" "BeggarHeaps$Mark" "right" "LBeggarHeaps$Row;") ∈ lw_all := lw_g (lw_at lw_m7 105 rfl) rfl
theorem q1667 : (Jvm.Cond.soleField "BeggarHeaps$Mark" "right") ∈ lw_all := lw_g (lw_at lw_m7 106 rfl) rfl
theorem q1668 : (Jvm.Cond.lays "BeggarHeaps$Mark" "BeggarHeaps$Mark" "isDealt" "Z") ∈ lw_all := lw_g (lw_at lw_m7 107 rfl) rfl
theorem q1669 : (Jvm.Cond.soleField "BeggarHeaps$Mark" "isDealt") ∈ lw_all := lw_g (lw_at lw_m7 108 rfl) rfl
theorem q1670 : (Jvm.Cond.superclass "BeggarHeaps$Mark" "java/lang/Object") ∈ lw_all := lw_g (lw_at lw_m7 109 rfl) rfl
theorem q2366 : (Jvm.Cond.castable "BeggarHeaps$Mark" "java/lang/Object") ∈ lw_tbl := lw_at lw_m10 85 rfl
theorem in_X23 : ∀ w ∈ wsX230, w ∈ lw_all := lw_in wsX230 [1662, 1664, 1666, 1668] (by decide +kernel) (by decide +kernel)

/-! BeggarHeaps$Order -/
set_option maxRecDepth 100000
def RX3 : String := "BeggarHeaps$Order"
abbrev cX3_init : ByteArray := prog_15_method_1_code
def yX3_init : MethodName := ⟨RX3, "<init>", "()V"⟩
theorem dX3_init_0 : decode cX3_init 0 = .ok (.aload_n 0, 1) := by decide +kernel
theorem dX3_init_1 : decode cX3_init 1 = .ok (.invokespecial 1, 3) := by decide +kernel
theorem dX3_init_4 : decode cX3_init 4 = .ok (.return_, 1) := by decide +kernel
theorem q124 : (Jvm.Cond.initialized "BeggarHeaps$Order") ∈ lw_all := lw_g (lw_at lw_m1 3 rfl) rfl
theorem q215 : (Jvm.Cond.instanceMethod ({ cls := "BeggarHeaps$Order", name := "<init>", desc := "()V" } : Jvm.MethodName)) ∈ lw_all := lw_g (lw_at lw_m1 94 rfl) rfl
theorem q216 : (Jvm.Cond.code ({ cls := "BeggarHeaps$Order", name := "<init>", desc := "()V" } : Jvm.MethodName) prog_15_method_1_code (1 : Nat) (Option.none : Option Jvm.ClassFile.FieldType)) ∈ lw_all := lw_g (lw_at lw_m1 95 rfl) rfl
theorem q217 : (Jvm.Cond.methodLink "BeggarHeaps$Order" (1 : Nat) ({ cls := "java/lang/Object", name := "<init>", desc := "()V" } : Jvm.MethodName)) ∈ lw_all := lw_g (lw_at lw_m1 96 rfl) rfl
theorem q1373 : (Jvm.Cond.declares ({ cls := "BeggarHeaps$Order", name := "lays", desc := "([II[I[I)V" } : Jvm.MethodName)) ∈ lw_tbl := lw_at lw_m6 52 rfl
theorem q1374 : (Jvm.Cond.sameMethod "BeggarHeaps$Order" "BeggarHeaps$Order" "lays" "([II[I[I)V") ∈ lw_all := lw_g (lw_at lw_m6 53 rfl) rfl
theorem q2364 : (Jvm.Cond.castable "BeggarHeaps$Order" "java/lang/Object") ∈ lw_tbl := lw_at lw_m10 83 rfl

/-! BeggarHeaps$Under -/
set_option maxRecDepth 100000
def RX4 : String := "BeggarHeaps$Under"
abbrev cX4_init : ByteArray := prog_21_method_1_code
def yX4_init : MethodName := ⟨RX4, "<init>", "()V"⟩
theorem dX4_init_0 : decode cX4_init 0 = .ok (.aload_n 0, 1) := by decide +kernel
theorem dX4_init_1 : decode cX4_init 1 = .ok (.invokespecial 1, 3) := by decide +kernel
theorem dX4_init_4 : decode cX4_init 4 = .ok (.return_, 1) := by decide +kernel
abbrev cX4_lays : ByteArray := prog_21_method_2_code
def yX4_lays : MethodName := ⟨RX4, "lays", "([II[I[I)V"⟩
def dkwX4_lays_1 : List UInt8 := [177]
abbrev dktX4_lays_1 : List UInt8 := dkwX4_lays_1 ++ []
def dkwX4_lays_0 : List UInt8 := [3, 54, 5, 21, 5, 28, 162, 0, 18, 25, 4, 21, 5, 43, 21, 5, 46, 79, 132, 5, 1, 167, 255, 238]
abbrev dktX4_lays_0 : List UInt8 := dkwX4_lays_0 ++ dktX4_lays_1
theorem dksX4_lays_0 : cX4_lays.data.toList.drop 0 = dktX4_lays_0 := by decide +kernel
theorem dksX4_lays_1 : cX4_lays.data.toList.drop 24 = dktX4_lays_1 := dk_seg dksX4_lays_0 24 rfl rfl
theorem dX4_lays_0 : decode cX4_lays 0 = .ok (.iconst 0, 1) := dk_3 (dk_at dksX4_lays_0 0 rfl rfl)
theorem dX4_lays_1 : decode cX4_lays 1 = .ok (.istore 5, 2) := dk_54 5 (dk_at dksX4_lays_0 1 rfl rfl)
theorem dX4_lays_3 : decode cX4_lays 3 = .ok (.iload 5, 2) := dk_21 5 (dk_at dksX4_lays_0 3 rfl rfl)
theorem dX4_lays_5 : decode cX4_lays 5 = .ok (.iload_n 2, 1) := dk_28 (dk_at dksX4_lays_0 5 rfl rfl)
theorem dX4_lays_6 : decode cX4_lays 6 = .ok (.if_icmp .ge 18, 3) := dk_162 0 18 (dk_at dksX4_lays_0 6 rfl rfl)
theorem dX4_lays_9 : decode cX4_lays 9 = .ok (.aload 4, 2) := dk_25 4 (dk_at dksX4_lays_0 9 rfl rfl)
theorem dX4_lays_11 : decode cX4_lays 11 = .ok (.iload 5, 2) := dk_21 5 (dk_at dksX4_lays_0 11 rfl rfl)
theorem dX4_lays_13 : decode cX4_lays 13 = .ok (.aload_n 1, 1) := dk_43 (dk_at dksX4_lays_0 13 rfl rfl)
theorem dX4_lays_14 : decode cX4_lays 14 = .ok (.iload 5, 2) := dk_21 5 (dk_at dksX4_lays_0 14 rfl rfl)
theorem dX4_lays_16 : decode cX4_lays 16 = .ok (.iaload, 1) := dk_46 (dk_at dksX4_lays_0 16 rfl rfl)
theorem dX4_lays_17 : decode cX4_lays 17 = .ok (.iastore, 1) := dk_79 (dk_at dksX4_lays_0 17 rfl rfl)
theorem dX4_lays_18 : decode cX4_lays 18 = .ok (.iinc 5 1, 3) := dk_132 5 1 (dk_at dksX4_lays_0 18 rfl rfl)
theorem dX4_lays_21 : decode cX4_lays 21 = .ok (.goto (-18), 3) := dk_167 255 238 (dk_at dksX4_lays_0 21 rfl rfl)
theorem dX4_lays_24 : decode cX4_lays 24 = .ok (.return_, 1) := dk_177 (dk_at dksX4_lays_1 0 rfl rfl)
theorem q125 : (Jvm.Cond.initialized "BeggarHeaps$Under") ∈ lw_all := lw_g (lw_at lw_m1 4 rfl) rfl
theorem q210 : (Jvm.Cond.instantiable "BeggarHeaps$Under" (0 : Nat)) ∈ lw_all := lw_g (lw_at lw_m1 89 rfl) rfl
theorem q212 : (Jvm.Cond.instanceMethod ({ cls := "BeggarHeaps$Under", name := "<init>", desc := "()V" } : Jvm.MethodName)) ∈ lw_all := lw_g (lw_at lw_m1 91 rfl) rfl
theorem q213 : (Jvm.Cond.code ({ cls := "BeggarHeaps$Under", name := "<init>", desc := "()V" } : Jvm.MethodName) prog_21_method_1_code (1 : Nat) (Option.none : Option Jvm.ClassFile.FieldType)) ∈ lw_all := lw_g (lw_at lw_m1 92 rfl) rfl
theorem q214 : (Jvm.Cond.methodLinkNest "BeggarHeaps$Under" (1 : Nat) ({ cls := "BeggarHeaps$Order", name := "<init>", desc := "()V" } : Jvm.MethodName) "BeggarHeaps") ∈ lw_tbl := lw_at lw_m1 93 rfl
theorem q218 : (Jvm.Cond.superclass "BeggarHeaps$Under" "BeggarHeaps$Order") ∈ lw_all := lw_g (lw_at lw_m1 97 rfl) rfl
theorem q1143 : (Jvm.Cond.selects "BeggarHeaps$Under" ({ cls := "java/lang/Object", name := "getClass", desc := "()Ljava/lang/Class;" } : Jvm.MethodName) ({ cls := "java/lang/Object", name := "getClass", desc := "()Ljava/lang/Class;" } : Jvm.MethodName)) ∈ lw_all := lw_g (lw_at lw_m5 62 rfl) rfl
theorem q1387 : (Jvm.Cond.selects "BeggarHeaps$Under" ({ cls := "BeggarHeaps$Order", name := "lays", desc := "([II[I[I)V" } : Jvm.MethodName) ({ cls := "BeggarHeaps$Under", name := "lays", desc := "([II[I[I)V" } : Jvm.MethodName)) ∈ lw_all := lw_g (lw_at lw_m6 66 rfl) rfl
theorem q1388 : (Jvm.Cond.instanceMethod ({ cls := "BeggarHeaps$Under", name := "lays", desc := "([II[I[I)V" } : Jvm.MethodName)) ∈ lw_all := lw_g (lw_at lw_m6 67 rfl) rfl
theorem q1389 : (Jvm.Cond.code ({ cls := "BeggarHeaps$Under", name := "lays", desc := "([II[I[I)V" } : Jvm.MethodName) prog_21_method_2_code (6 : Nat) (Option.none : Option Jvm.ClassFile.FieldType)) ∈ lw_all := lw_g (lw_at lw_m6 68 rfl) rfl
theorem q2370 : (Jvm.Cond.castable "BeggarHeaps$Under" "java/lang/Object") ∈ lw_tbl := lw_at lw_m10 89 rfl
theorem q2391 : (Jvm.Cond.castable "BeggarHeaps$Under" "BeggarHeaps$Order") ∈ lw_tbl := lw_at lw_m10 110 rfl

/-! BeggarHeaps$About -/
set_option maxRecDepth 100000
def RX5 : String := "BeggarHeaps$About"
abbrev cX5_init : ByteArray := prog_2_method_1_code
def yX5_init : MethodName := ⟨RX5, "<init>", "()V"⟩
theorem dX5_init_0 : decode cX5_init 0 = .ok (.aload_n 0, 1) := by decide +kernel
theorem dX5_init_1 : decode cX5_init 1 = .ok (.invokespecial 1, 3) := by decide +kernel
theorem dX5_init_4 : decode cX5_init 4 = .ok (.return_, 1) := by decide +kernel
abbrev cX5_lays : ByteArray := prog_2_method_2_code
def yX5_lays : MethodName := ⟨RX5, "lays", "([II[I[I)V"⟩
def dkwX5_lays_1 : List UInt8 := [132, 5, 1, 167, 255, 234, 177]
abbrev dktX5_lays_1 : List UInt8 := dkwX5_lays_1 ++ []
def dkwX5_lays_0 : List UInt8 := [3, 54, 5, 21, 5, 28, 162, 0, 22, 25, 4, 21, 5, 43, 28, 4, 100, 21, 5, 100, 46, 79]
abbrev dktX5_lays_0 : List UInt8 := dkwX5_lays_0 ++ dktX5_lays_1
theorem dksX5_lays_0 : cX5_lays.data.toList.drop 0 = dktX5_lays_0 := by decide +kernel
theorem dksX5_lays_1 : cX5_lays.data.toList.drop 22 = dktX5_lays_1 := dk_seg dksX5_lays_0 22 rfl rfl
theorem dX5_lays_0 : decode cX5_lays 0 = .ok (.iconst 0, 1) := dk_3 (dk_at dksX5_lays_0 0 rfl rfl)
theorem dX5_lays_1 : decode cX5_lays 1 = .ok (.istore 5, 2) := dk_54 5 (dk_at dksX5_lays_0 1 rfl rfl)
theorem dX5_lays_3 : decode cX5_lays 3 = .ok (.iload 5, 2) := dk_21 5 (dk_at dksX5_lays_0 3 rfl rfl)
theorem dX5_lays_5 : decode cX5_lays 5 = .ok (.iload_n 2, 1) := dk_28 (dk_at dksX5_lays_0 5 rfl rfl)
theorem dX5_lays_6 : decode cX5_lays 6 = .ok (.if_icmp .ge 22, 3) := dk_162 0 22 (dk_at dksX5_lays_0 6 rfl rfl)
theorem dX5_lays_9 : decode cX5_lays 9 = .ok (.aload 4, 2) := dk_25 4 (dk_at dksX5_lays_0 9 rfl rfl)
theorem dX5_lays_11 : decode cX5_lays 11 = .ok (.iload 5, 2) := dk_21 5 (dk_at dksX5_lays_0 11 rfl rfl)
theorem dX5_lays_13 : decode cX5_lays 13 = .ok (.aload_n 1, 1) := dk_43 (dk_at dksX5_lays_0 13 rfl rfl)
theorem dX5_lays_14 : decode cX5_lays 14 = .ok (.iload_n 2, 1) := dk_28 (dk_at dksX5_lays_0 14 rfl rfl)
theorem dX5_lays_15 : decode cX5_lays 15 = .ok (.iconst 1, 1) := dk_4 (dk_at dksX5_lays_0 15 rfl rfl)
theorem dX5_lays_16 : decode cX5_lays 16 = .ok (.isub, 1) := dk_100 (dk_at dksX5_lays_0 16 rfl rfl)
theorem dX5_lays_17 : decode cX5_lays 17 = .ok (.iload 5, 2) := dk_21 5 (dk_at dksX5_lays_0 17 rfl rfl)
theorem dX5_lays_19 : decode cX5_lays 19 = .ok (.isub, 1) := dk_100 (dk_at dksX5_lays_0 19 rfl rfl)
theorem dX5_lays_20 : decode cX5_lays 20 = .ok (.iaload, 1) := dk_46 (dk_at dksX5_lays_0 20 rfl rfl)
theorem dX5_lays_21 : decode cX5_lays 21 = .ok (.iastore, 1) := dk_79 (dk_at dksX5_lays_0 21 rfl rfl)
theorem dX5_lays_22 : decode cX5_lays 22 = .ok (.iinc 5 1, 3) := dk_132 5 1 (dk_at dksX5_lays_1 0 rfl rfl)
theorem dX5_lays_25 : decode cX5_lays 25 = .ok (.goto (-22), 3) := dk_167 255 234 (dk_at dksX5_lays_1 3 rfl rfl)
theorem dX5_lays_28 : decode cX5_lays 28 = .ok (.return_, 1) := dk_177 (dk_at dksX5_lays_1 6 rfl rfl)
theorem q126 : (Jvm.Cond.initialized "BeggarHeaps$About") ∈ lw_all := lw_g (lw_at lw_m1 5 rfl) rfl
theorem q220 : (Jvm.Cond.instantiable "BeggarHeaps$About" (0 : Nat)) ∈ lw_all := lw_g (lw_at lw_m1 99 rfl) rfl
theorem q222 : (Jvm.Cond.instanceMethod ({ cls := "BeggarHeaps$About", name := "<init>", desc := "()V" } : Jvm.MethodName)) ∈ lw_all := lw_g (lw_at lw_m1 101 rfl) rfl
theorem q223 : (Jvm.Cond.code ({ cls := "BeggarHeaps$About", name := "<init>", desc := "()V" } : Jvm.MethodName) prog_2_method_1_code (1 : Nat) (Option.none : Option Jvm.ClassFile.FieldType)) ∈ lw_all := lw_g (lw_at lw_m1 102 rfl) rfl
theorem q224 : (Jvm.Cond.methodLinkNest "BeggarHeaps$About" (1 : Nat) ({ cls := "BeggarHeaps$Order", name := "<init>", desc := "()V" } : Jvm.MethodName) "BeggarHeaps") ∈ lw_tbl := lw_at lw_m1 103 rfl
theorem q225 : (Jvm.Cond.superclass "BeggarHeaps$About" "BeggarHeaps$Order") ∈ lw_all := lw_g (lw_at lw_m1 104 rfl) rfl
theorem q1126 : (Jvm.Cond.selects "BeggarHeaps$About" ({ cls := "java/lang/Object", name := "getClass", desc := "()Ljava/lang/Class;" } : Jvm.MethodName) ({ cls := "java/lang/Object", name := "getClass", desc := "()Ljava/lang/Class;" } : Jvm.MethodName)) ∈ lw_all := lw_g (lw_at lw_m5 45 rfl) rfl
theorem q1375 : (Jvm.Cond.selects "BeggarHeaps$About" ({ cls := "BeggarHeaps$Order", name := "lays", desc := "([II[I[I)V" } : Jvm.MethodName) ({ cls := "BeggarHeaps$About", name := "lays", desc := "([II[I[I)V" } : Jvm.MethodName)) ∈ lw_all := lw_g (lw_at lw_m6 54 rfl) rfl
theorem q1376 : (Jvm.Cond.instanceMethod ({ cls := "BeggarHeaps$About", name := "lays", desc := "([II[I[I)V" } : Jvm.MethodName)) ∈ lw_all := lw_g (lw_at lw_m6 55 rfl) rfl
theorem q1377 : (Jvm.Cond.code ({ cls := "BeggarHeaps$About", name := "lays", desc := "([II[I[I)V" } : Jvm.MethodName) prog_2_method_2_code (6 : Nat) (Option.none : Option Jvm.ClassFile.FieldType)) ∈ lw_all := lw_g (lw_at lw_m6 56 rfl) rfl
theorem q2371 : (Jvm.Cond.castable "BeggarHeaps$About" "java/lang/Object") ∈ lw_tbl := lw_at lw_m10 90 rfl
theorem q2392 : (Jvm.Cond.castable "BeggarHeaps$About" "BeggarHeaps$Order") ∈ lw_tbl := lw_at lw_m10 111 rfl

/-! BeggarHeaps$High -/
set_option maxRecDepth 100000
def RX6 : String := "BeggarHeaps$High"
abbrev cX6_init : ByteArray := prog_10_method_1_code
def yX6_init : MethodName := ⟨RX6, "<init>", "()V"⟩
theorem dX6_init_0 : decode cX6_init 0 = .ok (.aload_n 0, 1) := by decide +kernel
theorem dX6_init_1 : decode cX6_init 1 = .ok (.invokespecial 3, 3) := by decide +kernel
theorem dX6_init_4 : decode cX6_init 4 = .ok (.return_, 1) := by decide +kernel
abbrev cX6_lays : ByteArray := prog_10_method_2_code
def yX6_lays : MethodName := ⟨RX6, "lays", "([II[I[I)V"⟩
def dkwX6_lays_2 : List UInt8 := [167, 255, 224, 132, 6, 255, 167, 255, 210, 177]
abbrev dktX6_lays_2 : List UInt8 := dkwX6_lays_2 ++ []
def dkwX6_lays_1 : List UInt8 := [21, 7, 46, 46, 21, 6, 160, 0, 15, 25, 4, 21, 5, 132, 5, 1, 43, 21, 7, 46, 79, 132, 7, 1]
abbrev dktX6_lays_1 : List UInt8 := dkwX6_lays_1 ++ dktX6_lays_2
def dkwX6_lays_0 : List UInt8 := [3, 54, 5, 16, 6, 54, 6, 21, 6, 155, 0, 47, 3, 54, 7, 21, 7, 28, 162, 0, 32, 45, 43]
abbrev dktX6_lays_0 : List UInt8 := dkwX6_lays_0 ++ dktX6_lays_1
theorem dksX6_lays_0 : cX6_lays.data.toList.drop 0 = dktX6_lays_0 := by decide +kernel
theorem dksX6_lays_1 : cX6_lays.data.toList.drop 23 = dktX6_lays_1 := dk_seg dksX6_lays_0 23 rfl rfl
theorem dksX6_lays_2 : cX6_lays.data.toList.drop 47 = dktX6_lays_2 := dk_seg dksX6_lays_1 24 rfl rfl
theorem dX6_lays_0 : decode cX6_lays 0 = .ok (.iconst 0, 1) := dk_3 (dk_at dksX6_lays_0 0 rfl rfl)
theorem dX6_lays_1 : decode cX6_lays 1 = .ok (.istore 5, 2) := dk_54 5 (dk_at dksX6_lays_0 1 rfl rfl)
theorem dX6_lays_3 : decode cX6_lays 3 = .ok (.bipush 6, 2) := dk_16 6 (dk_at dksX6_lays_0 3 rfl rfl)
theorem dX6_lays_5 : decode cX6_lays 5 = .ok (.istore 6, 2) := dk_54 6 (dk_at dksX6_lays_0 5 rfl rfl)
theorem dX6_lays_7 : decode cX6_lays 7 = .ok (.iload 6, 2) := dk_21 6 (dk_at dksX6_lays_0 7 rfl rfl)
theorem dX6_lays_9 : decode cX6_lays 9 = .ok (.ifCond .lt 47, 3) := dk_155 0 47 (dk_at dksX6_lays_0 9 rfl rfl)
theorem dX6_lays_12 : decode cX6_lays 12 = .ok (.iconst 0, 1) := dk_3 (dk_at dksX6_lays_0 12 rfl rfl)
theorem dX6_lays_13 : decode cX6_lays 13 = .ok (.istore 7, 2) := dk_54 7 (dk_at dksX6_lays_0 13 rfl rfl)
theorem dX6_lays_15 : decode cX6_lays 15 = .ok (.iload 7, 2) := dk_21 7 (dk_at dksX6_lays_0 15 rfl rfl)
theorem dX6_lays_17 : decode cX6_lays 17 = .ok (.iload_n 2, 1) := dk_28 (dk_at dksX6_lays_0 17 rfl rfl)
theorem dX6_lays_18 : decode cX6_lays 18 = .ok (.if_icmp .ge 32, 3) := dk_162 0 32 (dk_at dksX6_lays_0 18 rfl rfl)
theorem dX6_lays_21 : decode cX6_lays 21 = .ok (.aload_n 3, 1) := dk_45 (dk_at dksX6_lays_0 21 rfl rfl)
theorem dX6_lays_22 : decode cX6_lays 22 = .ok (.aload_n 1, 1) := dk_43 (dk_at dksX6_lays_0 22 rfl rfl)
theorem dX6_lays_23 : decode cX6_lays 23 = .ok (.iload 7, 2) := dk_21 7 (dk_at dksX6_lays_1 0 rfl rfl)
theorem dX6_lays_25 : decode cX6_lays 25 = .ok (.iaload, 1) := dk_46 (dk_at dksX6_lays_1 2 rfl rfl)
theorem dX6_lays_26 : decode cX6_lays 26 = .ok (.iaload, 1) := dk_46 (dk_at dksX6_lays_1 3 rfl rfl)
theorem dX6_lays_27 : decode cX6_lays 27 = .ok (.iload 6, 2) := dk_21 6 (dk_at dksX6_lays_1 4 rfl rfl)
theorem dX6_lays_29 : decode cX6_lays 29 = .ok (.if_icmp .ne 15, 3) := dk_160 0 15 (dk_at dksX6_lays_1 6 rfl rfl)
theorem dX6_lays_32 : decode cX6_lays 32 = .ok (.aload 4, 2) := dk_25 4 (dk_at dksX6_lays_1 9 rfl rfl)
theorem dX6_lays_34 : decode cX6_lays 34 = .ok (.iload 5, 2) := dk_21 5 (dk_at dksX6_lays_1 11 rfl rfl)
theorem dX6_lays_36 : decode cX6_lays 36 = .ok (.iinc 5 1, 3) := dk_132 5 1 (dk_at dksX6_lays_1 13 rfl rfl)
theorem dX6_lays_39 : decode cX6_lays 39 = .ok (.aload_n 1, 1) := dk_43 (dk_at dksX6_lays_1 16 rfl rfl)
theorem dX6_lays_40 : decode cX6_lays 40 = .ok (.iload 7, 2) := dk_21 7 (dk_at dksX6_lays_1 17 rfl rfl)
theorem dX6_lays_42 : decode cX6_lays 42 = .ok (.iaload, 1) := dk_46 (dk_at dksX6_lays_1 19 rfl rfl)
theorem dX6_lays_43 : decode cX6_lays 43 = .ok (.iastore, 1) := dk_79 (dk_at dksX6_lays_1 20 rfl rfl)
theorem dX6_lays_44 : decode cX6_lays 44 = .ok (.iinc 7 1, 3) := dk_132 7 1 (dk_at dksX6_lays_1 21 rfl rfl)
theorem dX6_lays_47 : decode cX6_lays 47 = .ok (.goto (-32), 3) := dk_167 255 224 (dk_at dksX6_lays_2 0 rfl rfl)
theorem dX6_lays_50 : decode cX6_lays 50 = .ok (.iinc 6 (-1), 3) := dk_132 6 255 (dk_at dksX6_lays_2 3 rfl rfl)
theorem dX6_lays_53 : decode cX6_lays 53 = .ok (.goto (-46), 3) := dk_167 255 210 (dk_at dksX6_lays_2 6 rfl rfl)
theorem dX6_lays_56 : decode cX6_lays 56 = .ok (.return_, 1) := dk_177 (dk_at dksX6_lays_2 9 rfl rfl)
theorem q127 : (Jvm.Cond.initialized "BeggarHeaps$High") ∈ lw_all := lw_g (lw_at lw_m1 6 rfl) rfl
theorem q227 : (Jvm.Cond.instantiable "BeggarHeaps$High" (0 : Nat)) ∈ lw_all := lw_g (lw_at lw_m1 106 rfl) rfl
theorem q229 : (Jvm.Cond.instanceMethod ({ cls := "BeggarHeaps$High", name := "<init>", desc := "()V" } : Jvm.MethodName)) ∈ lw_all := lw_g (lw_at lw_m1 108 rfl) rfl
theorem q230 : (Jvm.Cond.code ({ cls := "BeggarHeaps$High", name := "<init>", desc := "()V" } : Jvm.MethodName) prog_10_method_1_code (1 : Nat) (Option.none : Option Jvm.ClassFile.FieldType)) ∈ lw_all := lw_g (lw_at lw_m1 109 rfl) rfl
theorem q231 : (Jvm.Cond.methodLinkNest "BeggarHeaps$High" (3 : Nat) ({ cls := "BeggarHeaps$Order", name := "<init>", desc := "()V" } : Jvm.MethodName) "BeggarHeaps") ∈ lw_tbl := lw_at lw_m1 110 rfl
theorem q232 : (Jvm.Cond.superclass "BeggarHeaps$High" "BeggarHeaps$Order") ∈ lw_all := lw_g (lw_at lw_m1 111 rfl) rfl
theorem q1133 : (Jvm.Cond.selects "BeggarHeaps$High" ({ cls := "java/lang/Object", name := "getClass", desc := "()Ljava/lang/Class;" } : Jvm.MethodName) ({ cls := "java/lang/Object", name := "getClass", desc := "()Ljava/lang/Class;" } : Jvm.MethodName)) ∈ lw_all := lw_g (lw_at lw_m5 52 rfl) rfl
theorem q1381 : (Jvm.Cond.selects "BeggarHeaps$High" ({ cls := "BeggarHeaps$Order", name := "lays", desc := "([II[I[I)V" } : Jvm.MethodName) ({ cls := "BeggarHeaps$High", name := "lays", desc := "([II[I[I)V" } : Jvm.MethodName)) ∈ lw_all := lw_g (lw_at lw_m6 60 rfl) rfl
theorem q1382 : (Jvm.Cond.instanceMethod ({ cls := "BeggarHeaps$High", name := "lays", desc := "([II[I[I)V" } : Jvm.MethodName)) ∈ lw_all := lw_g (lw_at lw_m6 61 rfl) rfl
theorem q1383 : (Jvm.Cond.code ({ cls := "BeggarHeaps$High", name := "lays", desc := "([II[I[I)V" } : Jvm.MethodName) prog_10_method_2_code (8 : Nat) (Option.none : Option Jvm.ClassFile.FieldType)) ∈ lw_all := lw_g (lw_at lw_m6 62 rfl) rfl
theorem q2372 : (Jvm.Cond.castable "BeggarHeaps$High" "java/lang/Object") ∈ lw_tbl := lw_at lw_m10 91 rfl
theorem q2393 : (Jvm.Cond.castable "BeggarHeaps$High" "BeggarHeaps$Order") ∈ lw_tbl := lw_at lw_m10 112 rfl

/-! BeggarHeaps$Low -/
set_option maxRecDepth 100000
def RX7 : String := "BeggarHeaps$Low"
abbrev cX7_init : ByteArray := prog_11_method_1_code
def yX7_init : MethodName := ⟨RX7, "<init>", "()V"⟩
theorem dX7_init_0 : decode cX7_init 0 = .ok (.aload_n 0, 1) := by decide +kernel
theorem dX7_init_1 : decode cX7_init 1 = .ok (.invokespecial 1, 3) := by decide +kernel
theorem dX7_init_4 : decode cX7_init 4 = .ok (.return_, 1) := by decide +kernel
abbrev cX7_lays : ByteArray := prog_11_method_2_code
def yX7_lays : MethodName := ⟨RX7, "lays", "([II[I[I)V"⟩
def dkwX7_lays_3 : List UInt8 := [132, 6, 1, 167, 255, 226, 177]
abbrev dktX7_lays_3 : List UInt8 := dkwX7_lays_3 ++ []
def dkwX7_lays_2 : List UInt8 := [162, 0, 30, 45, 43, 21, 6, 46, 46, 158, 0, 15, 25, 4, 21, 5, 132, 5, 1, 43, 21, 6, 46, 79]
abbrev dktX7_lays_2 : List UInt8 := dkwX7_lays_2 ++ dktX7_lays_3
def dkwX7_lays_1 : List UInt8 := [21, 5, 132, 5, 1, 43, 21, 6, 46, 79, 132, 6, 1, 167, 255, 226, 3, 54, 6, 21, 6, 28]
abbrev dktX7_lays_1 : List UInt8 := dkwX7_lays_1 ++ dktX7_lays_2
def dkwX7_lays_0 : List UInt8 := [3, 54, 5, 3, 54, 6, 21, 6, 28, 162, 0, 30, 45, 43, 21, 6, 46, 46, 154, 0, 15, 25, 4]
abbrev dktX7_lays_0 : List UInt8 := dkwX7_lays_0 ++ dktX7_lays_1
theorem dksX7_lays_0 : cX7_lays.data.toList.drop 0 = dktX7_lays_0 := by decide +kernel
theorem dksX7_lays_1 : cX7_lays.data.toList.drop 23 = dktX7_lays_1 := dk_seg dksX7_lays_0 23 rfl rfl
theorem dksX7_lays_2 : cX7_lays.data.toList.drop 45 = dktX7_lays_2 := dk_seg dksX7_lays_1 22 rfl rfl
theorem dksX7_lays_3 : cX7_lays.data.toList.drop 69 = dktX7_lays_3 := dk_seg dksX7_lays_2 24 rfl rfl
theorem dX7_lays_0 : decode cX7_lays 0 = .ok (.iconst 0, 1) := dk_3 (dk_at dksX7_lays_0 0 rfl rfl)
theorem dX7_lays_1 : decode cX7_lays 1 = .ok (.istore 5, 2) := dk_54 5 (dk_at dksX7_lays_0 1 rfl rfl)
theorem dX7_lays_3 : decode cX7_lays 3 = .ok (.iconst 0, 1) := dk_3 (dk_at dksX7_lays_0 3 rfl rfl)
theorem dX7_lays_4 : decode cX7_lays 4 = .ok (.istore 6, 2) := dk_54 6 (dk_at dksX7_lays_0 4 rfl rfl)
theorem dX7_lays_6 : decode cX7_lays 6 = .ok (.iload 6, 2) := dk_21 6 (dk_at dksX7_lays_0 6 rfl rfl)
theorem dX7_lays_8 : decode cX7_lays 8 = .ok (.iload_n 2, 1) := dk_28 (dk_at dksX7_lays_0 8 rfl rfl)
theorem dX7_lays_9 : decode cX7_lays 9 = .ok (.if_icmp .ge 30, 3) := dk_162 0 30 (dk_at dksX7_lays_0 9 rfl rfl)
theorem dX7_lays_12 : decode cX7_lays 12 = .ok (.aload_n 3, 1) := dk_45 (dk_at dksX7_lays_0 12 rfl rfl)
theorem dX7_lays_13 : decode cX7_lays 13 = .ok (.aload_n 1, 1) := dk_43 (dk_at dksX7_lays_0 13 rfl rfl)
theorem dX7_lays_14 : decode cX7_lays 14 = .ok (.iload 6, 2) := dk_21 6 (dk_at dksX7_lays_0 14 rfl rfl)
theorem dX7_lays_16 : decode cX7_lays 16 = .ok (.iaload, 1) := dk_46 (dk_at dksX7_lays_0 16 rfl rfl)
theorem dX7_lays_17 : decode cX7_lays 17 = .ok (.iaload, 1) := dk_46 (dk_at dksX7_lays_0 17 rfl rfl)
theorem dX7_lays_18 : decode cX7_lays 18 = .ok (.ifCond .ne 15, 3) := dk_154 0 15 (dk_at dksX7_lays_0 18 rfl rfl)
theorem dX7_lays_21 : decode cX7_lays 21 = .ok (.aload 4, 2) := dk_25 4 (dk_at dksX7_lays_0 21 rfl rfl)
theorem dX7_lays_23 : decode cX7_lays 23 = .ok (.iload 5, 2) := dk_21 5 (dk_at dksX7_lays_1 0 rfl rfl)
theorem dX7_lays_25 : decode cX7_lays 25 = .ok (.iinc 5 1, 3) := dk_132 5 1 (dk_at dksX7_lays_1 2 rfl rfl)
theorem dX7_lays_28 : decode cX7_lays 28 = .ok (.aload_n 1, 1) := dk_43 (dk_at dksX7_lays_1 5 rfl rfl)
theorem dX7_lays_29 : decode cX7_lays 29 = .ok (.iload 6, 2) := dk_21 6 (dk_at dksX7_lays_1 6 rfl rfl)
theorem dX7_lays_31 : decode cX7_lays 31 = .ok (.iaload, 1) := dk_46 (dk_at dksX7_lays_1 8 rfl rfl)
theorem dX7_lays_32 : decode cX7_lays 32 = .ok (.iastore, 1) := dk_79 (dk_at dksX7_lays_1 9 rfl rfl)
theorem dX7_lays_33 : decode cX7_lays 33 = .ok (.iinc 6 1, 3) := dk_132 6 1 (dk_at dksX7_lays_1 10 rfl rfl)
theorem dX7_lays_36 : decode cX7_lays 36 = .ok (.goto (-30), 3) := dk_167 255 226 (dk_at dksX7_lays_1 13 rfl rfl)
theorem dX7_lays_39 : decode cX7_lays 39 = .ok (.iconst 0, 1) := dk_3 (dk_at dksX7_lays_1 16 rfl rfl)
theorem dX7_lays_40 : decode cX7_lays 40 = .ok (.istore 6, 2) := dk_54 6 (dk_at dksX7_lays_1 17 rfl rfl)
theorem dX7_lays_42 : decode cX7_lays 42 = .ok (.iload 6, 2) := dk_21 6 (dk_at dksX7_lays_1 19 rfl rfl)
theorem dX7_lays_44 : decode cX7_lays 44 = .ok (.iload_n 2, 1) := dk_28 (dk_at dksX7_lays_1 21 rfl rfl)
theorem dX7_lays_45 : decode cX7_lays 45 = .ok (.if_icmp .ge 30, 3) := dk_162 0 30 (dk_at dksX7_lays_2 0 rfl rfl)
theorem dX7_lays_48 : decode cX7_lays 48 = .ok (.aload_n 3, 1) := dk_45 (dk_at dksX7_lays_2 3 rfl rfl)
theorem dX7_lays_49 : decode cX7_lays 49 = .ok (.aload_n 1, 1) := dk_43 (dk_at dksX7_lays_2 4 rfl rfl)
theorem dX7_lays_50 : decode cX7_lays 50 = .ok (.iload 6, 2) := dk_21 6 (dk_at dksX7_lays_2 5 rfl rfl)
theorem dX7_lays_52 : decode cX7_lays 52 = .ok (.iaload, 1) := dk_46 (dk_at dksX7_lays_2 7 rfl rfl)
theorem dX7_lays_53 : decode cX7_lays 53 = .ok (.iaload, 1) := dk_46 (dk_at dksX7_lays_2 8 rfl rfl)
theorem dX7_lays_54 : decode cX7_lays 54 = .ok (.ifCond .le 15, 3) := dk_158 0 15 (dk_at dksX7_lays_2 9 rfl rfl)
theorem dX7_lays_57 : decode cX7_lays 57 = .ok (.aload 4, 2) := dk_25 4 (dk_at dksX7_lays_2 12 rfl rfl)
theorem dX7_lays_59 : decode cX7_lays 59 = .ok (.iload 5, 2) := dk_21 5 (dk_at dksX7_lays_2 14 rfl rfl)
theorem dX7_lays_61 : decode cX7_lays 61 = .ok (.iinc 5 1, 3) := dk_132 5 1 (dk_at dksX7_lays_2 16 rfl rfl)
theorem dX7_lays_64 : decode cX7_lays 64 = .ok (.aload_n 1, 1) := dk_43 (dk_at dksX7_lays_2 19 rfl rfl)
theorem dX7_lays_65 : decode cX7_lays 65 = .ok (.iload 6, 2) := dk_21 6 (dk_at dksX7_lays_2 20 rfl rfl)
theorem dX7_lays_67 : decode cX7_lays 67 = .ok (.iaload, 1) := dk_46 (dk_at dksX7_lays_2 22 rfl rfl)
theorem dX7_lays_68 : decode cX7_lays 68 = .ok (.iastore, 1) := dk_79 (dk_at dksX7_lays_2 23 rfl rfl)
theorem dX7_lays_69 : decode cX7_lays 69 = .ok (.iinc 6 1, 3) := dk_132 6 1 (dk_at dksX7_lays_3 0 rfl rfl)
theorem dX7_lays_72 : decode cX7_lays 72 = .ok (.goto (-30), 3) := dk_167 255 226 (dk_at dksX7_lays_3 3 rfl rfl)
theorem dX7_lays_75 : decode cX7_lays 75 = .ok (.return_, 1) := dk_177 (dk_at dksX7_lays_3 6 rfl rfl)
theorem q128 : (Jvm.Cond.initialized "BeggarHeaps$Low") ∈ lw_all := lw_g (lw_at lw_m1 7 rfl) rfl
theorem q234 : (Jvm.Cond.instantiable "BeggarHeaps$Low" (0 : Nat)) ∈ lw_all := lw_g (lw_at lw_m1 113 rfl) rfl
theorem q236 : (Jvm.Cond.instanceMethod ({ cls := "BeggarHeaps$Low", name := "<init>", desc := "()V" } : Jvm.MethodName)) ∈ lw_all := lw_g (lw_at lw_m1 115 rfl) rfl
theorem q237 : (Jvm.Cond.code ({ cls := "BeggarHeaps$Low", name := "<init>", desc := "()V" } : Jvm.MethodName) prog_11_method_1_code (1 : Nat) (Option.none : Option Jvm.ClassFile.FieldType)) ∈ lw_all := lw_g (lw_at lw_m1 116 rfl) rfl
theorem q238 : (Jvm.Cond.methodLinkNest "BeggarHeaps$Low" (1 : Nat) ({ cls := "BeggarHeaps$Order", name := "<init>", desc := "()V" } : Jvm.MethodName) "BeggarHeaps") ∈ lw_tbl := lw_at lw_m1 117 rfl
theorem q239 : (Jvm.Cond.superclass "BeggarHeaps$Low" "BeggarHeaps$Order") ∈ lw_all := lw_g (lw_at lw_m1 118 rfl) rfl
theorem q1134 : (Jvm.Cond.selects "BeggarHeaps$Low" ({ cls := "java/lang/Object", name := "getClass", desc := "()Ljava/lang/Class;" } : Jvm.MethodName) ({ cls := "java/lang/Object", name := "getClass", desc := "()Ljava/lang/Class;" } : Jvm.MethodName)) ∈ lw_all := lw_g (lw_at lw_m5 53 rfl) rfl
theorem q1384 : (Jvm.Cond.selects "BeggarHeaps$Low" ({ cls := "BeggarHeaps$Order", name := "lays", desc := "([II[I[I)V" } : Jvm.MethodName) ({ cls := "BeggarHeaps$Low", name := "lays", desc := "([II[I[I)V" } : Jvm.MethodName)) ∈ lw_all := lw_g (lw_at lw_m6 63 rfl) rfl
theorem q1385 : (Jvm.Cond.instanceMethod ({ cls := "BeggarHeaps$Low", name := "lays", desc := "([II[I[I)V" } : Jvm.MethodName)) ∈ lw_all := lw_g (lw_at lw_m6 64 rfl) rfl
theorem q1386 : (Jvm.Cond.code ({ cls := "BeggarHeaps$Low", name := "lays", desc := "([II[I[I)V" } : Jvm.MethodName) prog_11_method_2_code (7 : Nat) (Option.none : Option Jvm.ClassFile.FieldType)) ∈ lw_all := lw_g (lw_at lw_m6 65 rfl) rfl
theorem q2373 : (Jvm.Cond.castable "BeggarHeaps$Low" "java/lang/Object") ∈ lw_tbl := lw_at lw_m10 92 rfl
theorem q2394 : (Jvm.Cond.castable "BeggarHeaps$Low" "BeggarHeaps$Order") ∈ lw_tbl := lw_at lw_m10 113 rfl

/-! BeggarHeaps$Halves -/
set_option maxRecDepth 100000
def RX8 : String := "BeggarHeaps$Halves"
abbrev cX8_init : ByteArray := prog_8_method_1_code
def yX8_init : MethodName := ⟨RX8, "<init>", "()V"⟩
theorem dX8_init_0 : decode cX8_init 0 = .ok (.aload_n 0, 1) := by decide +kernel
theorem dX8_init_1 : decode cX8_init 1 = .ok (.invokespecial 1, 3) := by decide +kernel
theorem dX8_init_4 : decode cX8_init 4 = .ok (.return_, 1) := by decide +kernel
abbrev cX8_lays : ByteArray := prog_8_method_2_code
def yX8_lays : MethodName := ⟨RX8, "lays", "([II[I[I)V"⟩
def dkwX8_lays_1 : List UInt8 := [21, 5, 96, 28, 112, 46, 79, 132, 6, 1, 167, 255, 233, 177]
abbrev dktX8_lays_1 : List UInt8 := dkwX8_lays_1 ++ []
def dkwX8_lays_0 : List UInt8 := [28, 28, 5, 108, 100, 54, 5, 3, 54, 6, 21, 6, 28, 162, 0, 23, 25, 4, 21, 6, 43, 21, 6]
abbrev dktX8_lays_0 : List UInt8 := dkwX8_lays_0 ++ dktX8_lays_1
theorem dksX8_lays_0 : cX8_lays.data.toList.drop 0 = dktX8_lays_0 := by decide +kernel
theorem dksX8_lays_1 : cX8_lays.data.toList.drop 23 = dktX8_lays_1 := dk_seg dksX8_lays_0 23 rfl rfl
theorem dX8_lays_0 : decode cX8_lays 0 = .ok (.iload_n 2, 1) := dk_28 (dk_at dksX8_lays_0 0 rfl rfl)
theorem dX8_lays_1 : decode cX8_lays 1 = .ok (.iload_n 2, 1) := dk_28 (dk_at dksX8_lays_0 1 rfl rfl)
theorem dX8_lays_2 : decode cX8_lays 2 = .ok (.iconst 2, 1) := dk_5 (dk_at dksX8_lays_0 2 rfl rfl)
theorem dX8_lays_3 : decode cX8_lays 3 = .ok (.idiv, 1) := dk_108 (dk_at dksX8_lays_0 3 rfl rfl)
theorem dX8_lays_4 : decode cX8_lays 4 = .ok (.isub, 1) := dk_100 (dk_at dksX8_lays_0 4 rfl rfl)
theorem dX8_lays_5 : decode cX8_lays 5 = .ok (.istore 5, 2) := dk_54 5 (dk_at dksX8_lays_0 5 rfl rfl)
theorem dX8_lays_7 : decode cX8_lays 7 = .ok (.iconst 0, 1) := dk_3 (dk_at dksX8_lays_0 7 rfl rfl)
theorem dX8_lays_8 : decode cX8_lays 8 = .ok (.istore 6, 2) := dk_54 6 (dk_at dksX8_lays_0 8 rfl rfl)
theorem dX8_lays_10 : decode cX8_lays 10 = .ok (.iload 6, 2) := dk_21 6 (dk_at dksX8_lays_0 10 rfl rfl)
theorem dX8_lays_12 : decode cX8_lays 12 = .ok (.iload_n 2, 1) := dk_28 (dk_at dksX8_lays_0 12 rfl rfl)
theorem dX8_lays_13 : decode cX8_lays 13 = .ok (.if_icmp .ge 23, 3) := dk_162 0 23 (dk_at dksX8_lays_0 13 rfl rfl)
theorem dX8_lays_16 : decode cX8_lays 16 = .ok (.aload 4, 2) := dk_25 4 (dk_at dksX8_lays_0 16 rfl rfl)
theorem dX8_lays_18 : decode cX8_lays 18 = .ok (.iload 6, 2) := dk_21 6 (dk_at dksX8_lays_0 18 rfl rfl)
theorem dX8_lays_20 : decode cX8_lays 20 = .ok (.aload_n 1, 1) := dk_43 (dk_at dksX8_lays_0 20 rfl rfl)
theorem dX8_lays_21 : decode cX8_lays 21 = .ok (.iload 6, 2) := dk_21 6 (dk_at dksX8_lays_0 21 rfl rfl)
theorem dX8_lays_23 : decode cX8_lays 23 = .ok (.iload 5, 2) := dk_21 5 (dk_at dksX8_lays_1 0 rfl rfl)
theorem dX8_lays_25 : decode cX8_lays 25 = .ok (.iadd, 1) := dk_96 (dk_at dksX8_lays_1 2 rfl rfl)
theorem dX8_lays_26 : decode cX8_lays 26 = .ok (.iload_n 2, 1) := dk_28 (dk_at dksX8_lays_1 3 rfl rfl)
theorem dX8_lays_27 : decode cX8_lays 27 = .ok (.irem, 1) := dk_112 (dk_at dksX8_lays_1 4 rfl rfl)
theorem dX8_lays_28 : decode cX8_lays 28 = .ok (.iaload, 1) := dk_46 (dk_at dksX8_lays_1 5 rfl rfl)
theorem dX8_lays_29 : decode cX8_lays 29 = .ok (.iastore, 1) := dk_79 (dk_at dksX8_lays_1 6 rfl rfl)
theorem dX8_lays_30 : decode cX8_lays 30 = .ok (.iinc 6 1, 3) := dk_132 6 1 (dk_at dksX8_lays_1 7 rfl rfl)
theorem dX8_lays_33 : decode cX8_lays 33 = .ok (.goto (-23), 3) := dk_167 255 233 (dk_at dksX8_lays_1 10 rfl rfl)
theorem dX8_lays_36 : decode cX8_lays 36 = .ok (.return_, 1) := dk_177 (dk_at dksX8_lays_1 13 rfl rfl)
theorem q129 : (Jvm.Cond.initialized "BeggarHeaps$Halves") ∈ lw_all := lw_g (lw_at lw_m1 8 rfl) rfl
theorem q241 : (Jvm.Cond.instantiable "BeggarHeaps$Halves" (0 : Nat)) ∈ lw_all := lw_g (lw_at lw_m1 120 rfl) rfl
theorem q243 : (Jvm.Cond.instanceMethod ({ cls := "BeggarHeaps$Halves", name := "<init>", desc := "()V" } : Jvm.MethodName)) ∈ lw_all := lw_g (lw_at lw_m1 122 rfl) rfl
theorem q244 : (Jvm.Cond.code ({ cls := "BeggarHeaps$Halves", name := "<init>", desc := "()V" } : Jvm.MethodName) prog_8_method_1_code (1 : Nat) (Option.none : Option Jvm.ClassFile.FieldType)) ∈ lw_all := lw_g (lw_at lw_m1 123 rfl) rfl
theorem q245 : (Jvm.Cond.methodLinkNest "BeggarHeaps$Halves" (1 : Nat) ({ cls := "BeggarHeaps$Order", name := "<init>", desc := "()V" } : Jvm.MethodName) "BeggarHeaps") ∈ lw_tbl := lw_at lw_m1 124 rfl
theorem q246 : (Jvm.Cond.superclass "BeggarHeaps$Halves" "BeggarHeaps$Order") ∈ lw_all := lw_g (lw_at lw_m1 125 rfl) rfl
theorem q1131 : (Jvm.Cond.selects "BeggarHeaps$Halves" ({ cls := "java/lang/Object", name := "getClass", desc := "()Ljava/lang/Class;" } : Jvm.MethodName) ({ cls := "java/lang/Object", name := "getClass", desc := "()Ljava/lang/Class;" } : Jvm.MethodName)) ∈ lw_all := lw_g (lw_at lw_m5 50 rfl) rfl
theorem q1378 : (Jvm.Cond.selects "BeggarHeaps$Halves" ({ cls := "BeggarHeaps$Order", name := "lays", desc := "([II[I[I)V" } : Jvm.MethodName) ({ cls := "BeggarHeaps$Halves", name := "lays", desc := "([II[I[I)V" } : Jvm.MethodName)) ∈ lw_all := lw_g (lw_at lw_m6 57 rfl) rfl
theorem q1379 : (Jvm.Cond.instanceMethod ({ cls := "BeggarHeaps$Halves", name := "lays", desc := "([II[I[I)V" } : Jvm.MethodName)) ∈ lw_all := lw_g (lw_at lw_m6 58 rfl) rfl
theorem q1380 : (Jvm.Cond.code ({ cls := "BeggarHeaps$Halves", name := "lays", desc := "([II[I[I)V" } : Jvm.MethodName) prog_8_method_2_code (7 : Nat) (Option.none : Option Jvm.ClassFile.FieldType)) ∈ lw_all := lw_g (lw_at lw_m6 59 rfl) rfl
theorem q2374 : (Jvm.Cond.castable "BeggarHeaps$Halves" "java/lang/Object") ∈ lw_tbl := lw_at lw_m10 93 rfl
theorem q2395 : (Jvm.Cond.castable "BeggarHeaps$Halves" "BeggarHeaps$Order") ∈ lw_tbl := lw_at lw_m10 114 rfl

/-! BeggarHeaps$Run -/
set_option maxRecDepth 100000
def RX9 : String := "BeggarHeaps$Run"
def TX9 : u_T := fun k => match k with
  | 0 => ("BeggarHeaps$Run", "a", "[J", true)
  | 1 => ("BeggarHeaps$Run", "b", "[J", true)
  | 2 => ("BeggarHeaps$Run", "c", "[J", true)
  | 3 => ("BeggarHeaps$Run", "d", "[J", true)
  | 4 => ("BeggarHeaps$Run", "turnsAt", "[I", true)
  | 5 => ("BeggarHeaps$Run", "heapsAt", "[I", true)
  | 6 => ("BeggarHeaps$Run", "states", "I", false)
  | 7 => ("BeggarHeaps$Run", "end", "I", false)
  | 8 => ("BeggarHeaps$Run", "turns", "I", false)
  | 9 => ("BeggarHeaps$Run", "heaps", "I", false)
  | 10 => ("BeggarHeaps$Run", "period", "I", false)
  | _ => ("BeggarHeaps$Run", "this$0", "LBeggarHeaps;", true)
def tyX9 : Nat → FieldType := fun k => match k with
  | 0 => .array .long
  | 1 => .array .long
  | 2 => .array .long
  | 3 => .array .long
  | 4 => .array .int
  | 5 => .array .int
  | 6 => .int
  | 7 => .int
  | 8 => .int
  | 9 => .int
  | 10 => .int
  | _ => .object "BeggarHeaps"
abbrev wsX90 : List Cond := u_ws RX9 TX9 12
theorem nmX9 : ∀ a, a < 12 → ∀ b, b < 12 → a ≠ b → (TX9 a).2.1 ≠ (TX9 b).2.1 := by decide +kernel
theorem tyX9_ok : ∀ k, k < 12 → parseFieldDescriptor (TX9 k).2.2.1 = some (tyX9 k) := by decide +kernel
abbrev cX9_init : ByteArray := prog_18_method_1_code
def yX9_init : MethodName := ⟨RX9, "<init>", "(LBeggarHeaps;)V"⟩
def dkwX9_init_2 : List UInt8 := [17, 11, 185, 188, 10, 181, 0, 28, 42, 17, 11, 185, 188, 10, 181, 0, 32, 177]
abbrev dktX9_init_2 : List UInt8 := dkwX9_init_2 ++ []
def dkwX9_init_1 : List UInt8 := [181, 0, 19, 42, 17, 11, 185, 188, 11, 181, 0, 22, 42, 17, 11, 185, 188, 11, 181, 0, 25, 42]
abbrev dktX9_init_1 : List UInt8 := dkwX9_init_1 ++ dktX9_init_2
def dkwX9_init_0 : List UInt8 := [42, 43, 181, 0, 3, 42, 183, 0, 9, 42, 17, 11, 185, 188, 11, 181, 0, 15, 42, 17, 11, 185, 188, 11]
abbrev dktX9_init_0 : List UInt8 := dkwX9_init_0 ++ dktX9_init_1
theorem dksX9_init_0 : cX9_init.data.toList.drop 0 = dktX9_init_0 := by decide +kernel
theorem dksX9_init_1 : cX9_init.data.toList.drop 24 = dktX9_init_1 := dk_seg dksX9_init_0 24 rfl rfl
theorem dksX9_init_2 : cX9_init.data.toList.drop 46 = dktX9_init_2 := dk_seg dksX9_init_1 22 rfl rfl
theorem dX9_init_0 : decode cX9_init 0 = .ok (.aload_n 0, 1) := dk_42 (dk_at dksX9_init_0 0 rfl rfl)
theorem dX9_init_1 : decode cX9_init 1 = .ok (.aload_n 1, 1) := dk_43 (dk_at dksX9_init_0 1 rfl rfl)
theorem dX9_init_2 : decode cX9_init 2 = .ok (.putfield 3, 3) := dk_181 0 3 (dk_at dksX9_init_0 2 rfl rfl)
theorem dX9_init_5 : decode cX9_init 5 = .ok (.aload_n 0, 1) := dk_42 (dk_at dksX9_init_0 5 rfl rfl)
theorem dX9_init_6 : decode cX9_init 6 = .ok (.invokespecial 9, 3) := dk_183 0 9 (dk_at dksX9_init_0 6 rfl rfl)
theorem dX9_init_9 : decode cX9_init 9 = .ok (.aload_n 0, 1) := dk_42 (dk_at dksX9_init_0 9 rfl rfl)
theorem dX9_init_10 : decode cX9_init 10 = .ok (.sipush 3001, 3) := dk_17 11 185 (dk_at dksX9_init_0 10 rfl rfl)
theorem dX9_init_13 : decode cX9_init 13 = .ok (.newarray .long, 2) := dk_188_11 (dk_at dksX9_init_0 13 rfl rfl)
theorem dX9_init_15 : decode cX9_init 15 = .ok (.putfield 15, 3) := dk_181 0 15 (dk_at dksX9_init_0 15 rfl rfl)
theorem dX9_init_18 : decode cX9_init 18 = .ok (.aload_n 0, 1) := dk_42 (dk_at dksX9_init_0 18 rfl rfl)
theorem dX9_init_19 : decode cX9_init 19 = .ok (.sipush 3001, 3) := dk_17 11 185 (dk_at dksX9_init_0 19 rfl rfl)
theorem dX9_init_22 : decode cX9_init 22 = .ok (.newarray .long, 2) := dk_188_11 (dk_at dksX9_init_0 22 rfl rfl)
theorem dX9_init_24 : decode cX9_init 24 = .ok (.putfield 19, 3) := dk_181 0 19 (dk_at dksX9_init_1 0 rfl rfl)
theorem dX9_init_27 : decode cX9_init 27 = .ok (.aload_n 0, 1) := dk_42 (dk_at dksX9_init_1 3 rfl rfl)
theorem dX9_init_28 : decode cX9_init 28 = .ok (.sipush 3001, 3) := dk_17 11 185 (dk_at dksX9_init_1 4 rfl rfl)
theorem dX9_init_31 : decode cX9_init 31 = .ok (.newarray .long, 2) := dk_188_11 (dk_at dksX9_init_1 7 rfl rfl)
theorem dX9_init_33 : decode cX9_init 33 = .ok (.putfield 22, 3) := dk_181 0 22 (dk_at dksX9_init_1 9 rfl rfl)
theorem dX9_init_36 : decode cX9_init 36 = .ok (.aload_n 0, 1) := dk_42 (dk_at dksX9_init_1 12 rfl rfl)
theorem dX9_init_37 : decode cX9_init 37 = .ok (.sipush 3001, 3) := dk_17 11 185 (dk_at dksX9_init_1 13 rfl rfl)
theorem dX9_init_40 : decode cX9_init 40 = .ok (.newarray .long, 2) := dk_188_11 (dk_at dksX9_init_1 16 rfl rfl)
theorem dX9_init_42 : decode cX9_init 42 = .ok (.putfield 25, 3) := dk_181 0 25 (dk_at dksX9_init_1 18 rfl rfl)
theorem dX9_init_45 : decode cX9_init 45 = .ok (.aload_n 0, 1) := dk_42 (dk_at dksX9_init_1 21 rfl rfl)
theorem dX9_init_46 : decode cX9_init 46 = .ok (.sipush 3001, 3) := dk_17 11 185 (dk_at dksX9_init_2 0 rfl rfl)
theorem dX9_init_49 : decode cX9_init 49 = .ok (.newarray .int, 2) := dk_188_10 (dk_at dksX9_init_2 3 rfl rfl)
theorem dX9_init_51 : decode cX9_init 51 = .ok (.putfield 28, 3) := dk_181 0 28 (dk_at dksX9_init_2 5 rfl rfl)
theorem dX9_init_54 : decode cX9_init 54 = .ok (.aload_n 0, 1) := dk_42 (dk_at dksX9_init_2 8 rfl rfl)
theorem dX9_init_55 : decode cX9_init 55 = .ok (.sipush 3001, 3) := dk_17 11 185 (dk_at dksX9_init_2 9 rfl rfl)
theorem dX9_init_58 : decode cX9_init 58 = .ok (.newarray .int, 2) := dk_188_10 (dk_at dksX9_init_2 12 rfl rfl)
theorem dX9_init_60 : decode cX9_init 60 = .ok (.putfield 32, 3) := dk_181 0 32 (dk_at dksX9_init_2 14 rfl rfl)
theorem dX9_init_63 : decode cX9_init 63 = .ok (.return_, 1) := dk_177 (dk_at dksX9_init_2 17 rfl rfl)
abbrev cX9_goes : ByteArray := prog_18_method_4_code
def yX9_goes : MethodName := ⟨RX9, "goes", "(LBeggarHeaps$Game;[II)V"⟩
def dkwX9_goes_7 : List UInt8 := [43, 180, 0, 73, 21, 4, 100, 181, 0, 67, 42, 43, 180, 0, 77, 21, 5, 100, 181, 0, 70, 177]
abbrev dktX9_goes_7 : List UInt8 := dkwX9_goes_7 ++ []
def dkwX9_goes_6 : List UInt8 := [43, 180, 0, 58, 100, 181, 0, 104, 43, 180, 0, 104, 155, 0, 11, 42, 43, 180, 0, 104, 181, 0, 64, 42]
abbrev dktX9_goes_6 : List UInt8 := dkwX9_goes_6 ++ dktX9_goes_7
def dkwX9_goes_5 : List UInt8 := [177, 167, 255, 183, 43, 180, 0, 104, 156, 0, 24, 43, 43, 180, 0, 58, 182, 0, 107, 154, 0, 13, 43, 4]
abbrev dktX9_goes_5 : List UInt8 := dkwX9_goes_5 ++ dktX9_goes_6
def dkwX9_goes_4 : List UInt8 := [160, 0, 6, 167, 0, 25, 21, 6, 4, 160, 0, 16, 42, 43, 21, 4, 21, 5, 182, 0, 82, 153, 0, 4]
abbrev dktX9_goes_4 : List UInt8 := dkwX9_goes_4 ++ dktX9_goes_5
def dkwX9_goes_3 : List UInt8 := [180, 0, 90, 182, 0, 94, 50, 42, 180, 0, 3, 180, 0, 86, 4, 50, 182, 0, 100, 54, 6, 21, 6, 5]
abbrev dktX9_goes_3 : List UInt8 := dkwX9_goes_3 ++ dktX9_goes_4
def dkwX9_goes_2 : List UInt8 := [180, 0, 73, 21, 4, 100, 29, 162, 0, 68, 43, 44, 42, 180, 0, 3, 180, 0, 86, 42, 180, 0, 3]
abbrev dktX9_goes_2 : List UInt8 := dkwX9_goes_2 ++ dktX9_goes_3
def dkwX9_goes_1 : List UInt8 := [182, 0, 78, 153, 0, 13, 42, 43, 21, 4, 21, 5, 182, 0, 82, 87, 42, 6, 181, 0, 64, 43]
abbrev dktX9_goes_1 : List UInt8 := dkwX9_goes_1 ++ dktX9_goes_2
def dkwX9_goes_0 : List UInt8 := [43, 180, 0, 73, 54, 4, 43, 180, 0, 77, 54, 5, 42, 3, 181, 0, 61, 42, 3, 181, 0, 74, 43]
abbrev dktX9_goes_0 : List UInt8 := dkwX9_goes_0 ++ dktX9_goes_1
theorem dksX9_goes_0 : cX9_goes.data.toList.drop 0 = dktX9_goes_0 := by decide +kernel
theorem dksX9_goes_1 : cX9_goes.data.toList.drop 23 = dktX9_goes_1 := dk_seg dksX9_goes_0 23 rfl rfl
theorem dksX9_goes_2 : cX9_goes.data.toList.drop 45 = dktX9_goes_2 := dk_seg dksX9_goes_1 22 rfl rfl
theorem dksX9_goes_3 : cX9_goes.data.toList.drop 68 = dktX9_goes_3 := dk_seg dksX9_goes_2 23 rfl rfl
theorem dksX9_goes_4 : cX9_goes.data.toList.drop 92 = dktX9_goes_4 := dk_seg dksX9_goes_3 24 rfl rfl
theorem dksX9_goes_5 : cX9_goes.data.toList.drop 116 = dktX9_goes_5 := dk_seg dksX9_goes_4 24 rfl rfl
theorem dksX9_goes_6 : cX9_goes.data.toList.drop 140 = dktX9_goes_6 := dk_seg dksX9_goes_5 24 rfl rfl
theorem dksX9_goes_7 : cX9_goes.data.toList.drop 164 = dktX9_goes_7 := dk_seg dksX9_goes_6 24 rfl rfl
theorem dX9_goes_0 : decode cX9_goes 0 = .ok (.aload_n 1, 1) := dk_43 (dk_at dksX9_goes_0 0 rfl rfl)
theorem dX9_goes_1 : decode cX9_goes 1 = .ok (.getfield 73, 3) := dk_180 0 73 (dk_at dksX9_goes_0 1 rfl rfl)
theorem dX9_goes_4 : decode cX9_goes 4 = .ok (.istore 4, 2) := dk_54 4 (dk_at dksX9_goes_0 4 rfl rfl)
theorem dX9_goes_6 : decode cX9_goes 6 = .ok (.aload_n 1, 1) := dk_43 (dk_at dksX9_goes_0 6 rfl rfl)
theorem dX9_goes_7 : decode cX9_goes 7 = .ok (.getfield 77, 3) := dk_180 0 77 (dk_at dksX9_goes_0 7 rfl rfl)
theorem dX9_goes_10 : decode cX9_goes 10 = .ok (.istore 5, 2) := dk_54 5 (dk_at dksX9_goes_0 10 rfl rfl)
theorem dX9_goes_12 : decode cX9_goes 12 = .ok (.aload_n 0, 1) := dk_42 (dk_at dksX9_goes_0 12 rfl rfl)
theorem dX9_goes_13 : decode cX9_goes 13 = .ok (.iconst 0, 1) := dk_3 (dk_at dksX9_goes_0 13 rfl rfl)
theorem dX9_goes_14 : decode cX9_goes 14 = .ok (.putfield 61, 3) := dk_181 0 61 (dk_at dksX9_goes_0 14 rfl rfl)
theorem dX9_goes_17 : decode cX9_goes 17 = .ok (.aload_n 0, 1) := dk_42 (dk_at dksX9_goes_0 17 rfl rfl)
theorem dX9_goes_18 : decode cX9_goes 18 = .ok (.iconst 0, 1) := dk_3 (dk_at dksX9_goes_0 18 rfl rfl)
theorem dX9_goes_19 : decode cX9_goes 19 = .ok (.putfield 74, 3) := dk_181 0 74 (dk_at dksX9_goes_0 19 rfl rfl)
theorem dX9_goes_22 : decode cX9_goes 22 = .ok (.aload_n 1, 1) := dk_43 (dk_at dksX9_goes_0 22 rfl rfl)
theorem dX9_goes_23 : decode cX9_goes 23 = .ok (.invokevirtual 78, 3) := dk_182 0 78 (dk_at dksX9_goes_1 0 rfl rfl)
theorem dX9_goes_26 : decode cX9_goes 26 = .ok (.ifCond .eq 13, 3) := dk_153 0 13 (dk_at dksX9_goes_1 3 rfl rfl)
theorem dX9_goes_29 : decode cX9_goes 29 = .ok (.aload_n 0, 1) := dk_42 (dk_at dksX9_goes_1 6 rfl rfl)
theorem dX9_goes_30 : decode cX9_goes 30 = .ok (.aload_n 1, 1) := dk_43 (dk_at dksX9_goes_1 7 rfl rfl)
theorem dX9_goes_31 : decode cX9_goes 31 = .ok (.iload 4, 2) := dk_21 4 (dk_at dksX9_goes_1 8 rfl rfl)
theorem dX9_goes_33 : decode cX9_goes 33 = .ok (.iload 5, 2) := dk_21 5 (dk_at dksX9_goes_1 10 rfl rfl)
theorem dX9_goes_35 : decode cX9_goes 35 = .ok (.invokevirtual 82, 3) := dk_182 0 82 (dk_at dksX9_goes_1 12 rfl rfl)
theorem dX9_goes_38 : decode cX9_goes 38 = .ok (.pop, 1) := dk_87 (dk_at dksX9_goes_1 15 rfl rfl)
theorem dX9_goes_39 : decode cX9_goes 39 = .ok (.aload_n 0, 1) := dk_42 (dk_at dksX9_goes_1 16 rfl rfl)
theorem dX9_goes_40 : decode cX9_goes 40 = .ok (.iconst 3, 1) := dk_6 (dk_at dksX9_goes_1 17 rfl rfl)
theorem dX9_goes_41 : decode cX9_goes 41 = .ok (.putfield 64, 3) := dk_181 0 64 (dk_at dksX9_goes_1 18 rfl rfl)
theorem dX9_goes_44 : decode cX9_goes 44 = .ok (.aload_n 1, 1) := dk_43 (dk_at dksX9_goes_1 21 rfl rfl)
theorem dX9_goes_45 : decode cX9_goes 45 = .ok (.getfield 73, 3) := dk_180 0 73 (dk_at dksX9_goes_2 0 rfl rfl)
theorem dX9_goes_48 : decode cX9_goes 48 = .ok (.iload 4, 2) := dk_21 4 (dk_at dksX9_goes_2 3 rfl rfl)
theorem dX9_goes_50 : decode cX9_goes 50 = .ok (.isub, 1) := dk_100 (dk_at dksX9_goes_2 5 rfl rfl)
theorem dX9_goes_51 : decode cX9_goes 51 = .ok (.iload_n 3, 1) := dk_29 (dk_at dksX9_goes_2 6 rfl rfl)
theorem dX9_goes_52 : decode cX9_goes 52 = .ok (.if_icmp .ge 68, 3) := dk_162 0 68 (dk_at dksX9_goes_2 7 rfl rfl)
theorem dX9_goes_55 : decode cX9_goes 55 = .ok (.aload_n 1, 1) := dk_43 (dk_at dksX9_goes_2 10 rfl rfl)
theorem dX9_goes_56 : decode cX9_goes 56 = .ok (.aload_n 2, 1) := dk_44 (dk_at dksX9_goes_2 11 rfl rfl)
theorem dX9_goes_57 : decode cX9_goes 57 = .ok (.aload_n 0, 1) := dk_42 (dk_at dksX9_goes_2 12 rfl rfl)
theorem dX9_goes_58 : decode cX9_goes 58 = .ok (.getfield 3, 3) := dk_180 0 3 (dk_at dksX9_goes_2 13 rfl rfl)
theorem dX9_goes_61 : decode cX9_goes 61 = .ok (.getfield 86, 3) := dk_180 0 86 (dk_at dksX9_goes_2 16 rfl rfl)
theorem dX9_goes_64 : decode cX9_goes 64 = .ok (.aload_n 0, 1) := dk_42 (dk_at dksX9_goes_2 19 rfl rfl)
theorem dX9_goes_65 : decode cX9_goes 65 = .ok (.getfield 3, 3) := dk_180 0 3 (dk_at dksX9_goes_2 20 rfl rfl)
theorem dX9_goes_68 : decode cX9_goes 68 = .ok (.getfield 90, 3) := dk_180 0 90 (dk_at dksX9_goes_3 0 rfl rfl)
theorem dX9_goes_71 : decode cX9_goes 71 = .ok (.invokevirtual 94, 3) := dk_182 0 94 (dk_at dksX9_goes_3 3 rfl rfl)
theorem dX9_goes_74 : decode cX9_goes 74 = .ok (.aaload, 1) := dk_50 (dk_at dksX9_goes_3 6 rfl rfl)
theorem dX9_goes_75 : decode cX9_goes 75 = .ok (.aload_n 0, 1) := dk_42 (dk_at dksX9_goes_3 7 rfl rfl)
theorem dX9_goes_76 : decode cX9_goes 76 = .ok (.getfield 3, 3) := dk_180 0 3 (dk_at dksX9_goes_3 8 rfl rfl)
theorem dX9_goes_79 : decode cX9_goes 79 = .ok (.getfield 86, 3) := dk_180 0 86 (dk_at dksX9_goes_3 11 rfl rfl)
theorem dX9_goes_82 : decode cX9_goes 82 = .ok (.iconst 1, 1) := dk_4 (dk_at dksX9_goes_3 14 rfl rfl)
theorem dX9_goes_83 : decode cX9_goes 83 = .ok (.aaload, 1) := dk_50 (dk_at dksX9_goes_3 15 rfl rfl)
theorem dX9_goes_84 : decode cX9_goes 84 = .ok (.invokevirtual 100, 3) := dk_182 0 100 (dk_at dksX9_goes_3 16 rfl rfl)
theorem dX9_goes_87 : decode cX9_goes 87 = .ok (.istore 6, 2) := dk_54 6 (dk_at dksX9_goes_3 19 rfl rfl)
theorem dX9_goes_89 : decode cX9_goes 89 = .ok (.iload 6, 2) := dk_21 6 (dk_at dksX9_goes_3 21 rfl rfl)
theorem dX9_goes_91 : decode cX9_goes 91 = .ok (.iconst 2, 1) := dk_5 (dk_at dksX9_goes_3 23 rfl rfl)
theorem dX9_goes_92 : decode cX9_goes 92 = .ok (.if_icmp .ne 6, 3) := dk_160 0 6 (dk_at dksX9_goes_4 0 rfl rfl)
theorem dX9_goes_95 : decode cX9_goes 95 = .ok (.goto 25, 3) := dk_167 0 25 (dk_at dksX9_goes_4 3 rfl rfl)
theorem dX9_goes_98 : decode cX9_goes 98 = .ok (.iload 6, 2) := dk_21 6 (dk_at dksX9_goes_4 6 rfl rfl)
theorem dX9_goes_100 : decode cX9_goes 100 = .ok (.iconst 1, 1) := dk_4 (dk_at dksX9_goes_4 8 rfl rfl)
theorem dX9_goes_101 : decode cX9_goes 101 = .ok (.if_icmp .ne 16, 3) := dk_160 0 16 (dk_at dksX9_goes_4 9 rfl rfl)
theorem dX9_goes_104 : decode cX9_goes 104 = .ok (.aload_n 0, 1) := dk_42 (dk_at dksX9_goes_4 12 rfl rfl)
theorem dX9_goes_105 : decode cX9_goes 105 = .ok (.aload_n 1, 1) := dk_43 (dk_at dksX9_goes_4 13 rfl rfl)
theorem dX9_goes_106 : decode cX9_goes 106 = .ok (.iload 4, 2) := dk_21 4 (dk_at dksX9_goes_4 14 rfl rfl)
theorem dX9_goes_108 : decode cX9_goes 108 = .ok (.iload 5, 2) := dk_21 5 (dk_at dksX9_goes_4 16 rfl rfl)
theorem dX9_goes_110 : decode cX9_goes 110 = .ok (.invokevirtual 82, 3) := dk_182 0 82 (dk_at dksX9_goes_4 18 rfl rfl)
theorem dX9_goes_113 : decode cX9_goes 113 = .ok (.ifCond .eq 4, 3) := dk_153 0 4 (dk_at dksX9_goes_4 21 rfl rfl)
theorem dX9_goes_116 : decode cX9_goes 116 = .ok (.return_, 1) := dk_177 (dk_at dksX9_goes_5 0 rfl rfl)
theorem dX9_goes_117 : decode cX9_goes 117 = .ok (.goto (-73), 3) := dk_167 255 183 (dk_at dksX9_goes_5 1 rfl rfl)
theorem dX9_goes_120 : decode cX9_goes 120 = .ok (.aload_n 1, 1) := dk_43 (dk_at dksX9_goes_5 4 rfl rfl)
theorem dX9_goes_121 : decode cX9_goes 121 = .ok (.getfield 104, 3) := dk_180 0 104 (dk_at dksX9_goes_5 5 rfl rfl)
theorem dX9_goes_124 : decode cX9_goes 124 = .ok (.ifCond .ge 24, 3) := dk_156 0 24 (dk_at dksX9_goes_5 8 rfl rfl)
theorem dX9_goes_127 : decode cX9_goes 127 = .ok (.aload_n 1, 1) := dk_43 (dk_at dksX9_goes_5 11 rfl rfl)
theorem dX9_goes_128 : decode cX9_goes 128 = .ok (.aload_n 1, 1) := dk_43 (dk_at dksX9_goes_5 12 rfl rfl)
theorem dX9_goes_129 : decode cX9_goes 129 = .ok (.getfield 58, 3) := dk_180 0 58 (dk_at dksX9_goes_5 13 rfl rfl)
theorem dX9_goes_132 : decode cX9_goes 132 = .ok (.invokevirtual 107, 3) := dk_182 0 107 (dk_at dksX9_goes_5 16 rfl rfl)
theorem dX9_goes_135 : decode cX9_goes 135 = .ok (.ifCond .ne 13, 3) := dk_154 0 13 (dk_at dksX9_goes_5 19 rfl rfl)
theorem dX9_goes_138 : decode cX9_goes 138 = .ok (.aload_n 1, 1) := dk_43 (dk_at dksX9_goes_5 22 rfl rfl)
theorem dX9_goes_139 : decode cX9_goes 139 = .ok (.iconst 1, 1) := dk_4 (dk_at dksX9_goes_5 23 rfl rfl)
theorem dX9_goes_140 : decode cX9_goes 140 = .ok (.aload_n 1, 1) := dk_43 (dk_at dksX9_goes_6 0 rfl rfl)
theorem dX9_goes_141 : decode cX9_goes 141 = .ok (.getfield 58, 3) := dk_180 0 58 (dk_at dksX9_goes_6 1 rfl rfl)
theorem dX9_goes_144 : decode cX9_goes 144 = .ok (.isub, 1) := dk_100 (dk_at dksX9_goes_6 4 rfl rfl)
theorem dX9_goes_145 : decode cX9_goes 145 = .ok (.putfield 104, 3) := dk_181 0 104 (dk_at dksX9_goes_6 5 rfl rfl)
theorem dX9_goes_148 : decode cX9_goes 148 = .ok (.aload_n 1, 1) := dk_43 (dk_at dksX9_goes_6 8 rfl rfl)
theorem dX9_goes_149 : decode cX9_goes 149 = .ok (.getfield 104, 3) := dk_180 0 104 (dk_at dksX9_goes_6 9 rfl rfl)
theorem dX9_goes_152 : decode cX9_goes 152 = .ok (.ifCond .lt 11, 3) := dk_155 0 11 (dk_at dksX9_goes_6 12 rfl rfl)
theorem dX9_goes_155 : decode cX9_goes 155 = .ok (.aload_n 0, 1) := dk_42 (dk_at dksX9_goes_6 15 rfl rfl)
theorem dX9_goes_156 : decode cX9_goes 156 = .ok (.aload_n 1, 1) := dk_43 (dk_at dksX9_goes_6 16 rfl rfl)
theorem dX9_goes_157 : decode cX9_goes 157 = .ok (.getfield 104, 3) := dk_180 0 104 (dk_at dksX9_goes_6 17 rfl rfl)
theorem dX9_goes_160 : decode cX9_goes 160 = .ok (.putfield 64, 3) := dk_181 0 64 (dk_at dksX9_goes_6 20 rfl rfl)
theorem dX9_goes_163 : decode cX9_goes 163 = .ok (.aload_n 0, 1) := dk_42 (dk_at dksX9_goes_6 23 rfl rfl)
theorem dX9_goes_164 : decode cX9_goes 164 = .ok (.aload_n 1, 1) := dk_43 (dk_at dksX9_goes_7 0 rfl rfl)
theorem dX9_goes_165 : decode cX9_goes 165 = .ok (.getfield 73, 3) := dk_180 0 73 (dk_at dksX9_goes_7 1 rfl rfl)
theorem dX9_goes_168 : decode cX9_goes 168 = .ok (.iload 4, 2) := dk_21 4 (dk_at dksX9_goes_7 4 rfl rfl)
theorem dX9_goes_170 : decode cX9_goes 170 = .ok (.isub, 1) := dk_100 (dk_at dksX9_goes_7 6 rfl rfl)
theorem dX9_goes_171 : decode cX9_goes 171 = .ok (.putfield 67, 3) := dk_181 0 67 (dk_at dksX9_goes_7 7 rfl rfl)
theorem dX9_goes_174 : decode cX9_goes 174 = .ok (.aload_n 0, 1) := dk_42 (dk_at dksX9_goes_7 10 rfl rfl)
theorem dX9_goes_175 : decode cX9_goes 175 = .ok (.aload_n 1, 1) := dk_43 (dk_at dksX9_goes_7 11 rfl rfl)
theorem dX9_goes_176 : decode cX9_goes 176 = .ok (.getfield 77, 3) := dk_180 0 77 (dk_at dksX9_goes_7 12 rfl rfl)
theorem dX9_goes_179 : decode cX9_goes 179 = .ok (.iload 5, 2) := dk_21 5 (dk_at dksX9_goes_7 15 rfl rfl)
theorem dX9_goes_181 : decode cX9_goes 181 = .ok (.isub, 1) := dk_100 (dk_at dksX9_goes_7 17 rfl rfl)
theorem dX9_goes_182 : decode cX9_goes 182 = .ok (.putfield 70, 3) := dk_181 0 70 (dk_at dksX9_goes_7 18 rfl rfl)
theorem dX9_goes_185 : decode cX9_goes 185 = .ok (.return_, 1) := dk_177 (dk_at dksX9_goes_7 21 rfl rfl)
abbrev cX9_again : ByteArray := prog_18_method_3_code
def yX9_again : MethodName := ⟨RX9, "again", "(LBeggarHeaps$Game;II)Z"⟩
def dkwX9_again_10 : List UInt8 := [4, 96, 181, 0, 61, 43, 180, 0, 77, 29, 100, 79, 3, 172]
abbrev dktX9_again_10 : List UInt8 := dkwX9_again_10 ++ []
def dkwX9_again_9 : List UInt8 := [180, 0, 28, 42, 180, 0, 61, 43, 180, 0, 73, 28, 100, 79, 42, 180, 0, 32, 42, 89, 180, 0, 61, 90]
abbrev dktX9_again_9 : List UInt8 := dkwX9_again_9 ++ dktX9_again_10
def dkwX9_again_8 : List UInt8 := [180, 0, 22, 42, 180, 0, 61, 22, 8, 80, 42, 180, 0, 25, 42, 180, 0, 61, 22, 10, 80, 42]
abbrev dktX9_again_8 : List UInt8 := dkwX9_again_8 ++ dktX9_again_9
def dkwX9_again_7 : List UInt8 := [180, 0, 15, 42, 180, 0, 61, 22, 4, 80, 42, 180, 0, 19, 42, 180, 0, 61, 22, 6, 80, 42]
abbrev dktX9_again_7 : List UInt8 := dkwX9_again_7 ++ dktX9_again_8
def dkwX9_again_6 : List UInt8 := [180, 0, 73, 28, 100, 42, 180, 0, 67, 100, 181, 0, 74, 4, 172, 132, 12, 1, 167, 255, 145, 42]
abbrev dktX9_again_6 : List UInt8 := dkwX9_again_6 ++ dktX9_again_7
def dkwX9_again_5 : List UInt8 := [180, 0, 28, 21, 12, 46, 181, 0, 67, 42, 42, 180, 0, 32, 21, 12, 46, 181, 0, 70, 42, 43]
abbrev dktX9_again_5 : List UInt8 := dkwX9_again_5 ++ dktX9_again_6
def dkwX9_again_4 : List UInt8 := [180, 0, 25, 21, 12, 47, 22, 10, 148, 153, 0, 6, 167, 0, 47, 42, 5, 181, 0, 64, 42, 42]
abbrev dktX9_again_4 : List UInt8 := dkwX9_again_4 ++ dktX9_again_5
def dkwX9_again_3 : List UInt8 := [21, 12, 47, 22, 6, 148, 154, 0, 76, 42, 180, 0, 22, 21, 12, 47, 22, 8, 148, 154, 0, 63, 42]
abbrev dktX9_again_3 : List UInt8 := dkwX9_again_3 ++ dktX9_again_4
def dkwX9_again_2 : List UInt8 := [42, 180, 0, 61, 162, 0, 108, 42, 180, 0, 15, 21, 12, 47, 22, 4, 148, 154, 0, 89, 42, 180, 0, 19]
abbrev dktX9_again_2 : List UInt8 := dkwX9_again_2 ++ dktX9_again_3
def dkwX9_again_1 : List UInt8 := [55, 8, 43, 180, 0, 35, 133, 20, 0, 56, 105, 43, 180, 0, 58, 133, 97, 55, 10, 3, 54, 12, 21, 12]
abbrev dktX9_again_1 : List UInt8 := dkwX9_again_1 ++ dktX9_again_2
def dkwX9_again_0 : List UInt8 := [42, 43, 3, 182, 0, 52, 55, 4, 42, 43, 16, 16, 182, 0, 52, 55, 6, 42, 43, 16, 32, 182, 0, 52]
abbrev dktX9_again_0 : List UInt8 := dkwX9_again_0 ++ dktX9_again_1
theorem dksX9_again_0 : cX9_again.data.toList.drop 0 = dktX9_again_0 := by decide +kernel
theorem dksX9_again_1 : cX9_again.data.toList.drop 24 = dktX9_again_1 := dk_seg dksX9_again_0 24 rfl rfl
theorem dksX9_again_2 : cX9_again.data.toList.drop 48 = dktX9_again_2 := dk_seg dksX9_again_1 24 rfl rfl
theorem dksX9_again_3 : cX9_again.data.toList.drop 72 = dktX9_again_3 := dk_seg dksX9_again_2 24 rfl rfl
theorem dksX9_again_4 : cX9_again.data.toList.drop 95 = dktX9_again_4 := dk_seg dksX9_again_3 23 rfl rfl
theorem dksX9_again_5 : cX9_again.data.toList.drop 117 = dktX9_again_5 := dk_seg dksX9_again_4 22 rfl rfl
theorem dksX9_again_6 : cX9_again.data.toList.drop 139 = dktX9_again_6 := dk_seg dksX9_again_5 22 rfl rfl
theorem dksX9_again_7 : cX9_again.data.toList.drop 161 = dktX9_again_7 := dk_seg dksX9_again_6 22 rfl rfl
theorem dksX9_again_8 : cX9_again.data.toList.drop 183 = dktX9_again_8 := dk_seg dksX9_again_7 22 rfl rfl
theorem dksX9_again_9 : cX9_again.data.toList.drop 205 = dktX9_again_9 := dk_seg dksX9_again_8 22 rfl rfl
theorem dksX9_again_10 : cX9_again.data.toList.drop 229 = dktX9_again_10 := dk_seg dksX9_again_9 24 rfl rfl
theorem dX9_again_0 : decode cX9_again 0 = .ok (.aload_n 0, 1) := dk_42 (dk_at dksX9_again_0 0 rfl rfl)
theorem dX9_again_1 : decode cX9_again 1 = .ok (.aload_n 1, 1) := dk_43 (dk_at dksX9_again_0 1 rfl rfl)
theorem dX9_again_2 : decode cX9_again 2 = .ok (.iconst 0, 1) := dk_3 (dk_at dksX9_again_0 2 rfl rfl)
theorem dX9_again_3 : decode cX9_again 3 = .ok (.invokevirtual 52, 3) := dk_182 0 52 (dk_at dksX9_again_0 3 rfl rfl)
theorem dX9_again_6 : decode cX9_again 6 = .ok (.lstore 4, 2) := dk_55 4 (dk_at dksX9_again_0 6 rfl rfl)
theorem dX9_again_8 : decode cX9_again 8 = .ok (.aload_n 0, 1) := dk_42 (dk_at dksX9_again_0 8 rfl rfl)
theorem dX9_again_9 : decode cX9_again 9 = .ok (.aload_n 1, 1) := dk_43 (dk_at dksX9_again_0 9 rfl rfl)
theorem dX9_again_10 : decode cX9_again 10 = .ok (.bipush 16, 2) := dk_16 16 (dk_at dksX9_again_0 10 rfl rfl)
theorem dX9_again_12 : decode cX9_again 12 = .ok (.invokevirtual 52, 3) := dk_182 0 52 (dk_at dksX9_again_0 12 rfl rfl)
theorem dX9_again_15 : decode cX9_again 15 = .ok (.lstore 6, 2) := dk_55 6 (dk_at dksX9_again_0 15 rfl rfl)
theorem dX9_again_17 : decode cX9_again 17 = .ok (.aload_n 0, 1) := dk_42 (dk_at dksX9_again_0 17 rfl rfl)
theorem dX9_again_18 : decode cX9_again 18 = .ok (.aload_n 1, 1) := dk_43 (dk_at dksX9_again_0 18 rfl rfl)
theorem dX9_again_19 : decode cX9_again 19 = .ok (.bipush 32, 2) := dk_16 32 (dk_at dksX9_again_0 19 rfl rfl)
theorem dX9_again_21 : decode cX9_again 21 = .ok (.invokevirtual 52, 3) := dk_182 0 52 (dk_at dksX9_again_0 21 rfl rfl)
theorem dX9_again_24 : decode cX9_again 24 = .ok (.lstore 8, 2) := dk_55 8 (dk_at dksX9_again_1 0 rfl rfl)
theorem dX9_again_26 : decode cX9_again 26 = .ok (.aload_n 1, 1) := dk_43 (dk_at dksX9_again_1 2 rfl rfl)
theorem dX9_again_27 : decode cX9_again 27 = .ok (.getfield 35, 3) := dk_180 0 35 (dk_at dksX9_again_1 3 rfl rfl)
theorem dX9_again_30 : decode cX9_again 30 = .ok (.i2l, 1) := dk_133 (dk_at dksX9_again_1 6 rfl rfl)
theorem dX9_again_31 : decode cX9_again 31 = .ok (.ldc2_w 56, 3) := dk_20 0 56 (dk_at dksX9_again_1 7 rfl rfl)
theorem dX9_again_34 : decode cX9_again 34 = .ok (.lmul, 1) := dk_105 (dk_at dksX9_again_1 10 rfl rfl)
theorem dX9_again_35 : decode cX9_again 35 = .ok (.aload_n 1, 1) := dk_43 (dk_at dksX9_again_1 11 rfl rfl)
theorem dX9_again_36 : decode cX9_again 36 = .ok (.getfield 58, 3) := dk_180 0 58 (dk_at dksX9_again_1 12 rfl rfl)
theorem dX9_again_39 : decode cX9_again 39 = .ok (.i2l, 1) := dk_133 (dk_at dksX9_again_1 15 rfl rfl)
theorem dX9_again_40 : decode cX9_again 40 = .ok (.ladd, 1) := dk_97 (dk_at dksX9_again_1 16 rfl rfl)
theorem dX9_again_41 : decode cX9_again 41 = .ok (.lstore 10, 2) := dk_55 10 (dk_at dksX9_again_1 17 rfl rfl)
theorem dX9_again_43 : decode cX9_again 43 = .ok (.iconst 0, 1) := dk_3 (dk_at dksX9_again_1 19 rfl rfl)
theorem dX9_again_44 : decode cX9_again 44 = .ok (.istore 12, 2) := dk_54 12 (dk_at dksX9_again_1 20 rfl rfl)
theorem dX9_again_46 : decode cX9_again 46 = .ok (.iload 12, 2) := dk_21 12 (dk_at dksX9_again_1 22 rfl rfl)
theorem dX9_again_48 : decode cX9_again 48 = .ok (.aload_n 0, 1) := dk_42 (dk_at dksX9_again_2 0 rfl rfl)
theorem dX9_again_49 : decode cX9_again 49 = .ok (.getfield 61, 3) := dk_180 0 61 (dk_at dksX9_again_2 1 rfl rfl)
theorem dX9_again_52 : decode cX9_again 52 = .ok (.if_icmp .ge 108, 3) := dk_162 0 108 (dk_at dksX9_again_2 4 rfl rfl)
theorem dX9_again_55 : decode cX9_again 55 = .ok (.aload_n 0, 1) := dk_42 (dk_at dksX9_again_2 7 rfl rfl)
theorem dX9_again_56 : decode cX9_again 56 = .ok (.getfield 15, 3) := dk_180 0 15 (dk_at dksX9_again_2 8 rfl rfl)
theorem dX9_again_59 : decode cX9_again 59 = .ok (.iload 12, 2) := dk_21 12 (dk_at dksX9_again_2 11 rfl rfl)
theorem dX9_again_61 : decode cX9_again 61 = .ok (.laload, 1) := dk_47 (dk_at dksX9_again_2 13 rfl rfl)
theorem dX9_again_62 : decode cX9_again 62 = .ok (.lload 4, 2) := dk_22 4 (dk_at dksX9_again_2 14 rfl rfl)
theorem dX9_again_64 : decode cX9_again 64 = .ok (.lcmp, 1) := dk_148 (dk_at dksX9_again_2 16 rfl rfl)
theorem dX9_again_65 : decode cX9_again 65 = .ok (.ifCond .ne 89, 3) := dk_154 0 89 (dk_at dksX9_again_2 17 rfl rfl)
theorem dX9_again_68 : decode cX9_again 68 = .ok (.aload_n 0, 1) := dk_42 (dk_at dksX9_again_2 20 rfl rfl)
theorem dX9_again_69 : decode cX9_again 69 = .ok (.getfield 19, 3) := dk_180 0 19 (dk_at dksX9_again_2 21 rfl rfl)
theorem dX9_again_72 : decode cX9_again 72 = .ok (.iload 12, 2) := dk_21 12 (dk_at dksX9_again_3 0 rfl rfl)
theorem dX9_again_74 : decode cX9_again 74 = .ok (.laload, 1) := dk_47 (dk_at dksX9_again_3 2 rfl rfl)
theorem dX9_again_75 : decode cX9_again 75 = .ok (.lload 6, 2) := dk_22 6 (dk_at dksX9_again_3 3 rfl rfl)
theorem dX9_again_77 : decode cX9_again 77 = .ok (.lcmp, 1) := dk_148 (dk_at dksX9_again_3 5 rfl rfl)
theorem dX9_again_78 : decode cX9_again 78 = .ok (.ifCond .ne 76, 3) := dk_154 0 76 (dk_at dksX9_again_3 6 rfl rfl)
theorem dX9_again_81 : decode cX9_again 81 = .ok (.aload_n 0, 1) := dk_42 (dk_at dksX9_again_3 9 rfl rfl)
theorem dX9_again_82 : decode cX9_again 82 = .ok (.getfield 22, 3) := dk_180 0 22 (dk_at dksX9_again_3 10 rfl rfl)
theorem dX9_again_85 : decode cX9_again 85 = .ok (.iload 12, 2) := dk_21 12 (dk_at dksX9_again_3 13 rfl rfl)
theorem dX9_again_87 : decode cX9_again 87 = .ok (.laload, 1) := dk_47 (dk_at dksX9_again_3 15 rfl rfl)
theorem dX9_again_88 : decode cX9_again 88 = .ok (.lload 8, 2) := dk_22 8 (dk_at dksX9_again_3 16 rfl rfl)
theorem dX9_again_90 : decode cX9_again 90 = .ok (.lcmp, 1) := dk_148 (dk_at dksX9_again_3 18 rfl rfl)
theorem dX9_again_91 : decode cX9_again 91 = .ok (.ifCond .ne 63, 3) := dk_154 0 63 (dk_at dksX9_again_3 19 rfl rfl)
theorem dX9_again_94 : decode cX9_again 94 = .ok (.aload_n 0, 1) := dk_42 (dk_at dksX9_again_3 22 rfl rfl)
theorem dX9_again_95 : decode cX9_again 95 = .ok (.getfield 25, 3) := dk_180 0 25 (dk_at dksX9_again_4 0 rfl rfl)
theorem dX9_again_98 : decode cX9_again 98 = .ok (.iload 12, 2) := dk_21 12 (dk_at dksX9_again_4 3 rfl rfl)
theorem dX9_again_100 : decode cX9_again 100 = .ok (.laload, 1) := dk_47 (dk_at dksX9_again_4 5 rfl rfl)
theorem dX9_again_101 : decode cX9_again 101 = .ok (.lload 10, 2) := dk_22 10 (dk_at dksX9_again_4 6 rfl rfl)
theorem dX9_again_103 : decode cX9_again 103 = .ok (.lcmp, 1) := dk_148 (dk_at dksX9_again_4 8 rfl rfl)
theorem dX9_again_104 : decode cX9_again 104 = .ok (.ifCond .eq 6, 3) := dk_153 0 6 (dk_at dksX9_again_4 9 rfl rfl)
theorem dX9_again_107 : decode cX9_again 107 = .ok (.goto 47, 3) := dk_167 0 47 (dk_at dksX9_again_4 12 rfl rfl)
theorem dX9_again_110 : decode cX9_again 110 = .ok (.aload_n 0, 1) := dk_42 (dk_at dksX9_again_4 15 rfl rfl)
theorem dX9_again_111 : decode cX9_again 111 = .ok (.iconst 2, 1) := dk_5 (dk_at dksX9_again_4 16 rfl rfl)
theorem dX9_again_112 : decode cX9_again 112 = .ok (.putfield 64, 3) := dk_181 0 64 (dk_at dksX9_again_4 17 rfl rfl)
theorem dX9_again_115 : decode cX9_again 115 = .ok (.aload_n 0, 1) := dk_42 (dk_at dksX9_again_4 20 rfl rfl)
theorem dX9_again_116 : decode cX9_again 116 = .ok (.aload_n 0, 1) := dk_42 (dk_at dksX9_again_4 21 rfl rfl)
theorem dX9_again_117 : decode cX9_again 117 = .ok (.getfield 28, 3) := dk_180 0 28 (dk_at dksX9_again_5 0 rfl rfl)
theorem dX9_again_120 : decode cX9_again 120 = .ok (.iload 12, 2) := dk_21 12 (dk_at dksX9_again_5 3 rfl rfl)
theorem dX9_again_122 : decode cX9_again 122 = .ok (.iaload, 1) := dk_46 (dk_at dksX9_again_5 5 rfl rfl)
theorem dX9_again_123 : decode cX9_again 123 = .ok (.putfield 67, 3) := dk_181 0 67 (dk_at dksX9_again_5 6 rfl rfl)
theorem dX9_again_126 : decode cX9_again 126 = .ok (.aload_n 0, 1) := dk_42 (dk_at dksX9_again_5 9 rfl rfl)
theorem dX9_again_127 : decode cX9_again 127 = .ok (.aload_n 0, 1) := dk_42 (dk_at dksX9_again_5 10 rfl rfl)
theorem dX9_again_128 : decode cX9_again 128 = .ok (.getfield 32, 3) := dk_180 0 32 (dk_at dksX9_again_5 11 rfl rfl)
theorem dX9_again_131 : decode cX9_again 131 = .ok (.iload 12, 2) := dk_21 12 (dk_at dksX9_again_5 14 rfl rfl)
theorem dX9_again_133 : decode cX9_again 133 = .ok (.iaload, 1) := dk_46 (dk_at dksX9_again_5 16 rfl rfl)
theorem dX9_again_134 : decode cX9_again 134 = .ok (.putfield 70, 3) := dk_181 0 70 (dk_at dksX9_again_5 17 rfl rfl)
theorem dX9_again_137 : decode cX9_again 137 = .ok (.aload_n 0, 1) := dk_42 (dk_at dksX9_again_5 20 rfl rfl)
theorem dX9_again_138 : decode cX9_again 138 = .ok (.aload_n 1, 1) := dk_43 (dk_at dksX9_again_5 21 rfl rfl)
theorem dX9_again_139 : decode cX9_again 139 = .ok (.getfield 73, 3) := dk_180 0 73 (dk_at dksX9_again_6 0 rfl rfl)
theorem dX9_again_142 : decode cX9_again 142 = .ok (.iload_n 2, 1) := dk_28 (dk_at dksX9_again_6 3 rfl rfl)
theorem dX9_again_143 : decode cX9_again 143 = .ok (.isub, 1) := dk_100 (dk_at dksX9_again_6 4 rfl rfl)
theorem dX9_again_144 : decode cX9_again 144 = .ok (.aload_n 0, 1) := dk_42 (dk_at dksX9_again_6 5 rfl rfl)
theorem dX9_again_145 : decode cX9_again 145 = .ok (.getfield 67, 3) := dk_180 0 67 (dk_at dksX9_again_6 6 rfl rfl)
theorem dX9_again_148 : decode cX9_again 148 = .ok (.isub, 1) := dk_100 (dk_at dksX9_again_6 9 rfl rfl)
theorem dX9_again_149 : decode cX9_again 149 = .ok (.putfield 74, 3) := dk_181 0 74 (dk_at dksX9_again_6 10 rfl rfl)
theorem dX9_again_152 : decode cX9_again 152 = .ok (.iconst 1, 1) := dk_4 (dk_at dksX9_again_6 13 rfl rfl)
theorem dX9_again_153 : decode cX9_again 153 = .ok (.ireturn, 1) := dk_172 (dk_at dksX9_again_6 14 rfl rfl)
theorem dX9_again_154 : decode cX9_again 154 = .ok (.iinc 12 1, 3) := dk_132 12 1 (dk_at dksX9_again_6 15 rfl rfl)
theorem dX9_again_157 : decode cX9_again 157 = .ok (.goto (-111), 3) := dk_167 255 145 (dk_at dksX9_again_6 18 rfl rfl)
theorem dX9_again_160 : decode cX9_again 160 = .ok (.aload_n 0, 1) := dk_42 (dk_at dksX9_again_6 21 rfl rfl)
theorem dX9_again_161 : decode cX9_again 161 = .ok (.getfield 15, 3) := dk_180 0 15 (dk_at dksX9_again_7 0 rfl rfl)
theorem dX9_again_164 : decode cX9_again 164 = .ok (.aload_n 0, 1) := dk_42 (dk_at dksX9_again_7 3 rfl rfl)
theorem dX9_again_165 : decode cX9_again 165 = .ok (.getfield 61, 3) := dk_180 0 61 (dk_at dksX9_again_7 4 rfl rfl)
theorem dX9_again_168 : decode cX9_again 168 = .ok (.lload 4, 2) := dk_22 4 (dk_at dksX9_again_7 7 rfl rfl)
theorem dX9_again_170 : decode cX9_again 170 = .ok (.lastore, 1) := dk_80 (dk_at dksX9_again_7 9 rfl rfl)
theorem dX9_again_171 : decode cX9_again 171 = .ok (.aload_n 0, 1) := dk_42 (dk_at dksX9_again_7 10 rfl rfl)
theorem dX9_again_172 : decode cX9_again 172 = .ok (.getfield 19, 3) := dk_180 0 19 (dk_at dksX9_again_7 11 rfl rfl)
theorem dX9_again_175 : decode cX9_again 175 = .ok (.aload_n 0, 1) := dk_42 (dk_at dksX9_again_7 14 rfl rfl)
theorem dX9_again_176 : decode cX9_again 176 = .ok (.getfield 61, 3) := dk_180 0 61 (dk_at dksX9_again_7 15 rfl rfl)
theorem dX9_again_179 : decode cX9_again 179 = .ok (.lload 6, 2) := dk_22 6 (dk_at dksX9_again_7 18 rfl rfl)
theorem dX9_again_181 : decode cX9_again 181 = .ok (.lastore, 1) := dk_80 (dk_at dksX9_again_7 20 rfl rfl)
theorem dX9_again_182 : decode cX9_again 182 = .ok (.aload_n 0, 1) := dk_42 (dk_at dksX9_again_7 21 rfl rfl)
theorem dX9_again_183 : decode cX9_again 183 = .ok (.getfield 22, 3) := dk_180 0 22 (dk_at dksX9_again_8 0 rfl rfl)
theorem dX9_again_186 : decode cX9_again 186 = .ok (.aload_n 0, 1) := dk_42 (dk_at dksX9_again_8 3 rfl rfl)
theorem dX9_again_187 : decode cX9_again 187 = .ok (.getfield 61, 3) := dk_180 0 61 (dk_at dksX9_again_8 4 rfl rfl)
theorem dX9_again_190 : decode cX9_again 190 = .ok (.lload 8, 2) := dk_22 8 (dk_at dksX9_again_8 7 rfl rfl)
theorem dX9_again_192 : decode cX9_again 192 = .ok (.lastore, 1) := dk_80 (dk_at dksX9_again_8 9 rfl rfl)
theorem dX9_again_193 : decode cX9_again 193 = .ok (.aload_n 0, 1) := dk_42 (dk_at dksX9_again_8 10 rfl rfl)
theorem dX9_again_194 : decode cX9_again 194 = .ok (.getfield 25, 3) := dk_180 0 25 (dk_at dksX9_again_8 11 rfl rfl)
theorem dX9_again_197 : decode cX9_again 197 = .ok (.aload_n 0, 1) := dk_42 (dk_at dksX9_again_8 14 rfl rfl)
theorem dX9_again_198 : decode cX9_again 198 = .ok (.getfield 61, 3) := dk_180 0 61 (dk_at dksX9_again_8 15 rfl rfl)
theorem dX9_again_201 : decode cX9_again 201 = .ok (.lload 10, 2) := dk_22 10 (dk_at dksX9_again_8 18 rfl rfl)
theorem dX9_again_203 : decode cX9_again 203 = .ok (.lastore, 1) := dk_80 (dk_at dksX9_again_8 20 rfl rfl)
theorem dX9_again_204 : decode cX9_again 204 = .ok (.aload_n 0, 1) := dk_42 (dk_at dksX9_again_8 21 rfl rfl)
theorem dX9_again_205 : decode cX9_again 205 = .ok (.getfield 28, 3) := dk_180 0 28 (dk_at dksX9_again_9 0 rfl rfl)
theorem dX9_again_208 : decode cX9_again 208 = .ok (.aload_n 0, 1) := dk_42 (dk_at dksX9_again_9 3 rfl rfl)
theorem dX9_again_209 : decode cX9_again 209 = .ok (.getfield 61, 3) := dk_180 0 61 (dk_at dksX9_again_9 4 rfl rfl)
theorem dX9_again_212 : decode cX9_again 212 = .ok (.aload_n 1, 1) := dk_43 (dk_at dksX9_again_9 7 rfl rfl)
theorem dX9_again_213 : decode cX9_again 213 = .ok (.getfield 73, 3) := dk_180 0 73 (dk_at dksX9_again_9 8 rfl rfl)
theorem dX9_again_216 : decode cX9_again 216 = .ok (.iload_n 2, 1) := dk_28 (dk_at dksX9_again_9 11 rfl rfl)
theorem dX9_again_217 : decode cX9_again 217 = .ok (.isub, 1) := dk_100 (dk_at dksX9_again_9 12 rfl rfl)
theorem dX9_again_218 : decode cX9_again 218 = .ok (.iastore, 1) := dk_79 (dk_at dksX9_again_9 13 rfl rfl)
theorem dX9_again_219 : decode cX9_again 219 = .ok (.aload_n 0, 1) := dk_42 (dk_at dksX9_again_9 14 rfl rfl)
theorem dX9_again_220 : decode cX9_again 220 = .ok (.getfield 32, 3) := dk_180 0 32 (dk_at dksX9_again_9 15 rfl rfl)
theorem dX9_again_223 : decode cX9_again 223 = .ok (.aload_n 0, 1) := dk_42 (dk_at dksX9_again_9 18 rfl rfl)
theorem dX9_again_224 : decode cX9_again 224 = .ok (.dup, 1) := dk_89 (dk_at dksX9_again_9 19 rfl rfl)
theorem dX9_again_225 : decode cX9_again 225 = .ok (.getfield 61, 3) := dk_180 0 61 (dk_at dksX9_again_9 20 rfl rfl)
theorem dX9_again_228 : decode cX9_again 228 = .ok (.dup_x1, 1) := dk_90 (dk_at dksX9_again_9 23 rfl rfl)
theorem dX9_again_229 : decode cX9_again 229 = .ok (.iconst 1, 1) := dk_4 (dk_at dksX9_again_10 0 rfl rfl)
theorem dX9_again_230 : decode cX9_again 230 = .ok (.iadd, 1) := dk_96 (dk_at dksX9_again_10 1 rfl rfl)
theorem dX9_again_231 : decode cX9_again 231 = .ok (.putfield 61, 3) := dk_181 0 61 (dk_at dksX9_again_10 2 rfl rfl)
theorem dX9_again_234 : decode cX9_again 234 = .ok (.aload_n 1, 1) := dk_43 (dk_at dksX9_again_10 5 rfl rfl)
theorem dX9_again_235 : decode cX9_again 235 = .ok (.getfield 77, 3) := dk_180 0 77 (dk_at dksX9_again_10 6 rfl rfl)
theorem dX9_again_238 : decode cX9_again 238 = .ok (.iload_n 3, 1) := dk_29 (dk_at dksX9_again_10 9 rfl rfl)
theorem dX9_again_239 : decode cX9_again 239 = .ok (.isub, 1) := dk_100 (dk_at dksX9_again_10 10 rfl rfl)
theorem dX9_again_240 : decode cX9_again 240 = .ok (.iastore, 1) := dk_79 (dk_at dksX9_again_10 11 rfl rfl)
theorem dX9_again_241 : decode cX9_again 241 = .ok (.iconst 0, 1) := dk_3 (dk_at dksX9_again_10 12 rfl rfl)
theorem dX9_again_242 : decode cX9_again 242 = .ok (.ireturn, 1) := dk_172 (dk_at dksX9_again_10 13 rfl rfl)
abbrev cX9_packs : ByteArray := prog_18_method_2_code
def yX9_packs : MethodName := ⟨RX9, "packs", "(LBeggarHeaps$Game;I)J"⟩
def dkwX9_packs_3 : List UInt8 := [167, 255, 191, 33, 173]
abbrev dktX9_packs_3 : List UInt8 := dkwX9_packs_3 ++ []
def dkwX9_packs_2 : List UInt8 := [46, 167, 0, 15, 43, 180, 0, 49, 21, 5, 43, 180, 0, 35, 100, 46, 133, 97, 66, 132, 5, 1]
abbrev dktX9_packs_2 : List UInt8 := dkwX9_packs_2 ++ dktX9_packs_3
def dkwX9_packs_1 : List UInt8 := [96, 162, 0, 48, 33, 20, 0, 44, 105, 21, 5, 43, 180, 0, 35, 162, 0, 13, 43, 180, 0, 46, 21, 5]
abbrev dktX9_packs_1 : List UInt8 := dkwX9_packs_1 ++ dktX9_packs_2
def dkwX9_packs_0 : List UInt8 := [9, 66, 28, 54, 5, 21, 5, 28, 16, 16, 96, 162, 0, 62, 21, 5, 43, 180, 0, 35, 43, 180, 0, 41]
abbrev dktX9_packs_0 : List UInt8 := dkwX9_packs_0 ++ dktX9_packs_1
theorem dksX9_packs_0 : cX9_packs.data.toList.drop 0 = dktX9_packs_0 := by decide +kernel
theorem dksX9_packs_1 : cX9_packs.data.toList.drop 24 = dktX9_packs_1 := dk_seg dksX9_packs_0 24 rfl rfl
theorem dksX9_packs_2 : cX9_packs.data.toList.drop 48 = dktX9_packs_2 := dk_seg dksX9_packs_1 24 rfl rfl
theorem dksX9_packs_3 : cX9_packs.data.toList.drop 70 = dktX9_packs_3 := dk_seg dksX9_packs_2 22 rfl rfl
theorem dX9_packs_0 : decode cX9_packs 0 = .ok (.lconst 0, 1) := dk_9 (dk_at dksX9_packs_0 0 rfl rfl)
theorem dX9_packs_1 : decode cX9_packs 1 = .ok (.lstore_n 3, 1) := dk_66 (dk_at dksX9_packs_0 1 rfl rfl)
theorem dX9_packs_2 : decode cX9_packs 2 = .ok (.iload_n 2, 1) := dk_28 (dk_at dksX9_packs_0 2 rfl rfl)
theorem dX9_packs_3 : decode cX9_packs 3 = .ok (.istore 5, 2) := dk_54 5 (dk_at dksX9_packs_0 3 rfl rfl)
theorem dX9_packs_5 : decode cX9_packs 5 = .ok (.iload 5, 2) := dk_21 5 (dk_at dksX9_packs_0 5 rfl rfl)
theorem dX9_packs_7 : decode cX9_packs 7 = .ok (.iload_n 2, 1) := dk_28 (dk_at dksX9_packs_0 7 rfl rfl)
theorem dX9_packs_8 : decode cX9_packs 8 = .ok (.bipush 16, 2) := dk_16 16 (dk_at dksX9_packs_0 8 rfl rfl)
theorem dX9_packs_10 : decode cX9_packs 10 = .ok (.iadd, 1) := dk_96 (dk_at dksX9_packs_0 10 rfl rfl)
theorem dX9_packs_11 : decode cX9_packs 11 = .ok (.if_icmp .ge 62, 3) := dk_162 0 62 (dk_at dksX9_packs_0 11 rfl rfl)
theorem dX9_packs_14 : decode cX9_packs 14 = .ok (.iload 5, 2) := dk_21 5 (dk_at dksX9_packs_0 14 rfl rfl)
theorem dX9_packs_16 : decode cX9_packs 16 = .ok (.aload_n 1, 1) := dk_43 (dk_at dksX9_packs_0 16 rfl rfl)
theorem dX9_packs_17 : decode cX9_packs 17 = .ok (.getfield 35, 3) := dk_180 0 35 (dk_at dksX9_packs_0 17 rfl rfl)
theorem dX9_packs_20 : decode cX9_packs 20 = .ok (.aload_n 1, 1) := dk_43 (dk_at dksX9_packs_0 20 rfl rfl)
theorem dX9_packs_21 : decode cX9_packs 21 = .ok (.getfield 41, 3) := dk_180 0 41 (dk_at dksX9_packs_0 21 rfl rfl)
theorem dX9_packs_24 : decode cX9_packs 24 = .ok (.iadd, 1) := dk_96 (dk_at dksX9_packs_1 0 rfl rfl)
theorem dX9_packs_25 : decode cX9_packs 25 = .ok (.if_icmp .ge 48, 3) := dk_162 0 48 (dk_at dksX9_packs_1 1 rfl rfl)
theorem dX9_packs_28 : decode cX9_packs 28 = .ok (.lload_n 3, 1) := dk_33 (dk_at dksX9_packs_1 4 rfl rfl)
theorem dX9_packs_29 : decode cX9_packs 29 = .ok (.ldc2_w 44, 3) := dk_20 0 44 (dk_at dksX9_packs_1 5 rfl rfl)
theorem dX9_packs_32 : decode cX9_packs 32 = .ok (.lmul, 1) := dk_105 (dk_at dksX9_packs_1 8 rfl rfl)
theorem dX9_packs_33 : decode cX9_packs 33 = .ok (.iload 5, 2) := dk_21 5 (dk_at dksX9_packs_1 9 rfl rfl)
theorem dX9_packs_35 : decode cX9_packs 35 = .ok (.aload_n 1, 1) := dk_43 (dk_at dksX9_packs_1 11 rfl rfl)
theorem dX9_packs_36 : decode cX9_packs 36 = .ok (.getfield 35, 3) := dk_180 0 35 (dk_at dksX9_packs_1 12 rfl rfl)
theorem dX9_packs_39 : decode cX9_packs 39 = .ok (.if_icmp .ge 13, 3) := dk_162 0 13 (dk_at dksX9_packs_1 15 rfl rfl)
theorem dX9_packs_42 : decode cX9_packs 42 = .ok (.aload_n 1, 1) := dk_43 (dk_at dksX9_packs_1 18 rfl rfl)
theorem dX9_packs_43 : decode cX9_packs 43 = .ok (.getfield 46, 3) := dk_180 0 46 (dk_at dksX9_packs_1 19 rfl rfl)
theorem dX9_packs_46 : decode cX9_packs 46 = .ok (.iload 5, 2) := dk_21 5 (dk_at dksX9_packs_1 22 rfl rfl)
theorem dX9_packs_48 : decode cX9_packs 48 = .ok (.iaload, 1) := dk_46 (dk_at dksX9_packs_2 0 rfl rfl)
theorem dX9_packs_49 : decode cX9_packs 49 = .ok (.goto 15, 3) := dk_167 0 15 (dk_at dksX9_packs_2 1 rfl rfl)
theorem dX9_packs_52 : decode cX9_packs 52 = .ok (.aload_n 1, 1) := dk_43 (dk_at dksX9_packs_2 4 rfl rfl)
theorem dX9_packs_53 : decode cX9_packs 53 = .ok (.getfield 49, 3) := dk_180 0 49 (dk_at dksX9_packs_2 5 rfl rfl)
theorem dX9_packs_56 : decode cX9_packs 56 = .ok (.iload 5, 2) := dk_21 5 (dk_at dksX9_packs_2 8 rfl rfl)
theorem dX9_packs_58 : decode cX9_packs 58 = .ok (.aload_n 1, 1) := dk_43 (dk_at dksX9_packs_2 10 rfl rfl)
theorem dX9_packs_59 : decode cX9_packs 59 = .ok (.getfield 35, 3) := dk_180 0 35 (dk_at dksX9_packs_2 11 rfl rfl)
theorem dX9_packs_62 : decode cX9_packs 62 = .ok (.isub, 1) := dk_100 (dk_at dksX9_packs_2 14 rfl rfl)
theorem dX9_packs_63 : decode cX9_packs 63 = .ok (.iaload, 1) := dk_46 (dk_at dksX9_packs_2 15 rfl rfl)
theorem dX9_packs_64 : decode cX9_packs 64 = .ok (.i2l, 1) := dk_133 (dk_at dksX9_packs_2 16 rfl rfl)
theorem dX9_packs_65 : decode cX9_packs 65 = .ok (.ladd, 1) := dk_97 (dk_at dksX9_packs_2 17 rfl rfl)
theorem dX9_packs_66 : decode cX9_packs 66 = .ok (.lstore_n 3, 1) := dk_66 (dk_at dksX9_packs_2 18 rfl rfl)
theorem dX9_packs_67 : decode cX9_packs 67 = .ok (.iinc 5 1, 3) := dk_132 5 1 (dk_at dksX9_packs_2 19 rfl rfl)
theorem dX9_packs_70 : decode cX9_packs 70 = .ok (.goto (-65), 3) := dk_167 255 191 (dk_at dksX9_packs_3 0 rfl rfl)
theorem dX9_packs_73 : decode cX9_packs 73 = .ok (.lload_n 3, 1) := dk_33 (dk_at dksX9_packs_3 3 rfl rfl)
theorem dX9_packs_74 : decode cX9_packs 74 = .ok (.lreturn, 1) := dk_173 (dk_at dksX9_packs_3 4 rfl rfl)
theorem q130 : (Jvm.Cond.initialized "BeggarHeaps$Run") ∈ lw_all := lw_g (lw_at lw_m1 9 rfl) rfl
theorem q248 : (Jvm.Cond.instantiable "BeggarHeaps$Run" (12 : Nat)) ∈ lw_all := lw_g (lw_at lw_m1 127 rfl) rfl
theorem q250 : (Jvm.Cond.instanceMethod ({ cls := "BeggarHeaps$Run", name := "<init>", desc := "(LBeggarHeaps;)V" } : Jvm.MethodName)) ∈ lw_all := lw_g (lw_at lw_m1 129 rfl) rfl
theorem q251 : (Jvm.Cond.code ({ cls := "BeggarHeaps$Run", name := "<init>", desc := "(LBeggarHeaps;)V" } : Jvm.MethodName) prog_18_method_1_code (2 : Nat) (Option.none : Option Jvm.ClassFile.FieldType)) ∈ lw_all := lw_g (lw_at lw_m1 130 rfl) rfl
theorem q252 : (Jvm.Cond.methodLink "BeggarHeaps$Run" (9 : Nat) ({ cls := "java/lang/Object", name := "<init>", desc := "()V" } : Jvm.MethodName)) ∈ lw_all := lw_g (lw_at lw_m1 131 rfl) rfl
theorem q253 : (Jvm.Cond.fieldLink "BeggarHeaps$Run" (15 : Nat) "BeggarHeaps$Run" "a" "[J") ∈ lw_all := lw_g (lw_at lw_m1 132 rfl) rfl
theorem q254 : (Jvm.Cond.fieldLink "BeggarHeaps$Run" (19 : Nat) "BeggarHeaps$Run" "b" "[J") ∈ lw_all := lw_g (lw_at lw_m1 133 rfl) rfl
theorem q255 : (Jvm.Cond.fieldLink "BeggarHeaps$Run" (22 : Nat) "BeggarHeaps$Run" "c" "[J") ∈ lw_all := lw_g (lw_at lw_m1 134 rfl) rfl
theorem q256 : (Jvm.Cond.fieldLink "BeggarHeaps$Run" (25 : Nat) "BeggarHeaps$Run" "d" "[J") ∈ lw_all := lw_g (lw_at lw_m1 135 rfl) rfl
theorem q257 : (Jvm.Cond.fieldLink "BeggarHeaps$Run" (28 : Nat) "BeggarHeaps$Run" "turnsAt" "[I") ∈ lw_all := lw_g (lw_at lw_m1 136 rfl) rfl
theorem q258 : (Jvm.Cond.fieldLink "BeggarHeaps$Run" (32 : Nat) "BeggarHeaps$Run" "heapsAt" "[I") ∈ lw_all := lw_g (lw_at lw_m1 137 rfl) rfl
theorem q259 : (Jvm.Cond.fieldLink "BeggarHeaps$Run" (61 : Nat) "BeggarHeaps$Run" "states" "I") ∈ lw_all := lw_g (lw_at lw_m1 138 rfl) rfl
theorem q260 : (Jvm.Cond.fieldLink "BeggarHeaps$Run" (64 : Nat) "BeggarHeaps$Run" "end" "I") ∈ lw_all := lw_g (lw_at lw_m1 139 rfl) rfl
theorem q262 : (Jvm.Cond.fieldLink "BeggarHeaps$Run" (67 : Nat) "BeggarHeaps$Run" "turns" "I") ∈ lw_all := lw_g (lw_at lw_m1 141 rfl) rfl
theorem q264 : (Jvm.Cond.fieldLink "BeggarHeaps$Run" (70 : Nat) "BeggarHeaps$Run" "heaps" "I") ∈ lw_all := lw_g (lw_at lw_m1 143 rfl) rfl
theorem q266 : (Jvm.Cond.fieldLink "BeggarHeaps$Run" (74 : Nat) "BeggarHeaps$Run" "period" "I") ∈ lw_all := lw_g (lw_at lw_m1 145 rfl) rfl
theorem q268 : (Jvm.Cond.fieldLink "BeggarHeaps$Run" (3 : Nat) "BeggarHeaps$Run" "this$0" "LBeggarHeaps;") ∈ lw_all := lw_g (lw_at lw_m1 147 rfl) rfl
theorem q269 : (Jvm.Cond.laysFinal "BeggarHeaps$Run" "BeggarHeaps$Run" "a" "[J") ∈ lw_all := lw_g (lw_at lw_m1 148 rfl) rfl
theorem q270 : (Jvm.Cond.soleField "BeggarHeaps$Run" "a") ∈ lw_all := lw_g (lw_at lw_m1 149 rfl) rfl
theorem q271 : (Jvm.Cond.laysFinal "BeggarHeaps$Run" "BeggarHeaps$Run" "b" "[J") ∈ lw_all := lw_g (lw_at lw_m1 150 rfl) rfl
theorem q272 : (Jvm.Cond.soleField "BeggarHeaps$Run" "b") ∈ lw_all := lw_g (lw_at lw_m1 151 rfl) rfl
theorem q273 : (Jvm.Cond.laysFinal "BeggarHeaps$Run" "BeggarHeaps$Run" "c" "[J") ∈ lw_all := lw_g (lw_at lw_m1 152 rfl) rfl
theorem q274 : (Jvm.Cond.soleField "BeggarHeaps$Run" "c") ∈ lw_all := lw_g (lw_at lw_m1 153 rfl) rfl
theorem q275 : (Jvm.Cond.laysFinal "BeggarHeaps$Run" "BeggarHeaps$Run" "d" "[J") ∈ lw_all := lw_g (lw_at lw_m1 154 rfl) rfl
theorem q276 : (Jvm.Cond.soleField "BeggarHeaps$Run" "d") ∈ lw_all := lw_g (lw_at lw_m1 155 rfl) rfl
theorem q277 : (Jvm.Cond.laysFinal "BeggarHeaps$Run" "BeggarHeaps$Run" "turnsAt" "[I") ∈ lw_all := lw_g (lw_at lw_m1 156 rfl) rfl
theorem q278 : (Jvm.Cond.soleField "BeggarHeaps$Run" "turnsAt") ∈ lw_all := lw_g (lw_at lw_m1 157 rfl) rfl
theorem q279 : (Jvm.Cond.laysFinal "BeggarHeaps$Run" "BeggarHeaps$Run" "heapsAt" "[I") ∈ lw_all := lw_g (lw_at lw_m1 158 rfl) rfl
theorem q280 : (Jvm.Cond.soleField "BeggarHeaps$Run" "heapsAt") ∈ lw_all := lw_g (lw_at lw_m1 159 rfl) rfl
theorem q281 : (Jvm.Cond.lays "BeggarHeaps$Run" "BeggarHeaps$Run" "states" "I") ∈ lw_all := lw_g (lw_at lw_m1 160 rfl) rfl
theorem q282 : (Jvm.Cond.soleField "BeggarHeaps$Run" "states") ∈ lw_all := lw_g (lw_at lw_m1 161 rfl) rfl
theorem q283 : (Jvm.Cond.lays "BeggarHeaps$Run" "BeggarHeaps$Run" "end" "I") ∈ lw_all := lw_g (lw_at lw_m1 162 rfl) rfl
theorem q284 : (Jvm.Cond.soleField "BeggarHeaps$Run" "end") ∈ lw_all := lw_g (lw_at lw_m1 163 rfl) rfl
theorem q285 : (Jvm.Cond.lays "BeggarHeaps$Run" "BeggarHeaps$Run" "turns" "I") ∈ lw_all := lw_g (lw_at lw_m1 164 rfl) rfl
theorem q286 : (Jvm.Cond.soleField "BeggarHeaps$Run" "turns") ∈ lw_all := lw_g (lw_at lw_m1 165 rfl) rfl
theorem q287 : (Jvm.Cond.lays "BeggarHeaps$Run" "BeggarHeaps$Run" "heaps" "I") ∈ lw_all := lw_g (lw_at lw_m1 166 rfl) rfl
theorem q288 : (Jvm.Cond.soleField "BeggarHeaps$Run" "heaps") ∈ lw_all := lw_g (lw_at lw_m1 167 rfl) rfl
theorem q289 : (Jvm.Cond.lays "BeggarHeaps$Run" "BeggarHeaps$Run" "period" "I") ∈ lw_all := lw_g (lw_at lw_m1 168 rfl) rfl
theorem q290 : (Jvm.Cond.soleField "BeggarHeaps$Run" "period") ∈ lw_all := lw_g (lw_at lw_m1 169 rfl) rfl
theorem q291 : (Jvm.Cond.laysFinal "BeggarHeaps$Run" "BeggarHeaps$Run" "this$0" "LBeggarHeaps;") ∈ lw_all := lw_g (lw_at lw_m1 170 rfl) rfl
theorem q292 : (Jvm.Cond.soleField "BeggarHeaps$Run" "this$0") ∈ lw_all := lw_g (lw_at lw_m1 171 rfl) rfl
theorem q293 : (Jvm.Cond.superclass "BeggarHeaps$Run" "java/lang/Object") ∈ lw_all := lw_g (lw_at lw_m1 172 rfl) rfl
theorem q373 : (Jvm.Cond.fieldLinkNest "BeggarHeaps$Run" (46 : Nat) "BeggarHeaps$Game" "left" "[I" "BeggarHeaps") ∈ lw_tbl := lw_at lw_m2 12 rfl
theorem q376 : (Jvm.Cond.fieldLinkNest "BeggarHeaps$Run" (49 : Nat) "BeggarHeaps$Game" "right" "[I" "BeggarHeaps") ∈ lw_tbl := lw_at lw_m2 15 rfl
theorem q386 : (Jvm.Cond.fieldLinkNest "BeggarHeaps$Run" (35 : Nat) "BeggarHeaps$Game" "lefts" "I" "BeggarHeaps") ∈ lw_tbl := lw_at lw_m2 25 rfl
theorem q389 : (Jvm.Cond.fieldLinkNest "BeggarHeaps$Run" (41 : Nat) "BeggarHeaps$Game" "rights" "I" "BeggarHeaps") ∈ lw_tbl := lw_at lw_m2 28 rfl
theorem q398 : (Jvm.Cond.fieldLinkNest "BeggarHeaps$Run" (58 : Nat) "BeggarHeaps$Game" "next" "I" "BeggarHeaps") ∈ lw_tbl := lw_at lw_m2 37 rfl
theorem q401 : (Jvm.Cond.fieldLinkNest "BeggarHeaps$Run" (104 : Nat) "BeggarHeaps$Game" "won" "I" "BeggarHeaps") ∈ lw_tbl := lw_at lw_m2 40 rfl
theorem q404 : (Jvm.Cond.fieldLinkNest "BeggarHeaps$Run" (73 : Nat) "BeggarHeaps$Game" "turns" "I" "BeggarHeaps") ∈ lw_tbl := lw_at lw_m2 43 rfl
theorem q407 : (Jvm.Cond.fieldLinkNest "BeggarHeaps$Run" (77 : Nat) "BeggarHeaps$Game" "heaps" "I" "BeggarHeaps") ∈ lw_tbl := lw_at lw_m2 46 rfl
theorem q506 : (Jvm.Cond.fieldLinkNest "BeggarHeaps$Run" (86 : Nat) "BeggarHeaps" "orders" "[LBeggarHeaps$Order;" "BeggarHeaps") ∈ lw_tbl := lw_at lw_m2 145 rfl
theorem q509 : (Jvm.Cond.fieldLinkNest "BeggarHeaps$Run" (90 : Nat) "BeggarHeaps" "table" "LBeggarHeaps$Table;" "BeggarHeaps") ∈ lw_tbl := lw_at lw_m2 148 rfl
theorem q1140 : (Jvm.Cond.selects "BeggarHeaps$Run" ({ cls := "java/lang/Object", name := "getClass", desc := "()Ljava/lang/Class;" } : Jvm.MethodName) ({ cls := "java/lang/Object", name := "getClass", desc := "()Ljava/lang/Class;" } : Jvm.MethodName)) ∈ lw_all := lw_g (lw_at lw_m5 59 rfl) rfl
theorem q1420 : (Jvm.Cond.instanceMethod ({ cls := "BeggarHeaps$Run", name := "goes", desc := "(LBeggarHeaps$Game;[II)V" } : Jvm.MethodName)) ∈ lw_all := lw_g (lw_at lw_m6 99 rfl) rfl
theorem q1421 : (Jvm.Cond.selects "BeggarHeaps$Run" ({ cls := "BeggarHeaps$Run", name := "goes", desc := "(LBeggarHeaps$Game;[II)V" } : Jvm.MethodName) ({ cls := "BeggarHeaps$Run", name := "goes", desc := "(LBeggarHeaps$Game;[II)V" } : Jvm.MethodName)) ∈ lw_all := lw_g (lw_at lw_m6 100 rfl) rfl
theorem q1422 : (Jvm.Cond.code ({ cls := "BeggarHeaps$Run", name := "goes", desc := "(LBeggarHeaps$Game;[II)V" } : Jvm.MethodName) prog_18_method_4_code (7 : Nat) (Option.none : Option Jvm.ClassFile.FieldType)) ∈ lw_all := lw_g (lw_at lw_m6 101 rfl) rfl
theorem q1423 : (Jvm.Cond.methodLink "BeggarHeaps$Run" (78 : Nat) ({ cls := "BeggarHeaps$Game", name := "isRest", desc := "()Z" } : Jvm.MethodName)) ∈ lw_all := lw_g (lw_at lw_m6 102 rfl) rfl
theorem q1427 : (Jvm.Cond.methodLink "BeggarHeaps$Run" (82 : Nat) ({ cls := "BeggarHeaps$Run", name := "again", desc := "(LBeggarHeaps$Game;II)Z" } : Jvm.MethodName)) ∈ lw_all := lw_g (lw_at lw_m6 106 rfl) rfl
theorem q1428 : (Jvm.Cond.privateMethod ({ cls := "BeggarHeaps$Run", name := "again", desc := "(LBeggarHeaps$Game;II)Z" } : Jvm.MethodName)) ∈ lw_tbl := lw_at lw_m6 107 rfl
theorem q1429 : (Jvm.Cond.instanceMethod ({ cls := "BeggarHeaps$Run", name := "again", desc := "(LBeggarHeaps$Game;II)Z" } : Jvm.MethodName)) ∈ lw_all := lw_g (lw_at lw_m6 108 rfl) rfl
theorem q1430 : (Jvm.Cond.code ({ cls := "BeggarHeaps$Run", name := "again", desc := "(LBeggarHeaps$Game;II)Z" } : Jvm.MethodName) prog_18_method_3_code (13 : Nat) (Option.some Jvm.ClassFile.FieldType.boolean)) ∈ lw_all := lw_g (lw_at lw_m6 109 rfl) rfl
theorem q1431 : (Jvm.Cond.methodLink "BeggarHeaps$Run" (52 : Nat) ({ cls := "BeggarHeaps$Run", name := "packs", desc := "(LBeggarHeaps$Game;I)J" } : Jvm.MethodName)) ∈ lw_all := lw_g (lw_at lw_m6 110 rfl) rfl
theorem q1432 : (Jvm.Cond.privateMethod ({ cls := "BeggarHeaps$Run", name := "packs", desc := "(LBeggarHeaps$Game;I)J" } : Jvm.MethodName)) ∈ lw_tbl := lw_at lw_m6 111 rfl
theorem q1433 : (Jvm.Cond.instanceMethod ({ cls := "BeggarHeaps$Run", name := "packs", desc := "(LBeggarHeaps$Game;I)J" } : Jvm.MethodName)) ∈ lw_all := lw_g (lw_at lw_m6 112 rfl) rfl
theorem q1434 : (Jvm.Cond.code ({ cls := "BeggarHeaps$Run", name := "packs", desc := "(LBeggarHeaps$Game;I)J" } : Jvm.MethodName) prog_18_method_2_code (6 : Nat) (Option.some Jvm.ClassFile.FieldType.long)) ∈ lw_all := lw_g (lw_at lw_m6 113 rfl) rfl
theorem q1435 : (Jvm.Cond.constantLong "BeggarHeaps$Run" (44 : Nat) (8 : Int64)) ∈ lw_all := lw_g (lw_at lw_m6 114 rfl) rfl
theorem q1436 : (Jvm.Cond.constantLong "BeggarHeaps$Run" (56 : Nat) (2 : Int64)) ∈ lw_all := lw_g (lw_at lw_m6 115 rfl) rfl
theorem q1437 : (Jvm.Cond.methodLink "BeggarHeaps$Run" (94 : Nat) ({ cls := "BeggarHeaps$Table", name := "order", desc := "()I" } : Jvm.MethodName)) ∈ lw_all := lw_g (lw_at lw_m6 116 rfl) rfl
theorem q1438 : (Jvm.Cond.methodLink "BeggarHeaps$Run" (100 : Nat) ({ cls := "BeggarHeaps$Game", name := "turn", desc := "([ILBeggarHeaps$Order;LBeggarHeaps$Order;)I" } : Jvm.MethodName)) ∈ lw_all := lw_g (lw_at lw_m6 117 rfl) rfl
theorem q1444 : (Jvm.Cond.methodLink "BeggarHeaps$Run" (107 : Nat) ({ cls := "BeggarHeaps$Game", name := "cards", desc := "(I)I" } : Jvm.MethodName)) ∈ lw_all := lw_g (lw_at lw_m6 123 rfl) rfl
theorem q2375 : (Jvm.Cond.castable "BeggarHeaps$Run" "java/lang/Object") ∈ lw_tbl := lw_at lw_m10 94 rfl
theorem in_X9 : ∀ w ∈ wsX90, w ∈ lw_all := lw_in wsX90 [269, 271, 273, 275, 277, 279, 281, 283, 285, 287, 289, 291] (by decide +kernel) (by decide +kernel)
