/-! CaseGrouperLaw -/
set_option maxRecDepth 100000
def RX0 : String := "CaseGrouperLaw"
abbrev cX0_listed : ByteArray := method_3_code
def yX0_listed : MethodName := ⟨RX0, "listed", "(LCaseGrouper;III[J)I"⟩
def dkwX0_listed_0 : List UInt8 := [25, 4, 3, 42, 27, 28, 29, 182, 0, 7, 133, 80, 167, 0, 7, 58, 5, 4, 172, 3, 172]
abbrev dktX0_listed_0 : List UInt8 := dkwX0_listed_0 ++ []
theorem dksX0_listed_0 : cX0_listed.data.toList.drop 0 = dktX0_listed_0 := by decide +kernel
theorem dX0_listed_0 : decode cX0_listed 0 = .ok (.aload 4, 2) := dk_25 4 (dk_at dksX0_listed_0 0 rfl rfl)
theorem dX0_listed_2 : decode cX0_listed 2 = .ok (.iconst 0, 1) := dk_3 (dk_at dksX0_listed_0 2 rfl rfl)
theorem dX0_listed_3 : decode cX0_listed 3 = .ok (.aload_n 0, 1) := dk_42 (dk_at dksX0_listed_0 3 rfl rfl)
theorem dX0_listed_4 : decode cX0_listed 4 = .ok (.iload_n 1, 1) := dk_27 (dk_at dksX0_listed_0 4 rfl rfl)
theorem dX0_listed_5 : decode cX0_listed 5 = .ok (.iload_n 2, 1) := dk_28 (dk_at dksX0_listed_0 5 rfl rfl)
theorem dX0_listed_6 : decode cX0_listed 6 = .ok (.iload_n 3, 1) := dk_29 (dk_at dksX0_listed_0 6 rfl rfl)
theorem dX0_listed_7 : decode cX0_listed 7 = .ok (.invokevirtual 7, 3) := dk_182 0 7 (dk_at dksX0_listed_0 7 rfl rfl)
theorem dX0_listed_10 : decode cX0_listed 10 = .ok (.i2l, 1) := dk_133 (dk_at dksX0_listed_0 10 rfl rfl)
theorem dX0_listed_11 : decode cX0_listed 11 = .ok (.lastore, 1) := dk_80 (dk_at dksX0_listed_0 11 rfl rfl)
theorem dX0_listed_12 : decode cX0_listed 12 = .ok (.goto 7, 3) := dk_167 0 7 (dk_at dksX0_listed_0 12 rfl rfl)
theorem dX0_listed_15 : decode cX0_listed 15 = .ok (.astore 5, 2) := dk_58 5 (dk_at dksX0_listed_0 15 rfl rfl)
theorem dX0_listed_17 : decode cX0_listed 17 = .ok (.iconst 1, 1) := dk_4 (dk_at dksX0_listed_0 17 rfl rfl)
theorem dX0_listed_18 : decode cX0_listed 18 = .ok (.ireturn, 1) := dk_172 (dk_at dksX0_listed_0 18 rfl rfl)
theorem dX0_listed_19 : decode cX0_listed 19 = .ok (.iconst 0, 1) := dk_3 (dk_at dksX0_listed_0 19 rfl rfl)
theorem dX0_listed_20 : decode cX0_listed 20 = .ok (.ireturn, 1) := dk_172 (dk_at dksX0_listed_0 20 rfl rfl)
theorem q120 : (Jvm.Cond.initialized "CaseGrouperLaw") ∈ lw_all := lw_g (lw_at lw_m1 0 rfl) rfl
theorem q167 : (Jvm.Cond.methodLink "CaseGrouperLaw" (21 : Nat) ({ cls := "CaseGrouper", name := "feed", desc := "(JJJ)I" } : Jvm.MethodName)) ∈ lw_all := lw_g (lw_at lw_m1 47 rfl) rfl
theorem q176 : (Jvm.Cond.methodLink "CaseGrouperLaw" (26 : Nat) ({ cls := "CaseGrouper", name := "end", desc := "(I)I" } : Jvm.MethodName)) ∈ lw_all := lw_g (lw_at lw_m1 56 rfl) rfl
theorem q183 : (Jvm.Cond.methodLink "CaseGrouperLaw" (31 : Nat) ({ cls := "CaseGrouper", name := "edition", desc := "()I" } : Jvm.MethodName)) ∈ lw_all := lw_g (lw_at lw_m1 63 rfl) rfl
theorem q1370 : (Jvm.Cond.methodLink "CaseGrouperLaw" (36 : Nat) ({ cls := "CaseGrouper", name := "faultLine", desc := "()I" } : Jvm.MethodName)) ∈ lw_all := lw_g (lw_at lw_m6 50 rfl) rfl
theorem q1374 : (Jvm.Cond.classLink "CaseGrouperLaw" (8 : Nat) "CaseGrouper") ∈ lw_all := lw_g (lw_at lw_m6 54 rfl) rfl
theorem q1375 : (Jvm.Cond.methodLink "CaseGrouperLaw" (15 : Nat) ({ cls := "CaseGrouper", name := "<init>", desc := "()V" } : Jvm.MethodName)) ∈ lw_all := lw_g (lw_at lw_m6 55 rfl) rfl
theorem q1445 : (Jvm.Cond.methodLink "CaseGrouperLaw" (40 : Nat) ({ cls := "CaseGrouper", name := "stay", desc := "(III)I" } : Jvm.MethodName)) ∈ lw_all := lw_g (lw_at lw_m6 125 rfl) rfl
theorem q1487 : (Jvm.Cond.methodLink "CaseGrouperLaw" (44 : Nat) ({ cls := "CaseGrouper", name := "code", desc := "(II)I" } : Jvm.MethodName)) ∈ lw_all := lw_g (lw_at lw_m6 167 rfl) rfl
theorem q1576 : (Jvm.Cond.methodLink "CaseGrouperLaw" (49 : Nat) ({ cls := "CaseGrouper", name := "drop", desc := "(II)Z" } : Jvm.MethodName)) ∈ lw_all := lw_g (lw_at lw_m7 16 rfl) rfl
theorem q1592 : (Jvm.Cond.methodLink "CaseGrouperLaw" (54 : Nat) ({ cls := "CaseGrouper", name := "alter", desc := "(III)I" } : Jvm.MethodName)) ∈ lw_all := lw_g (lw_at lw_m7 32 rfl) rfl
theorem q1599 : (Jvm.Cond.methodLink "CaseGrouperLaw" (58 : Nat) ({ cls := "CaseGrouper", name := "clear", desc := "()I" } : Jvm.MethodName)) ∈ lw_all := lw_g (lw_at lw_m7 39 rfl) rfl
theorem q1607 : (Jvm.Cond.methodLink "CaseGrouperLaw" (62 : Nat) ({ cls := "CaseGrouper", name := "of", desc := "(II)I" } : Jvm.MethodName)) ∈ lw_all := lw_g (lw_at lw_m7 47 rfl) rfl
theorem q1664 : (Jvm.Cond.methodLink "CaseGrouperLaw" (75 : Nat) ({ cls := "CaseGrouper", name := "way", desc := "(II)I" } : Jvm.MethodName)) ∈ lw_all := lw_g (lw_at lw_m7 104 rfl) rfl
theorem q1668 : (Jvm.Cond.methodLink "CaseGrouperLaw" (79 : Nat) ({ cls := "CaseGrouper", name := "partner", desc := "(III)I" } : Jvm.MethodName)) ∈ lw_all := lw_g (lw_at lw_m7 108 rfl) rfl
theorem q1674 : (Jvm.Cond.methodLink "CaseGrouperLaw" (83 : Nat) ({ cls := "CaseGrouper", name := "with", desc := "(II)I" } : Jvm.MethodName)) ∈ lw_all := lw_g (lw_at lw_m7 114 rfl) rfl
theorem q1678 : (Jvm.Cond.methodLink "CaseGrouperLaw" (87 : Nat) ({ cls := "CaseGrouper", name := "without", desc := "(II)I" } : Jvm.MethodName)) ∈ lw_all := lw_g (lw_at lw_m7 118 rfl) rfl
theorem q1682 : (Jvm.Cond.methodLink "CaseGrouperLaw" (91 : Nat) ({ cls := "CaseGrouper", name := "matters", desc := "(I)I" } : Jvm.MethodName)) ∈ lw_all := lw_g (lw_at lw_m7 122 rfl) rfl
theorem q1695 : (Jvm.Cond.methodLink "CaseGrouperLaw" (95 : Nat) ({ cls := "CaseGrouper", name := "raises", desc := "(I)I" } : Jvm.MethodName)) ∈ lw_all := lw_g (lw_at lw_m7 135 rfl) rfl
theorem q1700 : (Jvm.Cond.methodLink "CaseGrouperLaw" (99 : Nat) ({ cls := "CaseGrouper", name := "ofClass", desc := "(II)I" } : Jvm.MethodName)) ∈ lw_all := lw_g (lw_at lw_m7 140 rfl) rfl
theorem q1713 : (Jvm.Cond.methodLink "CaseGrouperLaw" (103 : Nat) ({ cls := "CaseGrouper", name := "name", desc := "(II)I" } : Jvm.MethodName)) ∈ lw_all := lw_g (lw_at lw_m7 153 rfl) rfl
theorem q1737 : (Jvm.Cond.methodLink "CaseGrouperLaw" (107 : Nat) ({ cls := "CaseGrouper", name := "leaf", desc := "(II)I" } : Jvm.MethodName)) ∈ lw_all := lw_g (lw_at lw_m7 177 rfl) rfl
theorem q1745 : (Jvm.Cond.methodLink "CaseGrouperLaw" (111 : Nat) ({ cls := "CaseGrouper", name := "keep", desc := "()I" } : Jvm.MethodName)) ∈ lw_all := lw_g (lw_at lw_m7 185 rfl) rfl
theorem q1749 : (Jvm.Cond.methodLink "CaseGrouperLaw" (115 : Nat) ({ cls := "CaseGrouper", name := "compare", desc := "(I)I" } : Jvm.MethodName)) ∈ lw_all := lw_g (lw_at lw_m7 189 rfl) rfl
theorem q1759 : (Jvm.Cond.methodLink "CaseGrouperLaw" (119 : Nat) ({ cls := "CaseGrouper", name := "keptWeight", desc := "(I)I" } : Jvm.MethodName)) ∈ lw_all := lw_g (lw_at lw_m7 199 rfl) rfl
theorem q1763 : (Jvm.Cond.methodLink "CaseGrouperLaw" (123 : Nat) ({ cls := "CaseGrouper", name := "swap", desc := "()Z" } : Jvm.MethodName)) ∈ lw_all := lw_g (lw_at lw_m7 203 rfl) rfl
theorem q1767 : (Jvm.Cond.methodLink "CaseGrouperLaw" (128 : Nat) ({ cls := "CaseGrouper", name := "count", desc := "(I)I" } : Jvm.MethodName)) ∈ lw_all := lw_g (lw_at lw_m7 207 rfl) rfl
theorem q1779 : (Jvm.Cond.methodLink "CaseGrouperLaw" (66 : Nat) ({ cls := "CaseGrouperLaw", name := "listed", desc := "(LCaseGrouper;III[J)I" } : Jvm.MethodName)) ∈ lw_all := lw_g (lw_at lw_m7 219 rfl) rfl
theorem q1780 : (Jvm.Cond.static ({ cls := "CaseGrouperLaw", name := "listed", desc := "(LCaseGrouper;III[J)I" } : Jvm.MethodName)) ∈ lw_all := lw_g (lw_at lw_m7 220 rfl) rfl
theorem q1781 : (Jvm.Cond.codeWith ({ cls := "CaseGrouperLaw", name := "listed", desc := "(LCaseGrouper;III[J)I" } : Jvm.MethodName) method_3_code (6 : Nat) (Option.some Jvm.ClassFile.FieldType.int) [((0 : Nat), (12 : Nat), (15 : Nat), (13 : Nat))]) ∈ lw_all := lw_g (lw_at lw_m7 221 rfl) rfl
theorem q1782 : (Jvm.Cond.classLink "CaseGrouperLaw" (13 : Nat) "java/util/NoSuchElementException") ∈ lw_all := lw_g (lw_at lw_m7 222 rfl) rfl
theorem q1783 : (Jvm.Cond.methodLink "CaseGrouperLaw" (7 : Nat) ({ cls := "CaseGrouper", name := "listed", desc := "(III)I" } : Jvm.MethodName)) ∈ lw_all := lw_g (lw_at lw_m7 223 rfl) rfl
theorem q1804 : (Jvm.Cond.classLink "CaseGrouperLaw" (16 : Nat) "CaseGrouperModel") ∈ lw_all := lw_g (lw_at lw_m8 4 rfl) rfl
theorem q1806 : (Jvm.Cond.methodLink "CaseGrouperLaw" (18 : Nat) ({ cls := "CaseGrouperModel", name := "<init>", desc := "()V" } : Jvm.MethodName)) ∈ lw_all := lw_g (lw_at lw_m8 6 rfl) rfl
theorem q2032 : (Jvm.Cond.methodLink "CaseGrouperLaw" (72 : Nat) ({ cls := "CaseGrouperModel", name := "thrown", desc := "()I" } : Jvm.MethodName)) ∈ lw_all := lw_g (lw_at lw_m8 232 rfl) rfl
theorem q2036 : (Jvm.Cond.methodLink "CaseGrouperLaw" (25 : Nat) ({ cls := "CaseGrouperModel", name := "feed", desc := "(JJJ)I" } : Jvm.MethodName)) ∈ lw_all := lw_g (lw_at lw_m8 236 rfl) rfl
theorem q2044 : (Jvm.Cond.methodLink "CaseGrouperLaw" (30 : Nat) ({ cls := "CaseGrouperModel", name := "end", desc := "(I)I" } : Jvm.MethodName)) ∈ lw_all := lw_g (lw_at lw_m9 4 rfl) rfl
theorem q2051 : (Jvm.Cond.methodLink "CaseGrouperLaw" (35 : Nat) ({ cls := "CaseGrouperModel", name := "edition", desc := "()I" } : Jvm.MethodName)) ∈ lw_all := lw_g (lw_at lw_m9 11 rfl) rfl
theorem q2278 : (Jvm.Cond.methodLink "CaseGrouperLaw" (39 : Nat) ({ cls := "CaseGrouperModel", name := "faultLine", desc := "()I" } : Jvm.MethodName)) ∈ lw_all := lw_g (lw_at lw_m9 238 rfl) rfl
theorem q2282 : (Jvm.Cond.methodLink "CaseGrouperLaw" (43 : Nat) ({ cls := "CaseGrouperModel", name := "stay", desc := "(III)I" } : Jvm.MethodName)) ∈ lw_all := lw_g (lw_at lw_m10 2 rfl) rfl
theorem q2286 : (Jvm.Cond.methodLink "CaseGrouperLaw" (48 : Nat) ({ cls := "CaseGrouperModel", name := "code", desc := "(II)I" } : Jvm.MethodName)) ∈ lw_all := lw_g (lw_at lw_m10 6 rfl) rfl
theorem q2308 : (Jvm.Cond.methodLink "CaseGrouperLaw" (53 : Nat) ({ cls := "CaseGrouperModel", name := "drop", desc := "(II)Z" } : Jvm.MethodName)) ∈ lw_all := lw_g (lw_at lw_m10 28 rfl) rfl
theorem q2323 : (Jvm.Cond.methodLink "CaseGrouperLaw" (57 : Nat) ({ cls := "CaseGrouperModel", name := "alter", desc := "(III)I" } : Jvm.MethodName)) ∈ lw_all := lw_g (lw_at lw_m10 43 rfl) rfl
theorem q2327 : (Jvm.Cond.methodLink "CaseGrouperLaw" (61 : Nat) ({ cls := "CaseGrouperModel", name := "clear", desc := "()I" } : Jvm.MethodName)) ∈ lw_all := lw_g (lw_at lw_m10 47 rfl) rfl
theorem q2331 : (Jvm.Cond.methodLink "CaseGrouperLaw" (65 : Nat) ({ cls := "CaseGrouperModel", name := "of", desc := "(II)I" } : Jvm.MethodName)) ∈ lw_all := lw_g (lw_at lw_m10 51 rfl) rfl
theorem q2379 : (Jvm.Cond.methodLink "CaseGrouperLaw" (71 : Nat) ({ cls := "CaseGrouperModel", name := "listed", desc := "(III)I" } : Jvm.MethodName)) ∈ lw_all := lw_g (lw_at lw_m10 99 rfl) rfl
theorem q2383 : (Jvm.Cond.methodLink "CaseGrouperLaw" (78 : Nat) ({ cls := "CaseGrouperModel", name := "way", desc := "(II)I" } : Jvm.MethodName)) ∈ lw_all := lw_g (lw_at lw_m10 103 rfl) rfl
theorem q2387 : (Jvm.Cond.methodLink "CaseGrouperLaw" (82 : Nat) ({ cls := "CaseGrouperModel", name := "partner", desc := "(III)I" } : Jvm.MethodName)) ∈ lw_all := lw_g (lw_at lw_m10 107 rfl) rfl
theorem q2391 : (Jvm.Cond.methodLink "CaseGrouperLaw" (86 : Nat) ({ cls := "CaseGrouperModel", name := "with", desc := "(II)I" } : Jvm.MethodName)) ∈ lw_all := lw_g (lw_at lw_m10 111 rfl) rfl
theorem q2395 : (Jvm.Cond.methodLink "CaseGrouperLaw" (90 : Nat) ({ cls := "CaseGrouperModel", name := "without", desc := "(II)I" } : Jvm.MethodName)) ∈ lw_all := lw_g (lw_at lw_m10 115 rfl) rfl
theorem q2403 : (Jvm.Cond.methodLink "CaseGrouperLaw" (94 : Nat) ({ cls := "CaseGrouperModel", name := "matters", desc := "(I)I" } : Jvm.MethodName)) ∈ lw_all := lw_g (lw_at lw_m10 123 rfl) rfl
theorem q2407 : (Jvm.Cond.methodLink "CaseGrouperLaw" (98 : Nat) ({ cls := "CaseGrouperModel", name := "raises", desc := "(I)I" } : Jvm.MethodName)) ∈ lw_all := lw_g (lw_at lw_m10 127 rfl) rfl
theorem q2411 : (Jvm.Cond.methodLink "CaseGrouperLaw" (102 : Nat) ({ cls := "CaseGrouperModel", name := "ofClass", desc := "(II)I" } : Jvm.MethodName)) ∈ lw_all := lw_g (lw_at lw_m10 131 rfl) rfl
theorem q2415 : (Jvm.Cond.methodLink "CaseGrouperLaw" (106 : Nat) ({ cls := "CaseGrouperModel", name := "name", desc := "(II)I" } : Jvm.MethodName)) ∈ lw_all := lw_g (lw_at lw_m10 135 rfl) rfl
theorem q2419 : (Jvm.Cond.methodLink "CaseGrouperLaw" (110 : Nat) ({ cls := "CaseGrouperModel", name := "leaf", desc := "(II)I" } : Jvm.MethodName)) ∈ lw_all := lw_g (lw_at lw_m10 139 rfl) rfl
theorem q2423 : (Jvm.Cond.methodLink "CaseGrouperLaw" (114 : Nat) ({ cls := "CaseGrouperModel", name := "keep", desc := "()I" } : Jvm.MethodName)) ∈ lw_all := lw_g (lw_at lw_m10 143 rfl) rfl
theorem q2431 : (Jvm.Cond.methodLink "CaseGrouperLaw" (118 : Nat) ({ cls := "CaseGrouperModel", name := "compare", desc := "(I)I" } : Jvm.MethodName)) ∈ lw_all := lw_g (lw_at lw_m10 151 rfl) rfl
theorem q2440 : (Jvm.Cond.methodLink "CaseGrouperLaw" (122 : Nat) ({ cls := "CaseGrouperModel", name := "keptWeight", desc := "(I)I" } : Jvm.MethodName)) ∈ lw_all := lw_g (lw_at lw_m10 160 rfl) rfl
theorem q2444 : (Jvm.Cond.methodLink "CaseGrouperLaw" (127 : Nat) ({ cls := "CaseGrouperModel", name := "swap", desc := "()Z" } : Jvm.MethodName)) ∈ lw_all := lw_g (lw_at lw_m10 164 rfl) rfl
theorem q2448 : (Jvm.Cond.methodLink "CaseGrouperLaw" (131 : Nat) ({ cls := "CaseGrouperModel", name := "count", desc := "(I)I" } : Jvm.MethodName)) ∈ lw_all := lw_g (lw_at lw_m10 168 rfl) rfl
theorem q2452 : (Jvm.Cond.constantLong "CaseGrouperLaw" (19 : Nat) (4294967295 : Int64)) ∈ lw_all := lw_g (lw_at lw_m10 172 rfl) rfl
/-! CaseGrouper -/
set_option maxRecDepth 100000
def RX1 : String := "CaseGrouper"
def TX1 : u_T := fun k => match k with
  | 0 => ("CaseGrouper", "tape", "[B", true)
  | 1 => ("CaseGrouper", "taped", "I", false)
  | 2 => ("CaseGrouper", "faultLine", "I", false)
  | 3 => ("CaseGrouper", "stays", "Ljava/util/ArrayList;", true)
  | 4 => ("CaseGrouper", "now", "LCaseGrouper$Edition;", false)
  | 5 => ("CaseGrouper", "kept", "LCaseGrouper$Edition;", false)
  | 6 => ("CaseGrouper", "seen", "LCaseGrouper$Seen;", true)
  | _ => ("CaseGrouper", "other", "LCaseGrouper$Seen;", true)
def tyX1 : Nat → FieldType := fun k => match k with
  | 0 => .array .byte
  | 1 => .int
  | 2 => .int
  | 3 => .object "java/util/ArrayList"
  | 4 => .object "CaseGrouper$Edition"
  | 5 => .object "CaseGrouper$Edition"
  | 6 => .object "CaseGrouper$Seen"
  | _ => .object "CaseGrouper$Seen"
abbrev wsX10 : List Cond := u_ws RX1 TX1 8
theorem nmX1 : ∀ a, a < 8 → ∀ b, b < 8 → a ≠ b → (TX1 a).2.1 ≠ (TX1 b).2.1 := by decide +kernel
theorem tyX1_ok : ∀ k, k < 8 → parseFieldDescriptor (TX1 k).2.2.1 = some (tyX1 k) := by decide +kernel
abbrev cX1_feed : ByteArray := prog_1_method_5_code
def yX1_feed : MethodName := ⟨RX1, "feed", "(JJJ)I"⟩
def dkwX1_feed_1 : List UInt8 := [182, 0, 27, 42, 22, 5, 182, 0, 27, 42, 180, 0, 23, 172]
abbrev dktX1_feed_1 : List UInt8 := dkwX1_feed_1 ++ []
def dkwX1_feed_0 : List UInt8 := [42, 180, 0, 23, 16, 24, 96, 17, 3, 168, 164, 0, 5, 2, 172, 42, 31, 182, 0, 27, 42, 33]
abbrev dktX1_feed_0 : List UInt8 := dkwX1_feed_0 ++ dktX1_feed_1
theorem dksX1_feed_0 : cX1_feed.data.toList.drop 0 = dktX1_feed_0 := by decide +kernel
theorem dksX1_feed_1 : cX1_feed.data.toList.drop 22 = dktX1_feed_1 := dk_seg dksX1_feed_0 22 rfl rfl
theorem dX1_feed_0 : decode cX1_feed 0 = .ok (.aload_n 0, 1) := dk_42 (dk_at dksX1_feed_0 0 rfl rfl)
theorem dX1_feed_1 : decode cX1_feed 1 = .ok (.getfield 23, 3) := dk_180 0 23 (dk_at dksX1_feed_0 1 rfl rfl)
theorem dX1_feed_4 : decode cX1_feed 4 = .ok (.bipush 24, 2) := dk_16 24 (dk_at dksX1_feed_0 4 rfl rfl)
theorem dX1_feed_6 : decode cX1_feed 6 = .ok (.iadd, 1) := dk_96 (dk_at dksX1_feed_0 6 rfl rfl)
theorem dX1_feed_7 : decode cX1_feed 7 = .ok (.sipush 936, 3) := dk_17 3 168 (dk_at dksX1_feed_0 7 rfl rfl)
theorem dX1_feed_10 : decode cX1_feed 10 = .ok (.if_icmp .le 5, 3) := dk_164 0 5 (dk_at dksX1_feed_0 10 rfl rfl)
theorem dX1_feed_13 : decode cX1_feed 13 = .ok (.iconst (-1), 1) := dk_2 (dk_at dksX1_feed_0 13 rfl rfl)
theorem dX1_feed_14 : decode cX1_feed 14 = .ok (.ireturn, 1) := dk_172 (dk_at dksX1_feed_0 14 rfl rfl)
theorem dX1_feed_15 : decode cX1_feed 15 = .ok (.aload_n 0, 1) := dk_42 (dk_at dksX1_feed_0 15 rfl rfl)
theorem dX1_feed_16 : decode cX1_feed 16 = .ok (.lload_n 1, 1) := dk_31 (dk_at dksX1_feed_0 16 rfl rfl)
theorem dX1_feed_17 : decode cX1_feed 17 = .ok (.invokevirtual 27, 3) := dk_182 0 27 (dk_at dksX1_feed_0 17 rfl rfl)
theorem dX1_feed_20 : decode cX1_feed 20 = .ok (.aload_n 0, 1) := dk_42 (dk_at dksX1_feed_0 20 rfl rfl)
theorem dX1_feed_21 : decode cX1_feed 21 = .ok (.lload_n 3, 1) := dk_33 (dk_at dksX1_feed_0 21 rfl rfl)
theorem dX1_feed_22 : decode cX1_feed 22 = .ok (.invokevirtual 27, 3) := dk_182 0 27 (dk_at dksX1_feed_1 0 rfl rfl)
theorem dX1_feed_25 : decode cX1_feed 25 = .ok (.aload_n 0, 1) := dk_42 (dk_at dksX1_feed_1 3 rfl rfl)
theorem dX1_feed_26 : decode cX1_feed 26 = .ok (.lload 5, 2) := dk_22 5 (dk_at dksX1_feed_1 4 rfl rfl)
theorem dX1_feed_28 : decode cX1_feed 28 = .ok (.invokevirtual 27, 3) := dk_182 0 27 (dk_at dksX1_feed_1 6 rfl rfl)
theorem dX1_feed_31 : decode cX1_feed 31 = .ok (.aload_n 0, 1) := dk_42 (dk_at dksX1_feed_1 9 rfl rfl)
theorem dX1_feed_32 : decode cX1_feed 32 = .ok (.getfield 23, 3) := dk_180 0 23 (dk_at dksX1_feed_1 10 rfl rfl)
theorem dX1_feed_35 : decode cX1_feed 35 = .ok (.ireturn, 1) := dk_172 (dk_at dksX1_feed_1 13 rfl rfl)
abbrev cX1_eight : ByteArray := prog_1_method_6_code
def yX1_eight : MethodName := ⟨RX1, "eight", "(J)V"⟩
def dkwX1_eight_1 : List UInt8 := [180, 0, 23, 4, 96, 181, 0, 23, 132, 3, 248, 167, 255, 225, 177]
abbrev dktX1_eight_1 : List UInt8 := dkwX1_eight_1 ++ []
def dkwX1_eight_0 : List UInt8 := [16, 56, 62, 29, 155, 0, 33, 42, 180, 0, 31, 42, 180, 0, 23, 31, 29, 123, 136, 145, 84, 42, 89]
abbrev dktX1_eight_0 : List UInt8 := dkwX1_eight_0 ++ dktX1_eight_1
theorem dksX1_eight_0 : cX1_eight.data.toList.drop 0 = dktX1_eight_0 := by decide +kernel
theorem dksX1_eight_1 : cX1_eight.data.toList.drop 23 = dktX1_eight_1 := dk_seg dksX1_eight_0 23 rfl rfl
theorem dX1_eight_0 : decode cX1_eight 0 = .ok (.bipush 56, 2) := dk_16 56 (dk_at dksX1_eight_0 0 rfl rfl)
theorem dX1_eight_2 : decode cX1_eight 2 = .ok (.istore_n 3, 1) := dk_62 (dk_at dksX1_eight_0 2 rfl rfl)
theorem dX1_eight_3 : decode cX1_eight 3 = .ok (.iload_n 3, 1) := dk_29 (dk_at dksX1_eight_0 3 rfl rfl)
theorem dX1_eight_4 : decode cX1_eight 4 = .ok (.ifCond .lt 33, 3) := dk_155 0 33 (dk_at dksX1_eight_0 4 rfl rfl)
theorem dX1_eight_7 : decode cX1_eight 7 = .ok (.aload_n 0, 1) := dk_42 (dk_at dksX1_eight_0 7 rfl rfl)
theorem dX1_eight_8 : decode cX1_eight 8 = .ok (.getfield 31, 3) := dk_180 0 31 (dk_at dksX1_eight_0 8 rfl rfl)
theorem dX1_eight_11 : decode cX1_eight 11 = .ok (.aload_n 0, 1) := dk_42 (dk_at dksX1_eight_0 11 rfl rfl)
theorem dX1_eight_12 : decode cX1_eight 12 = .ok (.getfield 23, 3) := dk_180 0 23 (dk_at dksX1_eight_0 12 rfl rfl)
theorem dX1_eight_15 : decode cX1_eight 15 = .ok (.lload_n 1, 1) := dk_31 (dk_at dksX1_eight_0 15 rfl rfl)
theorem dX1_eight_16 : decode cX1_eight 16 = .ok (.iload_n 3, 1) := dk_29 (dk_at dksX1_eight_0 16 rfl rfl)
theorem dX1_eight_17 : decode cX1_eight 17 = .ok (.lshr, 1) := dk_123 (dk_at dksX1_eight_0 17 rfl rfl)
theorem dX1_eight_18 : decode cX1_eight 18 = .ok (.l2i, 1) := dk_136 (dk_at dksX1_eight_0 18 rfl rfl)
theorem dX1_eight_19 : decode cX1_eight 19 = .ok (.i2b, 1) := dk_145 (dk_at dksX1_eight_0 19 rfl rfl)
theorem dX1_eight_20 : decode cX1_eight 20 = .ok (.bastore, 1) := dk_84 (dk_at dksX1_eight_0 20 rfl rfl)
theorem dX1_eight_21 : decode cX1_eight 21 = .ok (.aload_n 0, 1) := dk_42 (dk_at dksX1_eight_0 21 rfl rfl)
theorem dX1_eight_22 : decode cX1_eight 22 = .ok (.dup, 1) := dk_89 (dk_at dksX1_eight_0 22 rfl rfl)
theorem dX1_eight_23 : decode cX1_eight 23 = .ok (.getfield 23, 3) := dk_180 0 23 (dk_at dksX1_eight_1 0 rfl rfl)
theorem dX1_eight_26 : decode cX1_eight 26 = .ok (.iconst 1, 1) := dk_4 (dk_at dksX1_eight_1 3 rfl rfl)
theorem dX1_eight_27 : decode cX1_eight 27 = .ok (.iadd, 1) := dk_96 (dk_at dksX1_eight_1 4 rfl rfl)
theorem dX1_eight_28 : decode cX1_eight 28 = .ok (.putfield 23, 3) := dk_181 0 23 (dk_at dksX1_eight_1 5 rfl rfl)
theorem dX1_eight_31 : decode cX1_eight 31 = .ok (.iinc 3 (-8), 3) := dk_132 3 248 (dk_at dksX1_eight_1 8 rfl rfl)
theorem dX1_eight_34 : decode cX1_eight 34 = .ok (.goto (-31), 3) := dk_167 255 225 (dk_at dksX1_eight_1 11 rfl rfl)
theorem dX1_eight_37 : decode cX1_eight 37 = .ok (.return_, 1) := dk_177 (dk_at dksX1_eight_1 14 rfl rfl)
abbrev cX1_end : ByteArray := prog_1_method_7_code
def yX1_end : MethodName := ⟨RX1, "end", "(I)I"⟩
def dkwX1_end_0 : List UInt8 := [27, 3, 42, 180, 0, 23, 184, 0, 3, 154, 0, 5, 2, 172, 42, 27, 181, 0, 23, 27, 172]
abbrev dktX1_end_0 : List UInt8 := dkwX1_end_0 ++ []
theorem dksX1_end_0 : cX1_end.data.toList.drop 0 = dktX1_end_0 := by decide +kernel
theorem dX1_end_0 : decode cX1_end 0 = .ok (.iload_n 1, 1) := dk_27 (dk_at dksX1_end_0 0 rfl rfl)
theorem dX1_end_1 : decode cX1_end 1 = .ok (.iconst 0, 1) := dk_3 (dk_at dksX1_end_0 1 rfl rfl)
theorem dX1_end_2 : decode cX1_end 2 = .ok (.aload_n 0, 1) := dk_42 (dk_at dksX1_end_0 2 rfl rfl)
theorem dX1_end_3 : decode cX1_end 3 = .ok (.getfield 23, 3) := dk_180 0 23 (dk_at dksX1_end_0 3 rfl rfl)
theorem dX1_end_6 : decode cX1_end 6 = .ok (.invokestatic 3, 3) := dk_184 0 3 (dk_at dksX1_end_0 6 rfl rfl)
theorem dX1_end_9 : decode cX1_end 9 = .ok (.ifCond .ne 5, 3) := dk_154 0 5 (dk_at dksX1_end_0 9 rfl rfl)
theorem dX1_end_12 : decode cX1_end 12 = .ok (.iconst (-1), 1) := dk_2 (dk_at dksX1_end_0 12 rfl rfl)
theorem dX1_end_13 : decode cX1_end 13 = .ok (.ireturn, 1) := dk_172 (dk_at dksX1_end_0 13 rfl rfl)
theorem dX1_end_14 : decode cX1_end 14 = .ok (.aload_n 0, 1) := dk_42 (dk_at dksX1_end_0 14 rfl rfl)
theorem dX1_end_15 : decode cX1_end 15 = .ok (.iload_n 1, 1) := dk_27 (dk_at dksX1_end_0 15 rfl rfl)
theorem dX1_end_16 : decode cX1_end 16 = .ok (.putfield 23, 3) := dk_181 0 23 (dk_at dksX1_end_0 16 rfl rfl)
theorem dX1_end_19 : decode cX1_end 19 = .ok (.iload_n 1, 1) := dk_27 (dk_at dksX1_end_0 19 rfl rfl)
theorem dX1_end_20 : decode cX1_end 20 = .ok (.ireturn, 1) := dk_172 (dk_at dksX1_end_0 20 rfl rfl)
abbrev cX1_within : ByteArray := prog_1_method_1_code
def yX1_within : MethodName := ⟨RX1, "within", "(III)Z"⟩
def dkwX1_within_0 : List UInt8 := [26, 27, 161, 0, 12, 26, 28, 163, 0, 7, 4, 167, 0, 4, 3, 172]
abbrev dktX1_within_0 : List UInt8 := dkwX1_within_0 ++ []
theorem dksX1_within_0 : cX1_within.data.toList.drop 0 = dktX1_within_0 := by decide +kernel
theorem dX1_within_0 : decode cX1_within 0 = .ok (.iload_n 0, 1) := dk_26 (dk_at dksX1_within_0 0 rfl rfl)
theorem dX1_within_1 : decode cX1_within 1 = .ok (.iload_n 1, 1) := dk_27 (dk_at dksX1_within_0 1 rfl rfl)
theorem dX1_within_2 : decode cX1_within 2 = .ok (.if_icmp .lt 12, 3) := dk_161 0 12 (dk_at dksX1_within_0 2 rfl rfl)
theorem dX1_within_5 : decode cX1_within 5 = .ok (.iload_n 0, 1) := dk_26 (dk_at dksX1_within_0 5 rfl rfl)
theorem dX1_within_6 : decode cX1_within 6 = .ok (.iload_n 2, 1) := dk_28 (dk_at dksX1_within_0 6 rfl rfl)
theorem dX1_within_7 : decode cX1_within 7 = .ok (.if_icmp .gt 7, 3) := dk_163 0 7 (dk_at dksX1_within_0 7 rfl rfl)
theorem dX1_within_10 : decode cX1_within 10 = .ok (.iconst 1, 1) := dk_4 (dk_at dksX1_within_0 10 rfl rfl)
theorem dX1_within_11 : decode cX1_within 11 = .ok (.goto 4, 3) := dk_167 0 4 (dk_at dksX1_within_0 11 rfl rfl)
theorem dX1_within_14 : decode cX1_within 14 = .ok (.iconst 0, 1) := dk_3 (dk_at dksX1_within_0 14 rfl rfl)
theorem dX1_within_15 : decode cX1_within 15 = .ok (.ireturn, 1) := dk_172 (dk_at dksX1_within_0 15 rfl rfl)
abbrev cX1_edition : ByteArray := prog_1_method_8_code
def yX1_edition : MethodName := ⟨RX1, "edition", "()I"⟩
def dkwX1_edition_3 : List UInt8 := [192, 0, 64, 58, 4, 16, 254, 25, 4, 180, 0, 66, 100, 167, 0, 4, 2, 172]
abbrev dktX1_edition_3 : List UInt8 := dkwX1_edition_3 ++ []
def dkwX1_edition_2 : List UInt8 := [42, 45, 180, 0, 57, 181, 0, 35, 45, 182, 0, 60, 58, 5, 25, 5, 193, 0, 64, 153, 0, 21, 25, 5]
abbrev dktX1_edition_2 : List UInt8 := dkwX1_edition_2 ++ dktX1_edition_3
def dkwX1_edition_1 : List UInt8 := [187, 0, 38, 89, 42, 27, 183, 0, 40, 77, 42, 44, 182, 0, 44, 181, 0, 48, 44, 180, 0, 52, 172, 78]
abbrev dktX1_edition_1 : List UInt8 := dkwX1_edition_1 ++ dktX1_edition_2
def dkwX1_edition_0 : List UInt8 := [42, 180, 0, 23, 60, 42, 3, 181, 0, 23, 42, 2, 181, 0, 35, 27, 17, 3, 132, 164, 0, 5, 2, 172]
abbrev dktX1_edition_0 : List UInt8 := dkwX1_edition_0 ++ dktX1_edition_1
theorem dksX1_edition_0 : cX1_edition.data.toList.drop 0 = dktX1_edition_0 := by decide +kernel
theorem dksX1_edition_1 : cX1_edition.data.toList.drop 24 = dktX1_edition_1 := dk_seg dksX1_edition_0 24 rfl rfl
theorem dksX1_edition_2 : cX1_edition.data.toList.drop 48 = dktX1_edition_2 := dk_seg dksX1_edition_1 24 rfl rfl
theorem dksX1_edition_3 : cX1_edition.data.toList.drop 72 = dktX1_edition_3 := dk_seg dksX1_edition_2 24 rfl rfl
theorem dX1_edition_0 : decode cX1_edition 0 = .ok (.aload_n 0, 1) := dk_42 (dk_at dksX1_edition_0 0 rfl rfl)
theorem dX1_edition_1 : decode cX1_edition 1 = .ok (.getfield 23, 3) := dk_180 0 23 (dk_at dksX1_edition_0 1 rfl rfl)
theorem dX1_edition_4 : decode cX1_edition 4 = .ok (.istore_n 1, 1) := dk_60 (dk_at dksX1_edition_0 4 rfl rfl)
theorem dX1_edition_5 : decode cX1_edition 5 = .ok (.aload_n 0, 1) := dk_42 (dk_at dksX1_edition_0 5 rfl rfl)
theorem dX1_edition_6 : decode cX1_edition 6 = .ok (.iconst 0, 1) := dk_3 (dk_at dksX1_edition_0 6 rfl rfl)
theorem dX1_edition_7 : decode cX1_edition 7 = .ok (.putfield 23, 3) := dk_181 0 23 (dk_at dksX1_edition_0 7 rfl rfl)
theorem dX1_edition_10 : decode cX1_edition 10 = .ok (.aload_n 0, 1) := dk_42 (dk_at dksX1_edition_0 10 rfl rfl)
theorem dX1_edition_11 : decode cX1_edition 11 = .ok (.iconst (-1), 1) := dk_2 (dk_at dksX1_edition_0 11 rfl rfl)
theorem dX1_edition_12 : decode cX1_edition 12 = .ok (.putfield 35, 3) := dk_181 0 35 (dk_at dksX1_edition_0 12 rfl rfl)
theorem dX1_edition_15 : decode cX1_edition 15 = .ok (.iload_n 1, 1) := dk_27 (dk_at dksX1_edition_0 15 rfl rfl)
theorem dX1_edition_16 : decode cX1_edition 16 = .ok (.sipush 900, 3) := dk_17 3 132 (dk_at dksX1_edition_0 16 rfl rfl)
theorem dX1_edition_19 : decode cX1_edition 19 = .ok (.if_icmp .le 5, 3) := dk_164 0 5 (dk_at dksX1_edition_0 19 rfl rfl)
theorem dX1_edition_22 : decode cX1_edition 22 = .ok (.iconst (-1), 1) := dk_2 (dk_at dksX1_edition_0 22 rfl rfl)
theorem dX1_edition_23 : decode cX1_edition 23 = .ok (.ireturn, 1) := dk_172 (dk_at dksX1_edition_0 23 rfl rfl)
theorem dX1_edition_24 : decode cX1_edition 24 = .ok (.new 38, 3) := dk_187 0 38 (dk_at dksX1_edition_1 0 rfl rfl)
theorem dX1_edition_27 : decode cX1_edition 27 = .ok (.dup, 1) := dk_89 (dk_at dksX1_edition_1 3 rfl rfl)
theorem dX1_edition_28 : decode cX1_edition 28 = .ok (.aload_n 0, 1) := dk_42 (dk_at dksX1_edition_1 4 rfl rfl)
theorem dX1_edition_29 : decode cX1_edition 29 = .ok (.iload_n 1, 1) := dk_27 (dk_at dksX1_edition_1 5 rfl rfl)
theorem dX1_edition_30 : decode cX1_edition 30 = .ok (.invokespecial 40, 3) := dk_183 0 40 (dk_at dksX1_edition_1 6 rfl rfl)
theorem dX1_edition_33 : decode cX1_edition 33 = .ok (.astore_n 2, 1) := dk_77 (dk_at dksX1_edition_1 9 rfl rfl)
theorem dX1_edition_34 : decode cX1_edition 34 = .ok (.aload_n 0, 1) := dk_42 (dk_at dksX1_edition_1 10 rfl rfl)
theorem dX1_edition_35 : decode cX1_edition 35 = .ok (.aload_n 2, 1) := dk_44 (dk_at dksX1_edition_1 11 rfl rfl)
theorem dX1_edition_36 : decode cX1_edition 36 = .ok (.invokevirtual 44, 3) := dk_182 0 44 (dk_at dksX1_edition_1 12 rfl rfl)
theorem dX1_edition_39 : decode cX1_edition 39 = .ok (.putfield 48, 3) := dk_181 0 48 (dk_at dksX1_edition_1 15 rfl rfl)
theorem dX1_edition_42 : decode cX1_edition 42 = .ok (.aload_n 2, 1) := dk_44 (dk_at dksX1_edition_1 18 rfl rfl)
theorem dX1_edition_43 : decode cX1_edition 43 = .ok (.getfield 52, 3) := dk_180 0 52 (dk_at dksX1_edition_1 19 rfl rfl)
theorem dX1_edition_46 : decode cX1_edition 46 = .ok (.ireturn, 1) := dk_172 (dk_at dksX1_edition_1 22 rfl rfl)
theorem dX1_edition_47 : decode cX1_edition 47 = .ok (.astore_n 3, 1) := dk_78 (dk_at dksX1_edition_1 23 rfl rfl)
theorem dX1_edition_48 : decode cX1_edition 48 = .ok (.aload_n 0, 1) := dk_42 (dk_at dksX1_edition_2 0 rfl rfl)
theorem dX1_edition_49 : decode cX1_edition 49 = .ok (.aload_n 3, 1) := dk_45 (dk_at dksX1_edition_2 1 rfl rfl)
theorem dX1_edition_50 : decode cX1_edition 50 = .ok (.getfield 57, 3) := dk_180 0 57 (dk_at dksX1_edition_2 2 rfl rfl)
theorem dX1_edition_53 : decode cX1_edition 53 = .ok (.putfield 35, 3) := dk_181 0 35 (dk_at dksX1_edition_2 5 rfl rfl)
theorem dX1_edition_56 : decode cX1_edition 56 = .ok (.aload_n 3, 1) := dk_45 (dk_at dksX1_edition_2 8 rfl rfl)
theorem dX1_edition_57 : decode cX1_edition 57 = .ok (.invokevirtual 60, 3) := dk_182 0 60 (dk_at dksX1_edition_2 9 rfl rfl)
theorem dX1_edition_60 : decode cX1_edition 60 = .ok (.astore 5, 2) := dk_58 5 (dk_at dksX1_edition_2 12 rfl rfl)
theorem dX1_edition_62 : decode cX1_edition 62 = .ok (.aload 5, 2) := dk_25 5 (dk_at dksX1_edition_2 14 rfl rfl)
theorem dX1_edition_64 : decode cX1_edition 64 = .ok (.instanceof 64, 3) := dk_193 0 64 (dk_at dksX1_edition_2 16 rfl rfl)
theorem dX1_edition_67 : decode cX1_edition 67 = .ok (.ifCond .eq 21, 3) := dk_153 0 21 (dk_at dksX1_edition_2 19 rfl rfl)
theorem dX1_edition_70 : decode cX1_edition 70 = .ok (.aload 5, 2) := dk_25 5 (dk_at dksX1_edition_2 22 rfl rfl)
theorem dX1_edition_72 : decode cX1_edition 72 = .ok (.checkcast 64, 3) := dk_192 0 64 (dk_at dksX1_edition_3 0 rfl rfl)
theorem dX1_edition_75 : decode cX1_edition 75 = .ok (.astore 4, 2) := dk_58 4 (dk_at dksX1_edition_3 3 rfl rfl)
theorem dX1_edition_77 : decode cX1_edition 77 = .ok (.bipush (-2), 2) := dk_16 254 (dk_at dksX1_edition_3 5 rfl rfl)
theorem dX1_edition_79 : decode cX1_edition 79 = .ok (.aload 4, 2) := dk_25 4 (dk_at dksX1_edition_3 7 rfl rfl)
theorem dX1_edition_81 : decode cX1_edition 81 = .ok (.getfield 66, 3) := dk_180 0 66 (dk_at dksX1_edition_3 9 rfl rfl)
theorem dX1_edition_84 : decode cX1_edition 84 = .ok (.isub, 1) := dk_100 (dk_at dksX1_edition_3 12 rfl rfl)
theorem dX1_edition_85 : decode cX1_edition 85 = .ok (.goto 4, 3) := dk_167 0 4 (dk_at dksX1_edition_3 13 rfl rfl)
theorem dX1_edition_88 : decode cX1_edition 88 = .ok (.iconst (-1), 1) := dk_2 (dk_at dksX1_edition_3 16 rfl rfl)
theorem dX1_edition_89 : decode cX1_edition 89 = .ok (.ireturn, 1) := dk_172 (dk_at dksX1_edition_3 17 rfl rfl)
abbrev cX1_isDiagnosis : ByteArray := prog_1_method_2_code
def yX1_isDiagnosis : MethodName := ⟨RX1, "isDiagnosis", "(I)Z"⟩
def dkwX1_isDiagnosis_0 : List UInt8 := [26, 3, 17, 3, 231, 184, 0, 3, 172]
abbrev dktX1_isDiagnosis_0 : List UInt8 := dkwX1_isDiagnosis_0 ++ []
theorem dksX1_isDiagnosis_0 : cX1_isDiagnosis.data.toList.drop 0 = dktX1_isDiagnosis_0 := by decide +kernel
theorem dX1_isDiagnosis_0 : decode cX1_isDiagnosis 0 = .ok (.iload_n 0, 1) := dk_26 (dk_at dksX1_isDiagnosis_0 0 rfl rfl)
theorem dX1_isDiagnosis_1 : decode cX1_isDiagnosis 1 = .ok (.iconst 0, 1) := dk_3 (dk_at dksX1_isDiagnosis_0 1 rfl rfl)
theorem dX1_isDiagnosis_2 : decode cX1_isDiagnosis 2 = .ok (.sipush 999, 3) := dk_17 3 231 (dk_at dksX1_isDiagnosis_0 2 rfl rfl)
theorem dX1_isDiagnosis_5 : decode cX1_isDiagnosis 5 = .ok (.invokestatic 3, 3) := dk_184 0 3 (dk_at dksX1_isDiagnosis_0 5 rfl rfl)
theorem dX1_isDiagnosis_8 : decode cX1_isDiagnosis 8 = .ok (.ireturn, 1) := dk_172 (dk_at dksX1_isDiagnosis_0 8 rfl rfl)
abbrev cX1_faultLine : ByteArray := prog_1_method_9_code
def yX1_faultLine : MethodName := ⟨RX1, "faultLine", "()I"⟩
theorem dX1_faultLine_0 : decode cX1_faultLine 0 = .ok (.aload_n 0, 1) := by decide +kernel
theorem dX1_faultLine_1 : decode cX1_faultLine 1 = .ok (.getfield 35, 3) := by decide +kernel
theorem dX1_faultLine_4 : decode cX1_faultLine 4 = .ok (.ireturn, 1) := by decide +kernel
abbrev cX1_init : ByteArray := prog_1_method_10_code
def yX1_init : MethodName := ⟨RX1, "<init>", "()V"⟩
def dkwX1_init_2 : List UInt8 := [183, 0, 84, 181, 0, 85, 42, 187, 0, 82, 89, 183, 0, 84, 181, 0, 89, 177]
abbrev dktX1_init_2 : List UInt8 := dkwX1_init_2 ++ []
def dkwX1_init_1 : List UInt8 := [183, 0, 74, 181, 0, 75, 42, 187, 0, 79, 89, 183, 0, 81, 181, 0, 48, 42, 187, 0, 82, 89]
abbrev dktX1_init_1 : List UInt8 := dkwX1_init_1 ++ dktX1_init_2
def dkwX1_init_0 : List UInt8 := [42, 183, 0, 69, 42, 17, 3, 168, 188, 8, 181, 0, 31, 42, 2, 181, 0, 35, 42, 187, 0, 8, 89]
abbrev dktX1_init_0 : List UInt8 := dkwX1_init_0 ++ dktX1_init_1
theorem dksX1_init_0 : cX1_init.data.toList.drop 0 = dktX1_init_0 := by decide +kernel
theorem dksX1_init_1 : cX1_init.data.toList.drop 23 = dktX1_init_1 := dk_seg dksX1_init_0 23 rfl rfl
theorem dksX1_init_2 : cX1_init.data.toList.drop 45 = dktX1_init_2 := dk_seg dksX1_init_1 22 rfl rfl
theorem dX1_init_0 : decode cX1_init 0 = .ok (.aload_n 0, 1) := dk_42 (dk_at dksX1_init_0 0 rfl rfl)
theorem dX1_init_1 : decode cX1_init 1 = .ok (.invokespecial 69, 3) := dk_183 0 69 (dk_at dksX1_init_0 1 rfl rfl)
theorem dX1_init_4 : decode cX1_init 4 = .ok (.aload_n 0, 1) := dk_42 (dk_at dksX1_init_0 4 rfl rfl)
theorem dX1_init_5 : decode cX1_init 5 = .ok (.sipush 936, 3) := dk_17 3 168 (dk_at dksX1_init_0 5 rfl rfl)
theorem dX1_init_8 : decode cX1_init 8 = .ok (.newarray .byte, 2) := dk_188_8 (dk_at dksX1_init_0 8 rfl rfl)
theorem dX1_init_10 : decode cX1_init 10 = .ok (.putfield 31, 3) := dk_181 0 31 (dk_at dksX1_init_0 10 rfl rfl)
theorem dX1_init_13 : decode cX1_init 13 = .ok (.aload_n 0, 1) := dk_42 (dk_at dksX1_init_0 13 rfl rfl)
theorem dX1_init_14 : decode cX1_init 14 = .ok (.iconst (-1), 1) := dk_2 (dk_at dksX1_init_0 14 rfl rfl)
theorem dX1_init_15 : decode cX1_init 15 = .ok (.putfield 35, 3) := dk_181 0 35 (dk_at dksX1_init_0 15 rfl rfl)
theorem dX1_init_18 : decode cX1_init 18 = .ok (.aload_n 0, 1) := dk_42 (dk_at dksX1_init_0 18 rfl rfl)
theorem dX1_init_19 : decode cX1_init 19 = .ok (.new 8, 3) := dk_187 0 8 (dk_at dksX1_init_0 19 rfl rfl)
theorem dX1_init_22 : decode cX1_init 22 = .ok (.dup, 1) := dk_89 (dk_at dksX1_init_0 22 rfl rfl)
theorem dX1_init_23 : decode cX1_init 23 = .ok (.invokespecial 74, 3) := dk_183 0 74 (dk_at dksX1_init_1 0 rfl rfl)
theorem dX1_init_26 : decode cX1_init 26 = .ok (.putfield 75, 3) := dk_181 0 75 (dk_at dksX1_init_1 3 rfl rfl)
theorem dX1_init_29 : decode cX1_init 29 = .ok (.aload_n 0, 1) := dk_42 (dk_at dksX1_init_1 6 rfl rfl)
theorem dX1_init_30 : decode cX1_init 30 = .ok (.new 79, 3) := dk_187 0 79 (dk_at dksX1_init_1 7 rfl rfl)
theorem dX1_init_33 : decode cX1_init 33 = .ok (.dup, 1) := dk_89 (dk_at dksX1_init_1 10 rfl rfl)
theorem dX1_init_34 : decode cX1_init 34 = .ok (.invokespecial 81, 3) := dk_183 0 81 (dk_at dksX1_init_1 11 rfl rfl)
theorem dX1_init_37 : decode cX1_init 37 = .ok (.putfield 48, 3) := dk_181 0 48 (dk_at dksX1_init_1 14 rfl rfl)
theorem dX1_init_40 : decode cX1_init 40 = .ok (.aload_n 0, 1) := dk_42 (dk_at dksX1_init_1 17 rfl rfl)
theorem dX1_init_41 : decode cX1_init 41 = .ok (.new 82, 3) := dk_187 0 82 (dk_at dksX1_init_1 18 rfl rfl)
theorem dX1_init_44 : decode cX1_init 44 = .ok (.dup, 1) := dk_89 (dk_at dksX1_init_1 21 rfl rfl)
theorem dX1_init_45 : decode cX1_init 45 = .ok (.invokespecial 84, 3) := dk_183 0 84 (dk_at dksX1_init_2 0 rfl rfl)
theorem dX1_init_48 : decode cX1_init 48 = .ok (.putfield 85, 3) := dk_181 0 85 (dk_at dksX1_init_2 3 rfl rfl)
theorem dX1_init_51 : decode cX1_init 51 = .ok (.aload_n 0, 1) := dk_42 (dk_at dksX1_init_2 6 rfl rfl)
theorem dX1_init_52 : decode cX1_init 52 = .ok (.new 82, 3) := dk_187 0 82 (dk_at dksX1_init_2 7 rfl rfl)
theorem dX1_init_55 : decode cX1_init 55 = .ok (.dup, 1) := dk_89 (dk_at dksX1_init_2 10 rfl rfl)
theorem dX1_init_56 : decode cX1_init 56 = .ok (.invokespecial 84, 3) := dk_183 0 84 (dk_at dksX1_init_2 11 rfl rfl)
theorem dX1_init_59 : decode cX1_init 59 = .ok (.putfield 89, 3) := dk_181 0 89 (dk_at dksX1_init_2 14 rfl rfl)
theorem dX1_init_62 : decode cX1_init 62 = .ok (.return_, 1) := dk_177 (dk_at dksX1_init_2 17 rfl rfl)
abbrev cX1_stay : ByteArray := prog_1_method_13_code
def yX1_stay : MethodName := ⟨RX1, "stay", "(III)I"⟩
def dkwX1_stay_3 : List UInt8 := [182, 0, 111, 87, 42, 180, 0, 75, 182, 0, 7, 4, 100, 172]
abbrev dktX1_stay_3 : List UInt8 := dkwX1_stay_3 ++ []
def dkwX1_stay_2 : List UInt8 := [25, 4, 27, 181, 0, 102, 25, 4, 28, 181, 0, 105, 25, 4, 29, 181, 0, 108, 42, 180, 0, 75, 25, 4]
abbrev dktX1_stay_2 : List UInt8 := dkwX1_stay_2 ++ dktX1_stay_3
def dkwX1_stay_1 : List UInt8 := [42, 180, 0, 75, 182, 0, 7, 16, 24, 160, 0, 5, 2, 172, 187, 0, 99, 89, 183, 0, 101, 58, 4]
abbrev dktX1_stay_1 : List UInt8 := dkwX1_stay_1 ++ dktX1_stay_2
def dkwX1_stay_0 : List UInt8 := [3, 27, 184, 0, 95, 153, 0, 31, 4, 28, 184, 0, 95, 153, 0, 23, 5, 29, 184, 0, 95, 153, 0, 15]
abbrev dktX1_stay_0 : List UInt8 := dkwX1_stay_0 ++ dktX1_stay_1
theorem dksX1_stay_0 : cX1_stay.data.toList.drop 0 = dktX1_stay_0 := by decide +kernel
theorem dksX1_stay_1 : cX1_stay.data.toList.drop 24 = dktX1_stay_1 := dk_seg dksX1_stay_0 24 rfl rfl
theorem dksX1_stay_2 : cX1_stay.data.toList.drop 47 = dktX1_stay_2 := dk_seg dksX1_stay_1 23 rfl rfl
theorem dksX1_stay_3 : cX1_stay.data.toList.drop 71 = dktX1_stay_3 := dk_seg dksX1_stay_2 24 rfl rfl
theorem dX1_stay_0 : decode cX1_stay 0 = .ok (.iconst 0, 1) := dk_3 (dk_at dksX1_stay_0 0 rfl rfl)
theorem dX1_stay_1 : decode cX1_stay 1 = .ok (.iload_n 1, 1) := dk_27 (dk_at dksX1_stay_0 1 rfl rfl)
theorem dX1_stay_2 : decode cX1_stay 2 = .ok (.invokestatic 95, 3) := dk_184 0 95 (dk_at dksX1_stay_0 2 rfl rfl)
theorem dX1_stay_5 : decode cX1_stay 5 = .ok (.ifCond .eq 31, 3) := dk_153 0 31 (dk_at dksX1_stay_0 5 rfl rfl)
theorem dX1_stay_8 : decode cX1_stay 8 = .ok (.iconst 1, 1) := dk_4 (dk_at dksX1_stay_0 8 rfl rfl)
theorem dX1_stay_9 : decode cX1_stay 9 = .ok (.iload_n 2, 1) := dk_28 (dk_at dksX1_stay_0 9 rfl rfl)
theorem dX1_stay_10 : decode cX1_stay 10 = .ok (.invokestatic 95, 3) := dk_184 0 95 (dk_at dksX1_stay_0 10 rfl rfl)
theorem dX1_stay_13 : decode cX1_stay 13 = .ok (.ifCond .eq 23, 3) := dk_153 0 23 (dk_at dksX1_stay_0 13 rfl rfl)
theorem dX1_stay_16 : decode cX1_stay 16 = .ok (.iconst 2, 1) := dk_5 (dk_at dksX1_stay_0 16 rfl rfl)
theorem dX1_stay_17 : decode cX1_stay 17 = .ok (.iload_n 3, 1) := dk_29 (dk_at dksX1_stay_0 17 rfl rfl)
theorem dX1_stay_18 : decode cX1_stay 18 = .ok (.invokestatic 95, 3) := dk_184 0 95 (dk_at dksX1_stay_0 18 rfl rfl)
theorem dX1_stay_21 : decode cX1_stay 21 = .ok (.ifCond .eq 15, 3) := dk_153 0 15 (dk_at dksX1_stay_0 21 rfl rfl)
theorem dX1_stay_24 : decode cX1_stay 24 = .ok (.aload_n 0, 1) := dk_42 (dk_at dksX1_stay_1 0 rfl rfl)
theorem dX1_stay_25 : decode cX1_stay 25 = .ok (.getfield 75, 3) := dk_180 0 75 (dk_at dksX1_stay_1 1 rfl rfl)
theorem dX1_stay_28 : decode cX1_stay 28 = .ok (.invokevirtual 7, 3) := dk_182 0 7 (dk_at dksX1_stay_1 4 rfl rfl)
theorem dX1_stay_31 : decode cX1_stay 31 = .ok (.bipush 24, 2) := dk_16 24 (dk_at dksX1_stay_1 7 rfl rfl)
theorem dX1_stay_33 : decode cX1_stay 33 = .ok (.if_icmp .ne 5, 3) := dk_160 0 5 (dk_at dksX1_stay_1 9 rfl rfl)
theorem dX1_stay_36 : decode cX1_stay 36 = .ok (.iconst (-1), 1) := dk_2 (dk_at dksX1_stay_1 12 rfl rfl)
theorem dX1_stay_37 : decode cX1_stay 37 = .ok (.ireturn, 1) := dk_172 (dk_at dksX1_stay_1 13 rfl rfl)
theorem dX1_stay_38 : decode cX1_stay 38 = .ok (.new 99, 3) := dk_187 0 99 (dk_at dksX1_stay_1 14 rfl rfl)
theorem dX1_stay_41 : decode cX1_stay 41 = .ok (.dup, 1) := dk_89 (dk_at dksX1_stay_1 17 rfl rfl)
theorem dX1_stay_42 : decode cX1_stay 42 = .ok (.invokespecial 101, 3) := dk_183 0 101 (dk_at dksX1_stay_1 18 rfl rfl)
theorem dX1_stay_45 : decode cX1_stay 45 = .ok (.astore 4, 2) := dk_58 4 (dk_at dksX1_stay_1 21 rfl rfl)
theorem dX1_stay_47 : decode cX1_stay 47 = .ok (.aload 4, 2) := dk_25 4 (dk_at dksX1_stay_2 0 rfl rfl)
theorem dX1_stay_49 : decode cX1_stay 49 = .ok (.iload_n 1, 1) := dk_27 (dk_at dksX1_stay_2 2 rfl rfl)
theorem dX1_stay_50 : decode cX1_stay 50 = .ok (.putfield 102, 3) := dk_181 0 102 (dk_at dksX1_stay_2 3 rfl rfl)
theorem dX1_stay_53 : decode cX1_stay 53 = .ok (.aload 4, 2) := dk_25 4 (dk_at dksX1_stay_2 6 rfl rfl)
theorem dX1_stay_55 : decode cX1_stay 55 = .ok (.iload_n 2, 1) := dk_28 (dk_at dksX1_stay_2 8 rfl rfl)
theorem dX1_stay_56 : decode cX1_stay 56 = .ok (.putfield 105, 3) := dk_181 0 105 (dk_at dksX1_stay_2 9 rfl rfl)
theorem dX1_stay_59 : decode cX1_stay 59 = .ok (.aload 4, 2) := dk_25 4 (dk_at dksX1_stay_2 12 rfl rfl)
theorem dX1_stay_61 : decode cX1_stay 61 = .ok (.iload_n 3, 1) := dk_29 (dk_at dksX1_stay_2 14 rfl rfl)
theorem dX1_stay_62 : decode cX1_stay 62 = .ok (.putfield 108, 3) := dk_181 0 108 (dk_at dksX1_stay_2 15 rfl rfl)
theorem dX1_stay_65 : decode cX1_stay 65 = .ok (.aload_n 0, 1) := dk_42 (dk_at dksX1_stay_2 18 rfl rfl)
theorem dX1_stay_66 : decode cX1_stay 66 = .ok (.getfield 75, 3) := dk_180 0 75 (dk_at dksX1_stay_2 19 rfl rfl)
theorem dX1_stay_69 : decode cX1_stay 69 = .ok (.aload 4, 2) := dk_25 4 (dk_at dksX1_stay_2 22 rfl rfl)
theorem dX1_stay_71 : decode cX1_stay 71 = .ok (.invokevirtual 111, 3) := dk_182 0 111 (dk_at dksX1_stay_3 0 rfl rfl)
theorem dX1_stay_74 : decode cX1_stay 74 = .ok (.pop, 1) := dk_87 (dk_at dksX1_stay_3 3 rfl rfl)
theorem dX1_stay_75 : decode cX1_stay 75 = .ok (.aload_n 0, 1) := dk_42 (dk_at dksX1_stay_3 4 rfl rfl)
theorem dX1_stay_76 : decode cX1_stay 76 = .ok (.getfield 75, 3) := dk_180 0 75 (dk_at dksX1_stay_3 5 rfl rfl)
theorem dX1_stay_79 : decode cX1_stay 79 = .ok (.invokevirtual 7, 3) := dk_182 0 7 (dk_at dksX1_stay_3 8 rfl rfl)
theorem dX1_stay_82 : decode cX1_stay 82 = .ok (.iconst 1, 1) := dk_4 (dk_at dksX1_stay_3 11 rfl rfl)
theorem dX1_stay_83 : decode cX1_stay 83 = .ok (.isub, 1) := dk_100 (dk_at dksX1_stay_3 12 rfl rfl)
theorem dX1_stay_84 : decode cX1_stay 84 = .ok (.ireturn, 1) := dk_172 (dk_at dksX1_stay_3 13 rfl rfl)
abbrev cX1_isSo : ByteArray := prog_1_method_12_code
def yX1_isSo : MethodName := ⟨RX1, "isSo", "(II)Z"⟩
def dkwX1_isSo_2 : List UInt8 := [27, 184, 0, 92, 172, 27, 3, 16, 120, 184, 0, 3, 172, 27, 4, 17, 1, 144, 184, 0, 3, 172, 3, 172]
abbrev dktX1_isSo_2 : List UInt8 := dkwX1_isSo_2 ++ []
def dkwX1_isSo_1 : List UInt8 := [170, 0, 0, 0, 0, 0, 49, 0, 0, 0, 0, 0, 0, 0, 2, 0, 0, 0, 27, 0, 0, 0, 32, 0, 0, 0, 40]
abbrev dktX1_isSo_1 : List UInt8 := dkwX1_isSo_1 ++ dktX1_isSo_2
def dkwX1_isSo_0 : List UInt8 := [26]
abbrev dktX1_isSo_0 : List UInt8 := dkwX1_isSo_0 ++ dktX1_isSo_1
theorem dksX1_isSo_0 : cX1_isSo.data.toList.drop 0 = dktX1_isSo_0 := by decide +kernel
theorem dksX1_isSo_1 : cX1_isSo.data.toList.drop 1 = dktX1_isSo_1 := dk_seg dksX1_isSo_0 1 rfl rfl
theorem dksX1_isSo_2 : cX1_isSo.data.toList.drop 28 = dktX1_isSo_2 := dk_seg dksX1_isSo_1 27 rfl rfl
theorem dX1_isSo_0 : decode cX1_isSo 0 = .ok (.iload_n 0, 1) := dk_26 (dk_at dksX1_isSo_0 0 rfl rfl)
theorem dX1_isSo_1 : decode cX1_isSo 1 = .ok (.tableswitch 49 0 2 #[27, 32, 40], 27) := by decide +kernel
theorem dX1_isSo_28 : decode cX1_isSo 28 = .ok (.iload_n 1, 1) := dk_27 (dk_at dksX1_isSo_2 0 rfl rfl)
theorem dX1_isSo_29 : decode cX1_isSo 29 = .ok (.invokestatic 92, 3) := dk_184 0 92 (dk_at dksX1_isSo_2 1 rfl rfl)
theorem dX1_isSo_32 : decode cX1_isSo 32 = .ok (.ireturn, 1) := dk_172 (dk_at dksX1_isSo_2 4 rfl rfl)
theorem dX1_isSo_33 : decode cX1_isSo 33 = .ok (.iload_n 1, 1) := dk_27 (dk_at dksX1_isSo_2 5 rfl rfl)
theorem dX1_isSo_34 : decode cX1_isSo 34 = .ok (.iconst 0, 1) := dk_3 (dk_at dksX1_isSo_2 6 rfl rfl)
theorem dX1_isSo_35 : decode cX1_isSo 35 = .ok (.bipush 120, 2) := dk_16 120 (dk_at dksX1_isSo_2 7 rfl rfl)
theorem dX1_isSo_37 : decode cX1_isSo 37 = .ok (.invokestatic 3, 3) := dk_184 0 3 (dk_at dksX1_isSo_2 9 rfl rfl)
theorem dX1_isSo_40 : decode cX1_isSo 40 = .ok (.ireturn, 1) := dk_172 (dk_at dksX1_isSo_2 12 rfl rfl)
theorem dX1_isSo_41 : decode cX1_isSo 41 = .ok (.iload_n 1, 1) := dk_27 (dk_at dksX1_isSo_2 13 rfl rfl)
theorem dX1_isSo_42 : decode cX1_isSo 42 = .ok (.iconst 1, 1) := dk_4 (dk_at dksX1_isSo_2 14 rfl rfl)
theorem dX1_isSo_43 : decode cX1_isSo 43 = .ok (.sipush 400, 3) := dk_17 1 144 (dk_at dksX1_isSo_2 15 rfl rfl)
theorem dX1_isSo_46 : decode cX1_isSo 46 = .ok (.invokestatic 3, 3) := dk_184 0 3 (dk_at dksX1_isSo_2 18 rfl rfl)
theorem dX1_isSo_49 : decode cX1_isSo 49 = .ok (.ireturn, 1) := dk_172 (dk_at dksX1_isSo_2 21 rfl rfl)
theorem dX1_isSo_50 : decode cX1_isSo 50 = .ok (.iconst 0, 1) := dk_3 (dk_at dksX1_isSo_2 22 rfl rfl)
theorem dX1_isSo_51 : decode cX1_isSo 51 = .ok (.ireturn, 1) := dk_172 (dk_at dksX1_isSo_2 23 rfl rfl)
abbrev cX1_code : ByteArray := prog_1_method_14_code
def yX1_code : MethodName := ⟨RX1, "code", "(II)I"⟩
def dkwX1_code_2 : List UInt8 := [27, 182, 0, 13, 192, 0, 99, 28, 182, 0, 125, 182, 0, 7, 172]
abbrev dktX1_code_2 : List UInt8 := dkwX1_code_2 ++ []
def dkwX1_code_1 : List UInt8 := [154, 0, 5, 2, 172, 42, 180, 0, 75, 27, 182, 0, 13, 192, 0, 99, 28, 182, 0, 121, 42, 180, 0, 75]
abbrev dktX1_code_1 : List UInt8 := dkwX1_code_1 ++ dktX1_code_2
def dkwX1_code_0 : List UInt8 := [42, 27, 182, 0, 115, 153, 0, 21, 42, 180, 0, 75, 27, 182, 0, 13, 192, 0, 99, 28, 182, 0, 118]
abbrev dktX1_code_0 : List UInt8 := dkwX1_code_0 ++ dktX1_code_1
theorem dksX1_code_0 : cX1_code.data.toList.drop 0 = dktX1_code_0 := by decide +kernel
theorem dksX1_code_1 : cX1_code.data.toList.drop 23 = dktX1_code_1 := dk_seg dksX1_code_0 23 rfl rfl
theorem dksX1_code_2 : cX1_code.data.toList.drop 47 = dktX1_code_2 := dk_seg dksX1_code_1 24 rfl rfl
theorem dX1_code_0 : decode cX1_code 0 = .ok (.aload_n 0, 1) := dk_42 (dk_at dksX1_code_0 0 rfl rfl)
theorem dX1_code_1 : decode cX1_code 1 = .ok (.iload_n 1, 1) := dk_27 (dk_at dksX1_code_0 1 rfl rfl)
theorem dX1_code_2 : decode cX1_code 2 = .ok (.invokevirtual 115, 3) := dk_182 0 115 (dk_at dksX1_code_0 2 rfl rfl)
theorem dX1_code_5 : decode cX1_code 5 = .ok (.ifCond .eq 21, 3) := dk_153 0 21 (dk_at dksX1_code_0 5 rfl rfl)
theorem dX1_code_8 : decode cX1_code 8 = .ok (.aload_n 0, 1) := dk_42 (dk_at dksX1_code_0 8 rfl rfl)
theorem dX1_code_9 : decode cX1_code 9 = .ok (.getfield 75, 3) := dk_180 0 75 (dk_at dksX1_code_0 9 rfl rfl)
theorem dX1_code_12 : decode cX1_code 12 = .ok (.iload_n 1, 1) := dk_27 (dk_at dksX1_code_0 12 rfl rfl)
theorem dX1_code_13 : decode cX1_code 13 = .ok (.invokevirtual 13, 3) := dk_182 0 13 (dk_at dksX1_code_0 13 rfl rfl)
theorem dX1_code_16 : decode cX1_code 16 = .ok (.checkcast 99, 3) := dk_192 0 99 (dk_at dksX1_code_0 16 rfl rfl)
theorem dX1_code_19 : decode cX1_code 19 = .ok (.iload_n 2, 1) := dk_28 (dk_at dksX1_code_0 19 rfl rfl)
theorem dX1_code_20 : decode cX1_code 20 = .ok (.invokevirtual 118, 3) := dk_182 0 118 (dk_at dksX1_code_0 20 rfl rfl)
theorem dX1_code_23 : decode cX1_code 23 = .ok (.ifCond .ne 5, 3) := dk_154 0 5 (dk_at dksX1_code_1 0 rfl rfl)
theorem dX1_code_26 : decode cX1_code 26 = .ok (.iconst (-1), 1) := dk_2 (dk_at dksX1_code_1 3 rfl rfl)
theorem dX1_code_27 : decode cX1_code 27 = .ok (.ireturn, 1) := dk_172 (dk_at dksX1_code_1 4 rfl rfl)
theorem dX1_code_28 : decode cX1_code 28 = .ok (.aload_n 0, 1) := dk_42 (dk_at dksX1_code_1 5 rfl rfl)
theorem dX1_code_29 : decode cX1_code 29 = .ok (.getfield 75, 3) := dk_180 0 75 (dk_at dksX1_code_1 6 rfl rfl)
theorem dX1_code_32 : decode cX1_code 32 = .ok (.iload_n 1, 1) := dk_27 (dk_at dksX1_code_1 9 rfl rfl)
theorem dX1_code_33 : decode cX1_code 33 = .ok (.invokevirtual 13, 3) := dk_182 0 13 (dk_at dksX1_code_1 10 rfl rfl)
theorem dX1_code_36 : decode cX1_code 36 = .ok (.checkcast 99, 3) := dk_192 0 99 (dk_at dksX1_code_1 13 rfl rfl)
theorem dX1_code_39 : decode cX1_code 39 = .ok (.iload_n 2, 1) := dk_28 (dk_at dksX1_code_1 16 rfl rfl)
theorem dX1_code_40 : decode cX1_code 40 = .ok (.invokevirtual 121, 3) := dk_182 0 121 (dk_at dksX1_code_1 17 rfl rfl)
theorem dX1_code_43 : decode cX1_code 43 = .ok (.aload_n 0, 1) := dk_42 (dk_at dksX1_code_1 20 rfl rfl)
theorem dX1_code_44 : decode cX1_code 44 = .ok (.getfield 75, 3) := dk_180 0 75 (dk_at dksX1_code_1 21 rfl rfl)
theorem dX1_code_47 : decode cX1_code 47 = .ok (.iload_n 1, 1) := dk_27 (dk_at dksX1_code_2 0 rfl rfl)
theorem dX1_code_48 : decode cX1_code 48 = .ok (.invokevirtual 13, 3) := dk_182 0 13 (dk_at dksX1_code_2 1 rfl rfl)
theorem dX1_code_51 : decode cX1_code 51 = .ok (.checkcast 99, 3) := dk_192 0 99 (dk_at dksX1_code_2 4 rfl rfl)
theorem dX1_code_54 : decode cX1_code 54 = .ok (.iload_n 2, 1) := dk_28 (dk_at dksX1_code_2 7 rfl rfl)
theorem dX1_code_55 : decode cX1_code 55 = .ok (.invokevirtual 125, 3) := dk_182 0 125 (dk_at dksX1_code_2 8 rfl rfl)
theorem dX1_code_58 : decode cX1_code 58 = .ok (.invokevirtual 7, 3) := dk_182 0 7 (dk_at dksX1_code_2 11 rfl rfl)
theorem dX1_code_61 : decode cX1_code 61 = .ok (.ireturn, 1) := dk_172 (dk_at dksX1_code_2 14 rfl rfl)
abbrev cX1_isStay : ByteArray := prog_1_method_11_code
def yX1_isStay : MethodName := ⟨RX1, "isStay", "(I)Z"⟩
def dkwX1_isStay_0 : List UInt8 := [27, 3, 42, 180, 0, 75, 182, 0, 7, 4, 100, 184, 0, 3, 172]
abbrev dktX1_isStay_0 : List UInt8 := dkwX1_isStay_0 ++ []
theorem dksX1_isStay_0 : cX1_isStay.data.toList.drop 0 = dktX1_isStay_0 := by decide +kernel
theorem dX1_isStay_0 : decode cX1_isStay 0 = .ok (.iload_n 1, 1) := dk_27 (dk_at dksX1_isStay_0 0 rfl rfl)
theorem dX1_isStay_1 : decode cX1_isStay 1 = .ok (.iconst 0, 1) := dk_3 (dk_at dksX1_isStay_0 1 rfl rfl)
theorem dX1_isStay_2 : decode cX1_isStay 2 = .ok (.aload_n 0, 1) := dk_42 (dk_at dksX1_isStay_0 2 rfl rfl)
theorem dX1_isStay_3 : decode cX1_isStay 3 = .ok (.getfield 75, 3) := dk_180 0 75 (dk_at dksX1_isStay_0 3 rfl rfl)
theorem dX1_isStay_6 : decode cX1_isStay 6 = .ok (.invokevirtual 7, 3) := dk_182 0 7 (dk_at dksX1_isStay_0 6 rfl rfl)
theorem dX1_isStay_9 : decode cX1_isStay 9 = .ok (.iconst 1, 1) := dk_4 (dk_at dksX1_isStay_0 9 rfl rfl)
theorem dX1_isStay_10 : decode cX1_isStay 10 = .ok (.isub, 1) := dk_100 (dk_at dksX1_isStay_0 10 rfl rfl)
theorem dX1_isStay_11 : decode cX1_isStay 11 = .ok (.invokestatic 3, 3) := dk_184 0 3 (dk_at dksX1_isStay_0 11 rfl rfl)
theorem dX1_isStay_14 : decode cX1_isStay 14 = .ok (.ireturn, 1) := dk_172 (dk_at dksX1_isStay_0 14 rfl rfl)
abbrev cX1_isProcedure : ByteArray := prog_1_method_3_code
def yX1_isProcedure : MethodName := ⟨RX1, "isProcedure", "(I)Z"⟩
def dkwX1_isProcedure_0 : List UInt8 := [26, 17, 3, 232, 17, 5, 219, 184, 0, 3, 172]
abbrev dktX1_isProcedure_0 : List UInt8 := dkwX1_isProcedure_0 ++ []
theorem dksX1_isProcedure_0 : cX1_isProcedure.data.toList.drop 0 = dktX1_isProcedure_0 := by decide +kernel
theorem dX1_isProcedure_0 : decode cX1_isProcedure 0 = .ok (.iload_n 0, 1) := dk_26 (dk_at dksX1_isProcedure_0 0 rfl rfl)
theorem dX1_isProcedure_1 : decode cX1_isProcedure 1 = .ok (.sipush 1000, 3) := dk_17 3 232 (dk_at dksX1_isProcedure_0 1 rfl rfl)
theorem dX1_isProcedure_4 : decode cX1_isProcedure 4 = .ok (.sipush 1499, 3) := dk_17 5 219 (dk_at dksX1_isProcedure_0 4 rfl rfl)
theorem dX1_isProcedure_7 : decode cX1_isProcedure 7 = .ok (.invokestatic 3, 3) := dk_184 0 3 (dk_at dksX1_isProcedure_0 7 rfl rfl)
theorem dX1_isProcedure_10 : decode cX1_isProcedure 10 = .ok (.ireturn, 1) := dk_172 (dk_at dksX1_isProcedure_0 10 rfl rfl)
abbrev cX1_drop : ByteArray := prog_1_method_15_code
def yX1_drop : MethodName := ⟨RX1, "drop", "(II)Z"⟩
def dkwX1_drop_1 : List UInt8 := [153, 0, 7, 4, 167, 0, 4, 3, 172]
abbrev dktX1_drop_1 : List UInt8 := dkwX1_drop_1 ++ []
def dkwX1_drop_0 : List UInt8 := [42, 27, 182, 0, 115, 153, 0, 25, 42, 180, 0, 75, 27, 182, 0, 13, 192, 0, 99, 28, 182, 0, 129]
abbrev dktX1_drop_0 : List UInt8 := dkwX1_drop_0 ++ dktX1_drop_1
theorem dksX1_drop_0 : cX1_drop.data.toList.drop 0 = dktX1_drop_0 := by decide +kernel
theorem dksX1_drop_1 : cX1_drop.data.toList.drop 23 = dktX1_drop_1 := dk_seg dksX1_drop_0 23 rfl rfl
theorem dX1_drop_0 : decode cX1_drop 0 = .ok (.aload_n 0, 1) := dk_42 (dk_at dksX1_drop_0 0 rfl rfl)
theorem dX1_drop_1 : decode cX1_drop 1 = .ok (.iload_n 1, 1) := dk_27 (dk_at dksX1_drop_0 1 rfl rfl)
theorem dX1_drop_2 : decode cX1_drop 2 = .ok (.invokevirtual 115, 3) := dk_182 0 115 (dk_at dksX1_drop_0 2 rfl rfl)
theorem dX1_drop_5 : decode cX1_drop 5 = .ok (.ifCond .eq 25, 3) := dk_153 0 25 (dk_at dksX1_drop_0 5 rfl rfl)
theorem dX1_drop_8 : decode cX1_drop 8 = .ok (.aload_n 0, 1) := dk_42 (dk_at dksX1_drop_0 8 rfl rfl)
theorem dX1_drop_9 : decode cX1_drop 9 = .ok (.getfield 75, 3) := dk_180 0 75 (dk_at dksX1_drop_0 9 rfl rfl)
theorem dX1_drop_12 : decode cX1_drop 12 = .ok (.iload_n 1, 1) := dk_27 (dk_at dksX1_drop_0 12 rfl rfl)
theorem dX1_drop_13 : decode cX1_drop 13 = .ok (.invokevirtual 13, 3) := dk_182 0 13 (dk_at dksX1_drop_0 13 rfl rfl)
theorem dX1_drop_16 : decode cX1_drop 16 = .ok (.checkcast 99, 3) := dk_192 0 99 (dk_at dksX1_drop_0 16 rfl rfl)
theorem dX1_drop_19 : decode cX1_drop 19 = .ok (.iload_n 2, 1) := dk_28 (dk_at dksX1_drop_0 19 rfl rfl)
theorem dX1_drop_20 : decode cX1_drop 20 = .ok (.invokevirtual 129, 3) := dk_182 0 129 (dk_at dksX1_drop_0 20 rfl rfl)
theorem dX1_drop_23 : decode cX1_drop 23 = .ok (.ifCond .eq 7, 3) := dk_153 0 7 (dk_at dksX1_drop_1 0 rfl rfl)
theorem dX1_drop_26 : decode cX1_drop 26 = .ok (.iconst 1, 1) := dk_4 (dk_at dksX1_drop_1 3 rfl rfl)
theorem dX1_drop_27 : decode cX1_drop 27 = .ok (.goto 4, 3) := dk_167 0 4 (dk_at dksX1_drop_1 4 rfl rfl)
theorem dX1_drop_30 : decode cX1_drop 30 = .ok (.iconst 0, 1) := dk_3 (dk_at dksX1_drop_1 7 rfl rfl)
theorem dX1_drop_31 : decode cX1_drop 31 = .ok (.ireturn, 1) := dk_172 (dk_at dksX1_drop_1 8 rfl rfl)
abbrev cX1_alter : ByteArray := prog_1_method_16_code
def yX1_alter : MethodName := ⟨RX1, "alter", "(III)I"⟩
def dkwX1_alter_6 : List UInt8 := [25, 4, 29, 181, 0, 108, 21, 5, 172]
abbrev dktX1_alter_6 : List UInt8 := dkwX1_alter_6 ++ []
def dkwX1_alter_5 : List UInt8 := [180, 0, 132, 29, 184, 0, 135, 182, 0, 144, 87, 167, 0, 18, 25, 4, 29, 181, 0, 105, 167, 0, 9]
abbrev dktX1_alter_5 : List UInt8 := dkwX1_alter_5 ++ dktX1_alter_6
def dkwX1_alter_4 : List UInt8 := [25, 4, 29, 181, 0, 102, 25, 4, 180, 0, 132, 29, 184, 0, 135, 182, 0, 141, 153, 0, 34, 25, 4]
abbrev dktX1_alter_4 : List UInt8 := dkwX1_alter_4 ++ dktX1_alter_5
def dkwX1_alter_3 : List UInt8 := [171, 0, 0, 0, 0, 0, 0, 74, 0, 0, 0, 2, 0, 0, 0, 0, 0, 0, 0, 28, 0, 0, 0, 1, 0, 0, 0, 65]
abbrev dktX1_alter_3 : List UInt8 := dkwX1_alter_3 ++ dktX1_alter_4
def dkwX1_alter_2 : List UInt8 := [160, 0, 11, 25, 4, 180, 0, 105, 167, 0, 8, 25, 4, 180, 0, 108, 54, 5, 28]
abbrev dktX1_alter_2 : List UInt8 := dkwX1_alter_2 ++ dktX1_alter_3
def dkwX1_alter_1 : List UInt8 := [182, 0, 13, 192, 0, 99, 58, 4, 28, 154, 0, 11, 25, 4, 180, 0, 102, 167, 0, 21, 28, 4]
abbrev dktX1_alter_1 : List UInt8 := dkwX1_alter_1 ++ dktX1_alter_2
def dkwX1_alter_0 : List UInt8 := [42, 27, 182, 0, 115, 153, 0, 11, 28, 29, 184, 0, 95, 154, 0, 5, 2, 172, 42, 180, 0, 75, 27]
abbrev dktX1_alter_0 : List UInt8 := dkwX1_alter_0 ++ dktX1_alter_1
theorem dksX1_alter_0 : cX1_alter.data.toList.drop 0 = dktX1_alter_0 := by decide +kernel
theorem dksX1_alter_1 : cX1_alter.data.toList.drop 23 = dktX1_alter_1 := dk_seg dksX1_alter_0 23 rfl rfl
theorem dksX1_alter_2 : cX1_alter.data.toList.drop 45 = dktX1_alter_2 := dk_seg dksX1_alter_1 22 rfl rfl
theorem dksX1_alter_3 : cX1_alter.data.toList.drop 64 = dktX1_alter_3 := dk_seg dksX1_alter_2 19 rfl rfl
theorem dksX1_alter_4 : cX1_alter.data.toList.drop 92 = dktX1_alter_4 := dk_seg dksX1_alter_3 28 rfl rfl
theorem dksX1_alter_5 : cX1_alter.data.toList.drop 115 = dktX1_alter_5 := dk_seg dksX1_alter_4 23 rfl rfl
theorem dksX1_alter_6 : cX1_alter.data.toList.drop 138 = dktX1_alter_6 := dk_seg dksX1_alter_5 23 rfl rfl
theorem dX1_alter_0 : decode cX1_alter 0 = .ok (.aload_n 0, 1) := dk_42 (dk_at dksX1_alter_0 0 rfl rfl)
theorem dX1_alter_1 : decode cX1_alter 1 = .ok (.iload_n 1, 1) := dk_27 (dk_at dksX1_alter_0 1 rfl rfl)
theorem dX1_alter_2 : decode cX1_alter 2 = .ok (.invokevirtual 115, 3) := dk_182 0 115 (dk_at dksX1_alter_0 2 rfl rfl)
theorem dX1_alter_5 : decode cX1_alter 5 = .ok (.ifCond .eq 11, 3) := dk_153 0 11 (dk_at dksX1_alter_0 5 rfl rfl)
theorem dX1_alter_8 : decode cX1_alter 8 = .ok (.iload_n 2, 1) := dk_28 (dk_at dksX1_alter_0 8 rfl rfl)
theorem dX1_alter_9 : decode cX1_alter 9 = .ok (.iload_n 3, 1) := dk_29 (dk_at dksX1_alter_0 9 rfl rfl)
theorem dX1_alter_10 : decode cX1_alter 10 = .ok (.invokestatic 95, 3) := dk_184 0 95 (dk_at dksX1_alter_0 10 rfl rfl)
theorem dX1_alter_13 : decode cX1_alter 13 = .ok (.ifCond .ne 5, 3) := dk_154 0 5 (dk_at dksX1_alter_0 13 rfl rfl)
theorem dX1_alter_16 : decode cX1_alter 16 = .ok (.iconst (-1), 1) := dk_2 (dk_at dksX1_alter_0 16 rfl rfl)
theorem dX1_alter_17 : decode cX1_alter 17 = .ok (.ireturn, 1) := dk_172 (dk_at dksX1_alter_0 17 rfl rfl)
theorem dX1_alter_18 : decode cX1_alter 18 = .ok (.aload_n 0, 1) := dk_42 (dk_at dksX1_alter_0 18 rfl rfl)
theorem dX1_alter_19 : decode cX1_alter 19 = .ok (.getfield 75, 3) := dk_180 0 75 (dk_at dksX1_alter_0 19 rfl rfl)
theorem dX1_alter_22 : decode cX1_alter 22 = .ok (.iload_n 1, 1) := dk_27 (dk_at dksX1_alter_0 22 rfl rfl)
theorem dX1_alter_23 : decode cX1_alter 23 = .ok (.invokevirtual 13, 3) := dk_182 0 13 (dk_at dksX1_alter_1 0 rfl rfl)
theorem dX1_alter_26 : decode cX1_alter 26 = .ok (.checkcast 99, 3) := dk_192 0 99 (dk_at dksX1_alter_1 3 rfl rfl)
theorem dX1_alter_29 : decode cX1_alter 29 = .ok (.astore 4, 2) := dk_58 4 (dk_at dksX1_alter_1 6 rfl rfl)
theorem dX1_alter_31 : decode cX1_alter 31 = .ok (.iload_n 2, 1) := dk_28 (dk_at dksX1_alter_1 8 rfl rfl)
theorem dX1_alter_32 : decode cX1_alter 32 = .ok (.ifCond .ne 11, 3) := dk_154 0 11 (dk_at dksX1_alter_1 9 rfl rfl)
theorem dX1_alter_35 : decode cX1_alter 35 = .ok (.aload 4, 2) := dk_25 4 (dk_at dksX1_alter_1 12 rfl rfl)
theorem dX1_alter_37 : decode cX1_alter 37 = .ok (.getfield 102, 3) := dk_180 0 102 (dk_at dksX1_alter_1 14 rfl rfl)
theorem dX1_alter_40 : decode cX1_alter 40 = .ok (.goto 21, 3) := dk_167 0 21 (dk_at dksX1_alter_1 17 rfl rfl)
theorem dX1_alter_43 : decode cX1_alter 43 = .ok (.iload_n 2, 1) := dk_28 (dk_at dksX1_alter_1 20 rfl rfl)
theorem dX1_alter_44 : decode cX1_alter 44 = .ok (.iconst 1, 1) := dk_4 (dk_at dksX1_alter_1 21 rfl rfl)
theorem dX1_alter_45 : decode cX1_alter 45 = .ok (.if_icmp .ne 11, 3) := dk_160 0 11 (dk_at dksX1_alter_2 0 rfl rfl)
theorem dX1_alter_48 : decode cX1_alter 48 = .ok (.aload 4, 2) := dk_25 4 (dk_at dksX1_alter_2 3 rfl rfl)
theorem dX1_alter_50 : decode cX1_alter 50 = .ok (.getfield 105, 3) := dk_180 0 105 (dk_at dksX1_alter_2 5 rfl rfl)
theorem dX1_alter_53 : decode cX1_alter 53 = .ok (.goto 8, 3) := dk_167 0 8 (dk_at dksX1_alter_2 8 rfl rfl)
theorem dX1_alter_56 : decode cX1_alter 56 = .ok (.aload 4, 2) := dk_25 4 (dk_at dksX1_alter_2 11 rfl rfl)
theorem dX1_alter_58 : decode cX1_alter 58 = .ok (.getfield 108, 3) := dk_180 0 108 (dk_at dksX1_alter_2 13 rfl rfl)
theorem dX1_alter_61 : decode cX1_alter 61 = .ok (.istore 5, 2) := dk_54 5 (dk_at dksX1_alter_2 16 rfl rfl)
theorem dX1_alter_63 : decode cX1_alter 63 = .ok (.iload_n 2, 1) := dk_28 (dk_at dksX1_alter_2 18 rfl rfl)
theorem dX1_alter_64 : decode cX1_alter 64 = .ok (.lookupswitch 74 #[(0, 28), (1, 65)], 28) := by decide +kernel
theorem dX1_alter_92 : decode cX1_alter 92 = .ok (.aload 4, 2) := dk_25 4 (dk_at dksX1_alter_4 0 rfl rfl)
theorem dX1_alter_94 : decode cX1_alter 94 = .ok (.iload_n 3, 1) := dk_29 (dk_at dksX1_alter_4 2 rfl rfl)
theorem dX1_alter_95 : decode cX1_alter 95 = .ok (.putfield 102, 3) := dk_181 0 102 (dk_at dksX1_alter_4 3 rfl rfl)
theorem dX1_alter_98 : decode cX1_alter 98 = .ok (.aload 4, 2) := dk_25 4 (dk_at dksX1_alter_4 6 rfl rfl)
theorem dX1_alter_100 : decode cX1_alter 100 = .ok (.getfield 132, 3) := dk_180 0 132 (dk_at dksX1_alter_4 8 rfl rfl)
theorem dX1_alter_103 : decode cX1_alter 103 = .ok (.iload_n 3, 1) := dk_29 (dk_at dksX1_alter_4 11 rfl rfl)
theorem dX1_alter_104 : decode cX1_alter 104 = .ok (.invokestatic 135, 3) := dk_184 0 135 (dk_at dksX1_alter_4 12 rfl rfl)
theorem dX1_alter_107 : decode cX1_alter 107 = .ok (.invokevirtual 141, 3) := dk_182 0 141 (dk_at dksX1_alter_4 15 rfl rfl)
theorem dX1_alter_110 : decode cX1_alter 110 = .ok (.ifCond .eq 34, 3) := dk_153 0 34 (dk_at dksX1_alter_4 18 rfl rfl)
theorem dX1_alter_113 : decode cX1_alter 113 = .ok (.aload 4, 2) := dk_25 4 (dk_at dksX1_alter_4 21 rfl rfl)
theorem dX1_alter_115 : decode cX1_alter 115 = .ok (.getfield 132, 3) := dk_180 0 132 (dk_at dksX1_alter_5 0 rfl rfl)
theorem dX1_alter_118 : decode cX1_alter 118 = .ok (.iload_n 3, 1) := dk_29 (dk_at dksX1_alter_5 3 rfl rfl)
theorem dX1_alter_119 : decode cX1_alter 119 = .ok (.invokestatic 135, 3) := dk_184 0 135 (dk_at dksX1_alter_5 4 rfl rfl)
theorem dX1_alter_122 : decode cX1_alter 122 = .ok (.invokevirtual 144, 3) := dk_182 0 144 (dk_at dksX1_alter_5 7 rfl rfl)
theorem dX1_alter_125 : decode cX1_alter 125 = .ok (.pop, 1) := dk_87 (dk_at dksX1_alter_5 10 rfl rfl)
theorem dX1_alter_126 : decode cX1_alter 126 = .ok (.goto 18, 3) := dk_167 0 18 (dk_at dksX1_alter_5 11 rfl rfl)
theorem dX1_alter_129 : decode cX1_alter 129 = .ok (.aload 4, 2) := dk_25 4 (dk_at dksX1_alter_5 14 rfl rfl)
theorem dX1_alter_131 : decode cX1_alter 131 = .ok (.iload_n 3, 1) := dk_29 (dk_at dksX1_alter_5 16 rfl rfl)
theorem dX1_alter_132 : decode cX1_alter 132 = .ok (.putfield 105, 3) := dk_181 0 105 (dk_at dksX1_alter_5 17 rfl rfl)
theorem dX1_alter_135 : decode cX1_alter 135 = .ok (.goto 9, 3) := dk_167 0 9 (dk_at dksX1_alter_5 20 rfl rfl)
theorem dX1_alter_138 : decode cX1_alter 138 = .ok (.aload 4, 2) := dk_25 4 (dk_at dksX1_alter_6 0 rfl rfl)
theorem dX1_alter_140 : decode cX1_alter 140 = .ok (.iload_n 3, 1) := dk_29 (dk_at dksX1_alter_6 2 rfl rfl)
theorem dX1_alter_141 : decode cX1_alter 141 = .ok (.putfield 108, 3) := dk_181 0 108 (dk_at dksX1_alter_6 3 rfl rfl)
theorem dX1_alter_144 : decode cX1_alter 144 = .ok (.iload 5, 2) := dk_21 5 (dk_at dksX1_alter_6 6 rfl rfl)
theorem dX1_alter_146 : decode cX1_alter 146 = .ok (.ireturn, 1) := dk_172 (dk_at dksX1_alter_6 8 rfl rfl)
abbrev cX1_clear : ByteArray := prog_1_method_17_code
def yX1_clear : MethodName := ⟨RX1, "clear", "()I"⟩
def dkwX1_clear_0 : List UInt8 := [42, 180, 0, 75, 182, 0, 7, 60, 42, 180, 0, 75, 182, 0, 147, 27, 172]
abbrev dktX1_clear_0 : List UInt8 := dkwX1_clear_0 ++ []
theorem dksX1_clear_0 : cX1_clear.data.toList.drop 0 = dktX1_clear_0 := by decide +kernel
theorem dX1_clear_0 : decode cX1_clear 0 = .ok (.aload_n 0, 1) := dk_42 (dk_at dksX1_clear_0 0 rfl rfl)
theorem dX1_clear_1 : decode cX1_clear 1 = .ok (.getfield 75, 3) := dk_180 0 75 (dk_at dksX1_clear_0 1 rfl rfl)
theorem dX1_clear_4 : decode cX1_clear 4 = .ok (.invokevirtual 7, 3) := dk_182 0 7 (dk_at dksX1_clear_0 4 rfl rfl)
theorem dX1_clear_7 : decode cX1_clear 7 = .ok (.istore_n 1, 1) := dk_60 (dk_at dksX1_clear_0 7 rfl rfl)
theorem dX1_clear_8 : decode cX1_clear 8 = .ok (.aload_n 0, 1) := dk_42 (dk_at dksX1_clear_0 8 rfl rfl)
theorem dX1_clear_9 : decode cX1_clear 9 = .ok (.getfield 75, 3) := dk_180 0 75 (dk_at dksX1_clear_0 9 rfl rfl)
theorem dX1_clear_12 : decode cX1_clear 12 = .ok (.invokevirtual 147, 3) := dk_182 0 147 (dk_at dksX1_clear_0 12 rfl rfl)
theorem dX1_clear_15 : decode cX1_clear 15 = .ok (.iload_n 1, 1) := dk_27 (dk_at dksX1_clear_0 15 rfl rfl)
theorem dX1_clear_16 : decode cX1_clear 16 = .ok (.ireturn, 1) := dk_172 (dk_at dksX1_clear_0 16 rfl rfl)
abbrev cX1_of : ByteArray := prog_1_method_19_code
def yX1_of : MethodName := ⟨RX1, "of", "(II)I"⟩
def dkwX1_of_7 : List UInt8 := [172, 16, 254, 172]
abbrev dktX1_of_7 : List UInt8 := dkwX1_of_7 ++ []
def dkwX1_of_6 : List UInt8 := [180, 0, 85, 180, 0, 174, 172, 42, 180, 0, 48, 180, 0, 177, 42, 180, 0, 85, 180, 0, 180, 182, 0, 184]
abbrev dktX1_of_6 : List UInt8 := dkwX1_of_6 ++ dktX1_of_7
def dkwX1_of_5 : List UInt8 := [180, 0, 85, 180, 0, 165, 172, 42, 180, 0, 85, 182, 0, 168, 172, 42, 180, 0, 85, 182, 0, 171, 172, 42]
abbrev dktX1_of_5 : List UInt8 := dkwX1_of_5 ++ dktX1_of_6
def dkwX1_of_4 : List UInt8 := [180, 0, 156, 182, 0, 7, 172, 42, 180, 0, 85, 180, 0, 159, 172, 42, 180, 0, 85, 180, 0, 162, 172, 42]
abbrev dktX1_of_4 : List UInt8 := dkwX1_of_4 ++ dktX1_of_5
def dkwX1_of_3 : List UInt8 := [45, 180, 0, 102, 172, 45, 180, 0, 105, 172, 45, 180, 0, 108, 172, 45, 180, 0, 132, 182, 0, 7, 172, 45]
abbrev dktX1_of_3 : List UInt8 := dkwX1_of_3 ++ dktX1_of_4
def dkwX1_of_2 : List UInt8 := [170, 0, 0, 0, 0, 0, 160, 0, 0, 0, 0, 0, 0, 0, 11, 0, 0, 0, 63, 0, 0, 0, 68, 0, 0, 0, 73, 0, 0, 0, 78, 0, 0, 0, 86, 0, 0, 0, 94, 0, 0, 0, 102, 0, 0, 0, 110, 0, 0, 0, 118, 0, 0, 0, 126, 0, 0, 0, 134, 0, 0, 0, 142]
abbrev dktX1_of_2 : List UInt8 := dkwX1_of_2 ++ dktX1_of_3
def dkwX1_of_1 : List UInt8 := [27, 182, 0, 154, 28]
abbrev dktX1_of_1 : List UInt8 := dkwX1_of_1 ++ dktX1_of_2
def dkwX1_of_0 : List UInt8 := [42, 27, 182, 0, 115, 154, 0, 6, 16, 254, 172, 42, 180, 0, 75, 27, 182, 0, 13, 192, 0, 99, 78, 42]
abbrev dktX1_of_0 : List UInt8 := dkwX1_of_0 ++ dktX1_of_1
theorem dksX1_of_0 : cX1_of.data.toList.drop 0 = dktX1_of_0 := by decide +kernel
theorem dksX1_of_1 : cX1_of.data.toList.drop 24 = dktX1_of_1 := dk_seg dksX1_of_0 24 rfl rfl
theorem dksX1_of_2 : cX1_of.data.toList.drop 29 = dktX1_of_2 := dk_seg dksX1_of_1 5 rfl rfl
theorem dksX1_of_3 : cX1_of.data.toList.drop 92 = dktX1_of_3 := dk_seg dksX1_of_2 63 rfl rfl
theorem dksX1_of_4 : cX1_of.data.toList.drop 116 = dktX1_of_4 := dk_seg dksX1_of_3 24 rfl rfl
theorem dksX1_of_5 : cX1_of.data.toList.drop 140 = dktX1_of_5 := dk_seg dksX1_of_4 24 rfl rfl
theorem dksX1_of_6 : cX1_of.data.toList.drop 164 = dktX1_of_6 := dk_seg dksX1_of_5 24 rfl rfl
theorem dksX1_of_7 : cX1_of.data.toList.drop 188 = dktX1_of_7 := dk_seg dksX1_of_6 24 rfl rfl
theorem dX1_of_0 : decode cX1_of 0 = .ok (.aload_n 0, 1) := dk_42 (dk_at dksX1_of_0 0 rfl rfl)
theorem dX1_of_1 : decode cX1_of 1 = .ok (.iload_n 1, 1) := dk_27 (dk_at dksX1_of_0 1 rfl rfl)
theorem dX1_of_2 : decode cX1_of 2 = .ok (.invokevirtual 115, 3) := dk_182 0 115 (dk_at dksX1_of_0 2 rfl rfl)
theorem dX1_of_5 : decode cX1_of 5 = .ok (.ifCond .ne 6, 3) := dk_154 0 6 (dk_at dksX1_of_0 5 rfl rfl)
theorem dX1_of_8 : decode cX1_of 8 = .ok (.bipush (-2), 2) := dk_16 254 (dk_at dksX1_of_0 8 rfl rfl)
theorem dX1_of_10 : decode cX1_of 10 = .ok (.ireturn, 1) := dk_172 (dk_at dksX1_of_0 10 rfl rfl)
theorem dX1_of_11 : decode cX1_of 11 = .ok (.aload_n 0, 1) := dk_42 (dk_at dksX1_of_0 11 rfl rfl)
theorem dX1_of_12 : decode cX1_of 12 = .ok (.getfield 75, 3) := dk_180 0 75 (dk_at dksX1_of_0 12 rfl rfl)
theorem dX1_of_15 : decode cX1_of 15 = .ok (.iload_n 1, 1) := dk_27 (dk_at dksX1_of_0 15 rfl rfl)
theorem dX1_of_16 : decode cX1_of 16 = .ok (.invokevirtual 13, 3) := dk_182 0 13 (dk_at dksX1_of_0 16 rfl rfl)
theorem dX1_of_19 : decode cX1_of 19 = .ok (.checkcast 99, 3) := dk_192 0 99 (dk_at dksX1_of_0 19 rfl rfl)
theorem dX1_of_22 : decode cX1_of 22 = .ok (.astore_n 3, 1) := dk_78 (dk_at dksX1_of_0 22 rfl rfl)
theorem dX1_of_23 : decode cX1_of 23 = .ok (.aload_n 0, 1) := dk_42 (dk_at dksX1_of_0 23 rfl rfl)
theorem dX1_of_24 : decode cX1_of 24 = .ok (.iload_n 1, 1) := dk_27 (dk_at dksX1_of_1 0 rfl rfl)
theorem dX1_of_25 : decode cX1_of 25 = .ok (.invokevirtual 154, 3) := dk_182 0 154 (dk_at dksX1_of_1 1 rfl rfl)
theorem dX1_of_28 : decode cX1_of 28 = .ok (.iload_n 2, 1) := dk_28 (dk_at dksX1_of_1 4 rfl rfl)
theorem dX1_of_29 : decode cX1_of 29 = .ok (.tableswitch 160 0 11 #[63, 68, 73, 78, 86, 94, 102, 110, 118, 126, 134, 142], 63) := by decide +kernel
theorem dX1_of_92 : decode cX1_of 92 = .ok (.aload_n 3, 1) := dk_45 (dk_at dksX1_of_3 0 rfl rfl)
theorem dX1_of_93 : decode cX1_of 93 = .ok (.getfield 102, 3) := dk_180 0 102 (dk_at dksX1_of_3 1 rfl rfl)
theorem dX1_of_96 : decode cX1_of 96 = .ok (.ireturn, 1) := dk_172 (dk_at dksX1_of_3 4 rfl rfl)
theorem dX1_of_97 : decode cX1_of 97 = .ok (.aload_n 3, 1) := dk_45 (dk_at dksX1_of_3 5 rfl rfl)
theorem dX1_of_98 : decode cX1_of 98 = .ok (.getfield 105, 3) := dk_180 0 105 (dk_at dksX1_of_3 6 rfl rfl)
theorem dX1_of_101 : decode cX1_of 101 = .ok (.ireturn, 1) := dk_172 (dk_at dksX1_of_3 9 rfl rfl)
theorem dX1_of_102 : decode cX1_of 102 = .ok (.aload_n 3, 1) := dk_45 (dk_at dksX1_of_3 10 rfl rfl)
theorem dX1_of_103 : decode cX1_of 103 = .ok (.getfield 108, 3) := dk_180 0 108 (dk_at dksX1_of_3 11 rfl rfl)
theorem dX1_of_106 : decode cX1_of 106 = .ok (.ireturn, 1) := dk_172 (dk_at dksX1_of_3 14 rfl rfl)
theorem dX1_of_107 : decode cX1_of 107 = .ok (.aload_n 3, 1) := dk_45 (dk_at dksX1_of_3 15 rfl rfl)
theorem dX1_of_108 : decode cX1_of 108 = .ok (.getfield 132, 3) := dk_180 0 132 (dk_at dksX1_of_3 16 rfl rfl)
theorem dX1_of_111 : decode cX1_of 111 = .ok (.invokevirtual 7, 3) := dk_182 0 7 (dk_at dksX1_of_3 19 rfl rfl)
theorem dX1_of_114 : decode cX1_of 114 = .ok (.ireturn, 1) := dk_172 (dk_at dksX1_of_3 22 rfl rfl)
theorem dX1_of_115 : decode cX1_of 115 = .ok (.aload_n 3, 1) := dk_45 (dk_at dksX1_of_3 23 rfl rfl)
theorem dX1_of_116 : decode cX1_of 116 = .ok (.getfield 156, 3) := dk_180 0 156 (dk_at dksX1_of_4 0 rfl rfl)
theorem dX1_of_119 : decode cX1_of 119 = .ok (.invokevirtual 7, 3) := dk_182 0 7 (dk_at dksX1_of_4 3 rfl rfl)
theorem dX1_of_122 : decode cX1_of 122 = .ok (.ireturn, 1) := dk_172 (dk_at dksX1_of_4 6 rfl rfl)
theorem dX1_of_123 : decode cX1_of 123 = .ok (.aload_n 0, 1) := dk_42 (dk_at dksX1_of_4 7 rfl rfl)
theorem dX1_of_124 : decode cX1_of 124 = .ok (.getfield 85, 3) := dk_180 0 85 (dk_at dksX1_of_4 8 rfl rfl)
theorem dX1_of_127 : decode cX1_of 127 = .ok (.getfield 159, 3) := dk_180 0 159 (dk_at dksX1_of_4 11 rfl rfl)
theorem dX1_of_130 : decode cX1_of 130 = .ok (.ireturn, 1) := dk_172 (dk_at dksX1_of_4 14 rfl rfl)
theorem dX1_of_131 : decode cX1_of 131 = .ok (.aload_n 0, 1) := dk_42 (dk_at dksX1_of_4 15 rfl rfl)
theorem dX1_of_132 : decode cX1_of 132 = .ok (.getfield 85, 3) := dk_180 0 85 (dk_at dksX1_of_4 16 rfl rfl)
theorem dX1_of_135 : decode cX1_of 135 = .ok (.getfield 162, 3) := dk_180 0 162 (dk_at dksX1_of_4 19 rfl rfl)
theorem dX1_of_138 : decode cX1_of 138 = .ok (.ireturn, 1) := dk_172 (dk_at dksX1_of_4 22 rfl rfl)
theorem dX1_of_139 : decode cX1_of 139 = .ok (.aload_n 0, 1) := dk_42 (dk_at dksX1_of_4 23 rfl rfl)
theorem dX1_of_140 : decode cX1_of 140 = .ok (.getfield 85, 3) := dk_180 0 85 (dk_at dksX1_of_5 0 rfl rfl)
theorem dX1_of_143 : decode cX1_of 143 = .ok (.getfield 165, 3) := dk_180 0 165 (dk_at dksX1_of_5 3 rfl rfl)
theorem dX1_of_146 : decode cX1_of 146 = .ok (.ireturn, 1) := dk_172 (dk_at dksX1_of_5 6 rfl rfl)
theorem dX1_of_147 : decode cX1_of 147 = .ok (.aload_n 0, 1) := dk_42 (dk_at dksX1_of_5 7 rfl rfl)
theorem dX1_of_148 : decode cX1_of 148 = .ok (.getfield 85, 3) := dk_180 0 85 (dk_at dksX1_of_5 8 rfl rfl)
theorem dX1_of_151 : decode cX1_of 151 = .ok (.invokevirtual 168, 3) := dk_182 0 168 (dk_at dksX1_of_5 11 rfl rfl)
theorem dX1_of_154 : decode cX1_of 154 = .ok (.ireturn, 1) := dk_172 (dk_at dksX1_of_5 14 rfl rfl)
theorem dX1_of_155 : decode cX1_of 155 = .ok (.aload_n 0, 1) := dk_42 (dk_at dksX1_of_5 15 rfl rfl)
theorem dX1_of_156 : decode cX1_of 156 = .ok (.getfield 85, 3) := dk_180 0 85 (dk_at dksX1_of_5 16 rfl rfl)
theorem dX1_of_159 : decode cX1_of 159 = .ok (.invokevirtual 171, 3) := dk_182 0 171 (dk_at dksX1_of_5 19 rfl rfl)
theorem dX1_of_162 : decode cX1_of 162 = .ok (.ireturn, 1) := dk_172 (dk_at dksX1_of_5 22 rfl rfl)
theorem dX1_of_163 : decode cX1_of 163 = .ok (.aload_n 0, 1) := dk_42 (dk_at dksX1_of_5 23 rfl rfl)
theorem dX1_of_164 : decode cX1_of 164 = .ok (.getfield 85, 3) := dk_180 0 85 (dk_at dksX1_of_6 0 rfl rfl)
theorem dX1_of_167 : decode cX1_of 167 = .ok (.getfield 174, 3) := dk_180 0 174 (dk_at dksX1_of_6 3 rfl rfl)
theorem dX1_of_170 : decode cX1_of 170 = .ok (.ireturn, 1) := dk_172 (dk_at dksX1_of_6 6 rfl rfl)
theorem dX1_of_171 : decode cX1_of 171 = .ok (.aload_n 0, 1) := dk_42 (dk_at dksX1_of_6 7 rfl rfl)
theorem dX1_of_172 : decode cX1_of 172 = .ok (.getfield 48, 3) := dk_180 0 48 (dk_at dksX1_of_6 8 rfl rfl)
theorem dX1_of_175 : decode cX1_of 175 = .ok (.getfield 177, 3) := dk_180 0 177 (dk_at dksX1_of_6 11 rfl rfl)
theorem dX1_of_178 : decode cX1_of 178 = .ok (.aload_n 0, 1) := dk_42 (dk_at dksX1_of_6 14 rfl rfl)
theorem dX1_of_179 : decode cX1_of 179 = .ok (.getfield 85, 3) := dk_180 0 85 (dk_at dksX1_of_6 15 rfl rfl)
theorem dX1_of_182 : decode cX1_of 182 = .ok (.getfield 180, 3) := dk_180 0 180 (dk_at dksX1_of_6 18 rfl rfl)
theorem dX1_of_185 : decode cX1_of 185 = .ok (.invokevirtual 184, 3) := dk_182 0 184 (dk_at dksX1_of_6 21 rfl rfl)
theorem dX1_of_188 : decode cX1_of 188 = .ok (.ireturn, 1) := dk_172 (dk_at dksX1_of_7 0 rfl rfl)
theorem dX1_of_189 : decode cX1_of 189 = .ok (.bipush (-2), 2) := dk_16 254 (dk_at dksX1_of_7 1 rfl rfl)
theorem dX1_of_191 : decode cX1_of 191 = .ok (.ireturn, 1) := dk_172 (dk_at dksX1_of_7 3 rfl rfl)
abbrev cX1_looks : ByteArray := prog_1_method_18_code
def yX1_looks : MethodName := ⟨RX1, "looks", "(I)V"⟩
def dkwX1_looks_0 : List UInt8 := [42, 180, 0, 85, 42, 180, 0, 48, 42, 180, 0, 75, 27, 182, 0, 13, 192, 0, 99, 182, 0, 150, 177]
abbrev dktX1_looks_0 : List UInt8 := dkwX1_looks_0 ++ []
theorem dksX1_looks_0 : cX1_looks.data.toList.drop 0 = dktX1_looks_0 := by decide +kernel
theorem dX1_looks_0 : decode cX1_looks 0 = .ok (.aload_n 0, 1) := dk_42 (dk_at dksX1_looks_0 0 rfl rfl)
theorem dX1_looks_1 : decode cX1_looks 1 = .ok (.getfield 85, 3) := dk_180 0 85 (dk_at dksX1_looks_0 1 rfl rfl)
theorem dX1_looks_4 : decode cX1_looks 4 = .ok (.aload_n 0, 1) := dk_42 (dk_at dksX1_looks_0 4 rfl rfl)
theorem dX1_looks_5 : decode cX1_looks 5 = .ok (.getfield 48, 3) := dk_180 0 48 (dk_at dksX1_looks_0 5 rfl rfl)
theorem dX1_looks_8 : decode cX1_looks 8 = .ok (.aload_n 0, 1) := dk_42 (dk_at dksX1_looks_0 8 rfl rfl)
theorem dX1_looks_9 : decode cX1_looks 9 = .ok (.getfield 75, 3) := dk_180 0 75 (dk_at dksX1_looks_0 9 rfl rfl)
theorem dX1_looks_12 : decode cX1_looks 12 = .ok (.iload_n 1, 1) := dk_27 (dk_at dksX1_looks_0 12 rfl rfl)
theorem dX1_looks_13 : decode cX1_looks 13 = .ok (.invokevirtual 13, 3) := dk_182 0 13 (dk_at dksX1_looks_0 13 rfl rfl)
theorem dX1_looks_16 : decode cX1_looks 16 = .ok (.checkcast 99, 3) := dk_192 0 99 (dk_at dksX1_looks_0 16 rfl rfl)
theorem dX1_looks_19 : decode cX1_looks 19 = .ok (.invokevirtual 150, 3) := dk_182 0 150 (dk_at dksX1_looks_0 19 rfl rfl)
theorem dX1_looks_22 : decode cX1_looks 22 = .ok (.return_, 1) := dk_177 (dk_at dksX1_looks_0 22 rfl rfl)
abbrev cX1_haveAny : ByteArray := prog_1_method_4_code
def yX1_haveAny : MethodName := ⟨RX1, "haveAny", "(Ljava/util/ArrayList;I)Z"⟩
def dkwX1_haveAny_1 : List UInt8 := [153, 0, 5, 4, 172, 132, 2, 1, 167, 255, 228, 3, 172]
abbrev dktX1_haveAny_1 : List UInt8 := dkwX1_haveAny_1 ++ []
def dkwX1_haveAny_0 : List UInt8 := [3, 61, 28, 42, 182, 0, 7, 162, 0, 26, 42, 28, 182, 0, 13, 192, 0, 17, 27, 182, 0, 19]
abbrev dktX1_haveAny_0 : List UInt8 := dkwX1_haveAny_0 ++ dktX1_haveAny_1
theorem dksX1_haveAny_0 : cX1_haveAny.data.toList.drop 0 = dktX1_haveAny_0 := by decide +kernel
theorem dksX1_haveAny_1 : cX1_haveAny.data.toList.drop 22 = dktX1_haveAny_1 := dk_seg dksX1_haveAny_0 22 rfl rfl
theorem dX1_haveAny_0 : decode cX1_haveAny 0 = .ok (.iconst 0, 1) := dk_3 (dk_at dksX1_haveAny_0 0 rfl rfl)
theorem dX1_haveAny_1 : decode cX1_haveAny 1 = .ok (.istore_n 2, 1) := dk_61 (dk_at dksX1_haveAny_0 1 rfl rfl)
theorem dX1_haveAny_2 : decode cX1_haveAny 2 = .ok (.iload_n 2, 1) := dk_28 (dk_at dksX1_haveAny_0 2 rfl rfl)
theorem dX1_haveAny_3 : decode cX1_haveAny 3 = .ok (.aload_n 0, 1) := dk_42 (dk_at dksX1_haveAny_0 3 rfl rfl)
theorem dX1_haveAny_4 : decode cX1_haveAny 4 = .ok (.invokevirtual 7, 3) := dk_182 0 7 (dk_at dksX1_haveAny_0 4 rfl rfl)
theorem dX1_haveAny_7 : decode cX1_haveAny 7 = .ok (.if_icmp .ge 26, 3) := dk_162 0 26 (dk_at dksX1_haveAny_0 7 rfl rfl)
theorem dX1_haveAny_10 : decode cX1_haveAny 10 = .ok (.aload_n 0, 1) := dk_42 (dk_at dksX1_haveAny_0 10 rfl rfl)
theorem dX1_haveAny_11 : decode cX1_haveAny 11 = .ok (.iload_n 2, 1) := dk_28 (dk_at dksX1_haveAny_0 11 rfl rfl)
theorem dX1_haveAny_12 : decode cX1_haveAny 12 = .ok (.invokevirtual 13, 3) := dk_182 0 13 (dk_at dksX1_haveAny_0 12 rfl rfl)
theorem dX1_haveAny_15 : decode cX1_haveAny 15 = .ok (.checkcast 17, 3) := dk_192 0 17 (dk_at dksX1_haveAny_0 15 rfl rfl)
theorem dX1_haveAny_18 : decode cX1_haveAny 18 = .ok (.iload_n 1, 1) := dk_27 (dk_at dksX1_haveAny_0 18 rfl rfl)
theorem dX1_haveAny_19 : decode cX1_haveAny 19 = .ok (.invokevirtual 19, 3) := dk_182 0 19 (dk_at dksX1_haveAny_0 19 rfl rfl)
theorem dX1_haveAny_22 : decode cX1_haveAny 22 = .ok (.ifCond .eq 5, 3) := dk_153 0 5 (dk_at dksX1_haveAny_1 0 rfl rfl)
theorem dX1_haveAny_25 : decode cX1_haveAny 25 = .ok (.iconst 1, 1) := dk_4 (dk_at dksX1_haveAny_1 3 rfl rfl)
theorem dX1_haveAny_26 : decode cX1_haveAny 26 = .ok (.ireturn, 1) := dk_172 (dk_at dksX1_haveAny_1 4 rfl rfl)
theorem dX1_haveAny_27 : decode cX1_haveAny 27 = .ok (.iinc 2 1, 3) := dk_132 2 1 (dk_at dksX1_haveAny_1 5 rfl rfl)
theorem dX1_haveAny_30 : decode cX1_haveAny 30 = .ok (.goto (-28), 3) := dk_167 255 228 (dk_at dksX1_haveAny_1 8 rfl rfl)
theorem dX1_haveAny_33 : decode cX1_haveAny 33 = .ok (.iconst 0, 1) := dk_3 (dk_at dksX1_haveAny_1 11 rfl rfl)
theorem dX1_haveAny_34 : decode cX1_haveAny 34 = .ok (.ireturn, 1) := dk_172 (dk_at dksX1_haveAny_1 12 rfl rfl)
abbrev cX1_way : ByteArray := prog_1_method_21_code
def yX1_way : MethodName := ⟨RX1, "way", "(II)I"⟩
def dkwX1_way_2 : List UInt8 := [172]
abbrev dktX1_way_2 : List UInt8 := dkwX1_way_2 ++ []
def dkwX1_way_1 : List UInt8 := [4, 100, 184, 0, 3, 153, 0, 18, 42, 180, 0, 85, 180, 0, 194, 28, 123, 10, 127, 136, 167, 0, 4, 2]
abbrev dktX1_way_1 : List UInt8 := dkwX1_way_1 ++ dktX1_way_2
def dkwX1_way_0 : List UInt8 := [42, 27, 182, 0, 115, 154, 0, 5, 2, 172, 42, 27, 182, 0, 154, 28, 3, 42, 180, 0, 85, 180, 0, 174]
abbrev dktX1_way_0 : List UInt8 := dkwX1_way_0 ++ dktX1_way_1
theorem dksX1_way_0 : cX1_way.data.toList.drop 0 = dktX1_way_0 := by decide +kernel
theorem dksX1_way_1 : cX1_way.data.toList.drop 24 = dktX1_way_1 := dk_seg dksX1_way_0 24 rfl rfl
theorem dksX1_way_2 : cX1_way.data.toList.drop 48 = dktX1_way_2 := dk_seg dksX1_way_1 24 rfl rfl
theorem dX1_way_0 : decode cX1_way 0 = .ok (.aload_n 0, 1) := dk_42 (dk_at dksX1_way_0 0 rfl rfl)
theorem dX1_way_1 : decode cX1_way 1 = .ok (.iload_n 1, 1) := dk_27 (dk_at dksX1_way_0 1 rfl rfl)
theorem dX1_way_2 : decode cX1_way 2 = .ok (.invokevirtual 115, 3) := dk_182 0 115 (dk_at dksX1_way_0 2 rfl rfl)
theorem dX1_way_5 : decode cX1_way 5 = .ok (.ifCond .ne 5, 3) := dk_154 0 5 (dk_at dksX1_way_0 5 rfl rfl)
theorem dX1_way_8 : decode cX1_way 8 = .ok (.iconst (-1), 1) := dk_2 (dk_at dksX1_way_0 8 rfl rfl)
theorem dX1_way_9 : decode cX1_way 9 = .ok (.ireturn, 1) := dk_172 (dk_at dksX1_way_0 9 rfl rfl)
theorem dX1_way_10 : decode cX1_way 10 = .ok (.aload_n 0, 1) := dk_42 (dk_at dksX1_way_0 10 rfl rfl)
theorem dX1_way_11 : decode cX1_way 11 = .ok (.iload_n 1, 1) := dk_27 (dk_at dksX1_way_0 11 rfl rfl)
theorem dX1_way_12 : decode cX1_way 12 = .ok (.invokevirtual 154, 3) := dk_182 0 154 (dk_at dksX1_way_0 12 rfl rfl)
theorem dX1_way_15 : decode cX1_way 15 = .ok (.iload_n 2, 1) := dk_28 (dk_at dksX1_way_0 15 rfl rfl)
theorem dX1_way_16 : decode cX1_way 16 = .ok (.iconst 0, 1) := dk_3 (dk_at dksX1_way_0 16 rfl rfl)
theorem dX1_way_17 : decode cX1_way 17 = .ok (.aload_n 0, 1) := dk_42 (dk_at dksX1_way_0 17 rfl rfl)
theorem dX1_way_18 : decode cX1_way 18 = .ok (.getfield 85, 3) := dk_180 0 85 (dk_at dksX1_way_0 18 rfl rfl)
theorem dX1_way_21 : decode cX1_way 21 = .ok (.getfield 174, 3) := dk_180 0 174 (dk_at dksX1_way_0 21 rfl rfl)
theorem dX1_way_24 : decode cX1_way 24 = .ok (.iconst 1, 1) := dk_4 (dk_at dksX1_way_1 0 rfl rfl)
theorem dX1_way_25 : decode cX1_way 25 = .ok (.isub, 1) := dk_100 (dk_at dksX1_way_1 1 rfl rfl)
theorem dX1_way_26 : decode cX1_way 26 = .ok (.invokestatic 3, 3) := dk_184 0 3 (dk_at dksX1_way_1 2 rfl rfl)
theorem dX1_way_29 : decode cX1_way 29 = .ok (.ifCond .eq 18, 3) := dk_153 0 18 (dk_at dksX1_way_1 5 rfl rfl)
theorem dX1_way_32 : decode cX1_way 32 = .ok (.aload_n 0, 1) := dk_42 (dk_at dksX1_way_1 8 rfl rfl)
theorem dX1_way_33 : decode cX1_way 33 = .ok (.getfield 85, 3) := dk_180 0 85 (dk_at dksX1_way_1 9 rfl rfl)
theorem dX1_way_36 : decode cX1_way 36 = .ok (.getfield 194, 3) := dk_180 0 194 (dk_at dksX1_way_1 12 rfl rfl)
theorem dX1_way_39 : decode cX1_way 39 = .ok (.iload_n 2, 1) := dk_28 (dk_at dksX1_way_1 15 rfl rfl)
theorem dX1_way_40 : decode cX1_way 40 = .ok (.lshr, 1) := dk_123 (dk_at dksX1_way_1 16 rfl rfl)
theorem dX1_way_41 : decode cX1_way 41 = .ok (.lconst 1, 1) := dk_10 (dk_at dksX1_way_1 17 rfl rfl)
theorem dX1_way_42 : decode cX1_way 42 = .ok (.land, 1) := dk_127 (dk_at dksX1_way_1 18 rfl rfl)
theorem dX1_way_43 : decode cX1_way 43 = .ok (.l2i, 1) := dk_136 (dk_at dksX1_way_1 19 rfl rfl)
theorem dX1_way_44 : decode cX1_way 44 = .ok (.goto 4, 3) := dk_167 0 4 (dk_at dksX1_way_1 20 rfl rfl)
theorem dX1_way_47 : decode cX1_way 47 = .ok (.iconst (-1), 1) := dk_2 (dk_at dksX1_way_1 23 rfl rfl)
theorem dX1_way_48 : decode cX1_way 48 = .ok (.ireturn, 1) := dk_172 (dk_at dksX1_way_2 0 rfl rfl)
abbrev cX1_partner : ByteArray := prog_1_method_22_code
def yX1_partner : MethodName := ⟨RX1, "partner", "(III)I"⟩
def dkwX1_partner_3 : List UInt8 := [180, 0, 85, 28, 21, 4, 182, 0, 202, 153, 0, 7, 4, 167, 0, 4, 3, 172]
abbrev dktX1_partner_3 : List UInt8 := dkwX1_partner_3 ++ []
def dkwX1_partner_2 : List UInt8 := [182, 0, 154, 42, 180, 0, 85, 28, 182, 0, 198, 54, 4, 29, 154, 0, 8, 21, 4, 167, 0, 21, 42]
abbrev dktX1_partner_2 : List UInt8 := dkwX1_partner_2 ++ dktX1_partner_3
def dkwX1_partner_1 : List UInt8 := [182, 0, 13, 192, 0, 99, 180, 0, 132, 28, 184, 0, 135, 182, 0, 141, 154, 0, 5, 2, 172, 42, 27]
abbrev dktX1_partner_1 : List UInt8 := dkwX1_partner_1 ++ dktX1_partner_2
def dkwX1_partner_0 : List UInt8 := [42, 27, 182, 0, 115, 153, 0, 36, 29, 3, 4, 184, 0, 3, 153, 0, 27, 42, 180, 0, 75, 27]
abbrev dktX1_partner_0 : List UInt8 := dkwX1_partner_0 ++ dktX1_partner_1
theorem dksX1_partner_0 : cX1_partner.data.toList.drop 0 = dktX1_partner_0 := by decide +kernel
theorem dksX1_partner_1 : cX1_partner.data.toList.drop 22 = dktX1_partner_1 := dk_seg dksX1_partner_0 22 rfl rfl
theorem dksX1_partner_2 : cX1_partner.data.toList.drop 45 = dktX1_partner_2 := dk_seg dksX1_partner_1 23 rfl rfl
theorem dksX1_partner_3 : cX1_partner.data.toList.drop 68 = dktX1_partner_3 := dk_seg dksX1_partner_2 23 rfl rfl
theorem dX1_partner_0 : decode cX1_partner 0 = .ok (.aload_n 0, 1) := dk_42 (dk_at dksX1_partner_0 0 rfl rfl)
theorem dX1_partner_1 : decode cX1_partner 1 = .ok (.iload_n 1, 1) := dk_27 (dk_at dksX1_partner_0 1 rfl rfl)
theorem dX1_partner_2 : decode cX1_partner 2 = .ok (.invokevirtual 115, 3) := dk_182 0 115 (dk_at dksX1_partner_0 2 rfl rfl)
theorem dX1_partner_5 : decode cX1_partner 5 = .ok (.ifCond .eq 36, 3) := dk_153 0 36 (dk_at dksX1_partner_0 5 rfl rfl)
theorem dX1_partner_8 : decode cX1_partner 8 = .ok (.iload_n 3, 1) := dk_29 (dk_at dksX1_partner_0 8 rfl rfl)
theorem dX1_partner_9 : decode cX1_partner 9 = .ok (.iconst 0, 1) := dk_3 (dk_at dksX1_partner_0 9 rfl rfl)
theorem dX1_partner_10 : decode cX1_partner 10 = .ok (.iconst 1, 1) := dk_4 (dk_at dksX1_partner_0 10 rfl rfl)
theorem dX1_partner_11 : decode cX1_partner 11 = .ok (.invokestatic 3, 3) := dk_184 0 3 (dk_at dksX1_partner_0 11 rfl rfl)
theorem dX1_partner_14 : decode cX1_partner 14 = .ok (.ifCond .eq 27, 3) := dk_153 0 27 (dk_at dksX1_partner_0 14 rfl rfl)
theorem dX1_partner_17 : decode cX1_partner 17 = .ok (.aload_n 0, 1) := dk_42 (dk_at dksX1_partner_0 17 rfl rfl)
theorem dX1_partner_18 : decode cX1_partner 18 = .ok (.getfield 75, 3) := dk_180 0 75 (dk_at dksX1_partner_0 18 rfl rfl)
theorem dX1_partner_21 : decode cX1_partner 21 = .ok (.iload_n 1, 1) := dk_27 (dk_at dksX1_partner_0 21 rfl rfl)
theorem dX1_partner_22 : decode cX1_partner 22 = .ok (.invokevirtual 13, 3) := dk_182 0 13 (dk_at dksX1_partner_1 0 rfl rfl)
theorem dX1_partner_25 : decode cX1_partner 25 = .ok (.checkcast 99, 3) := dk_192 0 99 (dk_at dksX1_partner_1 3 rfl rfl)
theorem dX1_partner_28 : decode cX1_partner 28 = .ok (.getfield 132, 3) := dk_180 0 132 (dk_at dksX1_partner_1 6 rfl rfl)
theorem dX1_partner_31 : decode cX1_partner 31 = .ok (.iload_n 2, 1) := dk_28 (dk_at dksX1_partner_1 9 rfl rfl)
theorem dX1_partner_32 : decode cX1_partner 32 = .ok (.invokestatic 135, 3) := dk_184 0 135 (dk_at dksX1_partner_1 10 rfl rfl)
theorem dX1_partner_35 : decode cX1_partner 35 = .ok (.invokevirtual 141, 3) := dk_182 0 141 (dk_at dksX1_partner_1 13 rfl rfl)
theorem dX1_partner_38 : decode cX1_partner 38 = .ok (.ifCond .ne 5, 3) := dk_154 0 5 (dk_at dksX1_partner_1 16 rfl rfl)
theorem dX1_partner_41 : decode cX1_partner 41 = .ok (.iconst (-1), 1) := dk_2 (dk_at dksX1_partner_1 19 rfl rfl)
theorem dX1_partner_42 : decode cX1_partner 42 = .ok (.ireturn, 1) := dk_172 (dk_at dksX1_partner_1 20 rfl rfl)
theorem dX1_partner_43 : decode cX1_partner 43 = .ok (.aload_n 0, 1) := dk_42 (dk_at dksX1_partner_1 21 rfl rfl)
theorem dX1_partner_44 : decode cX1_partner 44 = .ok (.iload_n 1, 1) := dk_27 (dk_at dksX1_partner_1 22 rfl rfl)
theorem dX1_partner_45 : decode cX1_partner 45 = .ok (.invokevirtual 154, 3) := dk_182 0 154 (dk_at dksX1_partner_2 0 rfl rfl)
theorem dX1_partner_48 : decode cX1_partner 48 = .ok (.aload_n 0, 1) := dk_42 (dk_at dksX1_partner_2 3 rfl rfl)
theorem dX1_partner_49 : decode cX1_partner 49 = .ok (.getfield 85, 3) := dk_180 0 85 (dk_at dksX1_partner_2 4 rfl rfl)
theorem dX1_partner_52 : decode cX1_partner 52 = .ok (.iload_n 2, 1) := dk_28 (dk_at dksX1_partner_2 7 rfl rfl)
theorem dX1_partner_53 : decode cX1_partner 53 = .ok (.invokevirtual 198, 3) := dk_182 0 198 (dk_at dksX1_partner_2 8 rfl rfl)
theorem dX1_partner_56 : decode cX1_partner 56 = .ok (.istore 4, 2) := dk_54 4 (dk_at dksX1_partner_2 11 rfl rfl)
theorem dX1_partner_58 : decode cX1_partner 58 = .ok (.iload_n 3, 1) := dk_29 (dk_at dksX1_partner_2 13 rfl rfl)
theorem dX1_partner_59 : decode cX1_partner 59 = .ok (.ifCond .ne 8, 3) := dk_154 0 8 (dk_at dksX1_partner_2 14 rfl rfl)
theorem dX1_partner_62 : decode cX1_partner 62 = .ok (.iload 4, 2) := dk_21 4 (dk_at dksX1_partner_2 17 rfl rfl)
theorem dX1_partner_64 : decode cX1_partner 64 = .ok (.goto 21, 3) := dk_167 0 21 (dk_at dksX1_partner_2 19 rfl rfl)
theorem dX1_partner_67 : decode cX1_partner 67 = .ok (.aload_n 0, 1) := dk_42 (dk_at dksX1_partner_2 22 rfl rfl)
theorem dX1_partner_68 : decode cX1_partner 68 = .ok (.getfield 85, 3) := dk_180 0 85 (dk_at dksX1_partner_3 0 rfl rfl)
theorem dX1_partner_71 : decode cX1_partner 71 = .ok (.iload_n 2, 1) := dk_28 (dk_at dksX1_partner_3 3 rfl rfl)
theorem dX1_partner_72 : decode cX1_partner 72 = .ok (.iload 4, 2) := dk_21 4 (dk_at dksX1_partner_3 4 rfl rfl)
theorem dX1_partner_74 : decode cX1_partner 74 = .ok (.invokevirtual 202, 3) := dk_182 0 202 (dk_at dksX1_partner_3 6 rfl rfl)
theorem dX1_partner_77 : decode cX1_partner 77 = .ok (.ifCond .eq 7, 3) := dk_153 0 7 (dk_at dksX1_partner_3 9 rfl rfl)
theorem dX1_partner_80 : decode cX1_partner 80 = .ok (.iconst 1, 1) := dk_4 (dk_at dksX1_partner_3 12 rfl rfl)
theorem dX1_partner_81 : decode cX1_partner 81 = .ok (.goto 4, 3) := dk_167 0 4 (dk_at dksX1_partner_3 13 rfl rfl)
theorem dX1_partner_84 : decode cX1_partner 84 = .ok (.iconst 0, 1) := dk_3 (dk_at dksX1_partner_3 16 rfl rfl)
theorem dX1_partner_85 : decode cX1_partner 85 = .ok (.ireturn, 1) := dk_172 (dk_at dksX1_partner_3 17 rfl rfl)
abbrev cX1_with : ByteArray := prog_1_method_23_code
def yX1_with : MethodName := ⟨RX1, "with", "(II)I"⟩
def dkwX1_with_2 : List UInt8 := [27, 182, 0, 154, 45, 28, 182, 0, 129, 54, 4, 42, 180, 0, 85, 182, 0, 168, 172]
abbrev dktX1_with_2 : List UInt8 := dkwX1_with_2 ++ []
def dkwX1_with_1 : List UInt8 := [154, 0, 6, 16, 254, 172, 42, 180, 0, 75, 27, 182, 0, 13, 192, 0, 99, 78, 45, 28, 182, 0, 121, 42]
abbrev dktX1_with_1 : List UInt8 := dkwX1_with_1 ++ dktX1_with_2
def dkwX1_with_0 : List UInt8 := [42, 27, 182, 0, 115, 153, 0, 21, 42, 180, 0, 75, 27, 182, 0, 13, 192, 0, 99, 28, 182, 0, 118]
abbrev dktX1_with_0 : List UInt8 := dkwX1_with_0 ++ dktX1_with_1
theorem dksX1_with_0 : cX1_with.data.toList.drop 0 = dktX1_with_0 := by decide +kernel
theorem dksX1_with_1 : cX1_with.data.toList.drop 23 = dktX1_with_1 := dk_seg dksX1_with_0 23 rfl rfl
theorem dksX1_with_2 : cX1_with.data.toList.drop 47 = dktX1_with_2 := dk_seg dksX1_with_1 24 rfl rfl
theorem dX1_with_0 : decode cX1_with 0 = .ok (.aload_n 0, 1) := dk_42 (dk_at dksX1_with_0 0 rfl rfl)
theorem dX1_with_1 : decode cX1_with 1 = .ok (.iload_n 1, 1) := dk_27 (dk_at dksX1_with_0 1 rfl rfl)
theorem dX1_with_2 : decode cX1_with 2 = .ok (.invokevirtual 115, 3) := dk_182 0 115 (dk_at dksX1_with_0 2 rfl rfl)
theorem dX1_with_5 : decode cX1_with 5 = .ok (.ifCond .eq 21, 3) := dk_153 0 21 (dk_at dksX1_with_0 5 rfl rfl)
theorem dX1_with_8 : decode cX1_with 8 = .ok (.aload_n 0, 1) := dk_42 (dk_at dksX1_with_0 8 rfl rfl)
theorem dX1_with_9 : decode cX1_with 9 = .ok (.getfield 75, 3) := dk_180 0 75 (dk_at dksX1_with_0 9 rfl rfl)
theorem dX1_with_12 : decode cX1_with 12 = .ok (.iload_n 1, 1) := dk_27 (dk_at dksX1_with_0 12 rfl rfl)
theorem dX1_with_13 : decode cX1_with 13 = .ok (.invokevirtual 13, 3) := dk_182 0 13 (dk_at dksX1_with_0 13 rfl rfl)
theorem dX1_with_16 : decode cX1_with 16 = .ok (.checkcast 99, 3) := dk_192 0 99 (dk_at dksX1_with_0 16 rfl rfl)
theorem dX1_with_19 : decode cX1_with 19 = .ok (.iload_n 2, 1) := dk_28 (dk_at dksX1_with_0 19 rfl rfl)
theorem dX1_with_20 : decode cX1_with 20 = .ok (.invokevirtual 118, 3) := dk_182 0 118 (dk_at dksX1_with_0 20 rfl rfl)
theorem dX1_with_23 : decode cX1_with 23 = .ok (.ifCond .ne 6, 3) := dk_154 0 6 (dk_at dksX1_with_1 0 rfl rfl)
theorem dX1_with_26 : decode cX1_with 26 = .ok (.bipush (-2), 2) := dk_16 254 (dk_at dksX1_with_1 3 rfl rfl)
theorem dX1_with_28 : decode cX1_with 28 = .ok (.ireturn, 1) := dk_172 (dk_at dksX1_with_1 5 rfl rfl)
theorem dX1_with_29 : decode cX1_with 29 = .ok (.aload_n 0, 1) := dk_42 (dk_at dksX1_with_1 6 rfl rfl)
theorem dX1_with_30 : decode cX1_with 30 = .ok (.getfield 75, 3) := dk_180 0 75 (dk_at dksX1_with_1 7 rfl rfl)
theorem dX1_with_33 : decode cX1_with 33 = .ok (.iload_n 1, 1) := dk_27 (dk_at dksX1_with_1 10 rfl rfl)
theorem dX1_with_34 : decode cX1_with 34 = .ok (.invokevirtual 13, 3) := dk_182 0 13 (dk_at dksX1_with_1 11 rfl rfl)
theorem dX1_with_37 : decode cX1_with 37 = .ok (.checkcast 99, 3) := dk_192 0 99 (dk_at dksX1_with_1 14 rfl rfl)
theorem dX1_with_40 : decode cX1_with 40 = .ok (.astore_n 3, 1) := dk_78 (dk_at dksX1_with_1 17 rfl rfl)
theorem dX1_with_41 : decode cX1_with 41 = .ok (.aload_n 3, 1) := dk_45 (dk_at dksX1_with_1 18 rfl rfl)
theorem dX1_with_42 : decode cX1_with 42 = .ok (.iload_n 2, 1) := dk_28 (dk_at dksX1_with_1 19 rfl rfl)
theorem dX1_with_43 : decode cX1_with 43 = .ok (.invokevirtual 121, 3) := dk_182 0 121 (dk_at dksX1_with_1 20 rfl rfl)
theorem dX1_with_46 : decode cX1_with 46 = .ok (.aload_n 0, 1) := dk_42 (dk_at dksX1_with_1 23 rfl rfl)
theorem dX1_with_47 : decode cX1_with 47 = .ok (.iload_n 1, 1) := dk_27 (dk_at dksX1_with_2 0 rfl rfl)
theorem dX1_with_48 : decode cX1_with 48 = .ok (.invokevirtual 154, 3) := dk_182 0 154 (dk_at dksX1_with_2 1 rfl rfl)
theorem dX1_with_51 : decode cX1_with 51 = .ok (.aload_n 3, 1) := dk_45 (dk_at dksX1_with_2 4 rfl rfl)
theorem dX1_with_52 : decode cX1_with 52 = .ok (.iload_n 2, 1) := dk_28 (dk_at dksX1_with_2 5 rfl rfl)
theorem dX1_with_53 : decode cX1_with 53 = .ok (.invokevirtual 129, 3) := dk_182 0 129 (dk_at dksX1_with_2 6 rfl rfl)
theorem dX1_with_56 : decode cX1_with 56 = .ok (.istore 4, 2) := dk_54 4 (dk_at dksX1_with_2 9 rfl rfl)
theorem dX1_with_58 : decode cX1_with 58 = .ok (.aload_n 0, 1) := dk_42 (dk_at dksX1_with_2 11 rfl rfl)
theorem dX1_with_59 : decode cX1_with 59 = .ok (.getfield 85, 3) := dk_180 0 85 (dk_at dksX1_with_2 12 rfl rfl)
theorem dX1_with_62 : decode cX1_with 62 = .ok (.invokevirtual 168, 3) := dk_182 0 168 (dk_at dksX1_with_2 15 rfl rfl)
theorem dX1_with_65 : decode cX1_with 65 = .ok (.ireturn, 1) := dk_172 (dk_at dksX1_with_2 18 rfl rfl)
abbrev cX1_without : ByteArray := prog_1_method_24_code
def yX1_without : MethodName := ⟨RX1, "without", "(II)I"⟩
def dkwX1_without_2 : List UInt8 := [182, 0, 121, 42, 180, 0, 85, 182, 0, 168, 172]
abbrev dktX1_without_2 : List UInt8 := dkwX1_without_2 ++ []
def dkwX1_without_1 : List UInt8 := [154, 0, 6, 16, 254, 172, 42, 27, 182, 0, 154, 42, 180, 0, 75, 27, 182, 0, 13, 192, 0, 99, 28]
abbrev dktX1_without_1 : List UInt8 := dkwX1_without_1 ++ dktX1_without_2
def dkwX1_without_0 : List UInt8 := [42, 27, 182, 0, 115, 153, 0, 21, 42, 180, 0, 75, 27, 182, 0, 13, 192, 0, 99, 28, 182, 0, 129]
abbrev dktX1_without_0 : List UInt8 := dkwX1_without_0 ++ dktX1_without_1
theorem dksX1_without_0 : cX1_without.data.toList.drop 0 = dktX1_without_0 := by decide +kernel
theorem dksX1_without_1 : cX1_without.data.toList.drop 23 = dktX1_without_1 := dk_seg dksX1_without_0 23 rfl rfl
theorem dksX1_without_2 : cX1_without.data.toList.drop 46 = dktX1_without_2 := dk_seg dksX1_without_1 23 rfl rfl
theorem dX1_without_0 : decode cX1_without 0 = .ok (.aload_n 0, 1) := dk_42 (dk_at dksX1_without_0 0 rfl rfl)
theorem dX1_without_1 : decode cX1_without 1 = .ok (.iload_n 1, 1) := dk_27 (dk_at dksX1_without_0 1 rfl rfl)
theorem dX1_without_2 : decode cX1_without 2 = .ok (.invokevirtual 115, 3) := dk_182 0 115 (dk_at dksX1_without_0 2 rfl rfl)
theorem dX1_without_5 : decode cX1_without 5 = .ok (.ifCond .eq 21, 3) := dk_153 0 21 (dk_at dksX1_without_0 5 rfl rfl)
theorem dX1_without_8 : decode cX1_without 8 = .ok (.aload_n 0, 1) := dk_42 (dk_at dksX1_without_0 8 rfl rfl)
theorem dX1_without_9 : decode cX1_without 9 = .ok (.getfield 75, 3) := dk_180 0 75 (dk_at dksX1_without_0 9 rfl rfl)
theorem dX1_without_12 : decode cX1_without 12 = .ok (.iload_n 1, 1) := dk_27 (dk_at dksX1_without_0 12 rfl rfl)
theorem dX1_without_13 : decode cX1_without 13 = .ok (.invokevirtual 13, 3) := dk_182 0 13 (dk_at dksX1_without_0 13 rfl rfl)
theorem dX1_without_16 : decode cX1_without 16 = .ok (.checkcast 99, 3) := dk_192 0 99 (dk_at dksX1_without_0 16 rfl rfl)
theorem dX1_without_19 : decode cX1_without 19 = .ok (.iload_n 2, 1) := dk_28 (dk_at dksX1_without_0 19 rfl rfl)
theorem dX1_without_20 : decode cX1_without 20 = .ok (.invokevirtual 129, 3) := dk_182 0 129 (dk_at dksX1_without_0 20 rfl rfl)
theorem dX1_without_23 : decode cX1_without 23 = .ok (.ifCond .ne 6, 3) := dk_154 0 6 (dk_at dksX1_without_1 0 rfl rfl)
theorem dX1_without_26 : decode cX1_without 26 = .ok (.bipush (-2), 2) := dk_16 254 (dk_at dksX1_without_1 3 rfl rfl)
theorem dX1_without_28 : decode cX1_without 28 = .ok (.ireturn, 1) := dk_172 (dk_at dksX1_without_1 5 rfl rfl)
theorem dX1_without_29 : decode cX1_without 29 = .ok (.aload_n 0, 1) := dk_42 (dk_at dksX1_without_1 6 rfl rfl)
theorem dX1_without_30 : decode cX1_without 30 = .ok (.iload_n 1, 1) := dk_27 (dk_at dksX1_without_1 7 rfl rfl)
theorem dX1_without_31 : decode cX1_without 31 = .ok (.invokevirtual 154, 3) := dk_182 0 154 (dk_at dksX1_without_1 8 rfl rfl)
theorem dX1_without_34 : decode cX1_without 34 = .ok (.aload_n 0, 1) := dk_42 (dk_at dksX1_without_1 11 rfl rfl)
theorem dX1_without_35 : decode cX1_without 35 = .ok (.getfield 75, 3) := dk_180 0 75 (dk_at dksX1_without_1 12 rfl rfl)
theorem dX1_without_38 : decode cX1_without 38 = .ok (.iload_n 1, 1) := dk_27 (dk_at dksX1_without_1 15 rfl rfl)
theorem dX1_without_39 : decode cX1_without 39 = .ok (.invokevirtual 13, 3) := dk_182 0 13 (dk_at dksX1_without_1 16 rfl rfl)
theorem dX1_without_42 : decode cX1_without 42 = .ok (.checkcast 99, 3) := dk_192 0 99 (dk_at dksX1_without_1 19 rfl rfl)
theorem dX1_without_45 : decode cX1_without 45 = .ok (.iload_n 2, 1) := dk_28 (dk_at dksX1_without_1 22 rfl rfl)
theorem dX1_without_46 : decode cX1_without 46 = .ok (.invokevirtual 121, 3) := dk_182 0 121 (dk_at dksX1_without_2 0 rfl rfl)
theorem dX1_without_49 : decode cX1_without 49 = .ok (.aload_n 0, 1) := dk_42 (dk_at dksX1_without_2 3 rfl rfl)
theorem dX1_without_50 : decode cX1_without 50 = .ok (.getfield 85, 3) := dk_180 0 85 (dk_at dksX1_without_2 4 rfl rfl)
theorem dX1_without_53 : decode cX1_without 53 = .ok (.invokevirtual 168, 3) := dk_182 0 168 (dk_at dksX1_without_2 7 rfl rfl)
theorem dX1_without_56 : decode cX1_without 56 = .ok (.ireturn, 1) := dk_172 (dk_at dksX1_without_2 10 rfl rfl)
abbrev cX1_matters : ByteArray := prog_1_method_25_code
def yX1_matters : MethodName := ⟨RX1, "matters", "(I)I"⟩
def dkwX1_matters_3 : List UInt8 := [159, 0, 10, 4, 21, 4, 120, 167, 0, 4, 3, 128, 62, 132, 4, 1, 167, 255, 198, 29, 172]
abbrev dktX1_matters_3 : List UInt8 := dkwX1_matters_3 ++ []
def dkwX1_matters_2 : List UInt8 := [42, 27, 42, 180, 0, 75, 27, 182, 0, 13, 192, 0, 99, 21, 4, 182, 0, 208, 182, 0, 211, 28]
abbrev dktX1_matters_2 : List UInt8 := dkwX1_matters_2 ++ dktX1_matters_3
def dkwX1_matters_1 : List UInt8 := [62, 3, 54, 4, 21, 4, 42, 180, 0, 75, 27, 182, 0, 13, 192, 0, 99, 182, 0, 205, 162, 0, 45, 29]
abbrev dktX1_matters_1 : List UInt8 := dkwX1_matters_1 ++ dktX1_matters_2
def dkwX1_matters_0 : List UInt8 := [42, 27, 182, 0, 115, 154, 0, 5, 2, 172, 42, 27, 182, 0, 154, 42, 180, 0, 85, 182, 0, 168, 61, 3]
abbrev dktX1_matters_0 : List UInt8 := dkwX1_matters_0 ++ dktX1_matters_1
theorem dksX1_matters_0 : cX1_matters.data.toList.drop 0 = dktX1_matters_0 := by decide +kernel
theorem dksX1_matters_1 : cX1_matters.data.toList.drop 24 = dktX1_matters_1 := dk_seg dksX1_matters_0 24 rfl rfl
theorem dksX1_matters_2 : cX1_matters.data.toList.drop 48 = dktX1_matters_2 := dk_seg dksX1_matters_1 24 rfl rfl
theorem dksX1_matters_3 : cX1_matters.data.toList.drop 70 = dktX1_matters_3 := dk_seg dksX1_matters_2 22 rfl rfl
theorem dX1_matters_0 : decode cX1_matters 0 = .ok (.aload_n 0, 1) := dk_42 (dk_at dksX1_matters_0 0 rfl rfl)
theorem dX1_matters_1 : decode cX1_matters 1 = .ok (.iload_n 1, 1) := dk_27 (dk_at dksX1_matters_0 1 rfl rfl)
theorem dX1_matters_2 : decode cX1_matters 2 = .ok (.invokevirtual 115, 3) := dk_182 0 115 (dk_at dksX1_matters_0 2 rfl rfl)
theorem dX1_matters_5 : decode cX1_matters 5 = .ok (.ifCond .ne 5, 3) := dk_154 0 5 (dk_at dksX1_matters_0 5 rfl rfl)
theorem dX1_matters_8 : decode cX1_matters 8 = .ok (.iconst (-1), 1) := dk_2 (dk_at dksX1_matters_0 8 rfl rfl)
theorem dX1_matters_9 : decode cX1_matters 9 = .ok (.ireturn, 1) := dk_172 (dk_at dksX1_matters_0 9 rfl rfl)
theorem dX1_matters_10 : decode cX1_matters 10 = .ok (.aload_n 0, 1) := dk_42 (dk_at dksX1_matters_0 10 rfl rfl)
theorem dX1_matters_11 : decode cX1_matters 11 = .ok (.iload_n 1, 1) := dk_27 (dk_at dksX1_matters_0 11 rfl rfl)
theorem dX1_matters_12 : decode cX1_matters 12 = .ok (.invokevirtual 154, 3) := dk_182 0 154 (dk_at dksX1_matters_0 12 rfl rfl)
theorem dX1_matters_15 : decode cX1_matters 15 = .ok (.aload_n 0, 1) := dk_42 (dk_at dksX1_matters_0 15 rfl rfl)
theorem dX1_matters_16 : decode cX1_matters 16 = .ok (.getfield 85, 3) := dk_180 0 85 (dk_at dksX1_matters_0 16 rfl rfl)
theorem dX1_matters_19 : decode cX1_matters 19 = .ok (.invokevirtual 168, 3) := dk_182 0 168 (dk_at dksX1_matters_0 19 rfl rfl)
theorem dX1_matters_22 : decode cX1_matters 22 = .ok (.istore_n 2, 1) := dk_61 (dk_at dksX1_matters_0 22 rfl rfl)
theorem dX1_matters_23 : decode cX1_matters 23 = .ok (.iconst 0, 1) := dk_3 (dk_at dksX1_matters_0 23 rfl rfl)
theorem dX1_matters_24 : decode cX1_matters 24 = .ok (.istore_n 3, 1) := dk_62 (dk_at dksX1_matters_1 0 rfl rfl)
theorem dX1_matters_25 : decode cX1_matters 25 = .ok (.iconst 0, 1) := dk_3 (dk_at dksX1_matters_1 1 rfl rfl)
theorem dX1_matters_26 : decode cX1_matters 26 = .ok (.istore 4, 2) := dk_54 4 (dk_at dksX1_matters_1 2 rfl rfl)
theorem dX1_matters_28 : decode cX1_matters 28 = .ok (.iload 4, 2) := dk_21 4 (dk_at dksX1_matters_1 4 rfl rfl)
theorem dX1_matters_30 : decode cX1_matters 30 = .ok (.aload_n 0, 1) := dk_42 (dk_at dksX1_matters_1 6 rfl rfl)
theorem dX1_matters_31 : decode cX1_matters 31 = .ok (.getfield 75, 3) := dk_180 0 75 (dk_at dksX1_matters_1 7 rfl rfl)
theorem dX1_matters_34 : decode cX1_matters 34 = .ok (.iload_n 1, 1) := dk_27 (dk_at dksX1_matters_1 10 rfl rfl)
theorem dX1_matters_35 : decode cX1_matters 35 = .ok (.invokevirtual 13, 3) := dk_182 0 13 (dk_at dksX1_matters_1 11 rfl rfl)
theorem dX1_matters_38 : decode cX1_matters 38 = .ok (.checkcast 99, 3) := dk_192 0 99 (dk_at dksX1_matters_1 14 rfl rfl)
theorem dX1_matters_41 : decode cX1_matters 41 = .ok (.invokevirtual 205, 3) := dk_182 0 205 (dk_at dksX1_matters_1 17 rfl rfl)
theorem dX1_matters_44 : decode cX1_matters 44 = .ok (.if_icmp .ge 45, 3) := dk_162 0 45 (dk_at dksX1_matters_1 20 rfl rfl)
theorem dX1_matters_47 : decode cX1_matters 47 = .ok (.iload_n 3, 1) := dk_29 (dk_at dksX1_matters_1 23 rfl rfl)
theorem dX1_matters_48 : decode cX1_matters 48 = .ok (.aload_n 0, 1) := dk_42 (dk_at dksX1_matters_2 0 rfl rfl)
theorem dX1_matters_49 : decode cX1_matters 49 = .ok (.iload_n 1, 1) := dk_27 (dk_at dksX1_matters_2 1 rfl rfl)
theorem dX1_matters_50 : decode cX1_matters 50 = .ok (.aload_n 0, 1) := dk_42 (dk_at dksX1_matters_2 2 rfl rfl)
theorem dX1_matters_51 : decode cX1_matters 51 = .ok (.getfield 75, 3) := dk_180 0 75 (dk_at dksX1_matters_2 3 rfl rfl)
theorem dX1_matters_54 : decode cX1_matters 54 = .ok (.iload_n 1, 1) := dk_27 (dk_at dksX1_matters_2 6 rfl rfl)
theorem dX1_matters_55 : decode cX1_matters 55 = .ok (.invokevirtual 13, 3) := dk_182 0 13 (dk_at dksX1_matters_2 7 rfl rfl)
theorem dX1_matters_58 : decode cX1_matters 58 = .ok (.checkcast 99, 3) := dk_192 0 99 (dk_at dksX1_matters_2 10 rfl rfl)
theorem dX1_matters_61 : decode cX1_matters 61 = .ok (.iload 4, 2) := dk_21 4 (dk_at dksX1_matters_2 13 rfl rfl)
theorem dX1_matters_63 : decode cX1_matters 63 = .ok (.invokevirtual 208, 3) := dk_182 0 208 (dk_at dksX1_matters_2 15 rfl rfl)
theorem dX1_matters_66 : decode cX1_matters 66 = .ok (.invokevirtual 211, 3) := dk_182 0 211 (dk_at dksX1_matters_2 18 rfl rfl)
theorem dX1_matters_69 : decode cX1_matters 69 = .ok (.iload_n 2, 1) := dk_28 (dk_at dksX1_matters_2 21 rfl rfl)
theorem dX1_matters_70 : decode cX1_matters 70 = .ok (.if_icmp .eq 10, 3) := dk_159 0 10 (dk_at dksX1_matters_3 0 rfl rfl)
theorem dX1_matters_73 : decode cX1_matters 73 = .ok (.iconst 1, 1) := dk_4 (dk_at dksX1_matters_3 3 rfl rfl)
theorem dX1_matters_74 : decode cX1_matters 74 = .ok (.iload 4, 2) := dk_21 4 (dk_at dksX1_matters_3 4 rfl rfl)
theorem dX1_matters_76 : decode cX1_matters 76 = .ok (.ishl, 1) := dk_120 (dk_at dksX1_matters_3 6 rfl rfl)
theorem dX1_matters_77 : decode cX1_matters 77 = .ok (.goto 4, 3) := dk_167 0 4 (dk_at dksX1_matters_3 7 rfl rfl)
theorem dX1_matters_80 : decode cX1_matters 80 = .ok (.iconst 0, 1) := dk_3 (dk_at dksX1_matters_3 10 rfl rfl)
theorem dX1_matters_81 : decode cX1_matters 81 = .ok (.ior, 1) := dk_128 (dk_at dksX1_matters_3 11 rfl rfl)
theorem dX1_matters_82 : decode cX1_matters 82 = .ok (.istore_n 3, 1) := dk_62 (dk_at dksX1_matters_3 12 rfl rfl)
theorem dX1_matters_83 : decode cX1_matters 83 = .ok (.iinc 4 1, 3) := dk_132 4 1 (dk_at dksX1_matters_3 13 rfl rfl)
theorem dX1_matters_86 : decode cX1_matters 86 = .ok (.goto (-58), 3) := dk_167 255 198 (dk_at dksX1_matters_3 16 rfl rfl)
theorem dX1_matters_89 : decode cX1_matters 89 = .ok (.iload_n 3, 1) := dk_29 (dk_at dksX1_matters_3 19 rfl rfl)
theorem dX1_matters_90 : decode cX1_matters 90 = .ok (.ireturn, 1) := dk_172 (dk_at dksX1_matters_3 20 rfl rfl)
abbrev cX1_raises : ByteArray := prog_1_method_26_code
def yX1_raises : MethodName := ⟨RX1, "raises", "(I)I"⟩
def dkwX1_raises_2 : List UInt8 := [182, 0, 171, 28, 164, 0, 5, 29, 172, 132, 3, 1, 167, 255, 222, 2, 172]
abbrev dktX1_raises_2 : List UInt8 := dkwX1_raises_2 ++ []
def dkwX1_raises_1 : List UInt8 := [62, 29, 17, 5, 219, 163, 0, 33, 42, 27, 29, 182, 0, 215, 16, 254, 159, 0, 16, 42, 180, 0, 85]
abbrev dktX1_raises_1 : List UInt8 := dkwX1_raises_1 ++ dktX1_raises_2
def dkwX1_raises_0 : List UInt8 := [42, 27, 182, 0, 115, 154, 0, 5, 2, 172, 42, 27, 182, 0, 154, 42, 180, 0, 85, 182, 0, 171, 61, 3]
abbrev dktX1_raises_0 : List UInt8 := dkwX1_raises_0 ++ dktX1_raises_1
theorem dksX1_raises_0 : cX1_raises.data.toList.drop 0 = dktX1_raises_0 := by decide +kernel
theorem dksX1_raises_1 : cX1_raises.data.toList.drop 24 = dktX1_raises_1 := dk_seg dksX1_raises_0 24 rfl rfl
theorem dksX1_raises_2 : cX1_raises.data.toList.drop 47 = dktX1_raises_2 := dk_seg dksX1_raises_1 23 rfl rfl
theorem dX1_raises_0 : decode cX1_raises 0 = .ok (.aload_n 0, 1) := dk_42 (dk_at dksX1_raises_0 0 rfl rfl)
theorem dX1_raises_1 : decode cX1_raises 1 = .ok (.iload_n 1, 1) := dk_27 (dk_at dksX1_raises_0 1 rfl rfl)
theorem dX1_raises_2 : decode cX1_raises 2 = .ok (.invokevirtual 115, 3) := dk_182 0 115 (dk_at dksX1_raises_0 2 rfl rfl)
theorem dX1_raises_5 : decode cX1_raises 5 = .ok (.ifCond .ne 5, 3) := dk_154 0 5 (dk_at dksX1_raises_0 5 rfl rfl)
theorem dX1_raises_8 : decode cX1_raises 8 = .ok (.iconst (-1), 1) := dk_2 (dk_at dksX1_raises_0 8 rfl rfl)
theorem dX1_raises_9 : decode cX1_raises 9 = .ok (.ireturn, 1) := dk_172 (dk_at dksX1_raises_0 9 rfl rfl)
theorem dX1_raises_10 : decode cX1_raises 10 = .ok (.aload_n 0, 1) := dk_42 (dk_at dksX1_raises_0 10 rfl rfl)
theorem dX1_raises_11 : decode cX1_raises 11 = .ok (.iload_n 1, 1) := dk_27 (dk_at dksX1_raises_0 11 rfl rfl)
theorem dX1_raises_12 : decode cX1_raises 12 = .ok (.invokevirtual 154, 3) := dk_182 0 154 (dk_at dksX1_raises_0 12 rfl rfl)
theorem dX1_raises_15 : decode cX1_raises 15 = .ok (.aload_n 0, 1) := dk_42 (dk_at dksX1_raises_0 15 rfl rfl)
theorem dX1_raises_16 : decode cX1_raises 16 = .ok (.getfield 85, 3) := dk_180 0 85 (dk_at dksX1_raises_0 16 rfl rfl)
theorem dX1_raises_19 : decode cX1_raises 19 = .ok (.invokevirtual 171, 3) := dk_182 0 171 (dk_at dksX1_raises_0 19 rfl rfl)
theorem dX1_raises_22 : decode cX1_raises 22 = .ok (.istore_n 2, 1) := dk_61 (dk_at dksX1_raises_0 22 rfl rfl)
theorem dX1_raises_23 : decode cX1_raises 23 = .ok (.iconst 0, 1) := dk_3 (dk_at dksX1_raises_0 23 rfl rfl)
theorem dX1_raises_24 : decode cX1_raises 24 = .ok (.istore_n 3, 1) := dk_62 (dk_at dksX1_raises_1 0 rfl rfl)
theorem dX1_raises_25 : decode cX1_raises 25 = .ok (.iload_n 3, 1) := dk_29 (dk_at dksX1_raises_1 1 rfl rfl)
theorem dX1_raises_26 : decode cX1_raises 26 = .ok (.sipush 1499, 3) := dk_17 5 219 (dk_at dksX1_raises_1 2 rfl rfl)
theorem dX1_raises_29 : decode cX1_raises 29 = .ok (.if_icmp .gt 33, 3) := dk_163 0 33 (dk_at dksX1_raises_1 5 rfl rfl)
theorem dX1_raises_32 : decode cX1_raises 32 = .ok (.aload_n 0, 1) := dk_42 (dk_at dksX1_raises_1 8 rfl rfl)
theorem dX1_raises_33 : decode cX1_raises 33 = .ok (.iload_n 1, 1) := dk_27 (dk_at dksX1_raises_1 9 rfl rfl)
theorem dX1_raises_34 : decode cX1_raises 34 = .ok (.iload_n 3, 1) := dk_29 (dk_at dksX1_raises_1 10 rfl rfl)
theorem dX1_raises_35 : decode cX1_raises 35 = .ok (.invokevirtual 215, 3) := dk_182 0 215 (dk_at dksX1_raises_1 11 rfl rfl)
theorem dX1_raises_38 : decode cX1_raises 38 = .ok (.bipush (-2), 2) := dk_16 254 (dk_at dksX1_raises_1 14 rfl rfl)
theorem dX1_raises_40 : decode cX1_raises 40 = .ok (.if_icmp .eq 16, 3) := dk_159 0 16 (dk_at dksX1_raises_1 16 rfl rfl)
theorem dX1_raises_43 : decode cX1_raises 43 = .ok (.aload_n 0, 1) := dk_42 (dk_at dksX1_raises_1 19 rfl rfl)
theorem dX1_raises_44 : decode cX1_raises 44 = .ok (.getfield 85, 3) := dk_180 0 85 (dk_at dksX1_raises_1 20 rfl rfl)
theorem dX1_raises_47 : decode cX1_raises 47 = .ok (.invokevirtual 171, 3) := dk_182 0 171 (dk_at dksX1_raises_2 0 rfl rfl)
theorem dX1_raises_50 : decode cX1_raises 50 = .ok (.iload_n 2, 1) := dk_28 (dk_at dksX1_raises_2 3 rfl rfl)
theorem dX1_raises_51 : decode cX1_raises 51 = .ok (.if_icmp .le 5, 3) := dk_164 0 5 (dk_at dksX1_raises_2 4 rfl rfl)
theorem dX1_raises_54 : decode cX1_raises 54 = .ok (.iload_n 3, 1) := dk_29 (dk_at dksX1_raises_2 7 rfl rfl)
theorem dX1_raises_55 : decode cX1_raises 55 = .ok (.ireturn, 1) := dk_172 (dk_at dksX1_raises_2 8 rfl rfl)
theorem dX1_raises_56 : decode cX1_raises 56 = .ok (.iinc 3 1, 3) := dk_132 3 1 (dk_at dksX1_raises_2 9 rfl rfl)
theorem dX1_raises_59 : decode cX1_raises 59 = .ok (.goto (-34), 3) := dk_167 255 222 (dk_at dksX1_raises_2 12 rfl rfl)
theorem dX1_raises_62 : decode cX1_raises 62 = .ok (.iconst (-1), 1) := dk_2 (dk_at dksX1_raises_2 15 rfl rfl)
theorem dX1_raises_63 : decode cX1_raises 63 = .ok (.ireturn, 1) := dk_172 (dk_at dksX1_raises_2 16 rfl rfl)
abbrev cX1_ofClass : ByteArray := prog_1_method_29_code
def yX1_ofClass : MethodName := ⟨RX1, "ofClass", "(II)I"⟩
def dkwX1_ofClass_2 : List UInt8 := [42, 180, 0, 48, 180, 0, 225, 27, 53, 172, 42, 27, 182, 0, 229, 172, 42, 27, 182, 0, 232, 172, 2, 172]
abbrev dktX1_ofClass_2 : List UInt8 := dkwX1_ofClass_2 ++ []
def dkwX1_ofClass_1 : List UInt8 := [170, 0, 0, 0, 0, 0, 0, 50, 0, 0, 0, 0, 0, 0, 0, 2, 0, 0, 0, 28, 0, 0, 0, 38, 0, 0, 0, 44]
abbrev dktX1_ofClass_1 : List UInt8 := dkwX1_ofClass_1 ++ dktX1_ofClass_2
def dkwX1_ofClass_0 : List UInt8 := [27, 3, 42, 180, 0, 48, 180, 0, 222, 4, 100, 184, 0, 3, 154, 0, 5, 2, 172, 28]
abbrev dktX1_ofClass_0 : List UInt8 := dkwX1_ofClass_0 ++ dktX1_ofClass_1
theorem dksX1_ofClass_0 : cX1_ofClass.data.toList.drop 0 = dktX1_ofClass_0 := by decide +kernel
theorem dksX1_ofClass_1 : cX1_ofClass.data.toList.drop 20 = dktX1_ofClass_1 := dk_seg dksX1_ofClass_0 20 rfl rfl
theorem dksX1_ofClass_2 : cX1_ofClass.data.toList.drop 48 = dktX1_ofClass_2 := dk_seg dksX1_ofClass_1 28 rfl rfl
theorem dX1_ofClass_0 : decode cX1_ofClass 0 = .ok (.iload_n 1, 1) := dk_27 (dk_at dksX1_ofClass_0 0 rfl rfl)
theorem dX1_ofClass_1 : decode cX1_ofClass 1 = .ok (.iconst 0, 1) := dk_3 (dk_at dksX1_ofClass_0 1 rfl rfl)
theorem dX1_ofClass_2 : decode cX1_ofClass 2 = .ok (.aload_n 0, 1) := dk_42 (dk_at dksX1_ofClass_0 2 rfl rfl)
theorem dX1_ofClass_3 : decode cX1_ofClass 3 = .ok (.getfield 48, 3) := dk_180 0 48 (dk_at dksX1_ofClass_0 3 rfl rfl)
theorem dX1_ofClass_6 : decode cX1_ofClass 6 = .ok (.getfield 222, 3) := dk_180 0 222 (dk_at dksX1_ofClass_0 6 rfl rfl)
theorem dX1_ofClass_9 : decode cX1_ofClass 9 = .ok (.iconst 1, 1) := dk_4 (dk_at dksX1_ofClass_0 9 rfl rfl)
theorem dX1_ofClass_10 : decode cX1_ofClass 10 = .ok (.isub, 1) := dk_100 (dk_at dksX1_ofClass_0 10 rfl rfl)
theorem dX1_ofClass_11 : decode cX1_ofClass 11 = .ok (.invokestatic 3, 3) := dk_184 0 3 (dk_at dksX1_ofClass_0 11 rfl rfl)
theorem dX1_ofClass_14 : decode cX1_ofClass 14 = .ok (.ifCond .ne 5, 3) := dk_154 0 5 (dk_at dksX1_ofClass_0 14 rfl rfl)
theorem dX1_ofClass_17 : decode cX1_ofClass 17 = .ok (.iconst (-1), 1) := dk_2 (dk_at dksX1_ofClass_0 17 rfl rfl)
theorem dX1_ofClass_18 : decode cX1_ofClass 18 = .ok (.ireturn, 1) := dk_172 (dk_at dksX1_ofClass_0 18 rfl rfl)
theorem dX1_ofClass_19 : decode cX1_ofClass 19 = .ok (.iload_n 2, 1) := dk_28 (dk_at dksX1_ofClass_0 19 rfl rfl)
theorem dX1_ofClass_20 : decode cX1_ofClass 20 = .ok (.tableswitch 50 0 2 #[28, 38, 44], 28) := by decide +kernel
theorem dX1_ofClass_48 : decode cX1_ofClass 48 = .ok (.aload_n 0, 1) := dk_42 (dk_at dksX1_ofClass_2 0 rfl rfl)
theorem dX1_ofClass_49 : decode cX1_ofClass 49 = .ok (.getfield 48, 3) := dk_180 0 48 (dk_at dksX1_ofClass_2 1 rfl rfl)
theorem dX1_ofClass_52 : decode cX1_ofClass 52 = .ok (.getfield 225, 3) := dk_180 0 225 (dk_at dksX1_ofClass_2 4 rfl rfl)
theorem dX1_ofClass_55 : decode cX1_ofClass 55 = .ok (.iload_n 1, 1) := dk_27 (dk_at dksX1_ofClass_2 7 rfl rfl)
theorem dX1_ofClass_56 : decode cX1_ofClass 56 = .ok (.saload, 1) := dk_53 (dk_at dksX1_ofClass_2 8 rfl rfl)
theorem dX1_ofClass_57 : decode cX1_ofClass 57 = .ok (.ireturn, 1) := dk_172 (dk_at dksX1_ofClass_2 9 rfl rfl)
theorem dX1_ofClass_58 : decode cX1_ofClass 58 = .ok (.aload_n 0, 1) := dk_42 (dk_at dksX1_ofClass_2 10 rfl rfl)
theorem dX1_ofClass_59 : decode cX1_ofClass 59 = .ok (.iload_n 1, 1) := dk_27 (dk_at dksX1_ofClass_2 11 rfl rfl)
theorem dX1_ofClass_60 : decode cX1_ofClass 60 = .ok (.invokevirtual 229, 3) := dk_182 0 229 (dk_at dksX1_ofClass_2 12 rfl rfl)
theorem dX1_ofClass_63 : decode cX1_ofClass 63 = .ok (.ireturn, 1) := dk_172 (dk_at dksX1_ofClass_2 15 rfl rfl)
theorem dX1_ofClass_64 : decode cX1_ofClass 64 = .ok (.aload_n 0, 1) := dk_42 (dk_at dksX1_ofClass_2 16 rfl rfl)
theorem dX1_ofClass_65 : decode cX1_ofClass 65 = .ok (.iload_n 1, 1) := dk_27 (dk_at dksX1_ofClass_2 17 rfl rfl)
theorem dX1_ofClass_66 : decode cX1_ofClass 66 = .ok (.invokevirtual 232, 3) := dk_182 0 232 (dk_at dksX1_ofClass_2 18 rfl rfl)
theorem dX1_ofClass_69 : decode cX1_ofClass 69 = .ok (.ireturn, 1) := dk_172 (dk_at dksX1_ofClass_2 21 rfl rfl)
theorem dX1_ofClass_70 : decode cX1_ofClass 70 = .ok (.iconst (-1), 1) := dk_2 (dk_at dksX1_ofClass_2 22 rfl rfl)
theorem dX1_ofClass_71 : decode cX1_ofClass 71 = .ok (.ireturn, 1) := dk_172 (dk_at dksX1_ofClass_2 23 rfl rfl)
abbrev cX1_leavesOf : ByteArray := prog_1_method_28_code
def yX1_leavesOf : MethodName := ⟨RX1, "leavesOf", "(I)I"⟩
def dkwX1_leavesOf_2 : List UInt8 := [132, 3, 1, 167, 255, 210, 28, 172]
abbrev dktX1_leavesOf_2 : List UInt8 := dkwX1_leavesOf_2 ++ []
def dkwX1_leavesOf_1 : List UInt8 := [180, 0, 177, 29, 182, 0, 13, 192, 0, 218, 180, 0, 220, 27, 160, 0, 7, 4, 167, 0, 4, 3, 96, 61]
abbrev dktX1_leavesOf_1 : List UInt8 := dkwX1_leavesOf_1 ++ dktX1_leavesOf_2
def dkwX1_leavesOf_0 : List UInt8 := [3, 61, 3, 62, 29, 42, 180, 0, 48, 180, 0, 177, 182, 0, 7, 162, 0, 38, 28, 42, 180, 0, 48]
abbrev dktX1_leavesOf_0 : List UInt8 := dkwX1_leavesOf_0 ++ dktX1_leavesOf_1
theorem dksX1_leavesOf_0 : cX1_leavesOf.data.toList.drop 0 = dktX1_leavesOf_0 := by decide +kernel
theorem dksX1_leavesOf_1 : cX1_leavesOf.data.toList.drop 23 = dktX1_leavesOf_1 := dk_seg dksX1_leavesOf_0 23 rfl rfl
theorem dksX1_leavesOf_2 : cX1_leavesOf.data.toList.drop 47 = dktX1_leavesOf_2 := dk_seg dksX1_leavesOf_1 24 rfl rfl
theorem dX1_leavesOf_0 : decode cX1_leavesOf 0 = .ok (.iconst 0, 1) := dk_3 (dk_at dksX1_leavesOf_0 0 rfl rfl)
theorem dX1_leavesOf_1 : decode cX1_leavesOf 1 = .ok (.istore_n 2, 1) := dk_61 (dk_at dksX1_leavesOf_0 1 rfl rfl)
theorem dX1_leavesOf_2 : decode cX1_leavesOf 2 = .ok (.iconst 0, 1) := dk_3 (dk_at dksX1_leavesOf_0 2 rfl rfl)
theorem dX1_leavesOf_3 : decode cX1_leavesOf 3 = .ok (.istore_n 3, 1) := dk_62 (dk_at dksX1_leavesOf_0 3 rfl rfl)
theorem dX1_leavesOf_4 : decode cX1_leavesOf 4 = .ok (.iload_n 3, 1) := dk_29 (dk_at dksX1_leavesOf_0 4 rfl rfl)
theorem dX1_leavesOf_5 : decode cX1_leavesOf 5 = .ok (.aload_n 0, 1) := dk_42 (dk_at dksX1_leavesOf_0 5 rfl rfl)
theorem dX1_leavesOf_6 : decode cX1_leavesOf 6 = .ok (.getfield 48, 3) := dk_180 0 48 (dk_at dksX1_leavesOf_0 6 rfl rfl)
theorem dX1_leavesOf_9 : decode cX1_leavesOf 9 = .ok (.getfield 177, 3) := dk_180 0 177 (dk_at dksX1_leavesOf_0 9 rfl rfl)
theorem dX1_leavesOf_12 : decode cX1_leavesOf 12 = .ok (.invokevirtual 7, 3) := dk_182 0 7 (dk_at dksX1_leavesOf_0 12 rfl rfl)
theorem dX1_leavesOf_15 : decode cX1_leavesOf 15 = .ok (.if_icmp .ge 38, 3) := dk_162 0 38 (dk_at dksX1_leavesOf_0 15 rfl rfl)
theorem dX1_leavesOf_18 : decode cX1_leavesOf 18 = .ok (.iload_n 2, 1) := dk_28 (dk_at dksX1_leavesOf_0 18 rfl rfl)
theorem dX1_leavesOf_19 : decode cX1_leavesOf 19 = .ok (.aload_n 0, 1) := dk_42 (dk_at dksX1_leavesOf_0 19 rfl rfl)
theorem dX1_leavesOf_20 : decode cX1_leavesOf 20 = .ok (.getfield 48, 3) := dk_180 0 48 (dk_at dksX1_leavesOf_0 20 rfl rfl)
theorem dX1_leavesOf_23 : decode cX1_leavesOf 23 = .ok (.getfield 177, 3) := dk_180 0 177 (dk_at dksX1_leavesOf_1 0 rfl rfl)
theorem dX1_leavesOf_26 : decode cX1_leavesOf 26 = .ok (.iload_n 3, 1) := dk_29 (dk_at dksX1_leavesOf_1 3 rfl rfl)
theorem dX1_leavesOf_27 : decode cX1_leavesOf 27 = .ok (.invokevirtual 13, 3) := dk_182 0 13 (dk_at dksX1_leavesOf_1 4 rfl rfl)
theorem dX1_leavesOf_30 : decode cX1_leavesOf 30 = .ok (.checkcast 218, 3) := dk_192 0 218 (dk_at dksX1_leavesOf_1 7 rfl rfl)
theorem dX1_leavesOf_33 : decode cX1_leavesOf 33 = .ok (.getfield 220, 3) := dk_180 0 220 (dk_at dksX1_leavesOf_1 10 rfl rfl)
theorem dX1_leavesOf_36 : decode cX1_leavesOf 36 = .ok (.iload_n 1, 1) := dk_27 (dk_at dksX1_leavesOf_1 13 rfl rfl)
theorem dX1_leavesOf_37 : decode cX1_leavesOf 37 = .ok (.if_icmp .ne 7, 3) := dk_160 0 7 (dk_at dksX1_leavesOf_1 14 rfl rfl)
theorem dX1_leavesOf_40 : decode cX1_leavesOf 40 = .ok (.iconst 1, 1) := dk_4 (dk_at dksX1_leavesOf_1 17 rfl rfl)
theorem dX1_leavesOf_41 : decode cX1_leavesOf 41 = .ok (.goto 4, 3) := dk_167 0 4 (dk_at dksX1_leavesOf_1 18 rfl rfl)
theorem dX1_leavesOf_44 : decode cX1_leavesOf 44 = .ok (.iconst 0, 1) := dk_3 (dk_at dksX1_leavesOf_1 21 rfl rfl)
theorem dX1_leavesOf_45 : decode cX1_leavesOf 45 = .ok (.iadd, 1) := dk_96 (dk_at dksX1_leavesOf_1 22 rfl rfl)
theorem dX1_leavesOf_46 : decode cX1_leavesOf 46 = .ok (.istore_n 2, 1) := dk_61 (dk_at dksX1_leavesOf_1 23 rfl rfl)
theorem dX1_leavesOf_47 : decode cX1_leavesOf 47 = .ok (.iinc 3 1, 3) := dk_132 3 1 (dk_at dksX1_leavesOf_2 0 rfl rfl)
theorem dX1_leavesOf_50 : decode cX1_leavesOf 50 = .ok (.goto (-46), 3) := dk_167 255 210 (dk_at dksX1_leavesOf_2 3 rfl rfl)
theorem dX1_leavesOf_53 : decode cX1_leavesOf 53 = .ok (.iload_n 2, 1) := dk_28 (dk_at dksX1_leavesOf_2 6 rfl rfl)
theorem dX1_leavesOf_54 : decode cX1_leavesOf 54 = .ok (.ireturn, 1) := dk_172 (dk_at dksX1_leavesOf_2 7 rfl rfl)
abbrev cX1_staysOf : ByteArray := prog_1_method_27_code
def yX1_staysOf : MethodName := ⟨RX1, "staysOf", "(I)I"⟩
def dkwX1_staysOf_2 : List UInt8 := [172]
abbrev dktX1_staysOf_2 : List UInt8 := dkwX1_staysOf_2 ++ []
def dkwX1_staysOf_1 : List UInt8 := [180, 0, 85, 182, 0, 168, 27, 160, 0, 7, 4, 167, 0, 4, 3, 96, 61, 132, 3, 1, 167, 255, 218, 28]
abbrev dktX1_staysOf_1 : List UInt8 := dkwX1_staysOf_1 ++ dktX1_staysOf_2
def dkwX1_staysOf_0 : List UInt8 := [3, 61, 3, 62, 29, 42, 180, 0, 75, 182, 0, 7, 162, 0, 33, 42, 29, 182, 0, 154, 28, 42]
abbrev dktX1_staysOf_0 : List UInt8 := dkwX1_staysOf_0 ++ dktX1_staysOf_1
theorem dksX1_staysOf_0 : cX1_staysOf.data.toList.drop 0 = dktX1_staysOf_0 := by decide +kernel
theorem dksX1_staysOf_1 : cX1_staysOf.data.toList.drop 22 = dktX1_staysOf_1 := dk_seg dksX1_staysOf_0 22 rfl rfl
theorem dksX1_staysOf_2 : cX1_staysOf.data.toList.drop 46 = dktX1_staysOf_2 := dk_seg dksX1_staysOf_1 24 rfl rfl
theorem dX1_staysOf_0 : decode cX1_staysOf 0 = .ok (.iconst 0, 1) := dk_3 (dk_at dksX1_staysOf_0 0 rfl rfl)
theorem dX1_staysOf_1 : decode cX1_staysOf 1 = .ok (.istore_n 2, 1) := dk_61 (dk_at dksX1_staysOf_0 1 rfl rfl)
theorem dX1_staysOf_2 : decode cX1_staysOf 2 = .ok (.iconst 0, 1) := dk_3 (dk_at dksX1_staysOf_0 2 rfl rfl)
theorem dX1_staysOf_3 : decode cX1_staysOf 3 = .ok (.istore_n 3, 1) := dk_62 (dk_at dksX1_staysOf_0 3 rfl rfl)
theorem dX1_staysOf_4 : decode cX1_staysOf 4 = .ok (.iload_n 3, 1) := dk_29 (dk_at dksX1_staysOf_0 4 rfl rfl)
theorem dX1_staysOf_5 : decode cX1_staysOf 5 = .ok (.aload_n 0, 1) := dk_42 (dk_at dksX1_staysOf_0 5 rfl rfl)
theorem dX1_staysOf_6 : decode cX1_staysOf 6 = .ok (.getfield 75, 3) := dk_180 0 75 (dk_at dksX1_staysOf_0 6 rfl rfl)
theorem dX1_staysOf_9 : decode cX1_staysOf 9 = .ok (.invokevirtual 7, 3) := dk_182 0 7 (dk_at dksX1_staysOf_0 9 rfl rfl)
theorem dX1_staysOf_12 : decode cX1_staysOf 12 = .ok (.if_icmp .ge 33, 3) := dk_162 0 33 (dk_at dksX1_staysOf_0 12 rfl rfl)
theorem dX1_staysOf_15 : decode cX1_staysOf 15 = .ok (.aload_n 0, 1) := dk_42 (dk_at dksX1_staysOf_0 15 rfl rfl)
theorem dX1_staysOf_16 : decode cX1_staysOf 16 = .ok (.iload_n 3, 1) := dk_29 (dk_at dksX1_staysOf_0 16 rfl rfl)
theorem dX1_staysOf_17 : decode cX1_staysOf 17 = .ok (.invokevirtual 154, 3) := dk_182 0 154 (dk_at dksX1_staysOf_0 17 rfl rfl)
theorem dX1_staysOf_20 : decode cX1_staysOf 20 = .ok (.iload_n 2, 1) := dk_28 (dk_at dksX1_staysOf_0 20 rfl rfl)
theorem dX1_staysOf_21 : decode cX1_staysOf 21 = .ok (.aload_n 0, 1) := dk_42 (dk_at dksX1_staysOf_0 21 rfl rfl)
theorem dX1_staysOf_22 : decode cX1_staysOf 22 = .ok (.getfield 85, 3) := dk_180 0 85 (dk_at dksX1_staysOf_1 0 rfl rfl)
theorem dX1_staysOf_25 : decode cX1_staysOf 25 = .ok (.invokevirtual 168, 3) := dk_182 0 168 (dk_at dksX1_staysOf_1 3 rfl rfl)
theorem dX1_staysOf_28 : decode cX1_staysOf 28 = .ok (.iload_n 1, 1) := dk_27 (dk_at dksX1_staysOf_1 6 rfl rfl)
theorem dX1_staysOf_29 : decode cX1_staysOf 29 = .ok (.if_icmp .ne 7, 3) := dk_160 0 7 (dk_at dksX1_staysOf_1 7 rfl rfl)
theorem dX1_staysOf_32 : decode cX1_staysOf 32 = .ok (.iconst 1, 1) := dk_4 (dk_at dksX1_staysOf_1 10 rfl rfl)
theorem dX1_staysOf_33 : decode cX1_staysOf 33 = .ok (.goto 4, 3) := dk_167 0 4 (dk_at dksX1_staysOf_1 11 rfl rfl)
theorem dX1_staysOf_36 : decode cX1_staysOf 36 = .ok (.iconst 0, 1) := dk_3 (dk_at dksX1_staysOf_1 14 rfl rfl)
theorem dX1_staysOf_37 : decode cX1_staysOf 37 = .ok (.iadd, 1) := dk_96 (dk_at dksX1_staysOf_1 15 rfl rfl)
theorem dX1_staysOf_38 : decode cX1_staysOf 38 = .ok (.istore_n 2, 1) := dk_61 (dk_at dksX1_staysOf_1 16 rfl rfl)
theorem dX1_staysOf_39 : decode cX1_staysOf 39 = .ok (.iinc 3 1, 3) := dk_132 3 1 (dk_at dksX1_staysOf_1 17 rfl rfl)
theorem dX1_staysOf_42 : decode cX1_staysOf 42 = .ok (.goto (-38), 3) := dk_167 255 218 (dk_at dksX1_staysOf_1 20 rfl rfl)
theorem dX1_staysOf_45 : decode cX1_staysOf 45 = .ok (.iload_n 2, 1) := dk_28 (dk_at dksX1_staysOf_1 23 rfl rfl)
theorem dX1_staysOf_46 : decode cX1_staysOf 46 = .ok (.ireturn, 1) := dk_172 (dk_at dksX1_staysOf_2 0 rfl rfl)
abbrev cX1_name : ByteArray := prog_1_method_30_code
def yX1_name : MethodName := ⟨RX1, "name", "(II)I"⟩
def dkwX1_name_1 : List UInt8 := [42, 180, 0, 48, 180, 0, 235, 27, 50, 28, 52, 16, 97, 100, 4, 96, 172, 78, 2, 172]
abbrev dktX1_name_1 : List UInt8 := dkwX1_name_1 ++ []
def dkwX1_name_0 : List UInt8 := [42, 180, 0, 48, 180, 0, 235, 27, 50, 190, 62, 28, 155, 0, 12, 28, 29, 161, 0, 7, 3, 167, 0, 19]
abbrev dktX1_name_0 : List UInt8 := dkwX1_name_0 ++ dktX1_name_1
theorem dksX1_name_0 : cX1_name.data.toList.drop 0 = dktX1_name_0 := by decide +kernel
theorem dksX1_name_1 : cX1_name.data.toList.drop 24 = dktX1_name_1 := dk_seg dksX1_name_0 24 rfl rfl
theorem dX1_name_0 : decode cX1_name 0 = .ok (.aload_n 0, 1) := dk_42 (dk_at dksX1_name_0 0 rfl rfl)
theorem dX1_name_1 : decode cX1_name 1 = .ok (.getfield 48, 3) := dk_180 0 48 (dk_at dksX1_name_0 1 rfl rfl)
theorem dX1_name_4 : decode cX1_name 4 = .ok (.getfield 235, 3) := dk_180 0 235 (dk_at dksX1_name_0 4 rfl rfl)
theorem dX1_name_7 : decode cX1_name 7 = .ok (.iload_n 1, 1) := dk_27 (dk_at dksX1_name_0 7 rfl rfl)
theorem dX1_name_8 : decode cX1_name 8 = .ok (.aaload, 1) := dk_50 (dk_at dksX1_name_0 8 rfl rfl)
theorem dX1_name_9 : decode cX1_name 9 = .ok (.arraylength, 1) := dk_190 (dk_at dksX1_name_0 9 rfl rfl)
theorem dX1_name_10 : decode cX1_name 10 = .ok (.istore_n 3, 1) := dk_62 (dk_at dksX1_name_0 10 rfl rfl)
theorem dX1_name_11 : decode cX1_name 11 = .ok (.iload_n 2, 1) := dk_28 (dk_at dksX1_name_0 11 rfl rfl)
theorem dX1_name_12 : decode cX1_name 12 = .ok (.ifCond .lt 12, 3) := dk_155 0 12 (dk_at dksX1_name_0 12 rfl rfl)
theorem dX1_name_15 : decode cX1_name 15 = .ok (.iload_n 2, 1) := dk_28 (dk_at dksX1_name_0 15 rfl rfl)
theorem dX1_name_16 : decode cX1_name 16 = .ok (.iload_n 3, 1) := dk_29 (dk_at dksX1_name_0 16 rfl rfl)
theorem dX1_name_17 : decode cX1_name 17 = .ok (.if_icmp .lt 7, 3) := dk_161 0 7 (dk_at dksX1_name_0 17 rfl rfl)
theorem dX1_name_20 : decode cX1_name 20 = .ok (.iconst 0, 1) := dk_3 (dk_at dksX1_name_0 20 rfl rfl)
theorem dX1_name_21 : decode cX1_name 21 = .ok (.goto 19, 3) := dk_167 0 19 (dk_at dksX1_name_0 21 rfl rfl)
theorem dX1_name_24 : decode cX1_name 24 = .ok (.aload_n 0, 1) := dk_42 (dk_at dksX1_name_1 0 rfl rfl)
theorem dX1_name_25 : decode cX1_name 25 = .ok (.getfield 48, 3) := dk_180 0 48 (dk_at dksX1_name_1 1 rfl rfl)
theorem dX1_name_28 : decode cX1_name 28 = .ok (.getfield 235, 3) := dk_180 0 235 (dk_at dksX1_name_1 4 rfl rfl)
theorem dX1_name_31 : decode cX1_name 31 = .ok (.iload_n 1, 1) := dk_27 (dk_at dksX1_name_1 7 rfl rfl)
theorem dX1_name_32 : decode cX1_name 32 = .ok (.aaload, 1) := dk_50 (dk_at dksX1_name_1 8 rfl rfl)
theorem dX1_name_33 : decode cX1_name 33 = .ok (.iload_n 2, 1) := dk_28 (dk_at dksX1_name_1 9 rfl rfl)
theorem dX1_name_34 : decode cX1_name 34 = .ok (.caload, 1) := dk_52 (dk_at dksX1_name_1 10 rfl rfl)
theorem dX1_name_35 : decode cX1_name 35 = .ok (.bipush 97, 2) := dk_16 97 (dk_at dksX1_name_1 11 rfl rfl)
theorem dX1_name_37 : decode cX1_name 37 = .ok (.isub, 1) := dk_100 (dk_at dksX1_name_1 13 rfl rfl)
theorem dX1_name_38 : decode cX1_name 38 = .ok (.iconst 1, 1) := dk_4 (dk_at dksX1_name_1 14 rfl rfl)
theorem dX1_name_39 : decode cX1_name 39 = .ok (.iadd, 1) := dk_96 (dk_at dksX1_name_1 15 rfl rfl)
theorem dX1_name_40 : decode cX1_name 40 = .ok (.ireturn, 1) := dk_172 (dk_at dksX1_name_1 16 rfl rfl)
theorem dX1_name_41 : decode cX1_name 41 = .ok (.astore_n 3, 1) := dk_78 (dk_at dksX1_name_1 17 rfl rfl)
theorem dX1_name_42 : decode cX1_name 42 = .ok (.iconst (-1), 1) := dk_2 (dk_at dksX1_name_1 18 rfl rfl)
theorem dX1_name_43 : decode cX1_name 43 = .ok (.ireturn, 1) := dk_172 (dk_at dksX1_name_1 19 rfl rfl)
abbrev cX1_leaf : ByteArray := prog_1_method_32_code
def yX1_leaf : MethodName := ⟨RX1, "leaf", "(II)I"⟩
def dkwX1_leaf_5 : List UInt8 := [172]
abbrev dktX1_leaf_5 : List UInt8 := dkwX1_leaf_5 ++ []
def dkwX1_leaf_4 : List UInt8 := [182, 0, 184, 172, 45, 180, 0, 249, 153, 0, 7, 3, 167, 0, 4, 4, 172, 42, 45, 182, 0, 253, 172, 2]
abbrev dktX1_leaf_4 : List UInt8 := dkwX1_leaf_4 ++ dktX1_leaf_5
def dkwX1_leaf_3 : List UInt8 := [45, 180, 0, 220, 172, 42, 180, 0, 48, 180, 0, 243, 42, 180, 0, 48, 180, 0, 246, 27, 182, 0, 13]
abbrev dktX1_leaf_3 : List UInt8 := dkwX1_leaf_3 ++ dktX1_leaf_4
def dkwX1_leaf_2 : List UInt8 := [170, 0, 0, 0, 0, 76, 0, 0, 0, 0, 0, 0, 0, 3, 0, 0, 0, 30, 0, 0, 0, 35, 0, 0, 0, 57, 0, 0, 0, 70]
abbrev dktX1_leaf_2 : List UInt8 := dkwX1_leaf_2 ++ dktX1_leaf_3
def dkwX1_leaf_1 : List UInt8 := [180, 0, 48, 180, 0, 177, 27, 182, 0, 13, 192, 0, 218, 78, 28]
abbrev dktX1_leaf_1 : List UInt8 := dkwX1_leaf_1 ++ dktX1_leaf_2
def dkwX1_leaf_0 : List UInt8 := [27, 3, 42, 180, 0, 48, 180, 0, 177, 182, 0, 7, 4, 100, 184, 0, 3, 154, 0, 5, 2, 172, 42]
abbrev dktX1_leaf_0 : List UInt8 := dkwX1_leaf_0 ++ dktX1_leaf_1
theorem dksX1_leaf_0 : cX1_leaf.data.toList.drop 0 = dktX1_leaf_0 := by decide +kernel
theorem dksX1_leaf_1 : cX1_leaf.data.toList.drop 23 = dktX1_leaf_1 := dk_seg dksX1_leaf_0 23 rfl rfl
theorem dksX1_leaf_2 : cX1_leaf.data.toList.drop 38 = dktX1_leaf_2 := dk_seg dksX1_leaf_1 15 rfl rfl
theorem dksX1_leaf_3 : cX1_leaf.data.toList.drop 68 = dktX1_leaf_3 := dk_seg dksX1_leaf_2 30 rfl rfl
theorem dksX1_leaf_4 : cX1_leaf.data.toList.drop 91 = dktX1_leaf_4 := dk_seg dksX1_leaf_3 23 rfl rfl
theorem dksX1_leaf_5 : cX1_leaf.data.toList.drop 115 = dktX1_leaf_5 := dk_seg dksX1_leaf_4 24 rfl rfl
theorem dX1_leaf_0 : decode cX1_leaf 0 = .ok (.iload_n 1, 1) := dk_27 (dk_at dksX1_leaf_0 0 rfl rfl)
theorem dX1_leaf_1 : decode cX1_leaf 1 = .ok (.iconst 0, 1) := dk_3 (dk_at dksX1_leaf_0 1 rfl rfl)
theorem dX1_leaf_2 : decode cX1_leaf 2 = .ok (.aload_n 0, 1) := dk_42 (dk_at dksX1_leaf_0 2 rfl rfl)
theorem dX1_leaf_3 : decode cX1_leaf 3 = .ok (.getfield 48, 3) := dk_180 0 48 (dk_at dksX1_leaf_0 3 rfl rfl)
theorem dX1_leaf_6 : decode cX1_leaf 6 = .ok (.getfield 177, 3) := dk_180 0 177 (dk_at dksX1_leaf_0 6 rfl rfl)
theorem dX1_leaf_9 : decode cX1_leaf 9 = .ok (.invokevirtual 7, 3) := dk_182 0 7 (dk_at dksX1_leaf_0 9 rfl rfl)
theorem dX1_leaf_12 : decode cX1_leaf 12 = .ok (.iconst 1, 1) := dk_4 (dk_at dksX1_leaf_0 12 rfl rfl)
theorem dX1_leaf_13 : decode cX1_leaf 13 = .ok (.isub, 1) := dk_100 (dk_at dksX1_leaf_0 13 rfl rfl)
theorem dX1_leaf_14 : decode cX1_leaf 14 = .ok (.invokestatic 3, 3) := dk_184 0 3 (dk_at dksX1_leaf_0 14 rfl rfl)
theorem dX1_leaf_17 : decode cX1_leaf 17 = .ok (.ifCond .ne 5, 3) := dk_154 0 5 (dk_at dksX1_leaf_0 17 rfl rfl)
theorem dX1_leaf_20 : decode cX1_leaf 20 = .ok (.iconst (-1), 1) := dk_2 (dk_at dksX1_leaf_0 20 rfl rfl)
theorem dX1_leaf_21 : decode cX1_leaf 21 = .ok (.ireturn, 1) := dk_172 (dk_at dksX1_leaf_0 21 rfl rfl)
theorem dX1_leaf_22 : decode cX1_leaf 22 = .ok (.aload_n 0, 1) := dk_42 (dk_at dksX1_leaf_0 22 rfl rfl)
theorem dX1_leaf_23 : decode cX1_leaf 23 = .ok (.getfield 48, 3) := dk_180 0 48 (dk_at dksX1_leaf_1 0 rfl rfl)
theorem dX1_leaf_26 : decode cX1_leaf 26 = .ok (.getfield 177, 3) := dk_180 0 177 (dk_at dksX1_leaf_1 3 rfl rfl)
theorem dX1_leaf_29 : decode cX1_leaf 29 = .ok (.iload_n 1, 1) := dk_27 (dk_at dksX1_leaf_1 6 rfl rfl)
theorem dX1_leaf_30 : decode cX1_leaf 30 = .ok (.invokevirtual 13, 3) := dk_182 0 13 (dk_at dksX1_leaf_1 7 rfl rfl)
theorem dX1_leaf_33 : decode cX1_leaf 33 = .ok (.checkcast 218, 3) := dk_192 0 218 (dk_at dksX1_leaf_1 10 rfl rfl)
theorem dX1_leaf_36 : decode cX1_leaf 36 = .ok (.astore_n 3, 1) := dk_78 (dk_at dksX1_leaf_1 13 rfl rfl)
theorem dX1_leaf_37 : decode cX1_leaf 37 = .ok (.iload_n 2, 1) := dk_28 (dk_at dksX1_leaf_1 14 rfl rfl)
theorem dX1_leaf_38 : decode cX1_leaf 38 = .ok (.tableswitch 76 0 3 #[30, 35, 57, 70], 30) := by decide +kernel
theorem dX1_leaf_68 : decode cX1_leaf 68 = .ok (.aload_n 3, 1) := dk_45 (dk_at dksX1_leaf_3 0 rfl rfl)
theorem dX1_leaf_69 : decode cX1_leaf 69 = .ok (.getfield 220, 3) := dk_180 0 220 (dk_at dksX1_leaf_3 1 rfl rfl)
theorem dX1_leaf_72 : decode cX1_leaf 72 = .ok (.ireturn, 1) := dk_172 (dk_at dksX1_leaf_3 4 rfl rfl)
theorem dX1_leaf_73 : decode cX1_leaf 73 = .ok (.aload_n 0, 1) := dk_42 (dk_at dksX1_leaf_3 5 rfl rfl)
theorem dX1_leaf_74 : decode cX1_leaf 74 = .ok (.getfield 48, 3) := dk_180 0 48 (dk_at dksX1_leaf_3 6 rfl rfl)
theorem dX1_leaf_77 : decode cX1_leaf 77 = .ok (.getfield 243, 3) := dk_180 0 243 (dk_at dksX1_leaf_3 9 rfl rfl)
theorem dX1_leaf_80 : decode cX1_leaf 80 = .ok (.aload_n 0, 1) := dk_42 (dk_at dksX1_leaf_3 12 rfl rfl)
theorem dX1_leaf_81 : decode cX1_leaf 81 = .ok (.getfield 48, 3) := dk_180 0 48 (dk_at dksX1_leaf_3 13 rfl rfl)
theorem dX1_leaf_84 : decode cX1_leaf 84 = .ok (.getfield 246, 3) := dk_180 0 246 (dk_at dksX1_leaf_3 16 rfl rfl)
theorem dX1_leaf_87 : decode cX1_leaf 87 = .ok (.iload_n 1, 1) := dk_27 (dk_at dksX1_leaf_3 19 rfl rfl)
theorem dX1_leaf_88 : decode cX1_leaf 88 = .ok (.invokevirtual 13, 3) := dk_182 0 13 (dk_at dksX1_leaf_3 20 rfl rfl)
theorem dX1_leaf_91 : decode cX1_leaf 91 = .ok (.invokevirtual 184, 3) := dk_182 0 184 (dk_at dksX1_leaf_4 0 rfl rfl)
theorem dX1_leaf_94 : decode cX1_leaf 94 = .ok (.ireturn, 1) := dk_172 (dk_at dksX1_leaf_4 3 rfl rfl)
theorem dX1_leaf_95 : decode cX1_leaf 95 = .ok (.aload_n 3, 1) := dk_45 (dk_at dksX1_leaf_4 4 rfl rfl)
theorem dX1_leaf_96 : decode cX1_leaf 96 = .ok (.getfield 249, 3) := dk_180 0 249 (dk_at dksX1_leaf_4 5 rfl rfl)
theorem dX1_leaf_99 : decode cX1_leaf 99 = .ok (.ifCond .eq 7, 3) := dk_153 0 7 (dk_at dksX1_leaf_4 8 rfl rfl)
theorem dX1_leaf_102 : decode cX1_leaf 102 = .ok (.iconst 0, 1) := dk_3 (dk_at dksX1_leaf_4 11 rfl rfl)
theorem dX1_leaf_103 : decode cX1_leaf 103 = .ok (.goto 4, 3) := dk_167 0 4 (dk_at dksX1_leaf_4 12 rfl rfl)
theorem dX1_leaf_106 : decode cX1_leaf 106 = .ok (.iconst 1, 1) := dk_4 (dk_at dksX1_leaf_4 15 rfl rfl)
theorem dX1_leaf_107 : decode cX1_leaf 107 = .ok (.ireturn, 1) := dk_172 (dk_at dksX1_leaf_4 16 rfl rfl)
theorem dX1_leaf_108 : decode cX1_leaf 108 = .ok (.aload_n 0, 1) := dk_42 (dk_at dksX1_leaf_4 17 rfl rfl)
theorem dX1_leaf_109 : decode cX1_leaf 109 = .ok (.aload_n 3, 1) := dk_45 (dk_at dksX1_leaf_4 18 rfl rfl)
theorem dX1_leaf_110 : decode cX1_leaf 110 = .ok (.invokevirtual 253, 3) := dk_182 0 253 (dk_at dksX1_leaf_4 19 rfl rfl)
theorem dX1_leaf_113 : decode cX1_leaf 113 = .ok (.ireturn, 1) := dk_172 (dk_at dksX1_leaf_4 22 rfl rfl)
theorem dX1_leaf_114 : decode cX1_leaf 114 = .ok (.iconst (-1), 1) := dk_2 (dk_at dksX1_leaf_4 23 rfl rfl)
theorem dX1_leaf_115 : decode cX1_leaf 115 = .ok (.ireturn, 1) := dk_172 (dk_at dksX1_leaf_5 0 rfl rfl)
abbrev cX1_staysAt : ByteArray := prog_1_method_31_code
def yX1_staysAt : MethodName := ⟨RX1, "staysAt", "(LCaseGrouper$Leaf;)I"⟩
def dkwX1_staysAt_2 : List UInt8 := [172]
abbrev dktX1_staysAt_2 : List UInt8 := dkwX1_staysAt_2 ++ []
def dkwX1_staysAt_1 : List UInt8 := [180, 0, 85, 180, 0, 180, 43, 166, 0, 7, 4, 167, 0, 4, 3, 96, 61, 132, 3, 1, 167, 255, 218, 28]
abbrev dktX1_staysAt_1 : List UInt8 := dkwX1_staysAt_1 ++ dktX1_staysAt_2
def dkwX1_staysAt_0 : List UInt8 := [3, 61, 3, 62, 29, 42, 180, 0, 75, 182, 0, 7, 162, 0, 33, 42, 29, 182, 0, 154, 28, 42]
abbrev dktX1_staysAt_0 : List UInt8 := dkwX1_staysAt_0 ++ dktX1_staysAt_1
theorem dksX1_staysAt_0 : cX1_staysAt.data.toList.drop 0 = dktX1_staysAt_0 := by decide +kernel
theorem dksX1_staysAt_1 : cX1_staysAt.data.toList.drop 22 = dktX1_staysAt_1 := dk_seg dksX1_staysAt_0 22 rfl rfl
theorem dksX1_staysAt_2 : cX1_staysAt.data.toList.drop 46 = dktX1_staysAt_2 := dk_seg dksX1_staysAt_1 24 rfl rfl
theorem dX1_staysAt_0 : decode cX1_staysAt 0 = .ok (.iconst 0, 1) := dk_3 (dk_at dksX1_staysAt_0 0 rfl rfl)
theorem dX1_staysAt_1 : decode cX1_staysAt 1 = .ok (.istore_n 2, 1) := dk_61 (dk_at dksX1_staysAt_0 1 rfl rfl)
theorem dX1_staysAt_2 : decode cX1_staysAt 2 = .ok (.iconst 0, 1) := dk_3 (dk_at dksX1_staysAt_0 2 rfl rfl)
theorem dX1_staysAt_3 : decode cX1_staysAt 3 = .ok (.istore_n 3, 1) := dk_62 (dk_at dksX1_staysAt_0 3 rfl rfl)
theorem dX1_staysAt_4 : decode cX1_staysAt 4 = .ok (.iload_n 3, 1) := dk_29 (dk_at dksX1_staysAt_0 4 rfl rfl)
theorem dX1_staysAt_5 : decode cX1_staysAt 5 = .ok (.aload_n 0, 1) := dk_42 (dk_at dksX1_staysAt_0 5 rfl rfl)
theorem dX1_staysAt_6 : decode cX1_staysAt 6 = .ok (.getfield 75, 3) := dk_180 0 75 (dk_at dksX1_staysAt_0 6 rfl rfl)
theorem dX1_staysAt_9 : decode cX1_staysAt 9 = .ok (.invokevirtual 7, 3) := dk_182 0 7 (dk_at dksX1_staysAt_0 9 rfl rfl)
theorem dX1_staysAt_12 : decode cX1_staysAt 12 = .ok (.if_icmp .ge 33, 3) := dk_162 0 33 (dk_at dksX1_staysAt_0 12 rfl rfl)
theorem dX1_staysAt_15 : decode cX1_staysAt 15 = .ok (.aload_n 0, 1) := dk_42 (dk_at dksX1_staysAt_0 15 rfl rfl)
theorem dX1_staysAt_16 : decode cX1_staysAt 16 = .ok (.iload_n 3, 1) := dk_29 (dk_at dksX1_staysAt_0 16 rfl rfl)
theorem dX1_staysAt_17 : decode cX1_staysAt 17 = .ok (.invokevirtual 154, 3) := dk_182 0 154 (dk_at dksX1_staysAt_0 17 rfl rfl)
theorem dX1_staysAt_20 : decode cX1_staysAt 20 = .ok (.iload_n 2, 1) := dk_28 (dk_at dksX1_staysAt_0 20 rfl rfl)
theorem dX1_staysAt_21 : decode cX1_staysAt 21 = .ok (.aload_n 0, 1) := dk_42 (dk_at dksX1_staysAt_0 21 rfl rfl)
theorem dX1_staysAt_22 : decode cX1_staysAt 22 = .ok (.getfield 85, 3) := dk_180 0 85 (dk_at dksX1_staysAt_1 0 rfl rfl)
theorem dX1_staysAt_25 : decode cX1_staysAt 25 = .ok (.getfield 180, 3) := dk_180 0 180 (dk_at dksX1_staysAt_1 3 rfl rfl)
theorem dX1_staysAt_28 : decode cX1_staysAt 28 = .ok (.aload_n 1, 1) := dk_43 (dk_at dksX1_staysAt_1 6 rfl rfl)
theorem dX1_staysAt_29 : decode cX1_staysAt 29 = .ok (.if_acmp .ne 7, 3) := dk_166 0 7 (dk_at dksX1_staysAt_1 7 rfl rfl)
theorem dX1_staysAt_32 : decode cX1_staysAt 32 = .ok (.iconst 1, 1) := dk_4 (dk_at dksX1_staysAt_1 10 rfl rfl)
theorem dX1_staysAt_33 : decode cX1_staysAt 33 = .ok (.goto 4, 3) := dk_167 0 4 (dk_at dksX1_staysAt_1 11 rfl rfl)
theorem dX1_staysAt_36 : decode cX1_staysAt 36 = .ok (.iconst 0, 1) := dk_3 (dk_at dksX1_staysAt_1 14 rfl rfl)
theorem dX1_staysAt_37 : decode cX1_staysAt 37 = .ok (.iadd, 1) := dk_96 (dk_at dksX1_staysAt_1 15 rfl rfl)
theorem dX1_staysAt_38 : decode cX1_staysAt 38 = .ok (.istore_n 2, 1) := dk_61 (dk_at dksX1_staysAt_1 16 rfl rfl)
theorem dX1_staysAt_39 : decode cX1_staysAt 39 = .ok (.iinc 3 1, 3) := dk_132 3 1 (dk_at dksX1_staysAt_1 17 rfl rfl)
theorem dX1_staysAt_42 : decode cX1_staysAt 42 = .ok (.goto (-38), 3) := dk_167 255 218 (dk_at dksX1_staysAt_1 20 rfl rfl)
theorem dX1_staysAt_45 : decode cX1_staysAt 45 = .ok (.iload_n 2, 1) := dk_28 (dk_at dksX1_staysAt_1 23 rfl rfl)
theorem dX1_staysAt_46 : decode cX1_staysAt 46 = .ok (.ireturn, 1) := dk_172 (dk_at dksX1_staysAt_2 0 rfl rfl)
abbrev cX1_keep : ByteArray := prog_1_method_33_code
def yX1_keep : MethodName := ⟨RX1, "keep", "()I"⟩
def dkwX1_keep_0 : List UInt8 := [42, 42, 180, 0, 48, 181, 1, 1, 42, 180, 0, 48, 180, 0, 222, 172]
abbrev dktX1_keep_0 : List UInt8 := dkwX1_keep_0 ++ []
theorem dksX1_keep_0 : cX1_keep.data.toList.drop 0 = dktX1_keep_0 := by decide +kernel
theorem dX1_keep_0 : decode cX1_keep 0 = .ok (.aload_n 0, 1) := dk_42 (dk_at dksX1_keep_0 0 rfl rfl)
theorem dX1_keep_1 : decode cX1_keep 1 = .ok (.aload_n 0, 1) := dk_42 (dk_at dksX1_keep_0 1 rfl rfl)
theorem dX1_keep_2 : decode cX1_keep 2 = .ok (.getfield 48, 3) := dk_180 0 48 (dk_at dksX1_keep_0 2 rfl rfl)
theorem dX1_keep_5 : decode cX1_keep 5 = .ok (.putfield 257, 3) := dk_181 1 1 (dk_at dksX1_keep_0 5 rfl rfl)
theorem dX1_keep_8 : decode cX1_keep 8 = .ok (.aload_n 0, 1) := dk_42 (dk_at dksX1_keep_0 8 rfl rfl)
theorem dX1_keep_9 : decode cX1_keep 9 = .ok (.getfield 48, 3) := dk_180 0 48 (dk_at dksX1_keep_0 9 rfl rfl)
theorem dX1_keep_12 : decode cX1_keep 12 = .ok (.getfield 222, 3) := dk_180 0 222 (dk_at dksX1_keep_0 12 rfl rfl)
theorem dX1_keep_15 : decode cX1_keep 15 = .ok (.ireturn, 1) := dk_172 (dk_at dksX1_keep_0 15 rfl rfl)
abbrev cX1_compare : ByteArray := prog_1_method_35_code
def yX1_compare : MethodName := ⟨RX1, "compare", "(I)I"⟩
def dkwX1_compare_5 : List UInt8 := [160, 0, 7, 29, 167, 0, 5, 21, 4, 172]
abbrev dktX1_compare_5 : List UInt8 := dkwX1_compare_5 ++ []
def dkwX1_compare_4 : List UInt8 := [182, 0, 171, 100, 96, 62, 132, 5, 1, 167, 255, 183, 27, 154, 0, 7, 28, 167, 0, 14, 27, 4]
abbrev dktX1_compare_4 : List UInt8 := dkwX1_compare_4 ++ dktX1_compare_5
def dkwX1_compare_3 : List UInt8 := [153, 0, 7, 4, 167, 0, 4, 3, 96, 61, 29, 42, 180, 0, 89, 182, 0, 171, 42, 180, 0, 85]
abbrev dktX1_compare_3 : List UInt8 := dkwX1_compare_3 ++ dktX1_compare_4
def dkwX1_compare_2 : List UInt8 := [54, 6, 21, 6, 153, 0, 13, 21, 4, 156, 0, 8, 21, 5, 167, 0, 5, 21, 4, 54, 4, 28, 21, 6]
abbrev dktX1_compare_2 : List UInt8 := dkwX1_compare_2 ++ dktX1_compare_3
def dkwX1_compare_1 : List UInt8 := [2, 54, 4, 3, 54, 5, 21, 5, 42, 180, 0, 75, 182, 0, 7, 162, 0, 67, 42, 21, 5, 182, 1, 9]
abbrev dktX1_compare_1 : List UInt8 := dkwX1_compare_1 ++ dktX1_compare_2
def dkwX1_compare_0 : List UInt8 := [42, 180, 1, 1, 198, 0, 12, 27, 3, 5, 184, 0, 3, 154, 0, 7, 19, 1, 8, 172, 3, 61, 3, 62]
abbrev dktX1_compare_0 : List UInt8 := dkwX1_compare_0 ++ dktX1_compare_1
theorem dksX1_compare_0 : cX1_compare.data.toList.drop 0 = dktX1_compare_0 := by decide +kernel
theorem dksX1_compare_1 : cX1_compare.data.toList.drop 24 = dktX1_compare_1 := dk_seg dksX1_compare_0 24 rfl rfl
theorem dksX1_compare_2 : cX1_compare.data.toList.drop 48 = dktX1_compare_2 := dk_seg dksX1_compare_1 24 rfl rfl
theorem dksX1_compare_3 : cX1_compare.data.toList.drop 72 = dktX1_compare_3 := dk_seg dksX1_compare_2 24 rfl rfl
theorem dksX1_compare_4 : cX1_compare.data.toList.drop 94 = dktX1_compare_4 := dk_seg dksX1_compare_3 22 rfl rfl
theorem dksX1_compare_5 : cX1_compare.data.toList.drop 116 = dktX1_compare_5 := dk_seg dksX1_compare_4 22 rfl rfl
theorem dX1_compare_0 : decode cX1_compare 0 = .ok (.aload_n 0, 1) := dk_42 (dk_at dksX1_compare_0 0 rfl rfl)
theorem dX1_compare_1 : decode cX1_compare 1 = .ok (.getfield 257, 3) := dk_180 1 1 (dk_at dksX1_compare_0 1 rfl rfl)
theorem dX1_compare_4 : decode cX1_compare 4 = .ok (.ifnull 12, 3) := dk_198 0 12 (dk_at dksX1_compare_0 4 rfl rfl)
theorem dX1_compare_7 : decode cX1_compare 7 = .ok (.iload_n 1, 1) := dk_27 (dk_at dksX1_compare_0 7 rfl rfl)
theorem dX1_compare_8 : decode cX1_compare 8 = .ok (.iconst 0, 1) := dk_3 (dk_at dksX1_compare_0 8 rfl rfl)
theorem dX1_compare_9 : decode cX1_compare 9 = .ok (.iconst 2, 1) := dk_5 (dk_at dksX1_compare_0 9 rfl rfl)
theorem dX1_compare_10 : decode cX1_compare 10 = .ok (.invokestatic 3, 3) := dk_184 0 3 (dk_at dksX1_compare_0 10 rfl rfl)
theorem dX1_compare_13 : decode cX1_compare 13 = .ok (.ifCond .ne 7, 3) := dk_154 0 7 (dk_at dksX1_compare_0 13 rfl rfl)
theorem dX1_compare_16 : decode cX1_compare 16 = .ok (.ldc_w 264, 3) := dk_19 1 8 (dk_at dksX1_compare_0 16 rfl rfl)
theorem dX1_compare_19 : decode cX1_compare 19 = .ok (.ireturn, 1) := dk_172 (dk_at dksX1_compare_0 19 rfl rfl)
theorem dX1_compare_20 : decode cX1_compare 20 = .ok (.iconst 0, 1) := dk_3 (dk_at dksX1_compare_0 20 rfl rfl)
theorem dX1_compare_21 : decode cX1_compare 21 = .ok (.istore_n 2, 1) := dk_61 (dk_at dksX1_compare_0 21 rfl rfl)
theorem dX1_compare_22 : decode cX1_compare 22 = .ok (.iconst 0, 1) := dk_3 (dk_at dksX1_compare_0 22 rfl rfl)
theorem dX1_compare_23 : decode cX1_compare 23 = .ok (.istore_n 3, 1) := dk_62 (dk_at dksX1_compare_0 23 rfl rfl)
theorem dX1_compare_24 : decode cX1_compare 24 = .ok (.iconst (-1), 1) := dk_2 (dk_at dksX1_compare_1 0 rfl rfl)
theorem dX1_compare_25 : decode cX1_compare 25 = .ok (.istore 4, 2) := dk_54 4 (dk_at dksX1_compare_1 1 rfl rfl)
theorem dX1_compare_27 : decode cX1_compare 27 = .ok (.iconst 0, 1) := dk_3 (dk_at dksX1_compare_1 3 rfl rfl)
theorem dX1_compare_28 : decode cX1_compare 28 = .ok (.istore 5, 2) := dk_54 5 (dk_at dksX1_compare_1 4 rfl rfl)
theorem dX1_compare_30 : decode cX1_compare 30 = .ok (.iload 5, 2) := dk_21 5 (dk_at dksX1_compare_1 6 rfl rfl)
theorem dX1_compare_32 : decode cX1_compare 32 = .ok (.aload_n 0, 1) := dk_42 (dk_at dksX1_compare_1 8 rfl rfl)
theorem dX1_compare_33 : decode cX1_compare 33 = .ok (.getfield 75, 3) := dk_180 0 75 (dk_at dksX1_compare_1 9 rfl rfl)
theorem dX1_compare_36 : decode cX1_compare 36 = .ok (.invokevirtual 7, 3) := dk_182 0 7 (dk_at dksX1_compare_1 12 rfl rfl)
theorem dX1_compare_39 : decode cX1_compare 39 = .ok (.if_icmp .ge 67, 3) := dk_162 0 67 (dk_at dksX1_compare_1 15 rfl rfl)
theorem dX1_compare_42 : decode cX1_compare 42 = .ok (.aload_n 0, 1) := dk_42 (dk_at dksX1_compare_1 18 rfl rfl)
theorem dX1_compare_43 : decode cX1_compare 43 = .ok (.iload 5, 2) := dk_21 5 (dk_at dksX1_compare_1 19 rfl rfl)
theorem dX1_compare_45 : decode cX1_compare 45 = .ok (.invokevirtual 265, 3) := dk_182 1 9 (dk_at dksX1_compare_1 21 rfl rfl)
theorem dX1_compare_48 : decode cX1_compare 48 = .ok (.istore 6, 2) := dk_54 6 (dk_at dksX1_compare_2 0 rfl rfl)
theorem dX1_compare_50 : decode cX1_compare 50 = .ok (.iload 6, 2) := dk_21 6 (dk_at dksX1_compare_2 2 rfl rfl)
theorem dX1_compare_52 : decode cX1_compare 52 = .ok (.ifCond .eq 13, 3) := dk_153 0 13 (dk_at dksX1_compare_2 4 rfl rfl)
theorem dX1_compare_55 : decode cX1_compare 55 = .ok (.iload 4, 2) := dk_21 4 (dk_at dksX1_compare_2 7 rfl rfl)
theorem dX1_compare_57 : decode cX1_compare 57 = .ok (.ifCond .ge 8, 3) := dk_156 0 8 (dk_at dksX1_compare_2 9 rfl rfl)
theorem dX1_compare_60 : decode cX1_compare 60 = .ok (.iload 5, 2) := dk_21 5 (dk_at dksX1_compare_2 12 rfl rfl)
theorem dX1_compare_62 : decode cX1_compare 62 = .ok (.goto 5, 3) := dk_167 0 5 (dk_at dksX1_compare_2 14 rfl rfl)
theorem dX1_compare_65 : decode cX1_compare 65 = .ok (.iload 4, 2) := dk_21 4 (dk_at dksX1_compare_2 17 rfl rfl)
theorem dX1_compare_67 : decode cX1_compare 67 = .ok (.istore 4, 2) := dk_54 4 (dk_at dksX1_compare_2 19 rfl rfl)
theorem dX1_compare_69 : decode cX1_compare 69 = .ok (.iload_n 2, 1) := dk_28 (dk_at dksX1_compare_2 21 rfl rfl)
theorem dX1_compare_70 : decode cX1_compare 70 = .ok (.iload 6, 2) := dk_21 6 (dk_at dksX1_compare_2 22 rfl rfl)
theorem dX1_compare_72 : decode cX1_compare 72 = .ok (.ifCond .eq 7, 3) := dk_153 0 7 (dk_at dksX1_compare_3 0 rfl rfl)
theorem dX1_compare_75 : decode cX1_compare 75 = .ok (.iconst 1, 1) := dk_4 (dk_at dksX1_compare_3 3 rfl rfl)
theorem dX1_compare_76 : decode cX1_compare 76 = .ok (.goto 4, 3) := dk_167 0 4 (dk_at dksX1_compare_3 4 rfl rfl)
theorem dX1_compare_79 : decode cX1_compare 79 = .ok (.iconst 0, 1) := dk_3 (dk_at dksX1_compare_3 7 rfl rfl)
theorem dX1_compare_80 : decode cX1_compare 80 = .ok (.iadd, 1) := dk_96 (dk_at dksX1_compare_3 8 rfl rfl)
theorem dX1_compare_81 : decode cX1_compare 81 = .ok (.istore_n 2, 1) := dk_61 (dk_at dksX1_compare_3 9 rfl rfl)
theorem dX1_compare_82 : decode cX1_compare 82 = .ok (.iload_n 3, 1) := dk_29 (dk_at dksX1_compare_3 10 rfl rfl)
theorem dX1_compare_83 : decode cX1_compare 83 = .ok (.aload_n 0, 1) := dk_42 (dk_at dksX1_compare_3 11 rfl rfl)
theorem dX1_compare_84 : decode cX1_compare 84 = .ok (.getfield 89, 3) := dk_180 0 89 (dk_at dksX1_compare_3 12 rfl rfl)
theorem dX1_compare_87 : decode cX1_compare 87 = .ok (.invokevirtual 171, 3) := dk_182 0 171 (dk_at dksX1_compare_3 15 rfl rfl)
theorem dX1_compare_90 : decode cX1_compare 90 = .ok (.aload_n 0, 1) := dk_42 (dk_at dksX1_compare_3 18 rfl rfl)
theorem dX1_compare_91 : decode cX1_compare 91 = .ok (.getfield 85, 3) := dk_180 0 85 (dk_at dksX1_compare_3 19 rfl rfl)
theorem dX1_compare_94 : decode cX1_compare 94 = .ok (.invokevirtual 171, 3) := dk_182 0 171 (dk_at dksX1_compare_4 0 rfl rfl)
theorem dX1_compare_97 : decode cX1_compare 97 = .ok (.isub, 1) := dk_100 (dk_at dksX1_compare_4 3 rfl rfl)
theorem dX1_compare_98 : decode cX1_compare 98 = .ok (.iadd, 1) := dk_96 (dk_at dksX1_compare_4 4 rfl rfl)
theorem dX1_compare_99 : decode cX1_compare 99 = .ok (.istore_n 3, 1) := dk_62 (dk_at dksX1_compare_4 5 rfl rfl)
theorem dX1_compare_100 : decode cX1_compare 100 = .ok (.iinc 5 1, 3) := dk_132 5 1 (dk_at dksX1_compare_4 6 rfl rfl)
theorem dX1_compare_103 : decode cX1_compare 103 = .ok (.goto (-73), 3) := dk_167 255 183 (dk_at dksX1_compare_4 9 rfl rfl)
theorem dX1_compare_106 : decode cX1_compare 106 = .ok (.iload_n 1, 1) := dk_27 (dk_at dksX1_compare_4 12 rfl rfl)
theorem dX1_compare_107 : decode cX1_compare 107 = .ok (.ifCond .ne 7, 3) := dk_154 0 7 (dk_at dksX1_compare_4 13 rfl rfl)
theorem dX1_compare_110 : decode cX1_compare 110 = .ok (.iload_n 2, 1) := dk_28 (dk_at dksX1_compare_4 16 rfl rfl)
theorem dX1_compare_111 : decode cX1_compare 111 = .ok (.goto 14, 3) := dk_167 0 14 (dk_at dksX1_compare_4 17 rfl rfl)
theorem dX1_compare_114 : decode cX1_compare 114 = .ok (.iload_n 1, 1) := dk_27 (dk_at dksX1_compare_4 20 rfl rfl)
theorem dX1_compare_115 : decode cX1_compare 115 = .ok (.iconst 1, 1) := dk_4 (dk_at dksX1_compare_4 21 rfl rfl)
theorem dX1_compare_116 : decode cX1_compare 116 = .ok (.if_icmp .ne 7, 3) := dk_160 0 7 (dk_at dksX1_compare_5 0 rfl rfl)
theorem dX1_compare_119 : decode cX1_compare 119 = .ok (.iload_n 3, 1) := dk_29 (dk_at dksX1_compare_5 3 rfl rfl)
theorem dX1_compare_120 : decode cX1_compare 120 = .ok (.goto 5, 3) := dk_167 0 5 (dk_at dksX1_compare_5 4 rfl rfl)
theorem dX1_compare_123 : decode cX1_compare 123 = .ok (.iload 4, 2) := dk_21 4 (dk_at dksX1_compare_5 7 rfl rfl)
theorem dX1_compare_125 : decode cX1_compare 125 = .ok (.ireturn, 1) := dk_172 (dk_at dksX1_compare_5 9 rfl rfl)
abbrev cX1_isMoved : ByteArray := prog_1_method_34_code
def yX1_isMoved : MethodName := ⟨RX1, "isMoved", "(I)Z"⟩
def dkwX1_isMoved_4 : List UInt8 := [50, 182, 1, 4, 154, 0, 7, 4, 167, 0, 4, 3, 172]
abbrev dktX1_isMoved_4 : List UInt8 := dkwX1_isMoved_4 ++ []
def dkwX1_isMoved_3 : List UInt8 := [180, 0, 48, 42, 180, 0, 85, 182, 0, 168, 42, 180, 1, 1, 180, 0, 235, 42, 180, 0, 89, 182, 0, 168]
abbrev dktX1_isMoved_3 : List UInt8 := dkwX1_isMoved_3 ++ dktX1_isMoved_4
def dkwX1_isMoved_2 : List UInt8 := [180, 0, 85, 180, 0, 180, 42, 180, 0, 89, 180, 0, 180, 165, 0, 7, 4, 167, 0, 4, 3, 172, 42]
abbrev dktX1_isMoved_2 : List UInt8 := dkwX1_isMoved_2 ++ dktX1_isMoved_3
def dkwX1_isMoved_1 : List UInt8 := [182, 0, 150, 42, 180, 0, 85, 180, 0, 180, 198, 0, 13, 42, 180, 0, 89, 180, 0, 180, 199, 0, 26, 42]
abbrev dktX1_isMoved_1 : List UInt8 := dkwX1_isMoved_1 ++ dktX1_isMoved_2
def dkwX1_isMoved_0 : List UInt8 := [42, 27, 182, 0, 154, 42, 180, 0, 89, 42, 180, 1, 1, 42, 180, 0, 75, 27, 182, 0, 13, 192, 0, 99]
abbrev dktX1_isMoved_0 : List UInt8 := dkwX1_isMoved_0 ++ dktX1_isMoved_1
theorem dksX1_isMoved_0 : cX1_isMoved.data.toList.drop 0 = dktX1_isMoved_0 := by decide +kernel
theorem dksX1_isMoved_1 : cX1_isMoved.data.toList.drop 24 = dktX1_isMoved_1 := dk_seg dksX1_isMoved_0 24 rfl rfl
theorem dksX1_isMoved_2 : cX1_isMoved.data.toList.drop 48 = dktX1_isMoved_2 := dk_seg dksX1_isMoved_1 24 rfl rfl
theorem dksX1_isMoved_3 : cX1_isMoved.data.toList.drop 71 = dktX1_isMoved_3 := dk_seg dksX1_isMoved_2 23 rfl rfl
theorem dksX1_isMoved_4 : cX1_isMoved.data.toList.drop 95 = dktX1_isMoved_4 := dk_seg dksX1_isMoved_3 24 rfl rfl
theorem dX1_isMoved_0 : decode cX1_isMoved 0 = .ok (.aload_n 0, 1) := dk_42 (dk_at dksX1_isMoved_0 0 rfl rfl)
theorem dX1_isMoved_1 : decode cX1_isMoved 1 = .ok (.iload_n 1, 1) := dk_27 (dk_at dksX1_isMoved_0 1 rfl rfl)
theorem dX1_isMoved_2 : decode cX1_isMoved 2 = .ok (.invokevirtual 154, 3) := dk_182 0 154 (dk_at dksX1_isMoved_0 2 rfl rfl)
theorem dX1_isMoved_5 : decode cX1_isMoved 5 = .ok (.aload_n 0, 1) := dk_42 (dk_at dksX1_isMoved_0 5 rfl rfl)
theorem dX1_isMoved_6 : decode cX1_isMoved 6 = .ok (.getfield 89, 3) := dk_180 0 89 (dk_at dksX1_isMoved_0 6 rfl rfl)
theorem dX1_isMoved_9 : decode cX1_isMoved 9 = .ok (.aload_n 0, 1) := dk_42 (dk_at dksX1_isMoved_0 9 rfl rfl)
theorem dX1_isMoved_10 : decode cX1_isMoved 10 = .ok (.getfield 257, 3) := dk_180 1 1 (dk_at dksX1_isMoved_0 10 rfl rfl)
theorem dX1_isMoved_13 : decode cX1_isMoved 13 = .ok (.aload_n 0, 1) := dk_42 (dk_at dksX1_isMoved_0 13 rfl rfl)
theorem dX1_isMoved_14 : decode cX1_isMoved 14 = .ok (.getfield 75, 3) := dk_180 0 75 (dk_at dksX1_isMoved_0 14 rfl rfl)
theorem dX1_isMoved_17 : decode cX1_isMoved 17 = .ok (.iload_n 1, 1) := dk_27 (dk_at dksX1_isMoved_0 17 rfl rfl)
theorem dX1_isMoved_18 : decode cX1_isMoved 18 = .ok (.invokevirtual 13, 3) := dk_182 0 13 (dk_at dksX1_isMoved_0 18 rfl rfl)
theorem dX1_isMoved_21 : decode cX1_isMoved 21 = .ok (.checkcast 99, 3) := dk_192 0 99 (dk_at dksX1_isMoved_0 21 rfl rfl)
theorem dX1_isMoved_24 : decode cX1_isMoved 24 = .ok (.invokevirtual 150, 3) := dk_182 0 150 (dk_at dksX1_isMoved_1 0 rfl rfl)
theorem dX1_isMoved_27 : decode cX1_isMoved 27 = .ok (.aload_n 0, 1) := dk_42 (dk_at dksX1_isMoved_1 3 rfl rfl)
theorem dX1_isMoved_28 : decode cX1_isMoved 28 = .ok (.getfield 85, 3) := dk_180 0 85 (dk_at dksX1_isMoved_1 4 rfl rfl)
theorem dX1_isMoved_31 : decode cX1_isMoved 31 = .ok (.getfield 180, 3) := dk_180 0 180 (dk_at dksX1_isMoved_1 7 rfl rfl)
theorem dX1_isMoved_34 : decode cX1_isMoved 34 = .ok (.ifnull 13, 3) := dk_198 0 13 (dk_at dksX1_isMoved_1 10 rfl rfl)
theorem dX1_isMoved_37 : decode cX1_isMoved 37 = .ok (.aload_n 0, 1) := dk_42 (dk_at dksX1_isMoved_1 13 rfl rfl)
theorem dX1_isMoved_38 : decode cX1_isMoved 38 = .ok (.getfield 89, 3) := dk_180 0 89 (dk_at dksX1_isMoved_1 14 rfl rfl)
theorem dX1_isMoved_41 : decode cX1_isMoved 41 = .ok (.getfield 180, 3) := dk_180 0 180 (dk_at dksX1_isMoved_1 17 rfl rfl)
theorem dX1_isMoved_44 : decode cX1_isMoved 44 = .ok (.ifnonnull 26, 3) := dk_199 0 26 (dk_at dksX1_isMoved_1 20 rfl rfl)
theorem dX1_isMoved_47 : decode cX1_isMoved 47 = .ok (.aload_n 0, 1) := dk_42 (dk_at dksX1_isMoved_1 23 rfl rfl)
theorem dX1_isMoved_48 : decode cX1_isMoved 48 = .ok (.getfield 85, 3) := dk_180 0 85 (dk_at dksX1_isMoved_2 0 rfl rfl)
theorem dX1_isMoved_51 : decode cX1_isMoved 51 = .ok (.getfield 180, 3) := dk_180 0 180 (dk_at dksX1_isMoved_2 3 rfl rfl)
theorem dX1_isMoved_54 : decode cX1_isMoved 54 = .ok (.aload_n 0, 1) := dk_42 (dk_at dksX1_isMoved_2 6 rfl rfl)
theorem dX1_isMoved_55 : decode cX1_isMoved 55 = .ok (.getfield 89, 3) := dk_180 0 89 (dk_at dksX1_isMoved_2 7 rfl rfl)
theorem dX1_isMoved_58 : decode cX1_isMoved 58 = .ok (.getfield 180, 3) := dk_180 0 180 (dk_at dksX1_isMoved_2 10 rfl rfl)
theorem dX1_isMoved_61 : decode cX1_isMoved 61 = .ok (.if_acmp .eq 7, 3) := dk_165 0 7 (dk_at dksX1_isMoved_2 13 rfl rfl)
theorem dX1_isMoved_64 : decode cX1_isMoved 64 = .ok (.iconst 1, 1) := dk_4 (dk_at dksX1_isMoved_2 16 rfl rfl)
theorem dX1_isMoved_65 : decode cX1_isMoved 65 = .ok (.goto 4, 3) := dk_167 0 4 (dk_at dksX1_isMoved_2 17 rfl rfl)
theorem dX1_isMoved_68 : decode cX1_isMoved 68 = .ok (.iconst 0, 1) := dk_3 (dk_at dksX1_isMoved_2 20 rfl rfl)
theorem dX1_isMoved_69 : decode cX1_isMoved 69 = .ok (.ireturn, 1) := dk_172 (dk_at dksX1_isMoved_2 21 rfl rfl)
theorem dX1_isMoved_70 : decode cX1_isMoved 70 = .ok (.aload_n 0, 1) := dk_42 (dk_at dksX1_isMoved_2 22 rfl rfl)
theorem dX1_isMoved_71 : decode cX1_isMoved 71 = .ok (.getfield 48, 3) := dk_180 0 48 (dk_at dksX1_isMoved_3 0 rfl rfl)
theorem dX1_isMoved_74 : decode cX1_isMoved 74 = .ok (.aload_n 0, 1) := dk_42 (dk_at dksX1_isMoved_3 3 rfl rfl)
theorem dX1_isMoved_75 : decode cX1_isMoved 75 = .ok (.getfield 85, 3) := dk_180 0 85 (dk_at dksX1_isMoved_3 4 rfl rfl)
theorem dX1_isMoved_78 : decode cX1_isMoved 78 = .ok (.invokevirtual 168, 3) := dk_182 0 168 (dk_at dksX1_isMoved_3 7 rfl rfl)
theorem dX1_isMoved_81 : decode cX1_isMoved 81 = .ok (.aload_n 0, 1) := dk_42 (dk_at dksX1_isMoved_3 10 rfl rfl)
theorem dX1_isMoved_82 : decode cX1_isMoved 82 = .ok (.getfield 257, 3) := dk_180 1 1 (dk_at dksX1_isMoved_3 11 rfl rfl)
theorem dX1_isMoved_85 : decode cX1_isMoved 85 = .ok (.getfield 235, 3) := dk_180 0 235 (dk_at dksX1_isMoved_3 14 rfl rfl)
theorem dX1_isMoved_88 : decode cX1_isMoved 88 = .ok (.aload_n 0, 1) := dk_42 (dk_at dksX1_isMoved_3 17 rfl rfl)
theorem dX1_isMoved_89 : decode cX1_isMoved 89 = .ok (.getfield 89, 3) := dk_180 0 89 (dk_at dksX1_isMoved_3 18 rfl rfl)
theorem dX1_isMoved_92 : decode cX1_isMoved 92 = .ok (.invokevirtual 168, 3) := dk_182 0 168 (dk_at dksX1_isMoved_3 21 rfl rfl)
theorem dX1_isMoved_95 : decode cX1_isMoved 95 = .ok (.aaload, 1) := dk_50 (dk_at dksX1_isMoved_4 0 rfl rfl)
theorem dX1_isMoved_96 : decode cX1_isMoved 96 = .ok (.invokevirtual 260, 3) := dk_182 1 4 (dk_at dksX1_isMoved_4 1 rfl rfl)
theorem dX1_isMoved_99 : decode cX1_isMoved 99 = .ok (.ifCond .ne 7, 3) := dk_154 0 7 (dk_at dksX1_isMoved_4 4 rfl rfl)
theorem dX1_isMoved_102 : decode cX1_isMoved 102 = .ok (.iconst 1, 1) := dk_4 (dk_at dksX1_isMoved_4 7 rfl rfl)
theorem dX1_isMoved_103 : decode cX1_isMoved 103 = .ok (.goto 4, 3) := dk_167 0 4 (dk_at dksX1_isMoved_4 8 rfl rfl)
theorem dX1_isMoved_106 : decode cX1_isMoved 106 = .ok (.iconst 0, 1) := dk_3 (dk_at dksX1_isMoved_4 11 rfl rfl)
theorem dX1_isMoved_107 : decode cX1_isMoved 107 = .ok (.ireturn, 1) := dk_172 (dk_at dksX1_isMoved_4 12 rfl rfl)
abbrev cX1_keptWeight : ByteArray := prog_1_method_36_code
def yX1_keptWeight : MethodName := ⟨RX1, "keptWeight", "(I)I"⟩
def dkwX1_keptWeight_2 : List UInt8 := [172]
abbrev dktX1_keptWeight_2 : List UInt8 := dkwX1_keptWeight_2 ++ []
def dkwX1_keptWeight_1 : List UInt8 := [180, 1, 1, 42, 180, 0, 75, 27, 182, 0, 13, 192, 0, 99, 182, 0, 150, 42, 180, 0, 89, 182, 0, 171]
abbrev dktX1_keptWeight_1 : List UInt8 := dkwX1_keptWeight_1 ++ dktX1_keptWeight_2
def dkwX1_keptWeight_0 : List UInt8 := [42, 180, 1, 1, 198, 0, 11, 42, 27, 182, 0, 115, 154, 0, 5, 2, 172, 42, 180, 0, 89, 42]
abbrev dktX1_keptWeight_0 : List UInt8 := dkwX1_keptWeight_0 ++ dktX1_keptWeight_1
theorem dksX1_keptWeight_0 : cX1_keptWeight.data.toList.drop 0 = dktX1_keptWeight_0 := by decide +kernel
theorem dksX1_keptWeight_1 : cX1_keptWeight.data.toList.drop 22 = dktX1_keptWeight_1 := dk_seg dksX1_keptWeight_0 22 rfl rfl
theorem dksX1_keptWeight_2 : cX1_keptWeight.data.toList.drop 46 = dktX1_keptWeight_2 := dk_seg dksX1_keptWeight_1 24 rfl rfl
theorem dX1_keptWeight_0 : decode cX1_keptWeight 0 = .ok (.aload_n 0, 1) := dk_42 (dk_at dksX1_keptWeight_0 0 rfl rfl)
theorem dX1_keptWeight_1 : decode cX1_keptWeight 1 = .ok (.getfield 257, 3) := dk_180 1 1 (dk_at dksX1_keptWeight_0 1 rfl rfl)
theorem dX1_keptWeight_4 : decode cX1_keptWeight 4 = .ok (.ifnull 11, 3) := dk_198 0 11 (dk_at dksX1_keptWeight_0 4 rfl rfl)
theorem dX1_keptWeight_7 : decode cX1_keptWeight 7 = .ok (.aload_n 0, 1) := dk_42 (dk_at dksX1_keptWeight_0 7 rfl rfl)
theorem dX1_keptWeight_8 : decode cX1_keptWeight 8 = .ok (.iload_n 1, 1) := dk_27 (dk_at dksX1_keptWeight_0 8 rfl rfl)
theorem dX1_keptWeight_9 : decode cX1_keptWeight 9 = .ok (.invokevirtual 115, 3) := dk_182 0 115 (dk_at dksX1_keptWeight_0 9 rfl rfl)
theorem dX1_keptWeight_12 : decode cX1_keptWeight 12 = .ok (.ifCond .ne 5, 3) := dk_154 0 5 (dk_at dksX1_keptWeight_0 12 rfl rfl)
theorem dX1_keptWeight_15 : decode cX1_keptWeight 15 = .ok (.iconst (-1), 1) := dk_2 (dk_at dksX1_keptWeight_0 15 rfl rfl)
theorem dX1_keptWeight_16 : decode cX1_keptWeight 16 = .ok (.ireturn, 1) := dk_172 (dk_at dksX1_keptWeight_0 16 rfl rfl)
theorem dX1_keptWeight_17 : decode cX1_keptWeight 17 = .ok (.aload_n 0, 1) := dk_42 (dk_at dksX1_keptWeight_0 17 rfl rfl)
theorem dX1_keptWeight_18 : decode cX1_keptWeight 18 = .ok (.getfield 89, 3) := dk_180 0 89 (dk_at dksX1_keptWeight_0 18 rfl rfl)
theorem dX1_keptWeight_21 : decode cX1_keptWeight 21 = .ok (.aload_n 0, 1) := dk_42 (dk_at dksX1_keptWeight_0 21 rfl rfl)
theorem dX1_keptWeight_22 : decode cX1_keptWeight 22 = .ok (.getfield 257, 3) := dk_180 1 1 (dk_at dksX1_keptWeight_1 0 rfl rfl)
theorem dX1_keptWeight_25 : decode cX1_keptWeight 25 = .ok (.aload_n 0, 1) := dk_42 (dk_at dksX1_keptWeight_1 3 rfl rfl)
theorem dX1_keptWeight_26 : decode cX1_keptWeight 26 = .ok (.getfield 75, 3) := dk_180 0 75 (dk_at dksX1_keptWeight_1 4 rfl rfl)
theorem dX1_keptWeight_29 : decode cX1_keptWeight 29 = .ok (.iload_n 1, 1) := dk_27 (dk_at dksX1_keptWeight_1 7 rfl rfl)
theorem dX1_keptWeight_30 : decode cX1_keptWeight 30 = .ok (.invokevirtual 13, 3) := dk_182 0 13 (dk_at dksX1_keptWeight_1 8 rfl rfl)
theorem dX1_keptWeight_33 : decode cX1_keptWeight 33 = .ok (.checkcast 99, 3) := dk_192 0 99 (dk_at dksX1_keptWeight_1 11 rfl rfl)
theorem dX1_keptWeight_36 : decode cX1_keptWeight 36 = .ok (.invokevirtual 150, 3) := dk_182 0 150 (dk_at dksX1_keptWeight_1 14 rfl rfl)
theorem dX1_keptWeight_39 : decode cX1_keptWeight 39 = .ok (.aload_n 0, 1) := dk_42 (dk_at dksX1_keptWeight_1 17 rfl rfl)
theorem dX1_keptWeight_40 : decode cX1_keptWeight 40 = .ok (.getfield 89, 3) := dk_180 0 89 (dk_at dksX1_keptWeight_1 18 rfl rfl)
theorem dX1_keptWeight_43 : decode cX1_keptWeight 43 = .ok (.invokevirtual 171, 3) := dk_182 0 171 (dk_at dksX1_keptWeight_1 21 rfl rfl)
theorem dX1_keptWeight_46 : decode cX1_keptWeight 46 = .ok (.ireturn, 1) := dk_172 (dk_at dksX1_keptWeight_2 0 rfl rfl)
abbrev cX1_swap : ByteArray := prog_1_method_37_code
def yX1_swap : MethodName := ⟨RX1, "swap", "()Z"⟩
def dkwX1_swap_1 : List UInt8 := [181, 1, 1, 4, 172]
abbrev dktX1_swap_1 : List UInt8 := dkwX1_swap_1 ++ []
def dkwX1_swap_0 : List UInt8 := [42, 180, 1, 1, 199, 0, 5, 3, 172, 42, 180, 0, 48, 76, 42, 42, 180, 1, 1, 181, 0, 48, 42, 43]
abbrev dktX1_swap_0 : List UInt8 := dkwX1_swap_0 ++ dktX1_swap_1
theorem dksX1_swap_0 : cX1_swap.data.toList.drop 0 = dktX1_swap_0 := by decide +kernel
theorem dksX1_swap_1 : cX1_swap.data.toList.drop 24 = dktX1_swap_1 := dk_seg dksX1_swap_0 24 rfl rfl
theorem dX1_swap_0 : decode cX1_swap 0 = .ok (.aload_n 0, 1) := dk_42 (dk_at dksX1_swap_0 0 rfl rfl)
theorem dX1_swap_1 : decode cX1_swap 1 = .ok (.getfield 257, 3) := dk_180 1 1 (dk_at dksX1_swap_0 1 rfl rfl)
theorem dX1_swap_4 : decode cX1_swap 4 = .ok (.ifnonnull 5, 3) := dk_199 0 5 (dk_at dksX1_swap_0 4 rfl rfl)
theorem dX1_swap_7 : decode cX1_swap 7 = .ok (.iconst 0, 1) := dk_3 (dk_at dksX1_swap_0 7 rfl rfl)
theorem dX1_swap_8 : decode cX1_swap 8 = .ok (.ireturn, 1) := dk_172 (dk_at dksX1_swap_0 8 rfl rfl)
theorem dX1_swap_9 : decode cX1_swap 9 = .ok (.aload_n 0, 1) := dk_42 (dk_at dksX1_swap_0 9 rfl rfl)
theorem dX1_swap_10 : decode cX1_swap 10 = .ok (.getfield 48, 3) := dk_180 0 48 (dk_at dksX1_swap_0 10 rfl rfl)
theorem dX1_swap_13 : decode cX1_swap 13 = .ok (.astore_n 1, 1) := dk_76 (dk_at dksX1_swap_0 13 rfl rfl)
theorem dX1_swap_14 : decode cX1_swap 14 = .ok (.aload_n 0, 1) := dk_42 (dk_at dksX1_swap_0 14 rfl rfl)
theorem dX1_swap_15 : decode cX1_swap 15 = .ok (.aload_n 0, 1) := dk_42 (dk_at dksX1_swap_0 15 rfl rfl)
theorem dX1_swap_16 : decode cX1_swap 16 = .ok (.getfield 257, 3) := dk_180 1 1 (dk_at dksX1_swap_0 16 rfl rfl)
theorem dX1_swap_19 : decode cX1_swap 19 = .ok (.putfield 48, 3) := dk_181 0 48 (dk_at dksX1_swap_0 19 rfl rfl)
theorem dX1_swap_22 : decode cX1_swap 22 = .ok (.aload_n 0, 1) := dk_42 (dk_at dksX1_swap_0 22 rfl rfl)
theorem dX1_swap_23 : decode cX1_swap 23 = .ok (.aload_n 1, 1) := dk_43 (dk_at dksX1_swap_0 23 rfl rfl)
theorem dX1_swap_24 : decode cX1_swap 24 = .ok (.putfield 257, 3) := dk_181 1 1 (dk_at dksX1_swap_1 0 rfl rfl)
theorem dX1_swap_27 : decode cX1_swap 27 = .ok (.iconst 1, 1) := dk_4 (dk_at dksX1_swap_1 3 rfl rfl)
theorem dX1_swap_28 : decode cX1_swap 28 = .ok (.ireturn, 1) := dk_172 (dk_at dksX1_swap_1 4 rfl rfl)
abbrev cX1_count : ByteArray := prog_1_method_40_code
def yX1_count : MethodName := ⟨RX1, "count", "(I)I"⟩
def dkwX1_count_5 : List UInt8 := [172, 42, 2, 182, 0, 232, 172, 42, 180, 0, 23, 172, 42, 180, 0, 48, 180, 1, 23, 172, 2, 172]
abbrev dktX1_count_5 : List UInt8 := dkwX1_count_5 ++ []
def dkwX1_count_4 : List UInt8 := [180, 0, 177, 182, 0, 7, 172, 42, 182, 1, 18, 172, 42, 180, 0, 75, 182, 0, 7, 172, 42, 182, 1, 21]
abbrev dktX1_count_4 : List UInt8 := dkwX1_count_4 ++ dktX1_count_5
def dkwX1_count_3 : List UInt8 := [180, 0, 48, 180, 1, 15, 182, 0, 7, 172, 42, 180, 0, 48, 180, 0, 222, 172, 42, 180, 0, 48]
abbrev dktX1_count_3 : List UInt8 := dkwX1_count_3 ++ dktX1_count_4
def dkwX1_count_2 : List UInt8 := [42, 180, 0, 48, 180, 0, 243, 182, 0, 7, 172, 42, 180, 0, 48, 180, 1, 12, 182, 0, 7, 172, 42]
abbrev dktX1_count_2 : List UInt8 := dkwX1_count_2 ++ dktX1_count_3
def dkwX1_count_1 : List UInt8 := [170, 0, 0, 0, 0, 0, 148, 0, 0, 0, 0, 0, 0, 0, 10, 0, 0, 0, 59, 0, 0, 0, 70, 0, 0, 0, 81, 0, 0, 0, 92, 0, 0, 0, 100, 0, 0, 0, 111, 0, 0, 0, 116, 0, 0, 0, 124, 0, 0, 0, 129, 0, 0, 0, 135, 0, 0, 0, 140]
abbrev dktX1_count_1 : List UInt8 := dkwX1_count_1 ++ dktX1_count_2
def dkwX1_count_0 : List UInt8 := [27]
abbrev dktX1_count_0 : List UInt8 := dkwX1_count_0 ++ dktX1_count_1
theorem dksX1_count_0 : cX1_count.data.toList.drop 0 = dktX1_count_0 := by decide +kernel
theorem dksX1_count_1 : cX1_count.data.toList.drop 1 = dktX1_count_1 := dk_seg dksX1_count_0 1 rfl rfl
theorem dksX1_count_2 : cX1_count.data.toList.drop 60 = dktX1_count_2 := dk_seg dksX1_count_1 59 rfl rfl
theorem dksX1_count_3 : cX1_count.data.toList.drop 83 = dktX1_count_3 := dk_seg dksX1_count_2 23 rfl rfl
theorem dksX1_count_4 : cX1_count.data.toList.drop 105 = dktX1_count_4 := dk_seg dksX1_count_3 22 rfl rfl
theorem dksX1_count_5 : cX1_count.data.toList.drop 129 = dktX1_count_5 := dk_seg dksX1_count_4 24 rfl rfl
theorem dX1_count_0 : decode cX1_count 0 = .ok (.iload_n 1, 1) := dk_27 (dk_at dksX1_count_0 0 rfl rfl)
theorem dX1_count_1 : decode cX1_count 1 = .ok (.tableswitch 148 0 10 #[59, 70, 81, 92, 100, 111, 116, 124, 129, 135, 140], 59) := by decide +kernel
theorem dX1_count_60 : decode cX1_count 60 = .ok (.aload_n 0, 1) := dk_42 (dk_at dksX1_count_2 0 rfl rfl)
theorem dX1_count_61 : decode cX1_count 61 = .ok (.getfield 48, 3) := dk_180 0 48 (dk_at dksX1_count_2 1 rfl rfl)
theorem dX1_count_64 : decode cX1_count 64 = .ok (.getfield 243, 3) := dk_180 0 243 (dk_at dksX1_count_2 4 rfl rfl)
theorem dX1_count_67 : decode cX1_count 67 = .ok (.invokevirtual 7, 3) := dk_182 0 7 (dk_at dksX1_count_2 7 rfl rfl)
theorem dX1_count_70 : decode cX1_count 70 = .ok (.ireturn, 1) := dk_172 (dk_at dksX1_count_2 10 rfl rfl)
theorem dX1_count_71 : decode cX1_count 71 = .ok (.aload_n 0, 1) := dk_42 (dk_at dksX1_count_2 11 rfl rfl)
theorem dX1_count_72 : decode cX1_count 72 = .ok (.getfield 48, 3) := dk_180 0 48 (dk_at dksX1_count_2 12 rfl rfl)
theorem dX1_count_75 : decode cX1_count 75 = .ok (.getfield 268, 3) := dk_180 1 12 (dk_at dksX1_count_2 15 rfl rfl)
theorem dX1_count_78 : decode cX1_count 78 = .ok (.invokevirtual 7, 3) := dk_182 0 7 (dk_at dksX1_count_2 18 rfl rfl)
theorem dX1_count_81 : decode cX1_count 81 = .ok (.ireturn, 1) := dk_172 (dk_at dksX1_count_2 21 rfl rfl)
theorem dX1_count_82 : decode cX1_count 82 = .ok (.aload_n 0, 1) := dk_42 (dk_at dksX1_count_2 22 rfl rfl)
theorem dX1_count_83 : decode cX1_count 83 = .ok (.getfield 48, 3) := dk_180 0 48 (dk_at dksX1_count_3 0 rfl rfl)
theorem dX1_count_86 : decode cX1_count 86 = .ok (.getfield 271, 3) := dk_180 1 15 (dk_at dksX1_count_3 3 rfl rfl)
theorem dX1_count_89 : decode cX1_count 89 = .ok (.invokevirtual 7, 3) := dk_182 0 7 (dk_at dksX1_count_3 6 rfl rfl)
theorem dX1_count_92 : decode cX1_count 92 = .ok (.ireturn, 1) := dk_172 (dk_at dksX1_count_3 9 rfl rfl)
theorem dX1_count_93 : decode cX1_count 93 = .ok (.aload_n 0, 1) := dk_42 (dk_at dksX1_count_3 10 rfl rfl)
theorem dX1_count_94 : decode cX1_count 94 = .ok (.getfield 48, 3) := dk_180 0 48 (dk_at dksX1_count_3 11 rfl rfl)
theorem dX1_count_97 : decode cX1_count 97 = .ok (.getfield 222, 3) := dk_180 0 222 (dk_at dksX1_count_3 14 rfl rfl)
theorem dX1_count_100 : decode cX1_count 100 = .ok (.ireturn, 1) := dk_172 (dk_at dksX1_count_3 17 rfl rfl)
theorem dX1_count_101 : decode cX1_count 101 = .ok (.aload_n 0, 1) := dk_42 (dk_at dksX1_count_3 18 rfl rfl)
theorem dX1_count_102 : decode cX1_count 102 = .ok (.getfield 48, 3) := dk_180 0 48 (dk_at dksX1_count_3 19 rfl rfl)
theorem dX1_count_105 : decode cX1_count 105 = .ok (.getfield 177, 3) := dk_180 0 177 (dk_at dksX1_count_4 0 rfl rfl)
theorem dX1_count_108 : decode cX1_count 108 = .ok (.invokevirtual 7, 3) := dk_182 0 7 (dk_at dksX1_count_4 3 rfl rfl)
theorem dX1_count_111 : decode cX1_count 111 = .ok (.ireturn, 1) := dk_172 (dk_at dksX1_count_4 6 rfl rfl)
theorem dX1_count_112 : decode cX1_count 112 = .ok (.aload_n 0, 1) := dk_42 (dk_at dksX1_count_4 7 rfl rfl)
theorem dX1_count_113 : decode cX1_count 113 = .ok (.invokevirtual 274, 3) := dk_182 1 18 (dk_at dksX1_count_4 8 rfl rfl)
theorem dX1_count_116 : decode cX1_count 116 = .ok (.ireturn, 1) := dk_172 (dk_at dksX1_count_4 11 rfl rfl)
theorem dX1_count_117 : decode cX1_count 117 = .ok (.aload_n 0, 1) := dk_42 (dk_at dksX1_count_4 12 rfl rfl)
theorem dX1_count_118 : decode cX1_count 118 = .ok (.getfield 75, 3) := dk_180 0 75 (dk_at dksX1_count_4 13 rfl rfl)
theorem dX1_count_121 : decode cX1_count 121 = .ok (.invokevirtual 7, 3) := dk_182 0 7 (dk_at dksX1_count_4 16 rfl rfl)
theorem dX1_count_124 : decode cX1_count 124 = .ok (.ireturn, 1) := dk_172 (dk_at dksX1_count_4 19 rfl rfl)
theorem dX1_count_125 : decode cX1_count 125 = .ok (.aload_n 0, 1) := dk_42 (dk_at dksX1_count_4 20 rfl rfl)
theorem dX1_count_126 : decode cX1_count 126 = .ok (.invokevirtual 277, 3) := dk_182 1 21 (dk_at dksX1_count_4 21 rfl rfl)
theorem dX1_count_129 : decode cX1_count 129 = .ok (.ireturn, 1) := dk_172 (dk_at dksX1_count_5 0 rfl rfl)
theorem dX1_count_130 : decode cX1_count 130 = .ok (.aload_n 0, 1) := dk_42 (dk_at dksX1_count_5 1 rfl rfl)
theorem dX1_count_131 : decode cX1_count 131 = .ok (.iconst (-1), 1) := dk_2 (dk_at dksX1_count_5 2 rfl rfl)
theorem dX1_count_132 : decode cX1_count 132 = .ok (.invokevirtual 232, 3) := dk_182 0 232 (dk_at dksX1_count_5 3 rfl rfl)
theorem dX1_count_135 : decode cX1_count 135 = .ok (.ireturn, 1) := dk_172 (dk_at dksX1_count_5 6 rfl rfl)
theorem dX1_count_136 : decode cX1_count 136 = .ok (.aload_n 0, 1) := dk_42 (dk_at dksX1_count_5 7 rfl rfl)
theorem dX1_count_137 : decode cX1_count 137 = .ok (.getfield 23, 3) := dk_180 0 23 (dk_at dksX1_count_5 8 rfl rfl)
theorem dX1_count_140 : decode cX1_count 140 = .ok (.ireturn, 1) := dk_172 (dk_at dksX1_count_5 11 rfl rfl)
theorem dX1_count_141 : decode cX1_count 141 = .ok (.aload_n 0, 1) := dk_42 (dk_at dksX1_count_5 12 rfl rfl)
theorem dX1_count_142 : decode cX1_count 142 = .ok (.getfield 48, 3) := dk_180 0 48 (dk_at dksX1_count_5 13 rfl rfl)
theorem dX1_count_145 : decode cX1_count 145 = .ok (.getfield 279, 3) := dk_180 1 23 (dk_at dksX1_count_5 16 rfl rfl)
theorem dX1_count_148 : decode cX1_count 148 = .ok (.ireturn, 1) := dk_172 (dk_at dksX1_count_5 19 rfl rfl)
theorem dX1_count_149 : decode cX1_count 149 = .ok (.iconst (-1), 1) := dk_2 (dk_at dksX1_count_5 20 rfl rfl)
theorem dX1_count_150 : decode cX1_count 150 = .ok (.ireturn, 1) := dk_172 (dk_at dksX1_count_5 21 rfl rfl)
abbrev cX1_dead : ByteArray := prog_1_method_38_code
def yX1_dead : MethodName := ⟨RX1, "dead", "()I"⟩
def dkwX1_dead_2 : List UInt8 := [132, 2, 1, 167, 255, 211, 27, 172]
abbrev dktX1_dead_2 : List UInt8 := dkwX1_dead_2 ++ []
def dkwX1_dead_1 : List UInt8 := [180, 0, 177, 28, 182, 0, 13, 192, 0, 218, 180, 0, 249, 153, 0, 7, 3, 167, 0, 4, 4, 96, 60]
abbrev dktX1_dead_1 : List UInt8 := dkwX1_dead_1 ++ dktX1_dead_2
def dkwX1_dead_0 : List UInt8 := [3, 60, 3, 61, 28, 42, 180, 0, 48, 180, 0, 177, 182, 0, 7, 162, 0, 37, 27, 42, 180, 0, 48]
abbrev dktX1_dead_0 : List UInt8 := dkwX1_dead_0 ++ dktX1_dead_1
theorem dksX1_dead_0 : cX1_dead.data.toList.drop 0 = dktX1_dead_0 := by decide +kernel
theorem dksX1_dead_1 : cX1_dead.data.toList.drop 23 = dktX1_dead_1 := dk_seg dksX1_dead_0 23 rfl rfl
theorem dksX1_dead_2 : cX1_dead.data.toList.drop 46 = dktX1_dead_2 := dk_seg dksX1_dead_1 23 rfl rfl
theorem dX1_dead_0 : decode cX1_dead 0 = .ok (.iconst 0, 1) := dk_3 (dk_at dksX1_dead_0 0 rfl rfl)
theorem dX1_dead_1 : decode cX1_dead 1 = .ok (.istore_n 1, 1) := dk_60 (dk_at dksX1_dead_0 1 rfl rfl)
theorem dX1_dead_2 : decode cX1_dead 2 = .ok (.iconst 0, 1) := dk_3 (dk_at dksX1_dead_0 2 rfl rfl)
theorem dX1_dead_3 : decode cX1_dead 3 = .ok (.istore_n 2, 1) := dk_61 (dk_at dksX1_dead_0 3 rfl rfl)
theorem dX1_dead_4 : decode cX1_dead 4 = .ok (.iload_n 2, 1) := dk_28 (dk_at dksX1_dead_0 4 rfl rfl)
theorem dX1_dead_5 : decode cX1_dead 5 = .ok (.aload_n 0, 1) := dk_42 (dk_at dksX1_dead_0 5 rfl rfl)
theorem dX1_dead_6 : decode cX1_dead 6 = .ok (.getfield 48, 3) := dk_180 0 48 (dk_at dksX1_dead_0 6 rfl rfl)
theorem dX1_dead_9 : decode cX1_dead 9 = .ok (.getfield 177, 3) := dk_180 0 177 (dk_at dksX1_dead_0 9 rfl rfl)
theorem dX1_dead_12 : decode cX1_dead 12 = .ok (.invokevirtual 7, 3) := dk_182 0 7 (dk_at dksX1_dead_0 12 rfl rfl)
theorem dX1_dead_15 : decode cX1_dead 15 = .ok (.if_icmp .ge 37, 3) := dk_162 0 37 (dk_at dksX1_dead_0 15 rfl rfl)
theorem dX1_dead_18 : decode cX1_dead 18 = .ok (.iload_n 1, 1) := dk_27 (dk_at dksX1_dead_0 18 rfl rfl)
theorem dX1_dead_19 : decode cX1_dead 19 = .ok (.aload_n 0, 1) := dk_42 (dk_at dksX1_dead_0 19 rfl rfl)
theorem dX1_dead_20 : decode cX1_dead 20 = .ok (.getfield 48, 3) := dk_180 0 48 (dk_at dksX1_dead_0 20 rfl rfl)
theorem dX1_dead_23 : decode cX1_dead 23 = .ok (.getfield 177, 3) := dk_180 0 177 (dk_at dksX1_dead_1 0 rfl rfl)
theorem dX1_dead_26 : decode cX1_dead 26 = .ok (.iload_n 2, 1) := dk_28 (dk_at dksX1_dead_1 3 rfl rfl)
theorem dX1_dead_27 : decode cX1_dead 27 = .ok (.invokevirtual 13, 3) := dk_182 0 13 (dk_at dksX1_dead_1 4 rfl rfl)
theorem dX1_dead_30 : decode cX1_dead 30 = .ok (.checkcast 218, 3) := dk_192 0 218 (dk_at dksX1_dead_1 7 rfl rfl)
theorem dX1_dead_33 : decode cX1_dead 33 = .ok (.getfield 249, 3) := dk_180 0 249 (dk_at dksX1_dead_1 10 rfl rfl)
theorem dX1_dead_36 : decode cX1_dead 36 = .ok (.ifCond .eq 7, 3) := dk_153 0 7 (dk_at dksX1_dead_1 13 rfl rfl)
theorem dX1_dead_39 : decode cX1_dead 39 = .ok (.iconst 0, 1) := dk_3 (dk_at dksX1_dead_1 16 rfl rfl)
theorem dX1_dead_40 : decode cX1_dead 40 = .ok (.goto 4, 3) := dk_167 0 4 (dk_at dksX1_dead_1 17 rfl rfl)
theorem dX1_dead_43 : decode cX1_dead 43 = .ok (.iconst 1, 1) := dk_4 (dk_at dksX1_dead_1 20 rfl rfl)
theorem dX1_dead_44 : decode cX1_dead 44 = .ok (.iadd, 1) := dk_96 (dk_at dksX1_dead_1 21 rfl rfl)
theorem dX1_dead_45 : decode cX1_dead 45 = .ok (.istore_n 1, 1) := dk_60 (dk_at dksX1_dead_1 22 rfl rfl)
theorem dX1_dead_46 : decode cX1_dead 46 = .ok (.iinc 2 1, 3) := dk_132 2 1 (dk_at dksX1_dead_2 0 rfl rfl)
theorem dX1_dead_49 : decode cX1_dead 49 = .ok (.goto (-45), 3) := dk_167 255 211 (dk_at dksX1_dead_2 3 rfl rfl)
theorem dX1_dead_52 : decode cX1_dead 52 = .ok (.iload_n 1, 1) := dk_27 (dk_at dksX1_dead_2 6 rfl rfl)
theorem dX1_dead_53 : decode cX1_dead 53 = .ok (.ireturn, 1) := dk_172 (dk_at dksX1_dead_2 7 rfl rfl)
abbrev cX1_weights : ByteArray := prog_1_method_39_code
def yX1_weights : MethodName := ⟨RX1, "weights", "()I"⟩
def dkwX1_weights_1 : List UInt8 := [180, 0, 85, 182, 0, 171, 96, 60, 132, 2, 1, 167, 255, 227, 27, 172]
abbrev dktX1_weights_1 : List UInt8 := dkwX1_weights_1 ++ []
def dkwX1_weights_0 : List UInt8 := [3, 60, 3, 61, 28, 42, 180, 0, 75, 182, 0, 7, 162, 0, 24, 42, 28, 182, 0, 154, 27, 42]
abbrev dktX1_weights_0 : List UInt8 := dkwX1_weights_0 ++ dktX1_weights_1
theorem dksX1_weights_0 : cX1_weights.data.toList.drop 0 = dktX1_weights_0 := by decide +kernel
theorem dksX1_weights_1 : cX1_weights.data.toList.drop 22 = dktX1_weights_1 := dk_seg dksX1_weights_0 22 rfl rfl
theorem dX1_weights_0 : decode cX1_weights 0 = .ok (.iconst 0, 1) := dk_3 (dk_at dksX1_weights_0 0 rfl rfl)
theorem dX1_weights_1 : decode cX1_weights 1 = .ok (.istore_n 1, 1) := dk_60 (dk_at dksX1_weights_0 1 rfl rfl)
theorem dX1_weights_2 : decode cX1_weights 2 = .ok (.iconst 0, 1) := dk_3 (dk_at dksX1_weights_0 2 rfl rfl)
theorem dX1_weights_3 : decode cX1_weights 3 = .ok (.istore_n 2, 1) := dk_61 (dk_at dksX1_weights_0 3 rfl rfl)
theorem dX1_weights_4 : decode cX1_weights 4 = .ok (.iload_n 2, 1) := dk_28 (dk_at dksX1_weights_0 4 rfl rfl)
theorem dX1_weights_5 : decode cX1_weights 5 = .ok (.aload_n 0, 1) := dk_42 (dk_at dksX1_weights_0 5 rfl rfl)
theorem dX1_weights_6 : decode cX1_weights 6 = .ok (.getfield 75, 3) := dk_180 0 75 (dk_at dksX1_weights_0 6 rfl rfl)
theorem dX1_weights_9 : decode cX1_weights 9 = .ok (.invokevirtual 7, 3) := dk_182 0 7 (dk_at dksX1_weights_0 9 rfl rfl)
theorem dX1_weights_12 : decode cX1_weights 12 = .ok (.if_icmp .ge 24, 3) := dk_162 0 24 (dk_at dksX1_weights_0 12 rfl rfl)
theorem dX1_weights_15 : decode cX1_weights 15 = .ok (.aload_n 0, 1) := dk_42 (dk_at dksX1_weights_0 15 rfl rfl)
theorem dX1_weights_16 : decode cX1_weights 16 = .ok (.iload_n 2, 1) := dk_28 (dk_at dksX1_weights_0 16 rfl rfl)
theorem dX1_weights_17 : decode cX1_weights 17 = .ok (.invokevirtual 154, 3) := dk_182 0 154 (dk_at dksX1_weights_0 17 rfl rfl)
theorem dX1_weights_20 : decode cX1_weights 20 = .ok (.iload_n 1, 1) := dk_27 (dk_at dksX1_weights_0 20 rfl rfl)
theorem dX1_weights_21 : decode cX1_weights 21 = .ok (.aload_n 0, 1) := dk_42 (dk_at dksX1_weights_0 21 rfl rfl)
theorem dX1_weights_22 : decode cX1_weights 22 = .ok (.getfield 85, 3) := dk_180 0 85 (dk_at dksX1_weights_1 0 rfl rfl)
theorem dX1_weights_25 : decode cX1_weights 25 = .ok (.invokevirtual 171, 3) := dk_182 0 171 (dk_at dksX1_weights_1 3 rfl rfl)
theorem dX1_weights_28 : decode cX1_weights 28 = .ok (.iadd, 1) := dk_96 (dk_at dksX1_weights_1 6 rfl rfl)
theorem dX1_weights_29 : decode cX1_weights 29 = .ok (.istore_n 1, 1) := dk_60 (dk_at dksX1_weights_1 7 rfl rfl)
theorem dX1_weights_30 : decode cX1_weights 30 = .ok (.iinc 2 1, 3) := dk_132 2 1 (dk_at dksX1_weights_1 8 rfl rfl)
theorem dX1_weights_33 : decode cX1_weights 33 = .ok (.goto (-29), 3) := dk_167 255 227 (dk_at dksX1_weights_1 11 rfl rfl)
theorem dX1_weights_36 : decode cX1_weights 36 = .ok (.iload_n 1, 1) := dk_27 (dk_at dksX1_weights_1 14 rfl rfl)
theorem dX1_weights_37 : decode cX1_weights 37 = .ok (.ireturn, 1) := dk_172 (dk_at dksX1_weights_1 15 rfl rfl)
abbrev cX1_listed : ByteArray := prog_1_method_20_code
def yX1_listed : MethodName := ⟨RX1, "listed", "(III)I"⟩
def dkwX1_listed_3 : List UInt8 := [154, 0, 11, 187, 0, 188, 89, 183, 0, 190, 191, 25, 5, 29, 182, 0, 13, 192, 0, 136, 182, 0, 191, 172]
abbrev dktX1_listed_3 : List UInt8 := dkwX1_listed_3 ++ []
def dkwX1_listed_2 : List UInt8 := [167, 0, 8, 25, 4, 180, 0, 156, 58, 5, 29, 3, 25, 5, 182, 0, 7, 4, 100, 184, 0, 3]
abbrev dktX1_listed_2 : List UInt8 := dkwX1_listed_2 ++ dktX1_listed_3
def dkwX1_listed_1 : List UInt8 := [191, 42, 180, 0, 75, 27, 182, 0, 13, 192, 0, 99, 58, 4, 28, 154, 0, 11, 25, 4, 180, 0, 132]
abbrev dktX1_listed_1 : List UInt8 := dkwX1_listed_1 ++ dktX1_listed_2
def dkwX1_listed_0 : List UInt8 := [42, 27, 182, 0, 115, 153, 0, 12, 28, 3, 4, 184, 0, 3, 154, 0, 11, 187, 0, 188, 89, 183, 0, 190]
abbrev dktX1_listed_0 : List UInt8 := dkwX1_listed_0 ++ dktX1_listed_1
theorem dksX1_listed_0 : cX1_listed.data.toList.drop 0 = dktX1_listed_0 := by decide +kernel
theorem dksX1_listed_1 : cX1_listed.data.toList.drop 24 = dktX1_listed_1 := dk_seg dksX1_listed_0 24 rfl rfl
theorem dksX1_listed_2 : cX1_listed.data.toList.drop 47 = dktX1_listed_2 := dk_seg dksX1_listed_1 23 rfl rfl
theorem dksX1_listed_3 : cX1_listed.data.toList.drop 69 = dktX1_listed_3 := dk_seg dksX1_listed_2 22 rfl rfl
theorem dX1_listed_0 : decode cX1_listed 0 = .ok (.aload_n 0, 1) := dk_42 (dk_at dksX1_listed_0 0 rfl rfl)
theorem dX1_listed_1 : decode cX1_listed 1 = .ok (.iload_n 1, 1) := dk_27 (dk_at dksX1_listed_0 1 rfl rfl)
theorem dX1_listed_2 : decode cX1_listed 2 = .ok (.invokevirtual 115, 3) := dk_182 0 115 (dk_at dksX1_listed_0 2 rfl rfl)
theorem dX1_listed_5 : decode cX1_listed 5 = .ok (.ifCond .eq 12, 3) := dk_153 0 12 (dk_at dksX1_listed_0 5 rfl rfl)
theorem dX1_listed_8 : decode cX1_listed 8 = .ok (.iload_n 2, 1) := dk_28 (dk_at dksX1_listed_0 8 rfl rfl)
theorem dX1_listed_9 : decode cX1_listed 9 = .ok (.iconst 0, 1) := dk_3 (dk_at dksX1_listed_0 9 rfl rfl)
theorem dX1_listed_10 : decode cX1_listed 10 = .ok (.iconst 1, 1) := dk_4 (dk_at dksX1_listed_0 10 rfl rfl)
theorem dX1_listed_11 : decode cX1_listed 11 = .ok (.invokestatic 3, 3) := dk_184 0 3 (dk_at dksX1_listed_0 11 rfl rfl)
theorem dX1_listed_14 : decode cX1_listed 14 = .ok (.ifCond .ne 11, 3) := dk_154 0 11 (dk_at dksX1_listed_0 14 rfl rfl)
theorem dX1_listed_17 : decode cX1_listed 17 = .ok (.new 188, 3) := dk_187 0 188 (dk_at dksX1_listed_0 17 rfl rfl)
theorem dX1_listed_20 : decode cX1_listed 20 = .ok (.dup, 1) := dk_89 (dk_at dksX1_listed_0 20 rfl rfl)
theorem dX1_listed_21 : decode cX1_listed 21 = .ok (.invokespecial 190, 3) := dk_183 0 190 (dk_at dksX1_listed_0 21 rfl rfl)
theorem dX1_listed_24 : decode cX1_listed 24 = .ok (.athrow, 1) := dk_191 (dk_at dksX1_listed_1 0 rfl rfl)
theorem dX1_listed_25 : decode cX1_listed 25 = .ok (.aload_n 0, 1) := dk_42 (dk_at dksX1_listed_1 1 rfl rfl)
theorem dX1_listed_26 : decode cX1_listed 26 = .ok (.getfield 75, 3) := dk_180 0 75 (dk_at dksX1_listed_1 2 rfl rfl)
theorem dX1_listed_29 : decode cX1_listed 29 = .ok (.iload_n 1, 1) := dk_27 (dk_at dksX1_listed_1 5 rfl rfl)
theorem dX1_listed_30 : decode cX1_listed 30 = .ok (.invokevirtual 13, 3) := dk_182 0 13 (dk_at dksX1_listed_1 6 rfl rfl)
theorem dX1_listed_33 : decode cX1_listed 33 = .ok (.checkcast 99, 3) := dk_192 0 99 (dk_at dksX1_listed_1 9 rfl rfl)
theorem dX1_listed_36 : decode cX1_listed 36 = .ok (.astore 4, 2) := dk_58 4 (dk_at dksX1_listed_1 12 rfl rfl)
theorem dX1_listed_38 : decode cX1_listed 38 = .ok (.iload_n 2, 1) := dk_28 (dk_at dksX1_listed_1 14 rfl rfl)
theorem dX1_listed_39 : decode cX1_listed 39 = .ok (.ifCond .ne 11, 3) := dk_154 0 11 (dk_at dksX1_listed_1 15 rfl rfl)
theorem dX1_listed_42 : decode cX1_listed 42 = .ok (.aload 4, 2) := dk_25 4 (dk_at dksX1_listed_1 18 rfl rfl)
theorem dX1_listed_44 : decode cX1_listed 44 = .ok (.getfield 132, 3) := dk_180 0 132 (dk_at dksX1_listed_1 20 rfl rfl)
theorem dX1_listed_47 : decode cX1_listed 47 = .ok (.goto 8, 3) := dk_167 0 8 (dk_at dksX1_listed_2 0 rfl rfl)
theorem dX1_listed_50 : decode cX1_listed 50 = .ok (.aload 4, 2) := dk_25 4 (dk_at dksX1_listed_2 3 rfl rfl)
theorem dX1_listed_52 : decode cX1_listed 52 = .ok (.getfield 156, 3) := dk_180 0 156 (dk_at dksX1_listed_2 5 rfl rfl)
theorem dX1_listed_55 : decode cX1_listed 55 = .ok (.astore 5, 2) := dk_58 5 (dk_at dksX1_listed_2 8 rfl rfl)
theorem dX1_listed_57 : decode cX1_listed 57 = .ok (.iload_n 3, 1) := dk_29 (dk_at dksX1_listed_2 10 rfl rfl)
theorem dX1_listed_58 : decode cX1_listed 58 = .ok (.iconst 0, 1) := dk_3 (dk_at dksX1_listed_2 11 rfl rfl)
theorem dX1_listed_59 : decode cX1_listed 59 = .ok (.aload 5, 2) := dk_25 5 (dk_at dksX1_listed_2 12 rfl rfl)
theorem dX1_listed_61 : decode cX1_listed 61 = .ok (.invokevirtual 7, 3) := dk_182 0 7 (dk_at dksX1_listed_2 14 rfl rfl)
theorem dX1_listed_64 : decode cX1_listed 64 = .ok (.iconst 1, 1) := dk_4 (dk_at dksX1_listed_2 17 rfl rfl)
theorem dX1_listed_65 : decode cX1_listed 65 = .ok (.isub, 1) := dk_100 (dk_at dksX1_listed_2 18 rfl rfl)
theorem dX1_listed_66 : decode cX1_listed 66 = .ok (.invokestatic 3, 3) := dk_184 0 3 (dk_at dksX1_listed_2 19 rfl rfl)
theorem dX1_listed_69 : decode cX1_listed 69 = .ok (.ifCond .ne 11, 3) := dk_154 0 11 (dk_at dksX1_listed_3 0 rfl rfl)
theorem dX1_listed_72 : decode cX1_listed 72 = .ok (.new 188, 3) := dk_187 0 188 (dk_at dksX1_listed_3 3 rfl rfl)
theorem dX1_listed_75 : decode cX1_listed 75 = .ok (.dup, 1) := dk_89 (dk_at dksX1_listed_3 6 rfl rfl)
theorem dX1_listed_76 : decode cX1_listed 76 = .ok (.invokespecial 190, 3) := dk_183 0 190 (dk_at dksX1_listed_3 7 rfl rfl)
theorem dX1_listed_79 : decode cX1_listed 79 = .ok (.athrow, 1) := dk_191 (dk_at dksX1_listed_3 10 rfl rfl)
theorem dX1_listed_80 : decode cX1_listed 80 = .ok (.aload 5, 2) := dk_25 5 (dk_at dksX1_listed_3 11 rfl rfl)
theorem dX1_listed_82 : decode cX1_listed 82 = .ok (.iload_n 3, 1) := dk_29 (dk_at dksX1_listed_3 13 rfl rfl)
theorem dX1_listed_83 : decode cX1_listed 83 = .ok (.invokevirtual 13, 3) := dk_182 0 13 (dk_at dksX1_listed_3 14 rfl rfl)
theorem dX1_listed_86 : decode cX1_listed 86 = .ok (.checkcast 136, 3) := dk_192 0 136 (dk_at dksX1_listed_3 17 rfl rfl)
theorem dX1_listed_89 : decode cX1_listed 89 = .ok (.invokevirtual 191, 3) := dk_182 0 191 (dk_at dksX1_listed_3 20 rfl rfl)
theorem dX1_listed_92 : decode cX1_listed 92 = .ok (.ireturn, 1) := dk_172 (dk_at dksX1_listed_3 23 rfl rfl)
theorem q121 : (Jvm.Cond.initialized "CaseGrouper") ∈ lw_all := lw_g (lw_at lw_m1 1 rfl) rfl
theorem q168 : (Jvm.Cond.instanceMethod ({ cls := "CaseGrouper", name := "feed", desc := "(JJJ)I" } : Jvm.MethodName)) ∈ lw_all := lw_g (lw_at lw_m1 48 rfl) rfl
theorem q169 : (Jvm.Cond.selects "CaseGrouper" ({ cls := "CaseGrouper", name := "feed", desc := "(JJJ)I" } : Jvm.MethodName) ({ cls := "CaseGrouper", name := "feed", desc := "(JJJ)I" } : Jvm.MethodName)) ∈ lw_all := lw_g (lw_at lw_m1 49 rfl) rfl
theorem q170 : (Jvm.Cond.code ({ cls := "CaseGrouper", name := "feed", desc := "(JJJ)I" } : Jvm.MethodName) prog_1_method_5_code (7 : Nat) (Option.some Jvm.ClassFile.FieldType.int)) ∈ lw_all := lw_g (lw_at lw_m1 50 rfl) rfl
theorem q171 : (Jvm.Cond.methodLink "CaseGrouper" (27 : Nat) ({ cls := "CaseGrouper", name := "eight", desc := "(J)V" } : Jvm.MethodName)) ∈ lw_all := lw_g (lw_at lw_m1 51 rfl) rfl
theorem q172 : (Jvm.Cond.privateMethod ({ cls := "CaseGrouper", name := "eight", desc := "(J)V" } : Jvm.MethodName)) ∈ lw_tbl := lw_at lw_m1 52 rfl
theorem q173 : (Jvm.Cond.instanceMethod ({ cls := "CaseGrouper", name := "eight", desc := "(J)V" } : Jvm.MethodName)) ∈ lw_all := lw_g (lw_at lw_m1 53 rfl) rfl
theorem q174 : (Jvm.Cond.instantiable "CaseGrouper" (8 : Nat)) ∈ lw_all := lw_g (lw_at lw_m1 54 rfl) rfl
theorem q175 : (Jvm.Cond.code ({ cls := "CaseGrouper", name := "eight", desc := "(J)V" } : Jvm.MethodName) prog_1_method_6_code (4 : Nat) (Option.none : Option Jvm.ClassFile.FieldType)) ∈ lw_all := lw_g (lw_at lw_m1 55 rfl) rfl
theorem q177 : (Jvm.Cond.instanceMethod ({ cls := "CaseGrouper", name := "end", desc := "(I)I" } : Jvm.MethodName)) ∈ lw_all := lw_g (lw_at lw_m1 57 rfl) rfl
theorem q178 : (Jvm.Cond.selects "CaseGrouper" ({ cls := "CaseGrouper", name := "end", desc := "(I)I" } : Jvm.MethodName) ({ cls := "CaseGrouper", name := "end", desc := "(I)I" } : Jvm.MethodName)) ∈ lw_all := lw_g (lw_at lw_m1 58 rfl) rfl
theorem q179 : (Jvm.Cond.code ({ cls := "CaseGrouper", name := "end", desc := "(I)I" } : Jvm.MethodName) prog_1_method_7_code (2 : Nat) (Option.some Jvm.ClassFile.FieldType.int)) ∈ lw_all := lw_g (lw_at lw_m1 59 rfl) rfl
theorem q180 : (Jvm.Cond.methodLink "CaseGrouper" (3 : Nat) ({ cls := "CaseGrouper", name := "within", desc := "(III)Z" } : Jvm.MethodName)) ∈ lw_all := lw_g (lw_at lw_m1 60 rfl) rfl
theorem q181 : (Jvm.Cond.static ({ cls := "CaseGrouper", name := "within", desc := "(III)Z" } : Jvm.MethodName)) ∈ lw_all := lw_g (lw_at lw_m1 61 rfl) rfl
theorem q182 : (Jvm.Cond.code ({ cls := "CaseGrouper", name := "within", desc := "(III)Z" } : Jvm.MethodName) prog_1_method_1_code (3 : Nat) (Option.some Jvm.ClassFile.FieldType.boolean)) ∈ lw_all := lw_g (lw_at lw_m1 62 rfl) rfl
theorem q184 : (Jvm.Cond.instanceMethod ({ cls := "CaseGrouper", name := "edition", desc := "()I" } : Jvm.MethodName)) ∈ lw_all := lw_g (lw_at lw_m1 64 rfl) rfl
theorem q185 : (Jvm.Cond.selects "CaseGrouper" ({ cls := "CaseGrouper", name := "edition", desc := "()I" } : Jvm.MethodName) ({ cls := "CaseGrouper", name := "edition", desc := "()I" } : Jvm.MethodName)) ∈ lw_all := lw_g (lw_at lw_m1 65 rfl) rfl
theorem q186 : (Jvm.Cond.codeWith ({ cls := "CaseGrouper", name := "edition", desc := "()I" } : Jvm.MethodName) prog_1_method_8_code (6 : Nat) (Option.some Jvm.ClassFile.FieldType.int) [((34 : Nat), (46 : Nat), (47 : Nat), (55 : Nat))]) ∈ lw_all := lw_g (lw_at lw_m1 66 rfl) rfl
theorem q187 : (Jvm.Cond.classLink "CaseGrouper" (55 : Nat) "CaseGrouper$Refused") ∈ lw_all := lw_g (lw_at lw_m1 67 rfl) rfl
theorem q188 : (Jvm.Cond.classLink "CaseGrouper" (38 : Nat) "CaseGrouper$Reader") ∈ lw_all := lw_g (lw_at lw_m1 68 rfl) rfl
theorem q190 : (Jvm.Cond.methodLink "CaseGrouper" (40 : Nat) ({ cls := "CaseGrouper$Reader", name := "<init>", desc := "(LCaseGrouper;I)V" } : Jvm.MethodName)) ∈ lw_all := lw_g (lw_at lw_m1 70 rfl) rfl
theorem q233 : (Jvm.Cond.fieldLinkNest "CaseGrouper" (243 : Nat) "CaseGrouper$Edition" "chapters" "Ljava/util/ArrayList;" "CaseGrouper") ∈ lw_tbl := lw_at lw_m1 113 rfl
theorem q237 : (Jvm.Cond.fieldLinkNest "CaseGrouper" (268 : Nat) "CaseGrouper$Edition" "ranks" "Ljava/util/ArrayList;" "CaseGrouper") ∈ lw_tbl := lw_at lw_m1 117 rfl
theorem q241 : (Jvm.Cond.fieldLinkNest "CaseGrouper" (271 : Nat) "CaseGrouper$Edition" "partners" "Ljava/util/ArrayList;" "CaseGrouper") ∈ lw_tbl := lw_at lw_m1 121 rfl
theorem q243 : (Jvm.Cond.fieldLinkNest "CaseGrouper" (177 : Nat) "CaseGrouper$Edition" "leaves" "Ljava/util/ArrayList;" "CaseGrouper") ∈ lw_tbl := lw_at lw_m1 123 rfl
theorem q245 : (Jvm.Cond.fieldLinkNest "CaseGrouper" (246 : Nat) "CaseGrouper$Edition" "chapterOf" "Ljava/util/ArrayList;" "CaseGrouper") ∈ lw_tbl := lw_at lw_m1 125 rfl
theorem q247 : (Jvm.Cond.fieldLinkNest "CaseGrouper" (235 : Nat) "CaseGrouper$Edition" "names" "[[C" "CaseGrouper") ∈ lw_tbl := lw_at lw_m1 127 rfl
theorem q251 : (Jvm.Cond.fieldLinkNest "CaseGrouper" (225 : Nat) "CaseGrouper$Edition" "weights" "[S" "CaseGrouper") ∈ lw_tbl := lw_at lw_m1 131 rfl
theorem q254 : (Jvm.Cond.fieldLinkNest "CaseGrouper" (222 : Nat) "CaseGrouper$Edition" "classes" "I" "CaseGrouper") ∈ lw_tbl := lw_at lw_m1 134 rfl
theorem q256 : (Jvm.Cond.fieldLinkNest "CaseGrouper" (279 : Nat) "CaseGrouper$Edition" "nodes" "I" "CaseGrouper") ∈ lw_tbl := lw_at lw_m1 136 rfl
theorem q284 : (Jvm.Cond.fieldLinkNest "CaseGrouper" (52 : Nat) "CaseGrouper$Reader" "lines" "I" "CaseGrouper") ∈ lw_tbl := lw_at lw_m1 164 rfl
theorem q309 : (Jvm.Cond.methodLink "CaseGrouper" (44 : Nat) ({ cls := "CaseGrouper$Reader", name := "whole", desc := "()LCaseGrouper$Edition;" } : Jvm.MethodName)) ∈ lw_all := lw_g (lw_at lw_m1 189 rfl) rfl
theorem q666 : (Jvm.Cond.fieldLinkNest "CaseGrouper" (66 : Nat) "CaseGrouper$Wrong" "number" "I" "CaseGrouper") ∈ lw_tbl := lw_at lw_m3 66 rfl
theorem q932 : (Jvm.Cond.selects "CaseGrouper" ({ cls := "java/lang/Object", name := "getClass", desc := "()Ljava/lang/Class;" } : Jvm.MethodName) ({ cls := "java/lang/Object", name := "getClass", desc := "()Ljava/lang/Class;" } : Jvm.MethodName)) ∈ lw_all := lw_g (lw_at lw_m4 92 rfl) rfl
theorem q979 : (Jvm.Cond.static ({ cls := "CaseGrouper", name := "isDiagnosis", desc := "(I)Z" } : Jvm.MethodName)) ∈ lw_all := lw_g (lw_at lw_m4 139 rfl) rfl
theorem q980 : (Jvm.Cond.code ({ cls := "CaseGrouper", name := "isDiagnosis", desc := "(I)Z" } : Jvm.MethodName) prog_1_method_2_code (1 : Nat) (Option.some Jvm.ClassFile.FieldType.boolean)) ∈ lw_all := lw_g (lw_at lw_m4 140 rfl) rfl
theorem q1091 : (Jvm.Cond.fieldLinkNest "CaseGrouper" (220 : Nat) "CaseGrouper$Leaf" "cls" "I" "CaseGrouper") ∈ lw_tbl := lw_at lw_m5 11 rfl
theorem q1093 : (Jvm.Cond.fieldLinkNest "CaseGrouper" (249 : Nat) "CaseGrouper$Leaf" "isMet" "Z" "CaseGrouper") ∈ lw_tbl := lw_at lw_m5 13 rfl
theorem q1232 : (Jvm.Cond.fieldLinkNest "CaseGrouper" (57 : Nat) "CaseGrouper$Refused" "line" "I" "CaseGrouper") ∈ lw_tbl := lw_at lw_m5 152 rfl
theorem q1362 : (Jvm.Cond.methodLink "CaseGrouper" (60 : Nat) ({ cls := "CaseGrouper$Refused", name := "getCause", desc := "()Ljava/lang/Throwable;" } : Jvm.MethodName)) ∈ lw_all := lw_g (lw_at lw_m6 42 rfl) rfl
theorem q1368 : (Jvm.Cond.classLink "CaseGrouper" (64 : Nat) "CaseGrouper$Wrong") ∈ lw_all := lw_g (lw_at lw_m6 48 rfl) rfl
theorem q1371 : (Jvm.Cond.instanceMethod ({ cls := "CaseGrouper", name := "faultLine", desc := "()I" } : Jvm.MethodName)) ∈ lw_all := lw_g (lw_at lw_m6 51 rfl) rfl
theorem q1372 : (Jvm.Cond.selects "CaseGrouper" ({ cls := "CaseGrouper", name := "faultLine", desc := "()I" } : Jvm.MethodName) ({ cls := "CaseGrouper", name := "faultLine", desc := "()I" } : Jvm.MethodName)) ∈ lw_all := lw_g (lw_at lw_m6 52 rfl) rfl
theorem q1373 : (Jvm.Cond.code ({ cls := "CaseGrouper", name := "faultLine", desc := "()I" } : Jvm.MethodName) prog_1_method_9_code (1 : Nat) (Option.some Jvm.ClassFile.FieldType.int)) ∈ lw_all := lw_g (lw_at lw_m6 53 rfl) rfl
theorem q1376 : (Jvm.Cond.instanceMethod ({ cls := "CaseGrouper", name := "<init>", desc := "()V" } : Jvm.MethodName)) ∈ lw_all := lw_g (lw_at lw_m6 56 rfl) rfl
theorem q1377 : (Jvm.Cond.code ({ cls := "CaseGrouper", name := "<init>", desc := "()V" } : Jvm.MethodName) prog_1_method_10_code (1 : Nat) (Option.none : Option Jvm.ClassFile.FieldType)) ∈ lw_all := lw_g (lw_at lw_m6 57 rfl) rfl
theorem q1378 : (Jvm.Cond.methodLink "CaseGrouper" (69 : Nat) ({ cls := "java/lang/Object", name := "<init>", desc := "()V" } : Jvm.MethodName)) ∈ lw_all := lw_g (lw_at lw_m6 58 rfl) rfl
theorem q1379 : (Jvm.Cond.classLink "CaseGrouper" (8 : Nat) "java/util/ArrayList") ∈ lw_all := lw_g (lw_at lw_m6 59 rfl) rfl
theorem q1380 : (Jvm.Cond.methodLink "CaseGrouper" (74 : Nat) ({ cls := "java/util/ArrayList", name := "<init>", desc := "()V" } : Jvm.MethodName)) ∈ lw_all := lw_g (lw_at lw_m6 60 rfl) rfl
theorem q1381 : (Jvm.Cond.classLink "CaseGrouper" (79 : Nat) "CaseGrouper$Edition") ∈ lw_all := lw_g (lw_at lw_m6 61 rfl) rfl
theorem q1382 : (Jvm.Cond.methodLinkNest "CaseGrouper" (81 : Nat) ({ cls := "CaseGrouper$Edition", name := "<init>", desc := "()V" } : Jvm.MethodName) "CaseGrouper") ∈ lw_tbl := lw_at lw_m6 62 rfl
theorem q1383 : (Jvm.Cond.classLink "CaseGrouper" (82 : Nat) "CaseGrouper$Seen") ∈ lw_all := lw_g (lw_at lw_m6 63 rfl) rfl
theorem q1384 : (Jvm.Cond.methodLinkNest "CaseGrouper" (84 : Nat) ({ cls := "CaseGrouper$Seen", name := "<init>", desc := "()V" } : Jvm.MethodName) "CaseGrouper") ∈ lw_tbl := lw_at lw_m6 64 rfl
theorem q1391 : (Jvm.Cond.fieldLinkNest "CaseGrouper" (159 : Nat) "CaseGrouper$Seen" "chapter" "I" "CaseGrouper") ∈ lw_tbl := lw_at lw_m6 71 rfl
theorem q1393 : (Jvm.Cond.fieldLinkNest "CaseGrouper" (162 : Nat) "CaseGrouper$Seen" "top" "I" "CaseGrouper") ∈ lw_tbl := lw_at lw_m6 73 rfl
theorem q1395 : (Jvm.Cond.fieldLinkNest "CaseGrouper" (165 : Nat) "CaseGrouper$Seen" "level" "I" "CaseGrouper") ∈ lw_tbl := lw_at lw_m6 75 rfl
theorem q1397 : (Jvm.Cond.fieldLinkNest "CaseGrouper" (180 : Nat) "CaseGrouper$Seen" "leaf" "LCaseGrouper$Leaf;" "CaseGrouper") ∈ lw_tbl := lw_at lw_m6 77 rfl
theorem q1399 : (Jvm.Cond.fieldLinkNest "CaseGrouper" (174 : Nat) "CaseGrouper$Seen" "ways" "I" "CaseGrouper") ∈ lw_tbl := lw_at lw_m6 79 rfl
theorem q1401 : (Jvm.Cond.fieldLinkNest "CaseGrouper" (194 : Nat) "CaseGrouper$Seen" "way" "J" "CaseGrouper") ∈ lw_tbl := lw_at lw_m6 81 rfl
theorem q1420 : (Jvm.Cond.fieldLink "CaseGrouper" (31 : Nat) "CaseGrouper" "tape" "[B") ∈ lw_all := lw_g (lw_at lw_m6 100 rfl) rfl
theorem q1421 : (Jvm.Cond.fieldLink "CaseGrouper" (23 : Nat) "CaseGrouper" "taped" "I") ∈ lw_all := lw_g (lw_at lw_m6 101 rfl) rfl
theorem q1422 : (Jvm.Cond.fieldLink "CaseGrouper" (35 : Nat) "CaseGrouper" "faultLine" "I") ∈ lw_all := lw_g (lw_at lw_m6 102 rfl) rfl
theorem q1423 : (Jvm.Cond.fieldLink "CaseGrouper" (75 : Nat) "CaseGrouper" "stays" "Ljava/util/ArrayList;") ∈ lw_all := lw_g (lw_at lw_m6 103 rfl) rfl
theorem q1424 : (Jvm.Cond.fieldLink "CaseGrouper" (48 : Nat) "CaseGrouper" "now" "LCaseGrouper$Edition;") ∈ lw_all := lw_g (lw_at lw_m6 104 rfl) rfl
theorem q1425 : (Jvm.Cond.fieldLink "CaseGrouper" (257 : Nat) "CaseGrouper" "kept" "LCaseGrouper$Edition;") ∈ lw_all := lw_g (lw_at lw_m6 105 rfl) rfl
theorem q1426 : (Jvm.Cond.fieldLink "CaseGrouper" (85 : Nat) "CaseGrouper" "seen" "LCaseGrouper$Seen;") ∈ lw_all := lw_g (lw_at lw_m6 106 rfl) rfl
theorem q1427 : (Jvm.Cond.fieldLink "CaseGrouper" (89 : Nat) "CaseGrouper" "other" "LCaseGrouper$Seen;") ∈ lw_all := lw_g (lw_at lw_m6 107 rfl) rfl
theorem q1428 : (Jvm.Cond.laysFinal "CaseGrouper" "CaseGrouper" "tape" "[B") ∈ lw_all := lw_g (lw_at lw_m6 108 rfl) rfl
theorem q1429 : (Jvm.Cond.soleField "CaseGrouper" "tape") ∈ lw_all := lw_g (lw_at lw_m6 109 rfl) rfl
theorem q1430 : (Jvm.Cond.lays "CaseGrouper" "CaseGrouper" "taped" "I") ∈ lw_all := lw_g (lw_at lw_m6 110 rfl) rfl
theorem q1431 : (Jvm.Cond.soleField "CaseGrouper" "taped") ∈ lw_all := lw_g (lw_at lw_m6 111 rfl) rfl
theorem q1432 : (Jvm.Cond.lays "CaseGrouper" "CaseGrouper" "faultLine" "I") ∈ lw_all := lw_g (lw_at lw_m6 112 rfl) rfl
theorem q1433 : (Jvm.Cond.soleField "CaseGrouper" "faultLine") ∈ lw_all := lw_g (lw_at lw_m6 113 rfl) rfl
theorem q1434 : (Jvm.Cond.laysFinal "CaseGrouper" "CaseGrouper" "stays" "Ljava/util/ArrayList;") ∈ lw_all := lw_g (lw_at lw_m6 114 rfl) rfl
theorem q1435 : (Jvm.Cond.soleField "CaseGrouper" "stays") ∈ lw_all := lw_g (lw_at lw_m6 115 rfl) rfl
theorem q1436 : (Jvm.Cond.lays "CaseGrouper" "CaseGrouper" "now" "LCaseGrouper$Edition;") ∈ lw_all := lw_g (lw_at lw_m6 116 rfl) rfl
theorem q1437 : (Jvm.Cond.soleField "CaseGrouper" "now") ∈ lw_all := lw_g (lw_at lw_m6 117 rfl) rfl
theorem q1438 : (Jvm.Cond.lays "CaseGrouper" "CaseGrouper" "kept" "LCaseGrouper$Edition;") ∈ lw_all := lw_g (lw_at lw_m6 118 rfl) rfl
theorem q1439 : (Jvm.Cond.soleField "CaseGrouper" "kept") ∈ lw_all := lw_g (lw_at lw_m6 119 rfl) rfl
theorem q1440 : (Jvm.Cond.laysFinal "CaseGrouper" "CaseGrouper" "seen" "LCaseGrouper$Seen;") ∈ lw_all := lw_g (lw_at lw_m6 120 rfl) rfl
theorem q1441 : (Jvm.Cond.soleField "CaseGrouper" "seen") ∈ lw_all := lw_g (lw_at lw_m6 121 rfl) rfl
theorem q1442 : (Jvm.Cond.laysFinal "CaseGrouper" "CaseGrouper" "other" "LCaseGrouper$Seen;") ∈ lw_all := lw_g (lw_at lw_m6 122 rfl) rfl
theorem q1443 : (Jvm.Cond.soleField "CaseGrouper" "other") ∈ lw_all := lw_g (lw_at lw_m6 123 rfl) rfl
theorem q1444 : (Jvm.Cond.superclass "CaseGrouper" "java/lang/Object") ∈ lw_all := lw_g (lw_at lw_m6 124 rfl) rfl
theorem q1446 : (Jvm.Cond.instanceMethod ({ cls := "CaseGrouper", name := "stay", desc := "(III)I" } : Jvm.MethodName)) ∈ lw_all := lw_g (lw_at lw_m6 126 rfl) rfl
theorem q1447 : (Jvm.Cond.selects "CaseGrouper" ({ cls := "CaseGrouper", name := "stay", desc := "(III)I" } : Jvm.MethodName) ({ cls := "CaseGrouper", name := "stay", desc := "(III)I" } : Jvm.MethodName)) ∈ lw_all := lw_g (lw_at lw_m6 127 rfl) rfl
theorem q1448 : (Jvm.Cond.code ({ cls := "CaseGrouper", name := "stay", desc := "(III)I" } : Jvm.MethodName) prog_1_method_13_code (5 : Nat) (Option.some Jvm.ClassFile.FieldType.int)) ∈ lw_all := lw_g (lw_at lw_m6 128 rfl) rfl
theorem q1449 : (Jvm.Cond.methodLink "CaseGrouper" (95 : Nat) ({ cls := "CaseGrouper", name := "isSo", desc := "(II)Z" } : Jvm.MethodName)) ∈ lw_all := lw_g (lw_at lw_m6 129 rfl) rfl
theorem q1450 : (Jvm.Cond.static ({ cls := "CaseGrouper", name := "isSo", desc := "(II)Z" } : Jvm.MethodName)) ∈ lw_all := lw_g (lw_at lw_m6 130 rfl) rfl
theorem q1451 : (Jvm.Cond.code ({ cls := "CaseGrouper", name := "isSo", desc := "(II)Z" } : Jvm.MethodName) prog_1_method_12_code (2 : Nat) (Option.some Jvm.ClassFile.FieldType.boolean)) ∈ lw_all := lw_g (lw_at lw_m6 131 rfl) rfl
theorem q1452 : (Jvm.Cond.methodLink "CaseGrouper" (92 : Nat) ({ cls := "CaseGrouper", name := "isDiagnosis", desc := "(I)Z" } : Jvm.MethodName)) ∈ lw_all := lw_g (lw_at lw_m6 132 rfl) rfl
theorem q1453 : (Jvm.Cond.methodLink "CaseGrouper" (7 : Nat) ({ cls := "java/util/ArrayList", name := "size", desc := "()I" } : Jvm.MethodName)) ∈ lw_all := lw_g (lw_at lw_m6 133 rfl) rfl
theorem q1454 : (Jvm.Cond.classLink "CaseGrouper" (99 : Nat) "CaseGrouper$Stay") ∈ lw_all := lw_g (lw_at lw_m6 134 rfl) rfl
theorem q1456 : (Jvm.Cond.methodLinkNest "CaseGrouper" (101 : Nat) ({ cls := "CaseGrouper$Stay", name := "<init>", desc := "()V" } : Jvm.MethodName) "CaseGrouper") ∈ lw_tbl := lw_at lw_m6 136 rfl
theorem q1464 : (Jvm.Cond.fieldLinkNest "CaseGrouper" (102 : Nat) "CaseGrouper$Stay" "main" "I" "CaseGrouper") ∈ lw_tbl := lw_at lw_m6 144 rfl
theorem q1466 : (Jvm.Cond.fieldLinkNest "CaseGrouper" (105 : Nat) "CaseGrouper$Stay" "age" "I" "CaseGrouper") ∈ lw_tbl := lw_at lw_m6 146 rfl
theorem q1468 : (Jvm.Cond.fieldLinkNest "CaseGrouper" (108 : Nat) "CaseGrouper$Stay" "days" "I" "CaseGrouper") ∈ lw_tbl := lw_at lw_m6 148 rfl
theorem q1471 : (Jvm.Cond.fieldLinkNest "CaseGrouper" (132 : Nat) "CaseGrouper$Stay" "seconds" "Ljava/util/ArrayList;" "CaseGrouper") ∈ lw_tbl := lw_at lw_m6 151 rfl
theorem q1474 : (Jvm.Cond.fieldLinkNest "CaseGrouper" (156 : Nat) "CaseGrouper$Stay" "procedures" "Ljava/util/ArrayList;" "CaseGrouper") ∈ lw_tbl := lw_at lw_m6 154 rfl
theorem q1486 : (Jvm.Cond.methodLink "CaseGrouper" (111 : Nat) ({ cls := "java/util/ArrayList", name := "add", desc := "(Ljava/lang/Object;)Z" } : Jvm.MethodName)) ∈ lw_all := lw_g (lw_at lw_m6 166 rfl) rfl
theorem q1488 : (Jvm.Cond.instanceMethod ({ cls := "CaseGrouper", name := "code", desc := "(II)I" } : Jvm.MethodName)) ∈ lw_all := lw_g (lw_at lw_m6 168 rfl) rfl
theorem q1489 : (Jvm.Cond.selects "CaseGrouper" ({ cls := "CaseGrouper", name := "code", desc := "(II)I" } : Jvm.MethodName) ({ cls := "CaseGrouper", name := "code", desc := "(II)I" } : Jvm.MethodName)) ∈ lw_all := lw_g (lw_at lw_m6 169 rfl) rfl
theorem q1490 : (Jvm.Cond.code ({ cls := "CaseGrouper", name := "code", desc := "(II)I" } : Jvm.MethodName) prog_1_method_14_code (3 : Nat) (Option.some Jvm.ClassFile.FieldType.int)) ∈ lw_all := lw_g (lw_at lw_m6 170 rfl) rfl
theorem q1491 : (Jvm.Cond.methodLink "CaseGrouper" (115 : Nat) ({ cls := "CaseGrouper", name := "isStay", desc := "(I)Z" } : Jvm.MethodName)) ∈ lw_all := lw_g (lw_at lw_m6 171 rfl) rfl
theorem q1492 : (Jvm.Cond.privateMethod ({ cls := "CaseGrouper", name := "isStay", desc := "(I)Z" } : Jvm.MethodName)) ∈ lw_tbl := lw_at lw_m6 172 rfl
theorem q1493 : (Jvm.Cond.instanceMethod ({ cls := "CaseGrouper", name := "isStay", desc := "(I)Z" } : Jvm.MethodName)) ∈ lw_all := lw_g (lw_at lw_m6 173 rfl) rfl
theorem q1494 : (Jvm.Cond.code ({ cls := "CaseGrouper", name := "isStay", desc := "(I)Z" } : Jvm.MethodName) prog_1_method_11_code (2 : Nat) (Option.some Jvm.ClassFile.FieldType.boolean)) ∈ lw_all := lw_g (lw_at lw_m6 174 rfl) rfl
theorem q1495 : (Jvm.Cond.methodLink "CaseGrouper" (13 : Nat) ({ cls := "java/util/ArrayList", name := "get", desc := "(I)Ljava/lang/Object;" } : Jvm.MethodName)) ∈ lw_all := lw_g (lw_at lw_m6 175 rfl) rfl
theorem q1496 : (Jvm.Cond.methodLink "CaseGrouper" (118 : Nat) ({ cls := "CaseGrouper$Stay", name := "mayHave", desc := "(I)Z" } : Jvm.MethodName)) ∈ lw_all := lw_g (lw_at lw_m6 176 rfl) rfl
theorem q1502 : (Jvm.Cond.static ({ cls := "CaseGrouper", name := "isProcedure", desc := "(I)Z" } : Jvm.MethodName)) ∈ lw_all := lw_g (lw_at lw_m6 182 rfl) rfl
theorem q1503 : (Jvm.Cond.code ({ cls := "CaseGrouper", name := "isProcedure", desc := "(I)Z" } : Jvm.MethodName) prog_1_method_3_code (1 : Nat) (Option.some Jvm.ClassFile.FieldType.boolean)) ∈ lw_all := lw_g (lw_at lw_m6 183 rfl) rfl
theorem q1525 : (Jvm.Cond.selects "CaseGrouper" ({ cls := "java/lang/Object", name := "equals", desc := "(Ljava/lang/Object;)Z" } : Jvm.MethodName) ({ cls := "java/lang/Object", name := "equals", desc := "(Ljava/lang/Object;)Z" } : Jvm.MethodName)) ∈ lw_all := lw_g (lw_at lw_m6 205 rfl) rfl
theorem q1559 : (Jvm.Cond.methodLink "CaseGrouper" (121 : Nat) ({ cls := "CaseGrouper$Stay", name := "takes", desc := "(I)V" } : Jvm.MethodName)) ∈ lw_all := lw_g (lw_at lw_m6 239 rfl) rfl
theorem q1575 : (Jvm.Cond.methodLink "CaseGrouper" (125 : Nat) ({ cls := "CaseGrouper$Stay", name := "of", desc := "(I)Ljava/util/ArrayList;" } : Jvm.MethodName)) ∈ lw_all := lw_g (lw_at lw_m7 15 rfl) rfl
theorem q1577 : (Jvm.Cond.instanceMethod ({ cls := "CaseGrouper", name := "drop", desc := "(II)Z" } : Jvm.MethodName)) ∈ lw_all := lw_g (lw_at lw_m7 17 rfl) rfl
theorem q1578 : (Jvm.Cond.selects "CaseGrouper" ({ cls := "CaseGrouper", name := "drop", desc := "(II)Z" } : Jvm.MethodName) ({ cls := "CaseGrouper", name := "drop", desc := "(II)Z" } : Jvm.MethodName)) ∈ lw_all := lw_g (lw_at lw_m7 18 rfl) rfl
theorem q1579 : (Jvm.Cond.code ({ cls := "CaseGrouper", name := "drop", desc := "(II)Z" } : Jvm.MethodName) prog_1_method_15_code (3 : Nat) (Option.some Jvm.ClassFile.FieldType.boolean)) ∈ lw_all := lw_g (lw_at lw_m7 19 rfl) rfl
theorem q1580 : (Jvm.Cond.methodLink "CaseGrouper" (129 : Nat) ({ cls := "CaseGrouper$Stay", name := "loses", desc := "(I)Z" } : Jvm.MethodName)) ∈ lw_all := lw_g (lw_at lw_m7 20 rfl) rfl
theorem q1593 : (Jvm.Cond.instanceMethod ({ cls := "CaseGrouper", name := "alter", desc := "(III)I" } : Jvm.MethodName)) ∈ lw_all := lw_g (lw_at lw_m7 33 rfl) rfl
theorem q1594 : (Jvm.Cond.selects "CaseGrouper" ({ cls := "CaseGrouper", name := "alter", desc := "(III)I" } : Jvm.MethodName) ({ cls := "CaseGrouper", name := "alter", desc := "(III)I" } : Jvm.MethodName)) ∈ lw_all := lw_g (lw_at lw_m7 34 rfl) rfl
theorem q1595 : (Jvm.Cond.code ({ cls := "CaseGrouper", name := "alter", desc := "(III)I" } : Jvm.MethodName) prog_1_method_16_code (6 : Nat) (Option.some Jvm.ClassFile.FieldType.int)) ∈ lw_all := lw_g (lw_at lw_m7 35 rfl) rfl
theorem q1596 : (Jvm.Cond.methodLink "CaseGrouper" (135 : Nat) ({ cls := "java/lang/Integer", name := "valueOf", desc := "(I)Ljava/lang/Integer;" } : Jvm.MethodName)) ∈ lw_all := lw_g (lw_at lw_m7 36 rfl) rfl
theorem q1597 : (Jvm.Cond.methodLink "CaseGrouper" (141 : Nat) ({ cls := "java/util/ArrayList", name := "contains", desc := "(Ljava/lang/Object;)Z" } : Jvm.MethodName)) ∈ lw_all := lw_g (lw_at lw_m7 37 rfl) rfl
theorem q1598 : (Jvm.Cond.methodLink "CaseGrouper" (144 : Nat) ({ cls := "java/util/ArrayList", name := "remove", desc := "(Ljava/lang/Object;)Z" } : Jvm.MethodName)) ∈ lw_all := lw_g (lw_at lw_m7 38 rfl) rfl
theorem q1600 : (Jvm.Cond.instanceMethod ({ cls := "CaseGrouper", name := "clear", desc := "()I" } : Jvm.MethodName)) ∈ lw_all := lw_g (lw_at lw_m7 40 rfl) rfl
theorem q1601 : (Jvm.Cond.selects "CaseGrouper" ({ cls := "CaseGrouper", name := "clear", desc := "()I" } : Jvm.MethodName) ({ cls := "CaseGrouper", name := "clear", desc := "()I" } : Jvm.MethodName)) ∈ lw_all := lw_g (lw_at lw_m7 41 rfl) rfl
theorem q1602 : (Jvm.Cond.code ({ cls := "CaseGrouper", name := "clear", desc := "()I" } : Jvm.MethodName) prog_1_method_17_code (2 : Nat) (Option.some Jvm.ClassFile.FieldType.int)) ∈ lw_all := lw_g (lw_at lw_m7 42 rfl) rfl
theorem q1603 : (Jvm.Cond.methodLink "CaseGrouper" (147 : Nat) ({ cls := "java/util/ArrayList", name := "clear", desc := "()V" } : Jvm.MethodName)) ∈ lw_all := lw_g (lw_at lw_m7 43 rfl) rfl
theorem q1608 : (Jvm.Cond.instanceMethod ({ cls := "CaseGrouper", name := "of", desc := "(II)I" } : Jvm.MethodName)) ∈ lw_all := lw_g (lw_at lw_m7 48 rfl) rfl
theorem q1609 : (Jvm.Cond.selects "CaseGrouper" ({ cls := "CaseGrouper", name := "of", desc := "(II)I" } : Jvm.MethodName) ({ cls := "CaseGrouper", name := "of", desc := "(II)I" } : Jvm.MethodName)) ∈ lw_all := lw_g (lw_at lw_m7 49 rfl) rfl
theorem q1610 : (Jvm.Cond.code ({ cls := "CaseGrouper", name := "of", desc := "(II)I" } : Jvm.MethodName) prog_1_method_19_code (4 : Nat) (Option.some Jvm.ClassFile.FieldType.int)) ∈ lw_all := lw_g (lw_at lw_m7 50 rfl) rfl
theorem q1611 : (Jvm.Cond.methodLink "CaseGrouper" (154 : Nat) ({ cls := "CaseGrouper", name := "looks", desc := "(I)V" } : Jvm.MethodName)) ∈ lw_all := lw_g (lw_at lw_m7 51 rfl) rfl
theorem q1612 : (Jvm.Cond.privateMethod ({ cls := "CaseGrouper", name := "looks", desc := "(I)V" } : Jvm.MethodName)) ∈ lw_tbl := lw_at lw_m7 52 rfl
theorem q1613 : (Jvm.Cond.instanceMethod ({ cls := "CaseGrouper", name := "looks", desc := "(I)V" } : Jvm.MethodName)) ∈ lw_all := lw_g (lw_at lw_m7 53 rfl) rfl
theorem q1614 : (Jvm.Cond.code ({ cls := "CaseGrouper", name := "looks", desc := "(I)V" } : Jvm.MethodName) prog_1_method_18_code (2 : Nat) (Option.none : Option Jvm.ClassFile.FieldType)) ∈ lw_all := lw_g (lw_at lw_m7 54 rfl) rfl
theorem q1615 : (Jvm.Cond.methodLink "CaseGrouper" (150 : Nat) ({ cls := "CaseGrouper$Seen", name := "looks", desc := "(LCaseGrouper$Edition;LCaseGrouper$Stay;)V" } : Jvm.MethodName)) ∈ lw_all := lw_g (lw_at lw_m7 55 rfl) rfl
theorem q1643 : (Jvm.Cond.static ({ cls := "CaseGrouper", name := "haveAny", desc := "(Ljava/util/ArrayList;I)Z" } : Jvm.MethodName)) ∈ lw_all := lw_g (lw_at lw_m7 83 rfl) rfl
theorem q1644 : (Jvm.Cond.code ({ cls := "CaseGrouper", name := "haveAny", desc := "(Ljava/util/ArrayList;I)Z" } : Jvm.MethodName) prog_1_method_4_code (3 : Nat) (Option.some Jvm.ClassFile.FieldType.boolean)) ∈ lw_all := lw_g (lw_at lw_m7 84 rfl) rfl
theorem q1645 : (Jvm.Cond.classLink "CaseGrouper" (17 : Nat) "CaseGrouper$Span") ∈ lw_all := lw_g (lw_at lw_m7 85 rfl) rfl
theorem q1646 : (Jvm.Cond.methodLink "CaseGrouper" (19 : Nat) ({ cls := "CaseGrouper$Span", name := "has", desc := "(I)Z" } : Jvm.MethodName)) ∈ lw_all := lw_g (lw_at lw_m7 86 rfl) rfl
theorem q1655 : (Jvm.Cond.methodLink "CaseGrouper" (168 : Nat) ({ cls := "CaseGrouper$Seen", name := "cls", desc := "()I" } : Jvm.MethodName)) ∈ lw_all := lw_g (lw_at lw_m7 95 rfl) rfl
theorem q1659 : (Jvm.Cond.methodLink "CaseGrouper" (171 : Nat) ({ cls := "CaseGrouper$Seen", name := "weight", desc := "()I" } : Jvm.MethodName)) ∈ lw_all := lw_g (lw_at lw_m7 99 rfl) rfl
theorem q1663 : (Jvm.Cond.methodLink "CaseGrouper" (184 : Nat) ({ cls := "java/util/ArrayList", name := "indexOf", desc := "(Ljava/lang/Object;)I" } : Jvm.MethodName)) ∈ lw_all := lw_g (lw_at lw_m7 103 rfl) rfl
theorem q1665 : (Jvm.Cond.instanceMethod ({ cls := "CaseGrouper", name := "way", desc := "(II)I" } : Jvm.MethodName)) ∈ lw_all := lw_g (lw_at lw_m7 105 rfl) rfl
theorem q1666 : (Jvm.Cond.selects "CaseGrouper" ({ cls := "CaseGrouper", name := "way", desc := "(II)I" } : Jvm.MethodName) ({ cls := "CaseGrouper", name := "way", desc := "(II)I" } : Jvm.MethodName)) ∈ lw_all := lw_g (lw_at lw_m7 106 rfl) rfl
theorem q1667 : (Jvm.Cond.code ({ cls := "CaseGrouper", name := "way", desc := "(II)I" } : Jvm.MethodName) prog_1_method_21_code (3 : Nat) (Option.some Jvm.ClassFile.FieldType.int)) ∈ lw_all := lw_g (lw_at lw_m7 107 rfl) rfl
theorem q1669 : (Jvm.Cond.instanceMethod ({ cls := "CaseGrouper", name := "partner", desc := "(III)I" } : Jvm.MethodName)) ∈ lw_all := lw_g (lw_at lw_m7 109 rfl) rfl
theorem q1670 : (Jvm.Cond.selects "CaseGrouper" ({ cls := "CaseGrouper", name := "partner", desc := "(III)I" } : Jvm.MethodName) ({ cls := "CaseGrouper", name := "partner", desc := "(III)I" } : Jvm.MethodName)) ∈ lw_all := lw_g (lw_at lw_m7 110 rfl) rfl
theorem q1671 : (Jvm.Cond.code ({ cls := "CaseGrouper", name := "partner", desc := "(III)I" } : Jvm.MethodName) prog_1_method_22_code (5 : Nat) (Option.some Jvm.ClassFile.FieldType.int)) ∈ lw_all := lw_g (lw_at lw_m7 111 rfl) rfl
theorem q1672 : (Jvm.Cond.methodLink "CaseGrouper" (198 : Nat) ({ cls := "CaseGrouper$Seen", name := "partnerOf", desc := "(I)I" } : Jvm.MethodName)) ∈ lw_all := lw_g (lw_at lw_m7 112 rfl) rfl
theorem q1673 : (Jvm.Cond.methodLink "CaseGrouper" (202 : Nat) ({ cls := "CaseGrouper$Seen", name := "counts", desc := "(II)Z" } : Jvm.MethodName)) ∈ lw_all := lw_g (lw_at lw_m7 113 rfl) rfl
theorem q1675 : (Jvm.Cond.instanceMethod ({ cls := "CaseGrouper", name := "with", desc := "(II)I" } : Jvm.MethodName)) ∈ lw_all := lw_g (lw_at lw_m7 115 rfl) rfl
theorem q1676 : (Jvm.Cond.selects "CaseGrouper" ({ cls := "CaseGrouper", name := "with", desc := "(II)I" } : Jvm.MethodName) ({ cls := "CaseGrouper", name := "with", desc := "(II)I" } : Jvm.MethodName)) ∈ lw_all := lw_g (lw_at lw_m7 116 rfl) rfl
theorem q1677 : (Jvm.Cond.code ({ cls := "CaseGrouper", name := "with", desc := "(II)I" } : Jvm.MethodName) prog_1_method_23_code (5 : Nat) (Option.some Jvm.ClassFile.FieldType.int)) ∈ lw_all := lw_g (lw_at lw_m7 117 rfl) rfl
theorem q1679 : (Jvm.Cond.instanceMethod ({ cls := "CaseGrouper", name := "without", desc := "(II)I" } : Jvm.MethodName)) ∈ lw_all := lw_g (lw_at lw_m7 119 rfl) rfl
theorem q1680 : (Jvm.Cond.selects "CaseGrouper" ({ cls := "CaseGrouper", name := "without", desc := "(II)I" } : Jvm.MethodName) ({ cls := "CaseGrouper", name := "without", desc := "(II)I" } : Jvm.MethodName)) ∈ lw_all := lw_g (lw_at lw_m7 120 rfl) rfl
theorem q1681 : (Jvm.Cond.code ({ cls := "CaseGrouper", name := "without", desc := "(II)I" } : Jvm.MethodName) prog_1_method_24_code (3 : Nat) (Option.some Jvm.ClassFile.FieldType.int)) ∈ lw_all := lw_g (lw_at lw_m7 121 rfl) rfl
theorem q1683 : (Jvm.Cond.instanceMethod ({ cls := "CaseGrouper", name := "matters", desc := "(I)I" } : Jvm.MethodName)) ∈ lw_all := lw_g (lw_at lw_m7 123 rfl) rfl
theorem q1684 : (Jvm.Cond.selects "CaseGrouper" ({ cls := "CaseGrouper", name := "matters", desc := "(I)I" } : Jvm.MethodName) ({ cls := "CaseGrouper", name := "matters", desc := "(I)I" } : Jvm.MethodName)) ∈ lw_all := lw_g (lw_at lw_m7 124 rfl) rfl
theorem q1685 : (Jvm.Cond.code ({ cls := "CaseGrouper", name := "matters", desc := "(I)I" } : Jvm.MethodName) prog_1_method_25_code (5 : Nat) (Option.some Jvm.ClassFile.FieldType.int)) ∈ lw_all := lw_g (lw_at lw_m7 125 rfl) rfl
theorem q1686 : (Jvm.Cond.methodLink "CaseGrouper" (205 : Nat) ({ cls := "CaseGrouper$Stay", name := "codes", desc := "()I" } : Jvm.MethodName)) ∈ lw_all := lw_g (lw_at lw_m7 126 rfl) rfl
theorem q1690 : (Jvm.Cond.methodLink "CaseGrouper" (208 : Nat) ({ cls := "CaseGrouper$Stay", name := "codeAt", desc := "(I)I" } : Jvm.MethodName)) ∈ lw_all := lw_g (lw_at lw_m7 130 rfl) rfl
theorem q1694 : (Jvm.Cond.methodLink "CaseGrouper" (211 : Nat) ({ cls := "CaseGrouper", name := "without", desc := "(II)I" } : Jvm.MethodName)) ∈ lw_all := lw_g (lw_at lw_m7 134 rfl) rfl
theorem q1696 : (Jvm.Cond.instanceMethod ({ cls := "CaseGrouper", name := "raises", desc := "(I)I" } : Jvm.MethodName)) ∈ lw_all := lw_g (lw_at lw_m7 136 rfl) rfl
theorem q1697 : (Jvm.Cond.selects "CaseGrouper" ({ cls := "CaseGrouper", name := "raises", desc := "(I)I" } : Jvm.MethodName) ({ cls := "CaseGrouper", name := "raises", desc := "(I)I" } : Jvm.MethodName)) ∈ lw_all := lw_g (lw_at lw_m7 137 rfl) rfl
theorem q1698 : (Jvm.Cond.code ({ cls := "CaseGrouper", name := "raises", desc := "(I)I" } : Jvm.MethodName) prog_1_method_26_code (4 : Nat) (Option.some Jvm.ClassFile.FieldType.int)) ∈ lw_all := lw_g (lw_at lw_m7 138 rfl) rfl
theorem q1699 : (Jvm.Cond.methodLink "CaseGrouper" (215 : Nat) ({ cls := "CaseGrouper", name := "with", desc := "(II)I" } : Jvm.MethodName)) ∈ lw_all := lw_g (lw_at lw_m7 139 rfl) rfl
theorem q1701 : (Jvm.Cond.instanceMethod ({ cls := "CaseGrouper", name := "ofClass", desc := "(II)I" } : Jvm.MethodName)) ∈ lw_all := lw_g (lw_at lw_m7 141 rfl) rfl
theorem q1702 : (Jvm.Cond.selects "CaseGrouper" ({ cls := "CaseGrouper", name := "ofClass", desc := "(II)I" } : Jvm.MethodName) ({ cls := "CaseGrouper", name := "ofClass", desc := "(II)I" } : Jvm.MethodName)) ∈ lw_all := lw_g (lw_at lw_m7 142 rfl) rfl
theorem q1703 : (Jvm.Cond.code ({ cls := "CaseGrouper", name := "ofClass", desc := "(II)I" } : Jvm.MethodName) prog_1_method_29_code (3 : Nat) (Option.some Jvm.ClassFile.FieldType.int)) ∈ lw_all := lw_g (lw_at lw_m7 143 rfl) rfl
theorem q1704 : (Jvm.Cond.methodLink "CaseGrouper" (229 : Nat) ({ cls := "CaseGrouper", name := "leavesOf", desc := "(I)I" } : Jvm.MethodName)) ∈ lw_all := lw_g (lw_at lw_m7 144 rfl) rfl
theorem q1705 : (Jvm.Cond.privateMethod ({ cls := "CaseGrouper", name := "leavesOf", desc := "(I)I" } : Jvm.MethodName)) ∈ lw_tbl := lw_at lw_m7 145 rfl
theorem q1706 : (Jvm.Cond.instanceMethod ({ cls := "CaseGrouper", name := "leavesOf", desc := "(I)I" } : Jvm.MethodName)) ∈ lw_all := lw_g (lw_at lw_m7 146 rfl) rfl
theorem q1707 : (Jvm.Cond.code ({ cls := "CaseGrouper", name := "leavesOf", desc := "(I)I" } : Jvm.MethodName) prog_1_method_28_code (4 : Nat) (Option.some Jvm.ClassFile.FieldType.int)) ∈ lw_all := lw_g (lw_at lw_m7 147 rfl) rfl
theorem q1708 : (Jvm.Cond.classLink "CaseGrouper" (218 : Nat) "CaseGrouper$Leaf") ∈ lw_all := lw_g (lw_at lw_m7 148 rfl) rfl
theorem q1709 : (Jvm.Cond.methodLink "CaseGrouper" (232 : Nat) ({ cls := "CaseGrouper", name := "staysOf", desc := "(I)I" } : Jvm.MethodName)) ∈ lw_all := lw_g (lw_at lw_m7 149 rfl) rfl
theorem q1710 : (Jvm.Cond.privateMethod ({ cls := "CaseGrouper", name := "staysOf", desc := "(I)I" } : Jvm.MethodName)) ∈ lw_tbl := lw_at lw_m7 150 rfl
theorem q1711 : (Jvm.Cond.instanceMethod ({ cls := "CaseGrouper", name := "staysOf", desc := "(I)I" } : Jvm.MethodName)) ∈ lw_all := lw_g (lw_at lw_m7 151 rfl) rfl
theorem q1712 : (Jvm.Cond.code ({ cls := "CaseGrouper", name := "staysOf", desc := "(I)I" } : Jvm.MethodName) prog_1_method_27_code (4 : Nat) (Option.some Jvm.ClassFile.FieldType.int)) ∈ lw_all := lw_g (lw_at lw_m7 152 rfl) rfl
theorem q1714 : (Jvm.Cond.instanceMethod ({ cls := "CaseGrouper", name := "name", desc := "(II)I" } : Jvm.MethodName)) ∈ lw_all := lw_g (lw_at lw_m7 154 rfl) rfl
theorem q1715 : (Jvm.Cond.selects "CaseGrouper" ({ cls := "CaseGrouper", name := "name", desc := "(II)I" } : Jvm.MethodName) ({ cls := "CaseGrouper", name := "name", desc := "(II)I" } : Jvm.MethodName)) ∈ lw_all := lw_g (lw_at lw_m7 155 rfl) rfl
theorem q1716 : (Jvm.Cond.codeWith ({ cls := "CaseGrouper", name := "name", desc := "(II)I" } : Jvm.MethodName) prog_1_method_30_code (4 : Nat) (Option.some Jvm.ClassFile.FieldType.int) [((0 : Nat), (40 : Nat), (41 : Nat), (239 : Nat)), ((0 : Nat), (40 : Nat), (41 : Nat), (241 : Nat))]) ∈ lw_all := lw_g (lw_at lw_m7 156 rfl) rfl
theorem q1717 : (Jvm.Cond.classLink "CaseGrouper" (239 : Nat) "java/lang/NullPointerException") ∈ lw_all := lw_g (lw_at lw_m7 157 rfl) rfl
theorem q1718 : (Jvm.Cond.classLink "CaseGrouper" (241 : Nat) "java/lang/ArrayIndexOutOfBoundsException") ∈ lw_all := lw_g (lw_at lw_m7 158 rfl) rfl
theorem q1738 : (Jvm.Cond.instanceMethod ({ cls := "CaseGrouper", name := "leaf", desc := "(II)I" } : Jvm.MethodName)) ∈ lw_all := lw_g (lw_at lw_m7 178 rfl) rfl
theorem q1739 : (Jvm.Cond.selects "CaseGrouper" ({ cls := "CaseGrouper", name := "leaf", desc := "(II)I" } : Jvm.MethodName) ({ cls := "CaseGrouper", name := "leaf", desc := "(II)I" } : Jvm.MethodName)) ∈ lw_all := lw_g (lw_at lw_m7 179 rfl) rfl
theorem q1740 : (Jvm.Cond.code ({ cls := "CaseGrouper", name := "leaf", desc := "(II)I" } : Jvm.MethodName) prog_1_method_32_code (4 : Nat) (Option.some Jvm.ClassFile.FieldType.int)) ∈ lw_all := lw_g (lw_at lw_m7 180 rfl) rfl
theorem q1741 : (Jvm.Cond.methodLink "CaseGrouper" (253 : Nat) ({ cls := "CaseGrouper", name := "staysAt", desc := "(LCaseGrouper$Leaf;)I" } : Jvm.MethodName)) ∈ lw_all := lw_g (lw_at lw_m7 181 rfl) rfl
theorem q1742 : (Jvm.Cond.privateMethod ({ cls := "CaseGrouper", name := "staysAt", desc := "(LCaseGrouper$Leaf;)I" } : Jvm.MethodName)) ∈ lw_tbl := lw_at lw_m7 182 rfl
theorem q1743 : (Jvm.Cond.instanceMethod ({ cls := "CaseGrouper", name := "staysAt", desc := "(LCaseGrouper$Leaf;)I" } : Jvm.MethodName)) ∈ lw_all := lw_g (lw_at lw_m7 183 rfl) rfl
theorem q1744 : (Jvm.Cond.code ({ cls := "CaseGrouper", name := "staysAt", desc := "(LCaseGrouper$Leaf;)I" } : Jvm.MethodName) prog_1_method_31_code (4 : Nat) (Option.some Jvm.ClassFile.FieldType.int)) ∈ lw_all := lw_g (lw_at lw_m7 184 rfl) rfl
theorem q1746 : (Jvm.Cond.instanceMethod ({ cls := "CaseGrouper", name := "keep", desc := "()I" } : Jvm.MethodName)) ∈ lw_all := lw_g (lw_at lw_m7 186 rfl) rfl
theorem q1747 : (Jvm.Cond.selects "CaseGrouper" ({ cls := "CaseGrouper", name := "keep", desc := "()I" } : Jvm.MethodName) ({ cls := "CaseGrouper", name := "keep", desc := "()I" } : Jvm.MethodName)) ∈ lw_all := lw_g (lw_at lw_m7 187 rfl) rfl
theorem q1748 : (Jvm.Cond.code ({ cls := "CaseGrouper", name := "keep", desc := "()I" } : Jvm.MethodName) prog_1_method_33_code (1 : Nat) (Option.some Jvm.ClassFile.FieldType.int)) ∈ lw_all := lw_g (lw_at lw_m7 188 rfl) rfl
theorem q1750 : (Jvm.Cond.instanceMethod ({ cls := "CaseGrouper", name := "compare", desc := "(I)I" } : Jvm.MethodName)) ∈ lw_all := lw_g (lw_at lw_m7 190 rfl) rfl
theorem q1751 : (Jvm.Cond.selects "CaseGrouper" ({ cls := "CaseGrouper", name := "compare", desc := "(I)I" } : Jvm.MethodName) ({ cls := "CaseGrouper", name := "compare", desc := "(I)I" } : Jvm.MethodName)) ∈ lw_all := lw_g (lw_at lw_m7 191 rfl) rfl
theorem q1752 : (Jvm.Cond.code ({ cls := "CaseGrouper", name := "compare", desc := "(I)I" } : Jvm.MethodName) prog_1_method_35_code (7 : Nat) (Option.some Jvm.ClassFile.FieldType.int)) ∈ lw_all := lw_g (lw_at lw_m7 192 rfl) rfl
theorem q1753 : (Jvm.Cond.constant "CaseGrouper" (264 : Nat) (-100000 : Int32)) ∈ lw_all := lw_g (lw_at lw_m7 193 rfl) rfl
theorem q1754 : (Jvm.Cond.methodLink "CaseGrouper" (265 : Nat) ({ cls := "CaseGrouper", name := "isMoved", desc := "(I)Z" } : Jvm.MethodName)) ∈ lw_all := lw_g (lw_at lw_m7 194 rfl) rfl
theorem q1755 : (Jvm.Cond.privateMethod ({ cls := "CaseGrouper", name := "isMoved", desc := "(I)Z" } : Jvm.MethodName)) ∈ lw_tbl := lw_at lw_m7 195 rfl
theorem q1756 : (Jvm.Cond.instanceMethod ({ cls := "CaseGrouper", name := "isMoved", desc := "(I)Z" } : Jvm.MethodName)) ∈ lw_all := lw_g (lw_at lw_m7 196 rfl) rfl
theorem q1757 : (Jvm.Cond.code ({ cls := "CaseGrouper", name := "isMoved", desc := "(I)Z" } : Jvm.MethodName) prog_1_method_34_code (2 : Nat) (Option.some Jvm.ClassFile.FieldType.boolean)) ∈ lw_all := lw_g (lw_at lw_m7 197 rfl) rfl
theorem q1758 : (Jvm.Cond.methodLink "CaseGrouper" (260 : Nat) ({ cls := "CaseGrouper$Edition", name := "isCalled", desc := "(I[C)Z" } : Jvm.MethodName)) ∈ lw_all := lw_g (lw_at lw_m7 198 rfl) rfl
theorem q1760 : (Jvm.Cond.instanceMethod ({ cls := "CaseGrouper", name := "keptWeight", desc := "(I)I" } : Jvm.MethodName)) ∈ lw_all := lw_g (lw_at lw_m7 200 rfl) rfl
theorem q1761 : (Jvm.Cond.selects "CaseGrouper" ({ cls := "CaseGrouper", name := "keptWeight", desc := "(I)I" } : Jvm.MethodName) ({ cls := "CaseGrouper", name := "keptWeight", desc := "(I)I" } : Jvm.MethodName)) ∈ lw_all := lw_g (lw_at lw_m7 201 rfl) rfl
theorem q1762 : (Jvm.Cond.code ({ cls := "CaseGrouper", name := "keptWeight", desc := "(I)I" } : Jvm.MethodName) prog_1_method_36_code (2 : Nat) (Option.some Jvm.ClassFile.FieldType.int)) ∈ lw_all := lw_g (lw_at lw_m7 202 rfl) rfl
theorem q1764 : (Jvm.Cond.instanceMethod ({ cls := "CaseGrouper", name := "swap", desc := "()Z" } : Jvm.MethodName)) ∈ lw_all := lw_g (lw_at lw_m7 204 rfl) rfl
theorem q1765 : (Jvm.Cond.selects "CaseGrouper" ({ cls := "CaseGrouper", name := "swap", desc := "()Z" } : Jvm.MethodName) ({ cls := "CaseGrouper", name := "swap", desc := "()Z" } : Jvm.MethodName)) ∈ lw_all := lw_g (lw_at lw_m7 205 rfl) rfl
theorem q1766 : (Jvm.Cond.code ({ cls := "CaseGrouper", name := "swap", desc := "()Z" } : Jvm.MethodName) prog_1_method_37_code (2 : Nat) (Option.some Jvm.ClassFile.FieldType.boolean)) ∈ lw_all := lw_g (lw_at lw_m7 206 rfl) rfl
theorem q1768 : (Jvm.Cond.instanceMethod ({ cls := "CaseGrouper", name := "count", desc := "(I)I" } : Jvm.MethodName)) ∈ lw_all := lw_g (lw_at lw_m7 208 rfl) rfl
theorem q1769 : (Jvm.Cond.selects "CaseGrouper" ({ cls := "CaseGrouper", name := "count", desc := "(I)I" } : Jvm.MethodName) ({ cls := "CaseGrouper", name := "count", desc := "(I)I" } : Jvm.MethodName)) ∈ lw_all := lw_g (lw_at lw_m7 209 rfl) rfl
theorem q1770 : (Jvm.Cond.code ({ cls := "CaseGrouper", name := "count", desc := "(I)I" } : Jvm.MethodName) prog_1_method_40_code (2 : Nat) (Option.some Jvm.ClassFile.FieldType.int)) ∈ lw_all := lw_g (lw_at lw_m7 210 rfl) rfl
theorem q1771 : (Jvm.Cond.methodLink "CaseGrouper" (274 : Nat) ({ cls := "CaseGrouper", name := "dead", desc := "()I" } : Jvm.MethodName)) ∈ lw_all := lw_g (lw_at lw_m7 211 rfl) rfl
theorem q1772 : (Jvm.Cond.privateMethod ({ cls := "CaseGrouper", name := "dead", desc := "()I" } : Jvm.MethodName)) ∈ lw_tbl := lw_at lw_m7 212 rfl
theorem q1773 : (Jvm.Cond.instanceMethod ({ cls := "CaseGrouper", name := "dead", desc := "()I" } : Jvm.MethodName)) ∈ lw_all := lw_g (lw_at lw_m7 213 rfl) rfl
theorem q1774 : (Jvm.Cond.code ({ cls := "CaseGrouper", name := "dead", desc := "()I" } : Jvm.MethodName) prog_1_method_38_code (3 : Nat) (Option.some Jvm.ClassFile.FieldType.int)) ∈ lw_all := lw_g (lw_at lw_m7 214 rfl) rfl
theorem q1775 : (Jvm.Cond.methodLink "CaseGrouper" (277 : Nat) ({ cls := "CaseGrouper", name := "weights", desc := "()I" } : Jvm.MethodName)) ∈ lw_all := lw_g (lw_at lw_m7 215 rfl) rfl
theorem q1776 : (Jvm.Cond.privateMethod ({ cls := "CaseGrouper", name := "weights", desc := "()I" } : Jvm.MethodName)) ∈ lw_tbl := lw_at lw_m7 216 rfl
theorem q1777 : (Jvm.Cond.instanceMethod ({ cls := "CaseGrouper", name := "weights", desc := "()I" } : Jvm.MethodName)) ∈ lw_all := lw_g (lw_at lw_m7 217 rfl) rfl
theorem q1778 : (Jvm.Cond.code ({ cls := "CaseGrouper", name := "weights", desc := "()I" } : Jvm.MethodName) prog_1_method_39_code (3 : Nat) (Option.some Jvm.ClassFile.FieldType.int)) ∈ lw_all := lw_g (lw_at lw_m7 218 rfl) rfl
theorem q1784 : (Jvm.Cond.instanceMethod ({ cls := "CaseGrouper", name := "listed", desc := "(III)I" } : Jvm.MethodName)) ∈ lw_all := lw_g (lw_at lw_m7 224 rfl) rfl
theorem q1785 : (Jvm.Cond.selects "CaseGrouper" ({ cls := "CaseGrouper", name := "listed", desc := "(III)I" } : Jvm.MethodName) ({ cls := "CaseGrouper", name := "listed", desc := "(III)I" } : Jvm.MethodName)) ∈ lw_all := lw_g (lw_at lw_m7 225 rfl) rfl
theorem q1786 : (Jvm.Cond.code ({ cls := "CaseGrouper", name := "listed", desc := "(III)I" } : Jvm.MethodName) prog_1_method_20_code (6 : Nat) (Option.some Jvm.ClassFile.FieldType.int)) ∈ lw_all := lw_g (lw_at lw_m7 226 rfl) rfl
theorem q1787 : (Jvm.Cond.classLink "CaseGrouper" (188 : Nat) "java/util/NoSuchElementException") ∈ lw_all := lw_g (lw_at lw_m7 227 rfl) rfl
theorem q1796 : (Jvm.Cond.methodLink "CaseGrouper" (190 : Nat) ({ cls := "java/util/NoSuchElementException", name := "<init>", desc := "()V" } : Jvm.MethodName)) ∈ lw_all := lw_g (lw_at lw_m7 236 rfl) rfl
theorem q1802 : (Jvm.Cond.classLink "CaseGrouper" (136 : Nat) "java/lang/Integer") ∈ lw_all := lw_g (lw_at lw_m8 2 rfl) rfl
theorem q1803 : (Jvm.Cond.methodLink "CaseGrouper" (191 : Nat) ({ cls := "java/lang/Integer", name := "intValue", desc := "()I" } : Jvm.MethodName)) ∈ lw_all := lw_g (lw_at lw_m8 3 rfl) rfl
theorem q2464 : (Jvm.Cond.castable "CaseGrouper" "java/lang/Object") ∈ lw_tbl := lw_at lw_m10 184 rfl
theorem in_X1 : ∀ w ∈ wsX10, w ∈ lw_all := lw_in wsX10 [1428, 1430, 1432, 1434, 1436, 1438, 1440, 1442] (by decide +kernel) (by decide +kernel)
/-! CaseGrouper$Span -/
set_option maxRecDepth 100000
def RX10 : String := "CaseGrouper$Span"
def TX10 : u_T := fun k => match k with
  | 0 => ("CaseGrouper$Span", "first", "I", true)
  | _ => ("CaseGrouper$Span", "last", "I", true)
def tyX10 : Nat → FieldType := fun k => match k with
  | 0 => .int
  | _ => .int
abbrev wsX100 : List Cond := u_ws RX10 TX10 2
theorem nmX10 : ∀ a, a < 2 → ∀ b, b < 2 → a ≠ b → (TX10 a).2.1 ≠ (TX10 b).2.1 := by decide +kernel
theorem tyX10_ok : ∀ k, k < 2 → parseFieldDescriptor (TX10 k).2.2.1 = some (tyX10 k) := by decide +kernel
abbrev cX10_init : ByteArray := prog_15_method_1_code
def yX10_init : MethodName := ⟨RX10, "<init>", "(II)V"⟩
def dkwX10_init_0 : List UInt8 := [42, 183, 0, 1, 42, 27, 181, 0, 7, 42, 28, 181, 0, 13, 177]
abbrev dktX10_init_0 : List UInt8 := dkwX10_init_0 ++ []
theorem dksX10_init_0 : cX10_init.data.toList.drop 0 = dktX10_init_0 := by decide +kernel
theorem dX10_init_0 : decode cX10_init 0 = .ok (.aload_n 0, 1) := dk_42 (dk_at dksX10_init_0 0 rfl rfl)
theorem dX10_init_1 : decode cX10_init 1 = .ok (.invokespecial 1, 3) := dk_183 0 1 (dk_at dksX10_init_0 1 rfl rfl)
theorem dX10_init_4 : decode cX10_init 4 = .ok (.aload_n 0, 1) := dk_42 (dk_at dksX10_init_0 4 rfl rfl)
theorem dX10_init_5 : decode cX10_init 5 = .ok (.iload_n 1, 1) := dk_27 (dk_at dksX10_init_0 5 rfl rfl)
theorem dX10_init_6 : decode cX10_init 6 = .ok (.putfield 7, 3) := dk_181 0 7 (dk_at dksX10_init_0 6 rfl rfl)
theorem dX10_init_9 : decode cX10_init 9 = .ok (.aload_n 0, 1) := dk_42 (dk_at dksX10_init_0 9 rfl rfl)
theorem dX10_init_10 : decode cX10_init 10 = .ok (.iload_n 2, 1) := dk_28 (dk_at dksX10_init_0 10 rfl rfl)
theorem dX10_init_11 : decode cX10_init 11 = .ok (.putfield 13, 3) := dk_181 0 13 (dk_at dksX10_init_0 11 rfl rfl)
theorem dX10_init_14 : decode cX10_init 14 = .ok (.return_, 1) := dk_177 (dk_at dksX10_init_0 14 rfl rfl)
abbrev cX10_isLike : ByteArray := prog_15_method_3_code
def yX10_isLike : MethodName := ⟨RX10, "isLike", "(LCaseGrouper$Span;)Z"⟩
def dkwX10_isLike_1 : List UInt8 := [167, 0, 4, 3, 172]
abbrev dktX10_isLike_1 : List UInt8 := dkwX10_isLike_1 ++ []
def dkwX10_isLike_0 : List UInt8 := [42, 180, 0, 7, 43, 180, 0, 7, 160, 0, 18, 42, 180, 0, 13, 43, 180, 0, 13, 160, 0, 7, 4]
abbrev dktX10_isLike_0 : List UInt8 := dkwX10_isLike_0 ++ dktX10_isLike_1
theorem dksX10_isLike_0 : cX10_isLike.data.toList.drop 0 = dktX10_isLike_0 := by decide +kernel
theorem dksX10_isLike_1 : cX10_isLike.data.toList.drop 23 = dktX10_isLike_1 := dk_seg dksX10_isLike_0 23 rfl rfl
theorem dX10_isLike_0 : decode cX10_isLike 0 = .ok (.aload_n 0, 1) := dk_42 (dk_at dksX10_isLike_0 0 rfl rfl)
theorem dX10_isLike_1 : decode cX10_isLike 1 = .ok (.getfield 7, 3) := dk_180 0 7 (dk_at dksX10_isLike_0 1 rfl rfl)
theorem dX10_isLike_4 : decode cX10_isLike 4 = .ok (.aload_n 1, 1) := dk_43 (dk_at dksX10_isLike_0 4 rfl rfl)
theorem dX10_isLike_5 : decode cX10_isLike 5 = .ok (.getfield 7, 3) := dk_180 0 7 (dk_at dksX10_isLike_0 5 rfl rfl)
theorem dX10_isLike_8 : decode cX10_isLike 8 = .ok (.if_icmp .ne 18, 3) := dk_160 0 18 (dk_at dksX10_isLike_0 8 rfl rfl)
theorem dX10_isLike_11 : decode cX10_isLike 11 = .ok (.aload_n 0, 1) := dk_42 (dk_at dksX10_isLike_0 11 rfl rfl)
theorem dX10_isLike_12 : decode cX10_isLike 12 = .ok (.getfield 13, 3) := dk_180 0 13 (dk_at dksX10_isLike_0 12 rfl rfl)
theorem dX10_isLike_15 : decode cX10_isLike 15 = .ok (.aload_n 1, 1) := dk_43 (dk_at dksX10_isLike_0 15 rfl rfl)
theorem dX10_isLike_16 : decode cX10_isLike 16 = .ok (.getfield 13, 3) := dk_180 0 13 (dk_at dksX10_isLike_0 16 rfl rfl)
theorem dX10_isLike_19 : decode cX10_isLike 19 = .ok (.if_icmp .ne 7, 3) := dk_160 0 7 (dk_at dksX10_isLike_0 19 rfl rfl)
theorem dX10_isLike_22 : decode cX10_isLike 22 = .ok (.iconst 1, 1) := dk_4 (dk_at dksX10_isLike_0 22 rfl rfl)
theorem dX10_isLike_23 : decode cX10_isLike 23 = .ok (.goto 4, 3) := dk_167 0 4 (dk_at dksX10_isLike_1 0 rfl rfl)
theorem dX10_isLike_26 : decode cX10_isLike 26 = .ok (.iconst 0, 1) := dk_3 (dk_at dksX10_isLike_1 3 rfl rfl)
theorem dX10_isLike_27 : decode cX10_isLike 27 = .ok (.ireturn, 1) := dk_172 (dk_at dksX10_isLike_1 4 rfl rfl)
abbrev cX10_has : ByteArray := prog_15_method_2_code
def yX10_has : MethodName := ⟨RX10, "has", "(I)Z"⟩
def dkwX10_has_0 : List UInt8 := [27, 42, 180, 0, 7, 42, 180, 0, 13, 184, 0, 16, 172]
abbrev dktX10_has_0 : List UInt8 := dkwX10_has_0 ++ []
theorem dksX10_has_0 : cX10_has.data.toList.drop 0 = dktX10_has_0 := by decide +kernel
theorem dX10_has_0 : decode cX10_has 0 = .ok (.iload_n 1, 1) := dk_27 (dk_at dksX10_has_0 0 rfl rfl)
theorem dX10_has_1 : decode cX10_has 1 = .ok (.aload_n 0, 1) := dk_42 (dk_at dksX10_has_0 1 rfl rfl)
theorem dX10_has_2 : decode cX10_has 2 = .ok (.getfield 7, 3) := dk_180 0 7 (dk_at dksX10_has_0 2 rfl rfl)
theorem dX10_has_5 : decode cX10_has 5 = .ok (.aload_n 0, 1) := dk_42 (dk_at dksX10_has_0 5 rfl rfl)
theorem dX10_has_6 : decode cX10_has 6 = .ok (.getfield 13, 3) := dk_180 0 13 (dk_at dksX10_has_0 6 rfl rfl)
theorem dX10_has_9 : decode cX10_has 9 = .ok (.invokestatic 16, 3) := dk_184 0 16 (dk_at dksX10_has_0 9 rfl rfl)
theorem dX10_has_12 : decode cX10_has 12 = .ok (.ireturn, 1) := dk_172 (dk_at dksX10_has_0 12 rfl rfl)
theorem q154 : (Jvm.Cond.initialized "CaseGrouper$Span") ∈ lw_all := lw_g (lw_at lw_m1 34 rfl) rfl
theorem q897 : (Jvm.Cond.instantiable "CaseGrouper$Span" (2 : Nat)) ∈ lw_all := lw_g (lw_at lw_m4 57 rfl) rfl
theorem q899 : (Jvm.Cond.instanceMethod ({ cls := "CaseGrouper$Span", name := "<init>", desc := "(II)V" } : Jvm.MethodName)) ∈ lw_all := lw_g (lw_at lw_m4 59 rfl) rfl
theorem q900 : (Jvm.Cond.code ({ cls := "CaseGrouper$Span", name := "<init>", desc := "(II)V" } : Jvm.MethodName) prog_15_method_1_code (3 : Nat) (Option.none : Option Jvm.ClassFile.FieldType)) ∈ lw_all := lw_g (lw_at lw_m4 60 rfl) rfl
theorem q901 : (Jvm.Cond.methodLink "CaseGrouper$Span" (1 : Nat) ({ cls := "java/lang/Object", name := "<init>", desc := "()V" } : Jvm.MethodName)) ∈ lw_all := lw_g (lw_at lw_m4 61 rfl) rfl
theorem q902 : (Jvm.Cond.fieldLink "CaseGrouper$Span" (7 : Nat) "CaseGrouper$Span" "first" "I") ∈ lw_all := lw_g (lw_at lw_m4 62 rfl) rfl
theorem q903 : (Jvm.Cond.fieldLink "CaseGrouper$Span" (13 : Nat) "CaseGrouper$Span" "last" "I") ∈ lw_all := lw_g (lw_at lw_m4 63 rfl) rfl
theorem q904 : (Jvm.Cond.laysFinal "CaseGrouper$Span" "CaseGrouper$Span" "first" "I") ∈ lw_all := lw_g (lw_at lw_m4 64 rfl) rfl
theorem q905 : (Jvm.Cond.soleField "CaseGrouper$Span" "first") ∈ lw_all := lw_g (lw_at lw_m4 65 rfl) rfl
theorem q906 : (Jvm.Cond.laysFinal "CaseGrouper$Span" "CaseGrouper$Span" "last" "I") ∈ lw_all := lw_g (lw_at lw_m4 66 rfl) rfl
theorem q907 : (Jvm.Cond.soleField "CaseGrouper$Span" "last") ∈ lw_all := lw_g (lw_at lw_m4 67 rfl) rfl
theorem q908 : (Jvm.Cond.superclass "CaseGrouper$Span" "java/lang/Object") ∈ lw_all := lw_g (lw_at lw_m4 68 rfl) rfl
theorem q945 : (Jvm.Cond.selects "CaseGrouper$Span" ({ cls := "java/lang/Object", name := "getClass", desc := "()Ljava/lang/Class;" } : Jvm.MethodName) ({ cls := "java/lang/Object", name := "getClass", desc := "()Ljava/lang/Class;" } : Jvm.MethodName)) ∈ lw_all := lw_g (lw_at lw_m4 105 rfl) rfl
theorem q1191 : (Jvm.Cond.instanceMethod ({ cls := "CaseGrouper$Span", name := "isLike", desc := "(LCaseGrouper$Span;)Z" } : Jvm.MethodName)) ∈ lw_all := lw_g (lw_at lw_m5 111 rfl) rfl
theorem q1192 : (Jvm.Cond.selects "CaseGrouper$Span" ({ cls := "CaseGrouper$Span", name := "isLike", desc := "(LCaseGrouper$Span;)Z" } : Jvm.MethodName) ({ cls := "CaseGrouper$Span", name := "isLike", desc := "(LCaseGrouper$Span;)Z" } : Jvm.MethodName)) ∈ lw_all := lw_g (lw_at lw_m5 112 rfl) rfl
theorem q1193 : (Jvm.Cond.code ({ cls := "CaseGrouper$Span", name := "isLike", desc := "(LCaseGrouper$Span;)Z" } : Jvm.MethodName) prog_15_method_3_code (2 : Nat) (Option.some Jvm.ClassFile.FieldType.boolean)) ∈ lw_all := lw_g (lw_at lw_m5 113 rfl) rfl
theorem q1319 : (Jvm.Cond.instanceMethod ({ cls := "CaseGrouper$Span", name := "has", desc := "(I)Z" } : Jvm.MethodName)) ∈ lw_all := lw_g (lw_at lw_m5 239 rfl) rfl
theorem q1320 : (Jvm.Cond.selects "CaseGrouper$Span" ({ cls := "CaseGrouper$Span", name := "has", desc := "(I)Z" } : Jvm.MethodName) ({ cls := "CaseGrouper$Span", name := "has", desc := "(I)Z" } : Jvm.MethodName)) ∈ lw_all := lw_g (lw_at lw_m6 0 rfl) rfl
theorem q1321 : (Jvm.Cond.code ({ cls := "CaseGrouper$Span", name := "has", desc := "(I)Z" } : Jvm.MethodName) prog_15_method_2_code (2 : Nat) (Option.some Jvm.ClassFile.FieldType.boolean)) ∈ lw_all := lw_g (lw_at lw_m6 1 rfl) rfl
theorem q1322 : (Jvm.Cond.methodLinkNest "CaseGrouper$Span" (16 : Nat) ({ cls := "CaseGrouper", name := "within", desc := "(III)Z" } : Jvm.MethodName) "CaseGrouper") ∈ lw_tbl := lw_at lw_m6 2 rfl
theorem q1538 : (Jvm.Cond.selects "CaseGrouper$Span" ({ cls := "java/lang/Object", name := "equals", desc := "(Ljava/lang/Object;)Z" } : Jvm.MethodName) ({ cls := "java/lang/Object", name := "equals", desc := "(Ljava/lang/Object;)Z" } : Jvm.MethodName)) ∈ lw_all := lw_g (lw_at lw_m6 218 rfl) rfl
theorem q2480 : (Jvm.Cond.castable "CaseGrouper$Span" "java/lang/Object") ∈ lw_tbl := lw_at lw_m10 200 rfl
theorem in_X10 : ∀ w ∈ wsX100, w ∈ lw_all := lw_in wsX100 [904, 906] (by decide +kernel) (by decide +kernel)
/-! CaseGrouper$Rank -/
set_option maxRecDepth 100000
def RX11 : String := "CaseGrouper$Rank"
def TX11 : u_T := fun k => match k with
  | 0 => ("CaseGrouper$Rank", "span", "LCaseGrouper$Span;", true)
  | _ => ("CaseGrouper$Rank", "number", "I", true)
def tyX11 : Nat → FieldType := fun k => match k with
  | 0 => .object "CaseGrouper$Span"
  | _ => .int
abbrev wsX110 : List Cond := u_ws RX11 TX11 2
theorem nmX11 : ∀ a, a < 2 → ∀ b, b < 2 → a ≠ b → (TX11 a).2.1 ≠ (TX11 b).2.1 := by decide +kernel
theorem tyX11_ok : ∀ k, k < 2 → parseFieldDescriptor (TX11 k).2.2.1 = some (tyX11 k) := by decide +kernel
abbrev cX11_init : ByteArray := prog_11_method_1_code
def yX11_init : MethodName := ⟨RX11, "<init>", "(LCaseGrouper$Span;I)V"⟩
def dkwX11_init_0 : List UInt8 := [42, 183, 0, 1, 42, 43, 181, 0, 7, 42, 28, 181, 0, 13, 177]
abbrev dktX11_init_0 : List UInt8 := dkwX11_init_0 ++ []
theorem dksX11_init_0 : cX11_init.data.toList.drop 0 = dktX11_init_0 := by decide +kernel
theorem dX11_init_0 : decode cX11_init 0 = .ok (.aload_n 0, 1) := dk_42 (dk_at dksX11_init_0 0 rfl rfl)
theorem dX11_init_1 : decode cX11_init 1 = .ok (.invokespecial 1, 3) := dk_183 0 1 (dk_at dksX11_init_0 1 rfl rfl)
theorem dX11_init_4 : decode cX11_init 4 = .ok (.aload_n 0, 1) := dk_42 (dk_at dksX11_init_0 4 rfl rfl)
theorem dX11_init_5 : decode cX11_init 5 = .ok (.aload_n 1, 1) := dk_43 (dk_at dksX11_init_0 5 rfl rfl)
theorem dX11_init_6 : decode cX11_init 6 = .ok (.putfield 7, 3) := dk_181 0 7 (dk_at dksX11_init_0 6 rfl rfl)
theorem dX11_init_9 : decode cX11_init 9 = .ok (.aload_n 0, 1) := dk_42 (dk_at dksX11_init_0 9 rfl rfl)
theorem dX11_init_10 : decode cX11_init 10 = .ok (.iload_n 2, 1) := dk_28 (dk_at dksX11_init_0 10 rfl rfl)
theorem dX11_init_11 : decode cX11_init 11 = .ok (.putfield 13, 3) := dk_181 0 13 (dk_at dksX11_init_0 11 rfl rfl)
theorem dX11_init_14 : decode cX11_init 14 = .ok (.return_, 1) := dk_177 (dk_at dksX11_init_0 14 rfl rfl)
theorem q155 : (Jvm.Cond.initialized "CaseGrouper$Rank") ∈ lw_all := lw_g (lw_at lw_m1 35 rfl) rfl
theorem q941 : (Jvm.Cond.selects "CaseGrouper$Rank" ({ cls := "java/lang/Object", name := "getClass", desc := "()Ljava/lang/Class;" } : Jvm.MethodName) ({ cls := "java/lang/Object", name := "getClass", desc := "()Ljava/lang/Class;" } : Jvm.MethodName)) ∈ lw_all := lw_g (lw_at lw_m4 101 rfl) rfl
theorem q986 : (Jvm.Cond.instantiable "CaseGrouper$Rank" (2 : Nat)) ∈ lw_all := lw_g (lw_at lw_m4 146 rfl) rfl
theorem q997 : (Jvm.Cond.instanceMethod ({ cls := "CaseGrouper$Rank", name := "<init>", desc := "(LCaseGrouper$Span;I)V" } : Jvm.MethodName)) ∈ lw_all := lw_g (lw_at lw_m4 157 rfl) rfl
theorem q998 : (Jvm.Cond.code ({ cls := "CaseGrouper$Rank", name := "<init>", desc := "(LCaseGrouper$Span;I)V" } : Jvm.MethodName) prog_11_method_1_code (3 : Nat) (Option.none : Option Jvm.ClassFile.FieldType)) ∈ lw_all := lw_g (lw_at lw_m4 158 rfl) rfl
theorem q999 : (Jvm.Cond.methodLink "CaseGrouper$Rank" (1 : Nat) ({ cls := "java/lang/Object", name := "<init>", desc := "()V" } : Jvm.MethodName)) ∈ lw_all := lw_g (lw_at lw_m4 159 rfl) rfl
theorem q1000 : (Jvm.Cond.fieldLink "CaseGrouper$Rank" (7 : Nat) "CaseGrouper$Rank" "span" "LCaseGrouper$Span;") ∈ lw_all := lw_g (lw_at lw_m4 160 rfl) rfl
theorem q1002 : (Jvm.Cond.fieldLink "CaseGrouper$Rank" (13 : Nat) "CaseGrouper$Rank" "number" "I") ∈ lw_all := lw_g (lw_at lw_m4 162 rfl) rfl
theorem q1004 : (Jvm.Cond.laysFinal "CaseGrouper$Rank" "CaseGrouper$Rank" "span" "LCaseGrouper$Span;") ∈ lw_all := lw_g (lw_at lw_m4 164 rfl) rfl
theorem q1005 : (Jvm.Cond.soleField "CaseGrouper$Rank" "span") ∈ lw_all := lw_g (lw_at lw_m4 165 rfl) rfl
theorem q1006 : (Jvm.Cond.laysFinal "CaseGrouper$Rank" "CaseGrouper$Rank" "number" "I") ∈ lw_all := lw_g (lw_at lw_m4 166 rfl) rfl
theorem q1007 : (Jvm.Cond.soleField "CaseGrouper$Rank" "number") ∈ lw_all := lw_g (lw_at lw_m4 167 rfl) rfl
theorem q1008 : (Jvm.Cond.superclass "CaseGrouper$Rank" "java/lang/Object") ∈ lw_all := lw_g (lw_at lw_m4 168 rfl) rfl
theorem q1534 : (Jvm.Cond.selects "CaseGrouper$Rank" ({ cls := "java/lang/Object", name := "equals", desc := "(Ljava/lang/Object;)Z" } : Jvm.MethodName) ({ cls := "java/lang/Object", name := "equals", desc := "(Ljava/lang/Object;)Z" } : Jvm.MethodName)) ∈ lw_all := lw_g (lw_at lw_m6 214 rfl) rfl
theorem q2481 : (Jvm.Cond.castable "CaseGrouper$Rank" "java/lang/Object") ∈ lw_tbl := lw_at lw_m10 201 rfl
theorem in_X11 : ∀ w ∈ wsX110, w ∈ lw_all := lw_in wsX110 [1004, 1006] (by decide +kernel) (by decide +kernel)
/-! CaseGrouper$Partner -/
set_option maxRecDepth 100000
def RX12 : String := "CaseGrouper$Partner"
def TX12 : u_T := fun k => match k with
  | 0 => ("CaseGrouper$Partner", "span", "LCaseGrouper$Span;", true)
  | 1 => ("CaseGrouper$Partner", "level", "I", true)
  | _ => ("CaseGrouper$Partner", "but", "Ljava/util/ArrayList;", true)
def tyX12 : Nat → FieldType := fun k => match k with
  | 0 => .object "CaseGrouper$Span"
  | 1 => .int
  | _ => .object "java/util/ArrayList"
abbrev wsX120 : List Cond := u_ws RX12 TX12 3
theorem nmX12 : ∀ a, a < 3 → ∀ b, b < 3 → a ≠ b → (TX12 a).2.1 ≠ (TX12 b).2.1 := by decide +kernel
theorem tyX12_ok : ∀ k, k < 3 → parseFieldDescriptor (TX12 k).2.2.1 = some (tyX12 k) := by decide +kernel
abbrev cX12_init : ByteArray := prog_10_method_1_code
def yX12_init : MethodName := ⟨RX12, "<init>", "(LCaseGrouper$Span;I)V"⟩
def dkwX12_init_1 : List UInt8 := [181, 0, 20, 177]
abbrev dktX12_init_1 : List UInt8 := dkwX12_init_1 ++ []
def dkwX12_init_0 : List UInt8 := [42, 183, 0, 1, 42, 187, 0, 7, 89, 183, 0, 9, 181, 0, 10, 42, 43, 181, 0, 16, 42, 28]
abbrev dktX12_init_0 : List UInt8 := dkwX12_init_0 ++ dktX12_init_1
theorem dksX12_init_0 : cX12_init.data.toList.drop 0 = dktX12_init_0 := by decide +kernel
theorem dksX12_init_1 : cX12_init.data.toList.drop 22 = dktX12_init_1 := dk_seg dksX12_init_0 22 rfl rfl
theorem dX12_init_0 : decode cX12_init 0 = .ok (.aload_n 0, 1) := dk_42 (dk_at dksX12_init_0 0 rfl rfl)
theorem dX12_init_1 : decode cX12_init 1 = .ok (.invokespecial 1, 3) := dk_183 0 1 (dk_at dksX12_init_0 1 rfl rfl)
theorem dX12_init_4 : decode cX12_init 4 = .ok (.aload_n 0, 1) := dk_42 (dk_at dksX12_init_0 4 rfl rfl)
theorem dX12_init_5 : decode cX12_init 5 = .ok (.new 7, 3) := dk_187 0 7 (dk_at dksX12_init_0 5 rfl rfl)
theorem dX12_init_8 : decode cX12_init 8 = .ok (.dup, 1) := dk_89 (dk_at dksX12_init_0 8 rfl rfl)
theorem dX12_init_9 : decode cX12_init 9 = .ok (.invokespecial 9, 3) := dk_183 0 9 (dk_at dksX12_init_0 9 rfl rfl)
theorem dX12_init_12 : decode cX12_init 12 = .ok (.putfield 10, 3) := dk_181 0 10 (dk_at dksX12_init_0 12 rfl rfl)
theorem dX12_init_15 : decode cX12_init 15 = .ok (.aload_n 0, 1) := dk_42 (dk_at dksX12_init_0 15 rfl rfl)
theorem dX12_init_16 : decode cX12_init 16 = .ok (.aload_n 1, 1) := dk_43 (dk_at dksX12_init_0 16 rfl rfl)
theorem dX12_init_17 : decode cX12_init 17 = .ok (.putfield 16, 3) := dk_181 0 16 (dk_at dksX12_init_0 17 rfl rfl)
theorem dX12_init_20 : decode cX12_init 20 = .ok (.aload_n 0, 1) := dk_42 (dk_at dksX12_init_0 20 rfl rfl)
theorem dX12_init_21 : decode cX12_init 21 = .ok (.iload_n 2, 1) := dk_28 (dk_at dksX12_init_0 21 rfl rfl)
theorem dX12_init_22 : decode cX12_init 22 = .ok (.putfield 20, 3) := dk_181 0 20 (dk_at dksX12_init_1 0 rfl rfl)
theorem dX12_init_25 : decode cX12_init 25 = .ok (.return_, 1) := dk_177 (dk_at dksX12_init_1 3 rfl rfl)
theorem q156 : (Jvm.Cond.initialized "CaseGrouper$Partner") ∈ lw_all := lw_g (lw_at lw_m1 36 rfl) rfl
theorem q940 : (Jvm.Cond.selects "CaseGrouper$Partner" ({ cls := "java/lang/Object", name := "getClass", desc := "()Ljava/lang/Class;" } : Jvm.MethodName) ({ cls := "java/lang/Object", name := "getClass", desc := "()Ljava/lang/Class;" } : Jvm.MethodName)) ∈ lw_all := lw_g (lw_at lw_m4 100 rfl) rfl
theorem q1014 : (Jvm.Cond.instantiable "CaseGrouper$Partner" (3 : Nat)) ∈ lw_all := lw_g (lw_at lw_m4 174 rfl) rfl
theorem q1016 : (Jvm.Cond.instanceMethod ({ cls := "CaseGrouper$Partner", name := "<init>", desc := "(LCaseGrouper$Span;I)V" } : Jvm.MethodName)) ∈ lw_all := lw_g (lw_at lw_m4 176 rfl) rfl
theorem q1017 : (Jvm.Cond.code ({ cls := "CaseGrouper$Partner", name := "<init>", desc := "(LCaseGrouper$Span;I)V" } : Jvm.MethodName) prog_10_method_1_code (3 : Nat) (Option.none : Option Jvm.ClassFile.FieldType)) ∈ lw_all := lw_g (lw_at lw_m4 177 rfl) rfl
theorem q1018 : (Jvm.Cond.methodLink "CaseGrouper$Partner" (1 : Nat) ({ cls := "java/lang/Object", name := "<init>", desc := "()V" } : Jvm.MethodName)) ∈ lw_all := lw_g (lw_at lw_m4 178 rfl) rfl
theorem q1019 : (Jvm.Cond.classLink "CaseGrouper$Partner" (7 : Nat) "java/util/ArrayList") ∈ lw_all := lw_g (lw_at lw_m4 179 rfl) rfl
theorem q1020 : (Jvm.Cond.methodLink "CaseGrouper$Partner" (9 : Nat) ({ cls := "java/util/ArrayList", name := "<init>", desc := "()V" } : Jvm.MethodName)) ∈ lw_all := lw_g (lw_at lw_m4 180 rfl) rfl
theorem q1021 : (Jvm.Cond.fieldLink "CaseGrouper$Partner" (16 : Nat) "CaseGrouper$Partner" "span" "LCaseGrouper$Span;") ∈ lw_all := lw_g (lw_at lw_m4 181 rfl) rfl
theorem q1023 : (Jvm.Cond.fieldLink "CaseGrouper$Partner" (20 : Nat) "CaseGrouper$Partner" "level" "I") ∈ lw_all := lw_g (lw_at lw_m4 183 rfl) rfl
theorem q1025 : (Jvm.Cond.fieldLink "CaseGrouper$Partner" (10 : Nat) "CaseGrouper$Partner" "but" "Ljava/util/ArrayList;") ∈ lw_all := lw_g (lw_at lw_m4 185 rfl) rfl
theorem q1028 : (Jvm.Cond.laysFinal "CaseGrouper$Partner" "CaseGrouper$Partner" "span" "LCaseGrouper$Span;") ∈ lw_all := lw_g (lw_at lw_m4 188 rfl) rfl
theorem q1029 : (Jvm.Cond.soleField "CaseGrouper$Partner" "span") ∈ lw_all := lw_g (lw_at lw_m4 189 rfl) rfl
theorem q1030 : (Jvm.Cond.laysFinal "CaseGrouper$Partner" "CaseGrouper$Partner" "level" "I") ∈ lw_all := lw_g (lw_at lw_m4 190 rfl) rfl
theorem q1031 : (Jvm.Cond.soleField "CaseGrouper$Partner" "level") ∈ lw_all := lw_g (lw_at lw_m4 191 rfl) rfl
theorem q1032 : (Jvm.Cond.laysFinal "CaseGrouper$Partner" "CaseGrouper$Partner" "but" "Ljava/util/ArrayList;") ∈ lw_all := lw_g (lw_at lw_m4 192 rfl) rfl
theorem q1033 : (Jvm.Cond.soleField "CaseGrouper$Partner" "but") ∈ lw_all := lw_g (lw_at lw_m4 193 rfl) rfl
theorem q1034 : (Jvm.Cond.superclass "CaseGrouper$Partner" "java/lang/Object") ∈ lw_all := lw_g (lw_at lw_m4 194 rfl) rfl
theorem q1533 : (Jvm.Cond.selects "CaseGrouper$Partner" ({ cls := "java/lang/Object", name := "equals", desc := "(Ljava/lang/Object;)Z" } : Jvm.MethodName) ({ cls := "java/lang/Object", name := "equals", desc := "(Ljava/lang/Object;)Z" } : Jvm.MethodName)) ∈ lw_all := lw_g (lw_at lw_m6 213 rfl) rfl
theorem q2482 : (Jvm.Cond.castable "CaseGrouper$Partner" "java/lang/Object") ∈ lw_tbl := lw_at lw_m10 202 rfl
theorem in_X12 : ∀ w ∈ wsX120, w ∈ lw_all := lw_in wsX120 [1028, 1030, 1032] (by decide +kernel) (by decide +kernel)
/-! CaseGrouper$Leaf -/
set_option maxRecDepth 100000
def RX13 : String := "CaseGrouper$Leaf"
def TX13 : u_T := fun k => match k with
  | 0 => ("CaseGrouper$Leaf", "cls", "I", true)
  | _ => ("CaseGrouper$Leaf", "isMet", "Z", false)
def tyX13 : Nat → FieldType := fun k => match k with
  | 0 => .int
  | _ => .boolean
abbrev wsX130 : List Cond := u_ws RX13 TX13 2
theorem nmX13 : ∀ a, a < 2 → ∀ b, b < 2 → a ≠ b → (TX13 a).2.1 ≠ (TX13 b).2.1 := by decide +kernel
theorem tyX13_ok : ∀ k, k < 2 → parseFieldDescriptor (TX13 k).2.2.1 = some (tyX13 k) := by decide +kernel
abbrev cX13_init : ByteArray := prog_9_method_1_code
def yX13_init : MethodName := ⟨RX13, "<init>", "(I)V"⟩
def dkwX13_init_0 : List UInt8 := [42, 183, 0, 1, 42, 27, 181, 0, 7, 177]
abbrev dktX13_init_0 : List UInt8 := dkwX13_init_0 ++ []
theorem dksX13_init_0 : cX13_init.data.toList.drop 0 = dktX13_init_0 := by decide +kernel
theorem dX13_init_0 : decode cX13_init 0 = .ok (.aload_n 0, 1) := dk_42 (dk_at dksX13_init_0 0 rfl rfl)
theorem dX13_init_1 : decode cX13_init 1 = .ok (.invokespecial 1, 3) := dk_183 0 1 (dk_at dksX13_init_0 1 rfl rfl)
theorem dX13_init_4 : decode cX13_init 4 = .ok (.aload_n 0, 1) := dk_42 (dk_at dksX13_init_0 4 rfl rfl)
theorem dX13_init_5 : decode cX13_init 5 = .ok (.iload_n 1, 1) := dk_27 (dk_at dksX13_init_0 5 rfl rfl)
theorem dX13_init_6 : decode cX13_init 6 = .ok (.putfield 7, 3) := dk_181 0 7 (dk_at dksX13_init_0 6 rfl rfl)
theorem dX13_init_9 : decode cX13_init 9 = .ok (.return_, 1) := dk_177 (dk_at dksX13_init_0 9 rfl rfl)
theorem q157 : (Jvm.Cond.initialized "CaseGrouper$Leaf") ∈ lw_all := lw_g (lw_at lw_m1 37 rfl) rfl
theorem q939 : (Jvm.Cond.selects "CaseGrouper$Leaf" ({ cls := "java/lang/Object", name := "getClass", desc := "()Ljava/lang/Class;" } : Jvm.MethodName) ({ cls := "java/lang/Object", name := "getClass", desc := "()Ljava/lang/Class;" } : Jvm.MethodName)) ∈ lw_all := lw_g (lw_at lw_m4 99 rfl) rfl
theorem q1080 : (Jvm.Cond.instantiable "CaseGrouper$Leaf" (2 : Nat)) ∈ lw_all := lw_g (lw_at lw_m5 0 rfl) rfl
theorem q1086 : (Jvm.Cond.instanceMethod ({ cls := "CaseGrouper$Leaf", name := "<init>", desc := "(I)V" } : Jvm.MethodName)) ∈ lw_all := lw_g (lw_at lw_m5 6 rfl) rfl
theorem q1087 : (Jvm.Cond.code ({ cls := "CaseGrouper$Leaf", name := "<init>", desc := "(I)V" } : Jvm.MethodName) prog_9_method_1_code (2 : Nat) (Option.none : Option Jvm.ClassFile.FieldType)) ∈ lw_all := lw_g (lw_at lw_m5 7 rfl) rfl
theorem q1088 : (Jvm.Cond.methodLink "CaseGrouper$Leaf" (1 : Nat) ({ cls := "java/lang/Object", name := "<init>", desc := "()V" } : Jvm.MethodName)) ∈ lw_all := lw_g (lw_at lw_m5 8 rfl) rfl
theorem q1089 : (Jvm.Cond.fieldLink "CaseGrouper$Leaf" (7 : Nat) "CaseGrouper$Leaf" "cls" "I") ∈ lw_all := lw_g (lw_at lw_m5 9 rfl) rfl
theorem q1094 : (Jvm.Cond.laysFinal "CaseGrouper$Leaf" "CaseGrouper$Leaf" "cls" "I") ∈ lw_all := lw_g (lw_at lw_m5 14 rfl) rfl
theorem q1095 : (Jvm.Cond.soleField "CaseGrouper$Leaf" "cls") ∈ lw_all := lw_g (lw_at lw_m5 15 rfl) rfl
theorem q1096 : (Jvm.Cond.lays "CaseGrouper$Leaf" "CaseGrouper$Leaf" "isMet" "Z") ∈ lw_all := lw_g (lw_at lw_m5 16 rfl) rfl
theorem q1097 : (Jvm.Cond.soleField "CaseGrouper$Leaf" "isMet") ∈ lw_all := lw_g (lw_at lw_m5 17 rfl) rfl
theorem q1098 : (Jvm.Cond.superclass "CaseGrouper$Leaf" "java/lang/Object") ∈ lw_all := lw_g (lw_at lw_m5 18 rfl) rfl
theorem q1532 : (Jvm.Cond.selects "CaseGrouper$Leaf" ({ cls := "java/lang/Object", name := "equals", desc := "(Ljava/lang/Object;)Z" } : Jvm.MethodName) ({ cls := "java/lang/Object", name := "equals", desc := "(Ljava/lang/Object;)Z" } : Jvm.MethodName)) ∈ lw_all := lw_g (lw_at lw_m6 212 rfl) rfl
theorem q2483 : (Jvm.Cond.castable "CaseGrouper$Leaf" "java/lang/Object") ∈ lw_tbl := lw_at lw_m10 203 rfl
theorem in_X13 : ∀ w ∈ wsX130, w ∈ lw_all := lw_in wsX130 [1094, 1096] (by decide +kernel) (by decide +kernel)
/-! CaseGrouper$Joined -/
set_option maxRecDepth 100000
def RX14 : String := "CaseGrouper$Joined"
def TX14 : u_T := fun k => match k with
  | 0 => ("CaseGrouper$Joined", "word", "Ljava/lang/String;", true)
  | _ => ("CaseGrouper$Joined", "parts", "Ljava/util/ArrayList;", true)
def tyX14 : Nat → FieldType := fun k => match k with
  | 0 => .object "java/lang/String"
  | _ => .object "java/util/ArrayList"
abbrev wsX140 : List Cond := u_ws RX14 TX14 2
theorem nmX14 : ∀ a, a < 2 → ∀ b, b < 2 → a ≠ b → (TX14 a).2.1 ≠ (TX14 b).2.1 := by decide +kernel
theorem tyX14_ok : ∀ k, k < 2 → parseFieldDescriptor (TX14 k).2.2.1 = some (tyX14 k) := by decide +kernel
abbrev cX14_init : ByteArray := prog_8_method_1_code
def yX14_init : MethodName := ⟨RX14, "<init>", "(Ljava/lang/String;Ljava/lang/Object;)V"⟩
def dkwX14_init_1 : List UInt8 := [44, 182, 0, 20, 87, 177]
abbrev dktX14_init_1 : List UInt8 := dkwX14_init_1 ++ []
def dkwX14_init_0 : List UInt8 := [42, 183, 0, 1, 42, 187, 0, 7, 89, 183, 0, 9, 181, 0, 10, 42, 43, 181, 0, 16, 42, 180, 0, 10]
abbrev dktX14_init_0 : List UInt8 := dkwX14_init_0 ++ dktX14_init_1
theorem dksX14_init_0 : cX14_init.data.toList.drop 0 = dktX14_init_0 := by decide +kernel
theorem dksX14_init_1 : cX14_init.data.toList.drop 24 = dktX14_init_1 := dk_seg dksX14_init_0 24 rfl rfl
theorem dX14_init_0 : decode cX14_init 0 = .ok (.aload_n 0, 1) := dk_42 (dk_at dksX14_init_0 0 rfl rfl)
theorem dX14_init_1 : decode cX14_init 1 = .ok (.invokespecial 1, 3) := dk_183 0 1 (dk_at dksX14_init_0 1 rfl rfl)
theorem dX14_init_4 : decode cX14_init 4 = .ok (.aload_n 0, 1) := dk_42 (dk_at dksX14_init_0 4 rfl rfl)
theorem dX14_init_5 : decode cX14_init 5 = .ok (.new 7, 3) := dk_187 0 7 (dk_at dksX14_init_0 5 rfl rfl)
theorem dX14_init_8 : decode cX14_init 8 = .ok (.dup, 1) := dk_89 (dk_at dksX14_init_0 8 rfl rfl)
theorem dX14_init_9 : decode cX14_init 9 = .ok (.invokespecial 9, 3) := dk_183 0 9 (dk_at dksX14_init_0 9 rfl rfl)
theorem dX14_init_12 : decode cX14_init 12 = .ok (.putfield 10, 3) := dk_181 0 10 (dk_at dksX14_init_0 12 rfl rfl)
theorem dX14_init_15 : decode cX14_init 15 = .ok (.aload_n 0, 1) := dk_42 (dk_at dksX14_init_0 15 rfl rfl)
theorem dX14_init_16 : decode cX14_init 16 = .ok (.aload_n 1, 1) := dk_43 (dk_at dksX14_init_0 16 rfl rfl)
theorem dX14_init_17 : decode cX14_init 17 = .ok (.putfield 16, 3) := dk_181 0 16 (dk_at dksX14_init_0 17 rfl rfl)
theorem dX14_init_20 : decode cX14_init 20 = .ok (.aload_n 0, 1) := dk_42 (dk_at dksX14_init_0 20 rfl rfl)
theorem dX14_init_21 : decode cX14_init 21 = .ok (.getfield 10, 3) := dk_180 0 10 (dk_at dksX14_init_0 21 rfl rfl)
theorem dX14_init_24 : decode cX14_init 24 = .ok (.aload_n 2, 1) := dk_44 (dk_at dksX14_init_1 0 rfl rfl)
theorem dX14_init_25 : decode cX14_init 25 = .ok (.invokevirtual 20, 3) := dk_182 0 20 (dk_at dksX14_init_1 1 rfl rfl)
theorem dX14_init_28 : decode cX14_init 28 = .ok (.pop, 1) := dk_87 (dk_at dksX14_init_1 4 rfl rfl)
theorem dX14_init_29 : decode cX14_init 29 = .ok (.return_, 1) := dk_177 (dk_at dksX14_init_1 5 rfl rfl)
theorem q158 : (Jvm.Cond.initialized "CaseGrouper$Joined") ∈ lw_all := lw_g (lw_at lw_m1 38 rfl) rfl
theorem q938 : (Jvm.Cond.selects "CaseGrouper$Joined" ({ cls := "java/lang/Object", name := "getClass", desc := "()Ljava/lang/Class;" } : Jvm.MethodName) ({ cls := "java/lang/Object", name := "getClass", desc := "()Ljava/lang/Class;" } : Jvm.MethodName)) ∈ lw_all := lw_g (lw_at lw_m4 98 rfl) rfl
theorem q1117 : (Jvm.Cond.instantiable "CaseGrouper$Joined" (2 : Nat)) ∈ lw_all := lw_g (lw_at lw_m5 37 rfl) rfl
theorem q1119 : (Jvm.Cond.instanceMethod ({ cls := "CaseGrouper$Joined", name := "<init>", desc := "(Ljava/lang/String;Ljava/lang/Object;)V" } : Jvm.MethodName)) ∈ lw_all := lw_g (lw_at lw_m5 39 rfl) rfl
theorem q1120 : (Jvm.Cond.code ({ cls := "CaseGrouper$Joined", name := "<init>", desc := "(Ljava/lang/String;Ljava/lang/Object;)V" } : Jvm.MethodName) prog_8_method_1_code (3 : Nat) (Option.none : Option Jvm.ClassFile.FieldType)) ∈ lw_all := lw_g (lw_at lw_m5 40 rfl) rfl
theorem q1121 : (Jvm.Cond.methodLink "CaseGrouper$Joined" (1 : Nat) ({ cls := "java/lang/Object", name := "<init>", desc := "()V" } : Jvm.MethodName)) ∈ lw_all := lw_g (lw_at lw_m5 41 rfl) rfl
theorem q1122 : (Jvm.Cond.classLink "CaseGrouper$Joined" (7 : Nat) "java/util/ArrayList") ∈ lw_all := lw_g (lw_at lw_m5 42 rfl) rfl
theorem q1123 : (Jvm.Cond.methodLink "CaseGrouper$Joined" (9 : Nat) ({ cls := "java/util/ArrayList", name := "<init>", desc := "()V" } : Jvm.MethodName)) ∈ lw_all := lw_g (lw_at lw_m5 43 rfl) rfl
theorem q1124 : (Jvm.Cond.methodLink "CaseGrouper$Joined" (20 : Nat) ({ cls := "java/util/ArrayList", name := "add", desc := "(Ljava/lang/Object;)Z" } : Jvm.MethodName)) ∈ lw_all := lw_g (lw_at lw_m5 44 rfl) rfl
theorem q1125 : (Jvm.Cond.fieldLink "CaseGrouper$Joined" (16 : Nat) "CaseGrouper$Joined" "word" "Ljava/lang/String;") ∈ lw_all := lw_g (lw_at lw_m5 45 rfl) rfl
theorem q1127 : (Jvm.Cond.fieldLink "CaseGrouper$Joined" (10 : Nat) "CaseGrouper$Joined" "parts" "Ljava/util/ArrayList;") ∈ lw_all := lw_g (lw_at lw_m5 47 rfl) rfl
theorem q1130 : (Jvm.Cond.laysFinal "CaseGrouper$Joined" "CaseGrouper$Joined" "word" "Ljava/lang/String;") ∈ lw_all := lw_g (lw_at lw_m5 50 rfl) rfl
theorem q1131 : (Jvm.Cond.soleField "CaseGrouper$Joined" "word") ∈ lw_all := lw_g (lw_at lw_m5 51 rfl) rfl
theorem q1132 : (Jvm.Cond.laysFinal "CaseGrouper$Joined" "CaseGrouper$Joined" "parts" "Ljava/util/ArrayList;") ∈ lw_all := lw_g (lw_at lw_m5 52 rfl) rfl
theorem q1133 : (Jvm.Cond.soleField "CaseGrouper$Joined" "parts") ∈ lw_all := lw_g (lw_at lw_m5 53 rfl) rfl
theorem q1134 : (Jvm.Cond.superclass "CaseGrouper$Joined" "java/lang/Object") ∈ lw_all := lw_g (lw_at lw_m5 54 rfl) rfl
theorem q1531 : (Jvm.Cond.selects "CaseGrouper$Joined" ({ cls := "java/lang/Object", name := "equals", desc := "(Ljava/lang/Object;)Z" } : Jvm.MethodName) ({ cls := "java/lang/Object", name := "equals", desc := "(Ljava/lang/Object;)Z" } : Jvm.MethodName)) ∈ lw_all := lw_g (lw_at lw_m6 211 rfl) rfl
theorem q2484 : (Jvm.Cond.castable "CaseGrouper$Joined" "java/lang/Object") ∈ lw_tbl := lw_at lw_m10 204 rfl
theorem in_X14 : ∀ w ∈ wsX140, w ∈ lw_all := lw_in wsX140 [1130, 1132] (by decide +kernel) (by decide +kernel)
/-! CaseGrouper$Atom -/
set_option maxRecDepth 100000
def RX15 : String := "CaseGrouper$Atom"
def TX15 : u_T := fun k => match k with
  | 0 => ("CaseGrouper$Atom", "word", "Ljava/lang/String;", true)
  | 1 => ("CaseGrouper$Atom", "span", "LCaseGrouper$Span;", true)
  | 2 => ("CaseGrouper$Atom", "sign", "I", true)
  | 3 => ("CaseGrouper$Atom", "number", "I", true)
  | _ => ("CaseGrouper$Atom", "place", "I", true)
def tyX15 : Nat → FieldType := fun k => match k with
  | 0 => .object "java/lang/String"
  | 1 => .object "CaseGrouper$Span"
  | 2 => .int
  | 3 => .int
  | _ => .int
abbrev wsX150 : List Cond := u_ws RX15 TX15 5
theorem nmX15 : ∀ a, a < 5 → ∀ b, b < 5 → a ≠ b → (TX15 a).2.1 ≠ (TX15 b).2.1 := by decide +kernel
theorem tyX15_ok : ∀ k, k < 5 → parseFieldDescriptor (TX15 k).2.2.1 = some (tyX15 k) := by decide +kernel
abbrev cX15_isOfCodes : ByteArray := prog_2_method_2_code
def yX15_isOfCodes : MethodName := ⟨RX15, "isOfCodes", "()Z"⟩
def dkwX15_isOfCodes_0 : List UInt8 := [42, 180, 0, 13, 198, 0, 7, 4, 167, 0, 4, 3, 172]
abbrev dktX15_isOfCodes_0 : List UInt8 := dkwX15_isOfCodes_0 ++ []
theorem dksX15_isOfCodes_0 : cX15_isOfCodes.data.toList.drop 0 = dktX15_isOfCodes_0 := by decide +kernel
theorem dX15_isOfCodes_0 : decode cX15_isOfCodes 0 = .ok (.aload_n 0, 1) := dk_42 (dk_at dksX15_isOfCodes_0 0 rfl rfl)
theorem dX15_isOfCodes_1 : decode cX15_isOfCodes 1 = .ok (.getfield 13, 3) := dk_180 0 13 (dk_at dksX15_isOfCodes_0 1 rfl rfl)
theorem dX15_isOfCodes_4 : decode cX15_isOfCodes 4 = .ok (.ifnull 7, 3) := dk_198 0 7 (dk_at dksX15_isOfCodes_0 4 rfl rfl)
theorem dX15_isOfCodes_7 : decode cX15_isOfCodes 7 = .ok (.iconst 1, 1) := dk_4 (dk_at dksX15_isOfCodes_0 7 rfl rfl)
theorem dX15_isOfCodes_8 : decode cX15_isOfCodes 8 = .ok (.goto 4, 3) := dk_167 0 4 (dk_at dksX15_isOfCodes_0 8 rfl rfl)
theorem dX15_isOfCodes_11 : decode cX15_isOfCodes 11 = .ok (.iconst 0, 1) := dk_3 (dk_at dksX15_isOfCodes_0 11 rfl rfl)
theorem dX15_isOfCodes_12 : decode cX15_isOfCodes 12 = .ok (.ireturn, 1) := dk_172 (dk_at dksX15_isOfCodes_0 12 rfl rfl)
abbrev cX15_init : ByteArray := prog_2_method_1_code
def yX15_init : MethodName := ⟨RX15, "<init>", "(Ljava/lang/String;LCaseGrouper$Span;III)V"⟩
def dkwX15_init_1 : List UInt8 := [181, 0, 21, 42, 21, 5, 181, 0, 24, 177]
abbrev dktX15_init_1 : List UInt8 := dkwX15_init_1 ++ []
def dkwX15_init_0 : List UInt8 := [42, 183, 0, 1, 42, 43, 181, 0, 7, 42, 44, 181, 0, 13, 42, 29, 181, 0, 17, 42, 21, 4]
abbrev dktX15_init_0 : List UInt8 := dkwX15_init_0 ++ dktX15_init_1
theorem dksX15_init_0 : cX15_init.data.toList.drop 0 = dktX15_init_0 := by decide +kernel
theorem dksX15_init_1 : cX15_init.data.toList.drop 22 = dktX15_init_1 := dk_seg dksX15_init_0 22 rfl rfl
theorem dX15_init_0 : decode cX15_init 0 = .ok (.aload_n 0, 1) := dk_42 (dk_at dksX15_init_0 0 rfl rfl)
theorem dX15_init_1 : decode cX15_init 1 = .ok (.invokespecial 1, 3) := dk_183 0 1 (dk_at dksX15_init_0 1 rfl rfl)
theorem dX15_init_4 : decode cX15_init 4 = .ok (.aload_n 0, 1) := dk_42 (dk_at dksX15_init_0 4 rfl rfl)
theorem dX15_init_5 : decode cX15_init 5 = .ok (.aload_n 1, 1) := dk_43 (dk_at dksX15_init_0 5 rfl rfl)
theorem dX15_init_6 : decode cX15_init 6 = .ok (.putfield 7, 3) := dk_181 0 7 (dk_at dksX15_init_0 6 rfl rfl)
theorem dX15_init_9 : decode cX15_init 9 = .ok (.aload_n 0, 1) := dk_42 (dk_at dksX15_init_0 9 rfl rfl)
theorem dX15_init_10 : decode cX15_init 10 = .ok (.aload_n 2, 1) := dk_44 (dk_at dksX15_init_0 10 rfl rfl)
theorem dX15_init_11 : decode cX15_init 11 = .ok (.putfield 13, 3) := dk_181 0 13 (dk_at dksX15_init_0 11 rfl rfl)
theorem dX15_init_14 : decode cX15_init 14 = .ok (.aload_n 0, 1) := dk_42 (dk_at dksX15_init_0 14 rfl rfl)
theorem dX15_init_15 : decode cX15_init 15 = .ok (.iload_n 3, 1) := dk_29 (dk_at dksX15_init_0 15 rfl rfl)
theorem dX15_init_16 : decode cX15_init 16 = .ok (.putfield 17, 3) := dk_181 0 17 (dk_at dksX15_init_0 16 rfl rfl)
theorem dX15_init_19 : decode cX15_init 19 = .ok (.aload_n 0, 1) := dk_42 (dk_at dksX15_init_0 19 rfl rfl)
theorem dX15_init_20 : decode cX15_init 20 = .ok (.iload 4, 2) := dk_21 4 (dk_at dksX15_init_0 20 rfl rfl)
theorem dX15_init_22 : decode cX15_init 22 = .ok (.putfield 21, 3) := dk_181 0 21 (dk_at dksX15_init_1 0 rfl rfl)
theorem dX15_init_25 : decode cX15_init 25 = .ok (.aload_n 0, 1) := dk_42 (dk_at dksX15_init_1 3 rfl rfl)
theorem dX15_init_26 : decode cX15_init 26 = .ok (.iload 5, 2) := dk_21 5 (dk_at dksX15_init_1 4 rfl rfl)
theorem dX15_init_28 : decode cX15_init 28 = .ok (.putfield 24, 3) := dk_181 0 24 (dk_at dksX15_init_1 6 rfl rfl)
theorem dX15_init_31 : decode cX15_init 31 = .ok (.return_, 1) := dk_177 (dk_at dksX15_init_1 9 rfl rfl)
abbrev cX15_isLike : ByteArray := prog_2_method_3_code
def yX15_isLike : MethodName := ⟨RX15, "isLike", "(LCaseGrouper$Atom;)Z"⟩
def dkwX15_isLike_3 : List UInt8 := [160, 0, 7, 4, 167, 0, 4, 3, 172]
abbrev dktX15_isLike_3 : List UInt8 := dkwX15_isLike_3 ++ []
def dkwX15_isLike_2 : List UInt8 := [167, 0, 30, 42, 180, 0, 17, 43, 180, 0, 17, 160, 0, 18, 42, 180, 0, 21, 43, 180, 0, 21]
abbrev dktX15_isLike_2 : List UInt8 := dkwX15_isLike_2 ++ dktX15_isLike_3
def dkwX15_isLike_1 : List UInt8 := [159, 0, 5, 3, 172, 42, 182, 0, 33, 153, 0, 17, 42, 180, 0, 13, 43, 180, 0, 13, 182, 0, 37]
abbrev dktX15_isLike_1 : List UInt8 := dkwX15_isLike_1 ++ dktX15_isLike_2
def dkwX15_isLike_0 : List UInt8 := [42, 180, 0, 7, 43, 180, 0, 7, 182, 0, 27, 153, 0, 14, 42, 182, 0, 33, 43, 182, 0, 33]
abbrev dktX15_isLike_0 : List UInt8 := dkwX15_isLike_0 ++ dktX15_isLike_1
theorem dksX15_isLike_0 : cX15_isLike.data.toList.drop 0 = dktX15_isLike_0 := by decide +kernel
theorem dksX15_isLike_1 : cX15_isLike.data.toList.drop 22 = dktX15_isLike_1 := dk_seg dksX15_isLike_0 22 rfl rfl
theorem dksX15_isLike_2 : cX15_isLike.data.toList.drop 45 = dktX15_isLike_2 := dk_seg dksX15_isLike_1 23 rfl rfl
theorem dksX15_isLike_3 : cX15_isLike.data.toList.drop 67 = dktX15_isLike_3 := dk_seg dksX15_isLike_2 22 rfl rfl
theorem dX15_isLike_0 : decode cX15_isLike 0 = .ok (.aload_n 0, 1) := dk_42 (dk_at dksX15_isLike_0 0 rfl rfl)
theorem dX15_isLike_1 : decode cX15_isLike 1 = .ok (.getfield 7, 3) := dk_180 0 7 (dk_at dksX15_isLike_0 1 rfl rfl)
theorem dX15_isLike_4 : decode cX15_isLike 4 = .ok (.aload_n 1, 1) := dk_43 (dk_at dksX15_isLike_0 4 rfl rfl)
theorem dX15_isLike_5 : decode cX15_isLike 5 = .ok (.getfield 7, 3) := dk_180 0 7 (dk_at dksX15_isLike_0 5 rfl rfl)
theorem dX15_isLike_8 : decode cX15_isLike 8 = .ok (.invokevirtual 27, 3) := dk_182 0 27 (dk_at dksX15_isLike_0 8 rfl rfl)
theorem dX15_isLike_11 : decode cX15_isLike 11 = .ok (.ifCond .eq 14, 3) := dk_153 0 14 (dk_at dksX15_isLike_0 11 rfl rfl)
theorem dX15_isLike_14 : decode cX15_isLike 14 = .ok (.aload_n 0, 1) := dk_42 (dk_at dksX15_isLike_0 14 rfl rfl)
theorem dX15_isLike_15 : decode cX15_isLike 15 = .ok (.invokevirtual 33, 3) := dk_182 0 33 (dk_at dksX15_isLike_0 15 rfl rfl)
theorem dX15_isLike_18 : decode cX15_isLike 18 = .ok (.aload_n 1, 1) := dk_43 (dk_at dksX15_isLike_0 18 rfl rfl)
theorem dX15_isLike_19 : decode cX15_isLike 19 = .ok (.invokevirtual 33, 3) := dk_182 0 33 (dk_at dksX15_isLike_0 19 rfl rfl)
theorem dX15_isLike_22 : decode cX15_isLike 22 = .ok (.if_icmp .eq 5, 3) := dk_159 0 5 (dk_at dksX15_isLike_1 0 rfl rfl)
theorem dX15_isLike_25 : decode cX15_isLike 25 = .ok (.iconst 0, 1) := dk_3 (dk_at dksX15_isLike_1 3 rfl rfl)
theorem dX15_isLike_26 : decode cX15_isLike 26 = .ok (.ireturn, 1) := dk_172 (dk_at dksX15_isLike_1 4 rfl rfl)
theorem dX15_isLike_27 : decode cX15_isLike 27 = .ok (.aload_n 0, 1) := dk_42 (dk_at dksX15_isLike_1 5 rfl rfl)
theorem dX15_isLike_28 : decode cX15_isLike 28 = .ok (.invokevirtual 33, 3) := dk_182 0 33 (dk_at dksX15_isLike_1 6 rfl rfl)
theorem dX15_isLike_31 : decode cX15_isLike 31 = .ok (.ifCond .eq 17, 3) := dk_153 0 17 (dk_at dksX15_isLike_1 9 rfl rfl)
theorem dX15_isLike_34 : decode cX15_isLike 34 = .ok (.aload_n 0, 1) := dk_42 (dk_at dksX15_isLike_1 12 rfl rfl)
theorem dX15_isLike_35 : decode cX15_isLike 35 = .ok (.getfield 13, 3) := dk_180 0 13 (dk_at dksX15_isLike_1 13 rfl rfl)
theorem dX15_isLike_38 : decode cX15_isLike 38 = .ok (.aload_n 1, 1) := dk_43 (dk_at dksX15_isLike_1 16 rfl rfl)
theorem dX15_isLike_39 : decode cX15_isLike 39 = .ok (.getfield 13, 3) := dk_180 0 13 (dk_at dksX15_isLike_1 17 rfl rfl)
theorem dX15_isLike_42 : decode cX15_isLike 42 = .ok (.invokevirtual 37, 3) := dk_182 0 37 (dk_at dksX15_isLike_1 20 rfl rfl)
theorem dX15_isLike_45 : decode cX15_isLike 45 = .ok (.goto 30, 3) := dk_167 0 30 (dk_at dksX15_isLike_2 0 rfl rfl)
theorem dX15_isLike_48 : decode cX15_isLike 48 = .ok (.aload_n 0, 1) := dk_42 (dk_at dksX15_isLike_2 3 rfl rfl)
theorem dX15_isLike_49 : decode cX15_isLike 49 = .ok (.getfield 17, 3) := dk_180 0 17 (dk_at dksX15_isLike_2 4 rfl rfl)
theorem dX15_isLike_52 : decode cX15_isLike 52 = .ok (.aload_n 1, 1) := dk_43 (dk_at dksX15_isLike_2 7 rfl rfl)
theorem dX15_isLike_53 : decode cX15_isLike 53 = .ok (.getfield 17, 3) := dk_180 0 17 (dk_at dksX15_isLike_2 8 rfl rfl)
theorem dX15_isLike_56 : decode cX15_isLike 56 = .ok (.if_icmp .ne 18, 3) := dk_160 0 18 (dk_at dksX15_isLike_2 11 rfl rfl)
theorem dX15_isLike_59 : decode cX15_isLike 59 = .ok (.aload_n 0, 1) := dk_42 (dk_at dksX15_isLike_2 14 rfl rfl)
theorem dX15_isLike_60 : decode cX15_isLike 60 = .ok (.getfield 21, 3) := dk_180 0 21 (dk_at dksX15_isLike_2 15 rfl rfl)
theorem dX15_isLike_63 : decode cX15_isLike 63 = .ok (.aload_n 1, 1) := dk_43 (dk_at dksX15_isLike_2 18 rfl rfl)
theorem dX15_isLike_64 : decode cX15_isLike 64 = .ok (.getfield 21, 3) := dk_180 0 21 (dk_at dksX15_isLike_2 19 rfl rfl)
theorem dX15_isLike_67 : decode cX15_isLike 67 = .ok (.if_icmp .ne 7, 3) := dk_160 0 7 (dk_at dksX15_isLike_3 0 rfl rfl)
theorem dX15_isLike_70 : decode cX15_isLike 70 = .ok (.iconst 1, 1) := dk_4 (dk_at dksX15_isLike_3 3 rfl rfl)
theorem dX15_isLike_71 : decode cX15_isLike 71 = .ok (.goto 4, 3) := dk_167 0 4 (dk_at dksX15_isLike_3 4 rfl rfl)
theorem dX15_isLike_74 : decode cX15_isLike 74 = .ok (.iconst 0, 1) := dk_3 (dk_at dksX15_isLike_3 7 rfl rfl)
theorem dX15_isLike_75 : decode cX15_isLike 75 = .ok (.ireturn, 1) := dk_172 (dk_at dksX15_isLike_3 8 rfl rfl)
theorem q159 : (Jvm.Cond.initialized "CaseGrouper$Atom") ∈ lw_all := lw_g (lw_at lw_m1 39 rfl) rfl
theorem q933 : (Jvm.Cond.selects "CaseGrouper$Atom" ({ cls := "java/lang/Object", name := "getClass", desc := "()Ljava/lang/Class;" } : Jvm.MethodName) ({ cls := "java/lang/Object", name := "getClass", desc := "()Ljava/lang/Class;" } : Jvm.MethodName)) ∈ lw_all := lw_g (lw_at lw_m4 93 rfl) rfl
theorem q1140 : (Jvm.Cond.instantiable "CaseGrouper$Atom" (5 : Nat)) ∈ lw_all := lw_g (lw_at lw_m5 60 rfl) rfl
theorem q1147 : (Jvm.Cond.instanceMethod ({ cls := "CaseGrouper$Atom", name := "isOfCodes", desc := "()Z" } : Jvm.MethodName)) ∈ lw_all := lw_g (lw_at lw_m5 67 rfl) rfl
theorem q1148 : (Jvm.Cond.selects "CaseGrouper$Atom" ({ cls := "CaseGrouper$Atom", name := "isOfCodes", desc := "()Z" } : Jvm.MethodName) ({ cls := "CaseGrouper$Atom", name := "isOfCodes", desc := "()Z" } : Jvm.MethodName)) ∈ lw_all := lw_g (lw_at lw_m5 68 rfl) rfl
theorem q1149 : (Jvm.Cond.code ({ cls := "CaseGrouper$Atom", name := "isOfCodes", desc := "()Z" } : Jvm.MethodName) prog_2_method_2_code (1 : Nat) (Option.some Jvm.ClassFile.FieldType.boolean)) ∈ lw_all := lw_g (lw_at lw_m5 69 rfl) rfl
theorem q1151 : (Jvm.Cond.instanceMethod ({ cls := "CaseGrouper$Atom", name := "<init>", desc := "(Ljava/lang/String;LCaseGrouper$Span;III)V" } : Jvm.MethodName)) ∈ lw_all := lw_g (lw_at lw_m5 71 rfl) rfl
theorem q1152 : (Jvm.Cond.code ({ cls := "CaseGrouper$Atom", name := "<init>", desc := "(Ljava/lang/String;LCaseGrouper$Span;III)V" } : Jvm.MethodName) prog_2_method_1_code (6 : Nat) (Option.none : Option Jvm.ClassFile.FieldType)) ∈ lw_all := lw_g (lw_at lw_m5 72 rfl) rfl
theorem q1153 : (Jvm.Cond.methodLink "CaseGrouper$Atom" (1 : Nat) ({ cls := "java/lang/Object", name := "<init>", desc := "()V" } : Jvm.MethodName)) ∈ lw_all := lw_g (lw_at lw_m5 73 rfl) rfl
theorem q1154 : (Jvm.Cond.fieldLink "CaseGrouper$Atom" (7 : Nat) "CaseGrouper$Atom" "word" "Ljava/lang/String;") ∈ lw_all := lw_g (lw_at lw_m5 74 rfl) rfl
theorem q1158 : (Jvm.Cond.fieldLink "CaseGrouper$Atom" (13 : Nat) "CaseGrouper$Atom" "span" "LCaseGrouper$Span;") ∈ lw_all := lw_g (lw_at lw_m5 78 rfl) rfl
theorem q1160 : (Jvm.Cond.fieldLink "CaseGrouper$Atom" (17 : Nat) "CaseGrouper$Atom" "sign" "I") ∈ lw_all := lw_g (lw_at lw_m5 80 rfl) rfl
theorem q1163 : (Jvm.Cond.fieldLink "CaseGrouper$Atom" (21 : Nat) "CaseGrouper$Atom" "number" "I") ∈ lw_all := lw_g (lw_at lw_m5 83 rfl) rfl
theorem q1166 : (Jvm.Cond.fieldLink "CaseGrouper$Atom" (24 : Nat) "CaseGrouper$Atom" "place" "I") ∈ lw_all := lw_g (lw_at lw_m5 86 rfl) rfl
theorem q1169 : (Jvm.Cond.laysFinal "CaseGrouper$Atom" "CaseGrouper$Atom" "word" "Ljava/lang/String;") ∈ lw_all := lw_g (lw_at lw_m5 89 rfl) rfl
theorem q1170 : (Jvm.Cond.soleField "CaseGrouper$Atom" "word") ∈ lw_all := lw_g (lw_at lw_m5 90 rfl) rfl
theorem q1171 : (Jvm.Cond.laysFinal "CaseGrouper$Atom" "CaseGrouper$Atom" "span" "LCaseGrouper$Span;") ∈ lw_all := lw_g (lw_at lw_m5 91 rfl) rfl
theorem q1172 : (Jvm.Cond.soleField "CaseGrouper$Atom" "span") ∈ lw_all := lw_g (lw_at lw_m5 92 rfl) rfl
theorem q1173 : (Jvm.Cond.laysFinal "CaseGrouper$Atom" "CaseGrouper$Atom" "sign" "I") ∈ lw_all := lw_g (lw_at lw_m5 93 rfl) rfl
theorem q1174 : (Jvm.Cond.soleField "CaseGrouper$Atom" "sign") ∈ lw_all := lw_g (lw_at lw_m5 94 rfl) rfl
theorem q1175 : (Jvm.Cond.laysFinal "CaseGrouper$Atom" "CaseGrouper$Atom" "number" "I") ∈ lw_all := lw_g (lw_at lw_m5 95 rfl) rfl
theorem q1176 : (Jvm.Cond.soleField "CaseGrouper$Atom" "number") ∈ lw_all := lw_g (lw_at lw_m5 96 rfl) rfl
theorem q1177 : (Jvm.Cond.laysFinal "CaseGrouper$Atom" "CaseGrouper$Atom" "place" "I") ∈ lw_all := lw_g (lw_at lw_m5 97 rfl) rfl
theorem q1178 : (Jvm.Cond.soleField "CaseGrouper$Atom" "place") ∈ lw_all := lw_g (lw_at lw_m5 98 rfl) rfl
theorem q1179 : (Jvm.Cond.superclass "CaseGrouper$Atom" "java/lang/Object") ∈ lw_all := lw_g (lw_at lw_m5 99 rfl) rfl
theorem q1185 : (Jvm.Cond.instanceMethod ({ cls := "CaseGrouper$Atom", name := "isLike", desc := "(LCaseGrouper$Atom;)Z" } : Jvm.MethodName)) ∈ lw_all := lw_g (lw_at lw_m5 105 rfl) rfl
theorem q1186 : (Jvm.Cond.selects "CaseGrouper$Atom" ({ cls := "CaseGrouper$Atom", name := "isLike", desc := "(LCaseGrouper$Atom;)Z" } : Jvm.MethodName) ({ cls := "CaseGrouper$Atom", name := "isLike", desc := "(LCaseGrouper$Atom;)Z" } : Jvm.MethodName)) ∈ lw_all := lw_g (lw_at lw_m5 106 rfl) rfl
theorem q1187 : (Jvm.Cond.code ({ cls := "CaseGrouper$Atom", name := "isLike", desc := "(LCaseGrouper$Atom;)Z" } : Jvm.MethodName) prog_2_method_3_code (2 : Nat) (Option.some Jvm.ClassFile.FieldType.boolean)) ∈ lw_all := lw_g (lw_at lw_m5 107 rfl) rfl
theorem q1188 : (Jvm.Cond.methodLink "CaseGrouper$Atom" (27 : Nat) ({ cls := "java/lang/String", name := "equals", desc := "(Ljava/lang/Object;)Z" } : Jvm.MethodName)) ∈ lw_all := lw_g (lw_at lw_m5 108 rfl) rfl
theorem q1189 : (Jvm.Cond.methodLink "CaseGrouper$Atom" (33 : Nat) ({ cls := "CaseGrouper$Atom", name := "isOfCodes", desc := "()Z" } : Jvm.MethodName)) ∈ lw_all := lw_g (lw_at lw_m5 109 rfl) rfl
theorem q1190 : (Jvm.Cond.methodLink "CaseGrouper$Atom" (37 : Nat) ({ cls := "CaseGrouper$Span", name := "isLike", desc := "(LCaseGrouper$Span;)Z" } : Jvm.MethodName)) ∈ lw_all := lw_g (lw_at lw_m5 110 rfl) rfl
theorem q1526 : (Jvm.Cond.selects "CaseGrouper$Atom" ({ cls := "java/lang/Object", name := "equals", desc := "(Ljava/lang/Object;)Z" } : Jvm.MethodName) ({ cls := "java/lang/Object", name := "equals", desc := "(Ljava/lang/Object;)Z" } : Jvm.MethodName)) ∈ lw_all := lw_g (lw_at lw_m6 206 rfl) rfl
theorem q2485 : (Jvm.Cond.castable "CaseGrouper$Atom" "java/lang/Object") ∈ lw_tbl := lw_at lw_m10 205 rfl
theorem in_X15 : ∀ w ∈ wsX150, w ∈ lw_all := lw_in wsX150 [1169, 1171, 1173, 1175, 1177] (by decide +kernel) (by decide +kernel)
/-! CaseGrouper$Choice -/
set_option maxRecDepth 100000
def RX16 : String := "CaseGrouper$Choice"
def TX16 : u_T := fun k => match k with
  | 0 => ("CaseGrouper$Choice", "cond", "Ljava/lang/Object;", true)
  | _ => ("CaseGrouper$Choice", "nodes", "[Ljava/lang/Object;", true)
def tyX16 : Nat → FieldType := fun k => match k with
  | 0 => .object "java/lang/Object"
  | _ => .array (.object "java/lang/Object")
abbrev wsX160 : List Cond := u_ws RX16 TX16 2
theorem nmX16 : ∀ a, a < 2 → ∀ b, b < 2 → a ≠ b → (TX16 a).2.1 ≠ (TX16 b).2.1 := by decide +kernel
theorem tyX16_ok : ∀ k, k < 2 → parseFieldDescriptor (TX16 k).2.2.1 = some (tyX16 k) := by decide +kernel
abbrev cX16_init : ByteArray := prog_4_method_1_code
def yX16_init : MethodName := ⟨RX16, "<init>", "(Ljava/lang/Object;[Ljava/lang/Object;)V"⟩
def dkwX16_init_0 : List UInt8 := [42, 183, 0, 1, 42, 43, 181, 0, 7, 42, 44, 181, 0, 13, 177]
abbrev dktX16_init_0 : List UInt8 := dkwX16_init_0 ++ []
theorem dksX16_init_0 : cX16_init.data.toList.drop 0 = dktX16_init_0 := by decide +kernel
theorem dX16_init_0 : decode cX16_init 0 = .ok (.aload_n 0, 1) := dk_42 (dk_at dksX16_init_0 0 rfl rfl)
theorem dX16_init_1 : decode cX16_init 1 = .ok (.invokespecial 1, 3) := dk_183 0 1 (dk_at dksX16_init_0 1 rfl rfl)
theorem dX16_init_4 : decode cX16_init 4 = .ok (.aload_n 0, 1) := dk_42 (dk_at dksX16_init_0 4 rfl rfl)
theorem dX16_init_5 : decode cX16_init 5 = .ok (.aload_n 1, 1) := dk_43 (dk_at dksX16_init_0 5 rfl rfl)
theorem dX16_init_6 : decode cX16_init 6 = .ok (.putfield 7, 3) := dk_181 0 7 (dk_at dksX16_init_0 6 rfl rfl)
theorem dX16_init_9 : decode cX16_init 9 = .ok (.aload_n 0, 1) := dk_42 (dk_at dksX16_init_0 9 rfl rfl)
theorem dX16_init_10 : decode cX16_init 10 = .ok (.aload_n 2, 1) := dk_44 (dk_at dksX16_init_0 10 rfl rfl)
theorem dX16_init_11 : decode cX16_init 11 = .ok (.putfield 13, 3) := dk_181 0 13 (dk_at dksX16_init_0 11 rfl rfl)
theorem dX16_init_14 : decode cX16_init 14 = .ok (.return_, 1) := dk_177 (dk_at dksX16_init_0 14 rfl rfl)
theorem q160 : (Jvm.Cond.initialized "CaseGrouper$Choice") ∈ lw_all := lw_g (lw_at lw_m1 40 rfl) rfl
theorem q935 : (Jvm.Cond.selects "CaseGrouper$Choice" ({ cls := "java/lang/Object", name := "getClass", desc := "()Ljava/lang/Class;" } : Jvm.MethodName) ({ cls := "java/lang/Object", name := "getClass", desc := "()Ljava/lang/Class;" } : Jvm.MethodName)) ∈ lw_all := lw_g (lw_at lw_m4 95 rfl) rfl
theorem q1203 : (Jvm.Cond.instantiable "CaseGrouper$Choice" (2 : Nat)) ∈ lw_all := lw_g (lw_at lw_m5 123 rfl) rfl
theorem q1206 : (Jvm.Cond.instanceMethod ({ cls := "CaseGrouper$Choice", name := "<init>", desc := "(Ljava/lang/Object;[Ljava/lang/Object;)V" } : Jvm.MethodName)) ∈ lw_all := lw_g (lw_at lw_m5 126 rfl) rfl
theorem q1207 : (Jvm.Cond.code ({ cls := "CaseGrouper$Choice", name := "<init>", desc := "(Ljava/lang/Object;[Ljava/lang/Object;)V" } : Jvm.MethodName) prog_4_method_1_code (3 : Nat) (Option.none : Option Jvm.ClassFile.FieldType)) ∈ lw_all := lw_g (lw_at lw_m5 127 rfl) rfl
theorem q1208 : (Jvm.Cond.methodLink "CaseGrouper$Choice" (1 : Nat) ({ cls := "java/lang/Object", name := "<init>", desc := "()V" } : Jvm.MethodName)) ∈ lw_all := lw_g (lw_at lw_m5 128 rfl) rfl
theorem q1209 : (Jvm.Cond.fieldLink "CaseGrouper$Choice" (7 : Nat) "CaseGrouper$Choice" "cond" "Ljava/lang/Object;") ∈ lw_all := lw_g (lw_at lw_m5 129 rfl) rfl
theorem q1211 : (Jvm.Cond.fieldLink "CaseGrouper$Choice" (13 : Nat) "CaseGrouper$Choice" "nodes" "[Ljava/lang/Object;") ∈ lw_all := lw_g (lw_at lw_m5 131 rfl) rfl
theorem q1213 : (Jvm.Cond.laysFinal "CaseGrouper$Choice" "CaseGrouper$Choice" "cond" "Ljava/lang/Object;") ∈ lw_all := lw_g (lw_at lw_m5 133 rfl) rfl
theorem q1214 : (Jvm.Cond.soleField "CaseGrouper$Choice" "cond") ∈ lw_all := lw_g (lw_at lw_m5 134 rfl) rfl
theorem q1215 : (Jvm.Cond.laysFinal "CaseGrouper$Choice" "CaseGrouper$Choice" "nodes" "[Ljava/lang/Object;") ∈ lw_all := lw_g (lw_at lw_m5 135 rfl) rfl
theorem q1216 : (Jvm.Cond.soleField "CaseGrouper$Choice" "nodes") ∈ lw_all := lw_g (lw_at lw_m5 136 rfl) rfl
theorem q1217 : (Jvm.Cond.superclass "CaseGrouper$Choice" "java/lang/Object") ∈ lw_all := lw_g (lw_at lw_m5 137 rfl) rfl
theorem q1528 : (Jvm.Cond.selects "CaseGrouper$Choice" ({ cls := "java/lang/Object", name := "equals", desc := "(Ljava/lang/Object;)Z" } : Jvm.MethodName) ({ cls := "java/lang/Object", name := "equals", desc := "(Ljava/lang/Object;)Z" } : Jvm.MethodName)) ∈ lw_all := lw_g (lw_at lw_m6 208 rfl) rfl
theorem q2486 : (Jvm.Cond.castable "CaseGrouper$Choice" "java/lang/Object") ∈ lw_tbl := lw_at lw_m10 206 rfl
theorem in_X16 : ∀ w ∈ wsX160, w ∈ lw_all := lw_in wsX160 [1213, 1215] (by decide +kernel) (by decide +kernel)
/-! CaseGrouper$Refused -/
set_option maxRecDepth 100000
def RX17 : String := "CaseGrouper$Refused"
def TX17 : u_T := fun k => match k with
  | 0 => ("java/lang/Throwable", "cause", "Ljava/lang/Throwable;", false)
  | 1 => ("java/lang/Throwable", "stackTrace", "[Ljava/lang/StackTraceElement;", false)
  | 2 => ("java/lang/Throwable", "suppressedExceptions", "Ljava/util/List;", false)
  | 3 => ("java/lang/Throwable", "detailMessage", "Ljava/lang/String;", false)
  | 4 => ("java/lang/Throwable", "backtrace", "Ljava/lang/Object;", false)
  | 5 => ("java/lang/Throwable", "depth", "I", false)
  | _ => ("CaseGrouper$Refused", "line", "I", true)
def tyX17 : Nat → FieldType := fun k => match k with
  | 0 => .object "java/lang/Throwable"
  | 1 => .array (.object "java/lang/StackTraceElement")
  | 2 => .object "java/util/List"
  | 3 => .object "java/lang/String"
  | 4 => .object "java/lang/Object"
  | 5 => .int
  | _ => .int
abbrev wsX170 : List Cond := u_ws RX17 TX17 7
theorem nmX17 : ∀ a, a < 7 → ∀ b, b < 7 → a ≠ b → (TX17 a).2.1 ≠ (TX17 b).2.1 := by decide +kernel
theorem tyX17_ok : ∀ k, k < 7 → parseFieldDescriptor (TX17 k).2.2.1 = some (tyX17 k) := by decide +kernel
abbrev cX17_init : ByteArray := prog_13_method_1_code
def yX17_init : MethodName := ⟨RX17, "<init>", "(ILCaseGrouper$Wrong;)V"⟩
def dkwX17_init_0 : List UInt8 := [42, 1, 44, 3, 3, 183, 0, 1, 42, 27, 181, 0, 7, 177]
abbrev dktX17_init_0 : List UInt8 := dkwX17_init_0 ++ []
theorem dksX17_init_0 : cX17_init.data.toList.drop 0 = dktX17_init_0 := by decide +kernel
theorem dX17_init_0 : decode cX17_init 0 = .ok (.aload_n 0, 1) := dk_42 (dk_at dksX17_init_0 0 rfl rfl)
theorem dX17_init_1 : decode cX17_init 1 = .ok (.aconst_null, 1) := dk_1 (dk_at dksX17_init_0 1 rfl rfl)
theorem dX17_init_2 : decode cX17_init 2 = .ok (.aload_n 2, 1) := dk_44 (dk_at dksX17_init_0 2 rfl rfl)
theorem dX17_init_3 : decode cX17_init 3 = .ok (.iconst 0, 1) := dk_3 (dk_at dksX17_init_0 3 rfl rfl)
theorem dX17_init_4 : decode cX17_init 4 = .ok (.iconst 0, 1) := dk_3 (dk_at dksX17_init_0 4 rfl rfl)
theorem dX17_init_5 : decode cX17_init 5 = .ok (.invokespecial 1, 3) := dk_183 0 1 (dk_at dksX17_init_0 5 rfl rfl)
theorem dX17_init_8 : decode cX17_init 8 = .ok (.aload_n 0, 1) := dk_42 (dk_at dksX17_init_0 8 rfl rfl)
theorem dX17_init_9 : decode cX17_init 9 = .ok (.iload_n 1, 1) := dk_27 (dk_at dksX17_init_0 9 rfl rfl)
theorem dX17_init_10 : decode cX17_init 10 = .ok (.putfield 7, 3) := dk_181 0 7 (dk_at dksX17_init_0 10 rfl rfl)
theorem dX17_init_13 : decode cX17_init 13 = .ok (.return_, 1) := dk_177 (dk_at dksX17_init_0 13 rfl rfl)
theorem q161 : (Jvm.Cond.initialized "CaseGrouper$Refused") ∈ lw_all := lw_g (lw_at lw_m1 41 rfl) rfl
theorem q632 : (Jvm.Cond.selects "CaseGrouper$Refused" ({ cls := "java/lang/Throwable", name := "fillInStackTrace", desc := "()Ljava/lang/Throwable;" } : Jvm.MethodName) ({ cls := "java/lang/Throwable", name := "fillInStackTrace", desc := "()Ljava/lang/Throwable;" } : Jvm.MethodName)) ∈ lw_all := lw_g (lw_at lw_m3 32 rfl) rfl
theorem q943 : (Jvm.Cond.selects "CaseGrouper$Refused" ({ cls := "java/lang/Object", name := "getClass", desc := "()Ljava/lang/Class;" } : Jvm.MethodName) ({ cls := "java/lang/Object", name := "getClass", desc := "()Ljava/lang/Class;" } : Jvm.MethodName)) ∈ lw_all := lw_g (lw_at lw_m4 103 rfl) rfl
theorem q1219 : (Jvm.Cond.instantiable "CaseGrouper$Refused" (7 : Nat)) ∈ lw_all := lw_g (lw_at lw_m5 139 rfl) rfl
theorem q1220 : (Jvm.Cond.castable "CaseGrouper$Refused" "CaseGrouper$Refused") ∈ lw_tbl := lw_at lw_m5 140 rfl
theorem q1221 : (Jvm.Cond.selects "CaseGrouper$Refused" ({ cls := "java/lang/Throwable", name := "fillInStackTrace", desc := "(I)Ljava/lang/Throwable;" } : Jvm.MethodName) ({ cls := "java/lang/Throwable", name := "fillInStackTrace", desc := "(I)Ljava/lang/Throwable;" } : Jvm.MethodName)) ∈ lw_all := lw_g (lw_at lw_m5 141 rfl) rfl
theorem q1222 : (Jvm.Cond.lays "CaseGrouper$Refused" "java/lang/Throwable" "cause" "Ljava/lang/Throwable;") ∈ lw_all := lw_g (lw_at lw_m5 142 rfl) rfl
theorem q1223 : (Jvm.Cond.lays "CaseGrouper$Refused" "java/lang/Throwable" "stackTrace" "[Ljava/lang/StackTraceElement;") ∈ lw_all := lw_g (lw_at lw_m5 143 rfl) rfl
theorem q1224 : (Jvm.Cond.lays "CaseGrouper$Refused" "java/lang/Throwable" "suppressedExceptions" "Ljava/util/List;") ∈ lw_all := lw_g (lw_at lw_m5 144 rfl) rfl
theorem q1225 : (Jvm.Cond.lays "CaseGrouper$Refused" "java/lang/Throwable" "detailMessage" "Ljava/lang/String;") ∈ lw_all := lw_g (lw_at lw_m5 145 rfl) rfl
theorem q1226 : (Jvm.Cond.lays "CaseGrouper$Refused" "java/lang/Throwable" "backtrace" "Ljava/lang/Object;") ∈ lw_all := lw_g (lw_at lw_m5 146 rfl) rfl
theorem q1228 : (Jvm.Cond.instanceMethod ({ cls := "CaseGrouper$Refused", name := "<init>", desc := "(ILCaseGrouper$Wrong;)V" } : Jvm.MethodName)) ∈ lw_all := lw_g (lw_at lw_m5 148 rfl) rfl
theorem q1229 : (Jvm.Cond.code ({ cls := "CaseGrouper$Refused", name := "<init>", desc := "(ILCaseGrouper$Wrong;)V" } : Jvm.MethodName) prog_13_method_1_code (3 : Nat) (Option.none : Option Jvm.ClassFile.FieldType)) ∈ lw_all := lw_g (lw_at lw_m5 149 rfl) rfl
theorem q1230 : (Jvm.Cond.methodLink "CaseGrouper$Refused" (1 : Nat) ({ cls := "java/lang/Exception", name := "<init>", desc := "(Ljava/lang/String;Ljava/lang/Throwable;ZZ)V" } : Jvm.MethodName)) ∈ lw_all := lw_g (lw_at lw_m5 150 rfl) rfl
theorem q1231 : (Jvm.Cond.fieldLink "CaseGrouper$Refused" (7 : Nat) "CaseGrouper$Refused" "line" "I") ∈ lw_all := lw_g (lw_at lw_m5 151 rfl) rfl
theorem q1233 : (Jvm.Cond.laysFinal "CaseGrouper$Refused" "CaseGrouper$Refused" "line" "I") ∈ lw_all := lw_g (lw_at lw_m5 153 rfl) rfl
theorem q1234 : (Jvm.Cond.soleField "CaseGrouper$Refused" "line") ∈ lw_all := lw_g (lw_at lw_m5 154 rfl) rfl
theorem q1235 : (Jvm.Cond.lays "CaseGrouper$Refused" "java/lang/Throwable" "depth" "I") ∈ lw_all := lw_g (lw_at lw_m5 155 rfl) rfl
theorem q1236 : (Jvm.Cond.superclass "CaseGrouper$Refused" "java/lang/Exception") ∈ lw_all := lw_g (lw_at lw_m5 156 rfl) rfl
theorem q1363 : (Jvm.Cond.sameMethod "CaseGrouper$Refused" "java/lang/Throwable" "getCause" "()Ljava/lang/Throwable;") ∈ lw_all := lw_g (lw_at lw_m6 43 rfl) rfl
theorem q1365 : (Jvm.Cond.selects "CaseGrouper$Refused" ({ cls := "CaseGrouper$Refused", name := "getCause", desc := "()Ljava/lang/Throwable;" } : Jvm.MethodName) ({ cls := "java/lang/Throwable", name := "getCause", desc := "()Ljava/lang/Throwable;" } : Jvm.MethodName)) ∈ lw_all := lw_g (lw_at lw_m6 45 rfl) rfl
theorem q1536 : (Jvm.Cond.selects "CaseGrouper$Refused" ({ cls := "java/lang/Object", name := "equals", desc := "(Ljava/lang/Object;)Z" } : Jvm.MethodName) ({ cls := "java/lang/Object", name := "equals", desc := "(Ljava/lang/Object;)Z" } : Jvm.MethodName)) ∈ lw_all := lw_g (lw_at lw_m6 216 rfl) rfl
theorem q2487 : (Jvm.Cond.castable "CaseGrouper$Refused" "java/lang/Object") ∈ lw_tbl := lw_at lw_m10 207 rfl
theorem in_X17 : ∀ w ∈ wsX170, w ∈ lw_all := lw_in wsX170 [1222, 1223, 1224, 1225, 1226, 1235, 1233] (by decide +kernel) (by decide +kernel)
/-! CaseGrouper$Tried -/
set_option maxRecDepth 100000
def RX18 : String := "CaseGrouper$Tried"
def TX18 : u_T := fun k => match k with
  | 0 => ("CaseGrouper$Tried", "answers", "I", false)
  | 1 => ("CaseGrouper$Tried", "age", "I", false)
  | 2 => ("CaseGrouper$Tried", "days", "I", false)
  | 3 => ("CaseGrouper$Tried", "level", "I", false)
  | _ => ("CaseGrouper$Tried", "top", "I", false)
def tyX18 : Nat → FieldType := fun k => match k with
  | 0 => .int
  | 1 => .int
  | 2 => .int
  | 3 => .int
  | _ => .int
abbrev wsX180 : List Cond := u_ws RX18 TX18 5
theorem nmX18 : ∀ a, a < 5 → ∀ b, b < 5 → a ≠ b → (TX18 a).2.1 ≠ (TX18 b).2.1 := by decide +kernel
theorem tyX18_ok : ∀ k, k < 5 → parseFieldDescriptor (TX18 k).2.2.1 = some (tyX18 k) := by decide +kernel
abbrev cX18_init : ByteArray := prog_17_method_1_code
def yX18_init : MethodName := ⟨RX18, "<init>", "()V"⟩
theorem dX18_init_0 : decode cX18_init 0 = .ok (.aload_n 0, 1) := by decide +kernel
theorem dX18_init_1 : decode cX18_init 1 = .ok (.invokespecial 1, 3) := by decide +kernel
theorem dX18_init_4 : decode cX18_init 4 = .ok (.return_, 1) := by decide +kernel
abbrev cX18_holds : ByteArray := prog_17_method_2_code
def yX18_holds : MethodName := ⟨RX18, "holds", "(LCaseGrouper$Atom;)Z"⟩
def dkwX18_holds_4 : List UInt8 := [184, 0, 47, 172]
abbrev dktX18_holds_4 : List UInt8 := dkwX18_holds_4 ++ []
def dkwX18_holds_3 : List UInt8 := [180, 0, 22, 18, 40, 182, 0, 28, 153, 0, 10, 42, 180, 0, 42, 167, 0, 7, 42, 180, 0, 44]
abbrev dktX18_holds_3 : List UInt8 := dkwX18_holds_3 ++ dktX18_holds_4
def dkwX18_holds_2 : List UInt8 := [167, 0, 45, 43, 180, 0, 22, 18, 36, 182, 0, 28, 153, 0, 10, 42, 180, 0, 38, 167, 0, 26, 43]
abbrev dktX18_holds_2 : List UInt8 := dkwX18_holds_2 ++ dktX18_holds_3
def dkwX18_holds_1 : List UInt8 := [167, 0, 4, 3, 172, 43, 43, 180, 0, 22, 18, 26, 182, 0, 28, 153, 0, 10, 42, 180, 0, 34]
abbrev dktX18_holds_1 : List UInt8 := dkwX18_holds_1 ++ dktX18_holds_2
def dkwX18_holds_0 : List UInt8 := [43, 182, 0, 7, 153, 0, 24, 42, 180, 0, 13, 43, 180, 0, 19, 122, 4, 126, 4, 160, 0, 7, 4]
abbrev dktX18_holds_0 : List UInt8 := dkwX18_holds_0 ++ dktX18_holds_1
theorem dksX18_holds_0 : cX18_holds.data.toList.drop 0 = dktX18_holds_0 := by decide +kernel
theorem dksX18_holds_1 : cX18_holds.data.toList.drop 23 = dktX18_holds_1 := dk_seg dksX18_holds_0 23 rfl rfl
theorem dksX18_holds_2 : cX18_holds.data.toList.drop 45 = dktX18_holds_2 := dk_seg dksX18_holds_1 22 rfl rfl
theorem dksX18_holds_3 : cX18_holds.data.toList.drop 68 = dktX18_holds_3 := dk_seg dksX18_holds_2 23 rfl rfl
theorem dksX18_holds_4 : cX18_holds.data.toList.drop 90 = dktX18_holds_4 := dk_seg dksX18_holds_3 22 rfl rfl
theorem dX18_holds_0 : decode cX18_holds 0 = .ok (.aload_n 1, 1) := dk_43 (dk_at dksX18_holds_0 0 rfl rfl)
theorem dX18_holds_1 : decode cX18_holds 1 = .ok (.invokevirtual 7, 3) := dk_182 0 7 (dk_at dksX18_holds_0 1 rfl rfl)
theorem dX18_holds_4 : decode cX18_holds 4 = .ok (.ifCond .eq 24, 3) := dk_153 0 24 (dk_at dksX18_holds_0 4 rfl rfl)
theorem dX18_holds_7 : decode cX18_holds 7 = .ok (.aload_n 0, 1) := dk_42 (dk_at dksX18_holds_0 7 rfl rfl)
theorem dX18_holds_8 : decode cX18_holds 8 = .ok (.getfield 13, 3) := dk_180 0 13 (dk_at dksX18_holds_0 8 rfl rfl)
theorem dX18_holds_11 : decode cX18_holds 11 = .ok (.aload_n 1, 1) := dk_43 (dk_at dksX18_holds_0 11 rfl rfl)
theorem dX18_holds_12 : decode cX18_holds 12 = .ok (.getfield 19, 3) := dk_180 0 19 (dk_at dksX18_holds_0 12 rfl rfl)
theorem dX18_holds_15 : decode cX18_holds 15 = .ok (.ishr, 1) := dk_122 (dk_at dksX18_holds_0 15 rfl rfl)
theorem dX18_holds_16 : decode cX18_holds 16 = .ok (.iconst 1, 1) := dk_4 (dk_at dksX18_holds_0 16 rfl rfl)
theorem dX18_holds_17 : decode cX18_holds 17 = .ok (.iand, 1) := dk_126 (dk_at dksX18_holds_0 17 rfl rfl)
theorem dX18_holds_18 : decode cX18_holds 18 = .ok (.iconst 1, 1) := dk_4 (dk_at dksX18_holds_0 18 rfl rfl)
theorem dX18_holds_19 : decode cX18_holds 19 = .ok (.if_icmp .ne 7, 3) := dk_160 0 7 (dk_at dksX18_holds_0 19 rfl rfl)
theorem dX18_holds_22 : decode cX18_holds 22 = .ok (.iconst 1, 1) := dk_4 (dk_at dksX18_holds_0 22 rfl rfl)
theorem dX18_holds_23 : decode cX18_holds 23 = .ok (.goto 4, 3) := dk_167 0 4 (dk_at dksX18_holds_1 0 rfl rfl)
theorem dX18_holds_26 : decode cX18_holds 26 = .ok (.iconst 0, 1) := dk_3 (dk_at dksX18_holds_1 3 rfl rfl)
theorem dX18_holds_27 : decode cX18_holds 27 = .ok (.ireturn, 1) := dk_172 (dk_at dksX18_holds_1 4 rfl rfl)
theorem dX18_holds_28 : decode cX18_holds 28 = .ok (.aload_n 1, 1) := dk_43 (dk_at dksX18_holds_1 5 rfl rfl)
theorem dX18_holds_29 : decode cX18_holds 29 = .ok (.aload_n 1, 1) := dk_43 (dk_at dksX18_holds_1 6 rfl rfl)
theorem dX18_holds_30 : decode cX18_holds 30 = .ok (.getfield 22, 3) := dk_180 0 22 (dk_at dksX18_holds_1 7 rfl rfl)
theorem dX18_holds_33 : decode cX18_holds 33 = .ok (.ldc 26, 2) := dk_18 26 (dk_at dksX18_holds_1 10 rfl rfl)
theorem dX18_holds_35 : decode cX18_holds 35 = .ok (.invokevirtual 28, 3) := dk_182 0 28 (dk_at dksX18_holds_1 12 rfl rfl)
theorem dX18_holds_38 : decode cX18_holds 38 = .ok (.ifCond .eq 10, 3) := dk_153 0 10 (dk_at dksX18_holds_1 15 rfl rfl)
theorem dX18_holds_41 : decode cX18_holds 41 = .ok (.aload_n 0, 1) := dk_42 (dk_at dksX18_holds_1 18 rfl rfl)
theorem dX18_holds_42 : decode cX18_holds 42 = .ok (.getfield 34, 3) := dk_180 0 34 (dk_at dksX18_holds_1 19 rfl rfl)
theorem dX18_holds_45 : decode cX18_holds 45 = .ok (.goto 45, 3) := dk_167 0 45 (dk_at dksX18_holds_2 0 rfl rfl)
theorem dX18_holds_48 : decode cX18_holds 48 = .ok (.aload_n 1, 1) := dk_43 (dk_at dksX18_holds_2 3 rfl rfl)
theorem dX18_holds_49 : decode cX18_holds 49 = .ok (.getfield 22, 3) := dk_180 0 22 (dk_at dksX18_holds_2 4 rfl rfl)
theorem dX18_holds_52 : decode cX18_holds 52 = .ok (.ldc 36, 2) := dk_18 36 (dk_at dksX18_holds_2 7 rfl rfl)
theorem dX18_holds_54 : decode cX18_holds 54 = .ok (.invokevirtual 28, 3) := dk_182 0 28 (dk_at dksX18_holds_2 9 rfl rfl)
theorem dX18_holds_57 : decode cX18_holds 57 = .ok (.ifCond .eq 10, 3) := dk_153 0 10 (dk_at dksX18_holds_2 12 rfl rfl)
theorem dX18_holds_60 : decode cX18_holds 60 = .ok (.aload_n 0, 1) := dk_42 (dk_at dksX18_holds_2 15 rfl rfl)
theorem dX18_holds_61 : decode cX18_holds 61 = .ok (.getfield 38, 3) := dk_180 0 38 (dk_at dksX18_holds_2 16 rfl rfl)
theorem dX18_holds_64 : decode cX18_holds 64 = .ok (.goto 26, 3) := dk_167 0 26 (dk_at dksX18_holds_2 19 rfl rfl)
theorem dX18_holds_67 : decode cX18_holds 67 = .ok (.aload_n 1, 1) := dk_43 (dk_at dksX18_holds_2 22 rfl rfl)
theorem dX18_holds_68 : decode cX18_holds 68 = .ok (.getfield 22, 3) := dk_180 0 22 (dk_at dksX18_holds_3 0 rfl rfl)
theorem dX18_holds_71 : decode cX18_holds 71 = .ok (.ldc 40, 2) := dk_18 40 (dk_at dksX18_holds_3 3 rfl rfl)
theorem dX18_holds_73 : decode cX18_holds 73 = .ok (.invokevirtual 28, 3) := dk_182 0 28 (dk_at dksX18_holds_3 5 rfl rfl)
theorem dX18_holds_76 : decode cX18_holds 76 = .ok (.ifCond .eq 10, 3) := dk_153 0 10 (dk_at dksX18_holds_3 8 rfl rfl)
theorem dX18_holds_79 : decode cX18_holds 79 = .ok (.aload_n 0, 1) := dk_42 (dk_at dksX18_holds_3 11 rfl rfl)
theorem dX18_holds_80 : decode cX18_holds 80 = .ok (.getfield 42, 3) := dk_180 0 42 (dk_at dksX18_holds_3 12 rfl rfl)
theorem dX18_holds_83 : decode cX18_holds 83 = .ok (.goto 7, 3) := dk_167 0 7 (dk_at dksX18_holds_3 15 rfl rfl)
theorem dX18_holds_86 : decode cX18_holds 86 = .ok (.aload_n 0, 1) := dk_42 (dk_at dksX18_holds_3 18 rfl rfl)
theorem dX18_holds_87 : decode cX18_holds 87 = .ok (.getfield 44, 3) := dk_180 0 44 (dk_at dksX18_holds_3 19 rfl rfl)
theorem dX18_holds_90 : decode cX18_holds 90 = .ok (.invokestatic 47, 3) := dk_184 0 47 (dk_at dksX18_holds_4 0 rfl rfl)
theorem dX18_holds_93 : decode cX18_holds 93 = .ok (.ireturn, 1) := dk_172 (dk_at dksX18_holds_4 3 rfl rfl)
theorem q162 : (Jvm.Cond.initialized "CaseGrouper$Tried") ∈ lw_all := lw_g (lw_at lw_m1 42 rfl) rfl
theorem q947 : (Jvm.Cond.selects "CaseGrouper$Tried" ({ cls := "java/lang/Object", name := "getClass", desc := "()Ljava/lang/Class;" } : Jvm.MethodName) ({ cls := "java/lang/Object", name := "getClass", desc := "()Ljava/lang/Class;" } : Jvm.MethodName)) ∈ lw_all := lw_g (lw_at lw_m4 107 rfl) rfl
theorem q1155 : (Jvm.Cond.fieldLinkNest "CaseGrouper$Tried" (22 : Nat) "CaseGrouper$Atom" "word" "Ljava/lang/String;" "CaseGrouper") ∈ lw_tbl := lw_at lw_m5 75 rfl
theorem q1167 : (Jvm.Cond.fieldLinkNest "CaseGrouper$Tried" (19 : Nat) "CaseGrouper$Atom" "place" "I" "CaseGrouper") ∈ lw_tbl := lw_at lw_m5 87 rfl
theorem q1248 : (Jvm.Cond.instantiable "CaseGrouper$Tried" (5 : Nat)) ∈ lw_all := lw_g (lw_at lw_m5 168 rfl) rfl
theorem q1250 : (Jvm.Cond.instanceMethod ({ cls := "CaseGrouper$Tried", name := "<init>", desc := "()V" } : Jvm.MethodName)) ∈ lw_all := lw_g (lw_at lw_m5 170 rfl) rfl
theorem q1251 : (Jvm.Cond.code ({ cls := "CaseGrouper$Tried", name := "<init>", desc := "()V" } : Jvm.MethodName) prog_17_method_1_code (1 : Nat) (Option.none : Option Jvm.ClassFile.FieldType)) ∈ lw_all := lw_g (lw_at lw_m5 171 rfl) rfl
theorem q1252 : (Jvm.Cond.methodLinkNest "CaseGrouper$Tried" (1 : Nat) ({ cls := "CaseGrouper$Facts", name := "<init>", desc := "()V" } : Jvm.MethodName) "CaseGrouper") ∈ lw_tbl := lw_at lw_m5 172 rfl
theorem q1256 : (Jvm.Cond.fieldLink "CaseGrouper$Tried" (13 : Nat) "CaseGrouper$Tried" "answers" "I") ∈ lw_all := lw_g (lw_at lw_m5 176 rfl) rfl
theorem q1258 : (Jvm.Cond.fieldLink "CaseGrouper$Tried" (34 : Nat) "CaseGrouper$Tried" "age" "I") ∈ lw_all := lw_g (lw_at lw_m5 178 rfl) rfl
theorem q1260 : (Jvm.Cond.fieldLink "CaseGrouper$Tried" (38 : Nat) "CaseGrouper$Tried" "days" "I") ∈ lw_all := lw_g (lw_at lw_m5 180 rfl) rfl
theorem q1262 : (Jvm.Cond.fieldLink "CaseGrouper$Tried" (42 : Nat) "CaseGrouper$Tried" "level" "I") ∈ lw_all := lw_g (lw_at lw_m5 182 rfl) rfl
theorem q1264 : (Jvm.Cond.fieldLink "CaseGrouper$Tried" (44 : Nat) "CaseGrouper$Tried" "top" "I") ∈ lw_all := lw_g (lw_at lw_m5 184 rfl) rfl
theorem q1266 : (Jvm.Cond.lays "CaseGrouper$Tried" "CaseGrouper$Tried" "answers" "I") ∈ lw_all := lw_g (lw_at lw_m5 186 rfl) rfl
theorem q1267 : (Jvm.Cond.soleField "CaseGrouper$Tried" "answers") ∈ lw_all := lw_g (lw_at lw_m5 187 rfl) rfl
theorem q1268 : (Jvm.Cond.lays "CaseGrouper$Tried" "CaseGrouper$Tried" "age" "I") ∈ lw_all := lw_g (lw_at lw_m5 188 rfl) rfl
theorem q1269 : (Jvm.Cond.soleField "CaseGrouper$Tried" "age") ∈ lw_all := lw_g (lw_at lw_m5 189 rfl) rfl
theorem q1270 : (Jvm.Cond.lays "CaseGrouper$Tried" "CaseGrouper$Tried" "days" "I") ∈ lw_all := lw_g (lw_at lw_m5 190 rfl) rfl
theorem q1271 : (Jvm.Cond.soleField "CaseGrouper$Tried" "days") ∈ lw_all := lw_g (lw_at lw_m5 191 rfl) rfl
theorem q1272 : (Jvm.Cond.lays "CaseGrouper$Tried" "CaseGrouper$Tried" "level" "I") ∈ lw_all := lw_g (lw_at lw_m5 192 rfl) rfl
theorem q1273 : (Jvm.Cond.soleField "CaseGrouper$Tried" "level") ∈ lw_all := lw_g (lw_at lw_m5 193 rfl) rfl
theorem q1274 : (Jvm.Cond.lays "CaseGrouper$Tried" "CaseGrouper$Tried" "top" "I") ∈ lw_all := lw_g (lw_at lw_m5 194 rfl) rfl
theorem q1275 : (Jvm.Cond.soleField "CaseGrouper$Tried" "top") ∈ lw_all := lw_g (lw_at lw_m5 195 rfl) rfl
theorem q1276 : (Jvm.Cond.superclass "CaseGrouper$Tried" "CaseGrouper$Facts") ∈ lw_all := lw_g (lw_at lw_m5 196 rfl) rfl
theorem q1290 : (Jvm.Cond.sameMethod "CaseGrouper$Tried" "CaseGrouper$Facts" "goes" "(Ljava/lang/Object;)LCaseGrouper$Leaf;") ∈ lw_all := lw_g (lw_at lw_m5 210 rfl) rfl
theorem q1292 : (Jvm.Cond.selects "CaseGrouper$Tried" ({ cls := "CaseGrouper$Tried", name := "goes", desc := "(Ljava/lang/Object;)LCaseGrouper$Leaf;" } : Jvm.MethodName) ({ cls := "CaseGrouper$Facts", name := "goes", desc := "(Ljava/lang/Object;)LCaseGrouper$Leaf;" } : Jvm.MethodName)) ∈ lw_all := lw_g (lw_at lw_m5 212 rfl) rfl
theorem q1301 : (Jvm.Cond.selects "CaseGrouper$Tried" ({ cls := "CaseGrouper$Facts", name := "is", desc := "(Ljava/lang/Object;)Z" } : Jvm.MethodName) ({ cls := "CaseGrouper$Facts", name := "is", desc := "(Ljava/lang/Object;)Z" } : Jvm.MethodName)) ∈ lw_all := lw_g (lw_at lw_m5 221 rfl) rfl
theorem q1336 : (Jvm.Cond.selects "CaseGrouper$Tried" ({ cls := "CaseGrouper$Facts", name := "holds", desc := "(LCaseGrouper$Atom;)Z" } : Jvm.MethodName) ({ cls := "CaseGrouper$Tried", name := "holds", desc := "(LCaseGrouper$Atom;)Z" } : Jvm.MethodName)) ∈ lw_all := lw_g (lw_at lw_m6 16 rfl) rfl
theorem q1337 : (Jvm.Cond.instanceMethod ({ cls := "CaseGrouper$Tried", name := "holds", desc := "(LCaseGrouper$Atom;)Z" } : Jvm.MethodName)) ∈ lw_all := lw_g (lw_at lw_m6 17 rfl) rfl
theorem q1338 : (Jvm.Cond.code ({ cls := "CaseGrouper$Tried", name := "holds", desc := "(LCaseGrouper$Atom;)Z" } : Jvm.MethodName) prog_17_method_2_code (2 : Nat) (Option.some Jvm.ClassFile.FieldType.boolean)) ∈ lw_all := lw_g (lw_at lw_m6 18 rfl) rfl
theorem q1339 : (Jvm.Cond.methodLink "CaseGrouper$Tried" (7 : Nat) ({ cls := "CaseGrouper$Atom", name := "isOfCodes", desc := "()Z" } : Jvm.MethodName)) ∈ lw_all := lw_g (lw_at lw_m6 19 rfl) rfl
theorem q1340 : (Jvm.Cond.stringRef "CaseGrouper$Tried" (26 : Nat) "age") ∈ lw_tbl := lw_at lw_m6 20 rfl
theorem q1341 : (Jvm.Cond.methodLink "CaseGrouper$Tried" (28 : Nat) ({ cls := "java/lang/String", name := "equals", desc := "(Ljava/lang/Object;)Z" } : Jvm.MethodName)) ∈ lw_all := lw_g (lw_at lw_m6 21 rfl) rfl
theorem q1342 : (Jvm.Cond.stringRef "CaseGrouper$Tried" (36 : Nat) "days") ∈ lw_tbl := lw_at lw_m6 22 rfl
theorem q1343 : (Jvm.Cond.stringRef "CaseGrouper$Tried" (40 : Nat) "level") ∈ lw_tbl := lw_at lw_m6 23 rfl
theorem q1344 : (Jvm.Cond.methodLink "CaseGrouper$Tried" (47 : Nat) ({ cls := "CaseGrouper$Tried", name := "compares", desc := "(LCaseGrouper$Atom;I)Z" } : Jvm.MethodName)) ∈ lw_all := lw_g (lw_at lw_m6 24 rfl) rfl
theorem q1345 : (Jvm.Cond.sameMethod "CaseGrouper$Tried" "CaseGrouper$Facts" "compares" "(LCaseGrouper$Atom;I)Z") ∈ lw_all := lw_g (lw_at lw_m6 25 rfl) rfl
theorem q1359 : (Jvm.Cond.selects "CaseGrouper$Tried" ({ cls := "CaseGrouper$Facts", name := "answers", desc := "(Z)V" } : Jvm.MethodName) ({ cls := "CaseGrouper$Facts", name := "answers", desc := "(Z)V" } : Jvm.MethodName)) ∈ lw_all := lw_g (lw_at lw_m6 39 rfl) rfl
theorem q1540 : (Jvm.Cond.selects "CaseGrouper$Tried" ({ cls := "java/lang/Object", name := "equals", desc := "(Ljava/lang/Object;)Z" } : Jvm.MethodName) ({ cls := "java/lang/Object", name := "equals", desc := "(Ljava/lang/Object;)Z" } : Jvm.MethodName)) ∈ lw_all := lw_g (lw_at lw_m6 220 rfl) rfl
theorem q2463 : (Jvm.Cond.selects "CaseGrouper$Tried" ({ cls := "CaseGrouper$Facts", name := "goes", desc := "(Ljava/lang/Object;)LCaseGrouper$Leaf;" } : Jvm.MethodName) ({ cls := "CaseGrouper$Facts", name := "goes", desc := "(Ljava/lang/Object;)LCaseGrouper$Leaf;" } : Jvm.MethodName)) ∈ lw_all := lw_g (lw_at lw_m10 183 rfl) rfl
theorem q2488 : (Jvm.Cond.castable "CaseGrouper$Tried" "java/lang/Object") ∈ lw_tbl := lw_at lw_m10 208 rfl
theorem in_X18 : ∀ w ∈ wsX180, w ∈ lw_all := lw_in wsX180 [1266, 1268, 1270, 1272, 1274] (by decide +kernel) (by decide +kernel)
/-! CaseGrouper$Stay -/
set_option maxRecDepth 100000
def RX19 : String := "CaseGrouper$Stay"
def TX19 : u_T := fun k => match k with
  | 0 => ("CaseGrouper$Stay", "main", "I", false)
  | 1 => ("CaseGrouper$Stay", "age", "I", false)
  | 2 => ("CaseGrouper$Stay", "days", "I", false)
  | 3 => ("CaseGrouper$Stay", "seconds", "Ljava/util/ArrayList;", true)
  | _ => ("CaseGrouper$Stay", "procedures", "Ljava/util/ArrayList;", true)
def tyX19 : Nat → FieldType := fun k => match k with
  | 0 => .int
  | 1 => .int
  | 2 => .int
  | 3 => .object "java/util/ArrayList"
  | _ => .object "java/util/ArrayList"
abbrev wsX190 : List Cond := u_ws RX19 TX19 5
theorem nmX19 : ∀ a, a < 5 → ∀ b, b < 5 → a ≠ b → (TX19 a).2.1 ≠ (TX19 b).2.1 := by decide +kernel
theorem tyX19_ok : ∀ k, k < 5 → parseFieldDescriptor (TX19 k).2.2.1 = some (tyX19 k) := by decide +kernel
abbrev cX19_init : ByteArray := prog_16_method_1_code
def yX19_init : MethodName := ⟨RX19, "<init>", "()V"⟩
def dkwX19_init_1 : List UInt8 := [181, 0, 18, 177]
abbrev dktX19_init_1 : List UInt8 := dkwX19_init_1 ++ []
def dkwX19_init_0 : List UInt8 := [42, 183, 0, 3, 42, 187, 0, 9, 89, 183, 0, 11, 181, 0, 12, 42, 187, 0, 9, 89, 183, 0, 11]
abbrev dktX19_init_0 : List UInt8 := dkwX19_init_0 ++ dktX19_init_1
theorem dksX19_init_0 : cX19_init.data.toList.drop 0 = dktX19_init_0 := by decide +kernel
theorem dksX19_init_1 : cX19_init.data.toList.drop 23 = dktX19_init_1 := dk_seg dksX19_init_0 23 rfl rfl
theorem dX19_init_0 : decode cX19_init 0 = .ok (.aload_n 0, 1) := dk_42 (dk_at dksX19_init_0 0 rfl rfl)
theorem dX19_init_1 : decode cX19_init 1 = .ok (.invokespecial 3, 3) := dk_183 0 3 (dk_at dksX19_init_0 1 rfl rfl)
theorem dX19_init_4 : decode cX19_init 4 = .ok (.aload_n 0, 1) := dk_42 (dk_at dksX19_init_0 4 rfl rfl)
theorem dX19_init_5 : decode cX19_init 5 = .ok (.new 9, 3) := dk_187 0 9 (dk_at dksX19_init_0 5 rfl rfl)
theorem dX19_init_8 : decode cX19_init 8 = .ok (.dup, 1) := dk_89 (dk_at dksX19_init_0 8 rfl rfl)
theorem dX19_init_9 : decode cX19_init 9 = .ok (.invokespecial 11, 3) := dk_183 0 11 (dk_at dksX19_init_0 9 rfl rfl)
theorem dX19_init_12 : decode cX19_init 12 = .ok (.putfield 12, 3) := dk_181 0 12 (dk_at dksX19_init_0 12 rfl rfl)
theorem dX19_init_15 : decode cX19_init 15 = .ok (.aload_n 0, 1) := dk_42 (dk_at dksX19_init_0 15 rfl rfl)
theorem dX19_init_16 : decode cX19_init 16 = .ok (.new 9, 3) := dk_187 0 9 (dk_at dksX19_init_0 16 rfl rfl)
theorem dX19_init_19 : decode cX19_init 19 = .ok (.dup, 1) := dk_89 (dk_at dksX19_init_0 19 rfl rfl)
theorem dX19_init_20 : decode cX19_init 20 = .ok (.invokespecial 11, 3) := dk_183 0 11 (dk_at dksX19_init_0 20 rfl rfl)
theorem dX19_init_23 : decode cX19_init 23 = .ok (.putfield 18, 3) := dk_181 0 18 (dk_at dksX19_init_1 0 rfl rfl)
theorem dX19_init_26 : decode cX19_init 26 = .ok (.return_, 1) := dk_177 (dk_at dksX19_init_1 3 rfl rfl)
abbrev cX19_mayHave : ByteArray := prog_16_method_3_code
def yX19_mayHave : MethodName := ⟨RX19, "mayHave", "(I)Z"⟩
def dkwX19_mayHave_2 : List UInt8 := [184, 0, 21, 153, 0, 8, 16, 8, 167, 0, 5, 16, 6, 162, 0, 7, 4, 167, 0, 4, 3, 172]
abbrev dktX19_mayHave_2 : List UInt8 := dkwX19_mayHave_2 ++ []
def dkwX19_mayHave_1 : List UInt8 := [182, 0, 32, 27, 184, 0, 36, 182, 0, 42, 153, 0, 5, 3, 172, 42, 27, 182, 0, 32, 182, 0, 46, 27]
abbrev dktX19_mayHave_1 : List UInt8 := dkwX19_mayHave_1 ++ dktX19_mayHave_2
def dkwX19_mayHave_0 : List UInt8 := [27, 184, 0, 21, 154, 0, 10, 27, 184, 0, 25, 153, 0, 26, 27, 42, 180, 0, 28, 159, 0, 18, 42, 27]
abbrev dktX19_mayHave_0 : List UInt8 := dkwX19_mayHave_0 ++ dktX19_mayHave_1
theorem dksX19_mayHave_0 : cX19_mayHave.data.toList.drop 0 = dktX19_mayHave_0 := by decide +kernel
theorem dksX19_mayHave_1 : cX19_mayHave.data.toList.drop 24 = dktX19_mayHave_1 := dk_seg dksX19_mayHave_0 24 rfl rfl
theorem dksX19_mayHave_2 : cX19_mayHave.data.toList.drop 48 = dktX19_mayHave_2 := dk_seg dksX19_mayHave_1 24 rfl rfl
theorem dX19_mayHave_0 : decode cX19_mayHave 0 = .ok (.iload_n 1, 1) := dk_27 (dk_at dksX19_mayHave_0 0 rfl rfl)
theorem dX19_mayHave_1 : decode cX19_mayHave 1 = .ok (.invokestatic 21, 3) := dk_184 0 21 (dk_at dksX19_mayHave_0 1 rfl rfl)
theorem dX19_mayHave_4 : decode cX19_mayHave 4 = .ok (.ifCond .ne 10, 3) := dk_154 0 10 (dk_at dksX19_mayHave_0 4 rfl rfl)
theorem dX19_mayHave_7 : decode cX19_mayHave 7 = .ok (.iload_n 1, 1) := dk_27 (dk_at dksX19_mayHave_0 7 rfl rfl)
theorem dX19_mayHave_8 : decode cX19_mayHave 8 = .ok (.invokestatic 25, 3) := dk_184 0 25 (dk_at dksX19_mayHave_0 8 rfl rfl)
theorem dX19_mayHave_11 : decode cX19_mayHave 11 = .ok (.ifCond .eq 26, 3) := dk_153 0 26 (dk_at dksX19_mayHave_0 11 rfl rfl)
theorem dX19_mayHave_14 : decode cX19_mayHave 14 = .ok (.iload_n 1, 1) := dk_27 (dk_at dksX19_mayHave_0 14 rfl rfl)
theorem dX19_mayHave_15 : decode cX19_mayHave 15 = .ok (.aload_n 0, 1) := dk_42 (dk_at dksX19_mayHave_0 15 rfl rfl)
theorem dX19_mayHave_16 : decode cX19_mayHave 16 = .ok (.getfield 28, 3) := dk_180 0 28 (dk_at dksX19_mayHave_0 16 rfl rfl)
theorem dX19_mayHave_19 : decode cX19_mayHave 19 = .ok (.if_icmp .eq 18, 3) := dk_159 0 18 (dk_at dksX19_mayHave_0 19 rfl rfl)
theorem dX19_mayHave_22 : decode cX19_mayHave 22 = .ok (.aload_n 0, 1) := dk_42 (dk_at dksX19_mayHave_0 22 rfl rfl)
theorem dX19_mayHave_23 : decode cX19_mayHave 23 = .ok (.iload_n 1, 1) := dk_27 (dk_at dksX19_mayHave_0 23 rfl rfl)
theorem dX19_mayHave_24 : decode cX19_mayHave 24 = .ok (.invokevirtual 32, 3) := dk_182 0 32 (dk_at dksX19_mayHave_1 0 rfl rfl)
theorem dX19_mayHave_27 : decode cX19_mayHave 27 = .ok (.iload_n 1, 1) := dk_27 (dk_at dksX19_mayHave_1 3 rfl rfl)
theorem dX19_mayHave_28 : decode cX19_mayHave 28 = .ok (.invokestatic 36, 3) := dk_184 0 36 (dk_at dksX19_mayHave_1 4 rfl rfl)
theorem dX19_mayHave_31 : decode cX19_mayHave 31 = .ok (.invokevirtual 42, 3) := dk_182 0 42 (dk_at dksX19_mayHave_1 7 rfl rfl)
theorem dX19_mayHave_34 : decode cX19_mayHave 34 = .ok (.ifCond .eq 5, 3) := dk_153 0 5 (dk_at dksX19_mayHave_1 10 rfl rfl)
theorem dX19_mayHave_37 : decode cX19_mayHave 37 = .ok (.iconst 0, 1) := dk_3 (dk_at dksX19_mayHave_1 13 rfl rfl)
theorem dX19_mayHave_38 : decode cX19_mayHave 38 = .ok (.ireturn, 1) := dk_172 (dk_at dksX19_mayHave_1 14 rfl rfl)
theorem dX19_mayHave_39 : decode cX19_mayHave 39 = .ok (.aload_n 0, 1) := dk_42 (dk_at dksX19_mayHave_1 15 rfl rfl)
theorem dX19_mayHave_40 : decode cX19_mayHave 40 = .ok (.iload_n 1, 1) := dk_27 (dk_at dksX19_mayHave_1 16 rfl rfl)
theorem dX19_mayHave_41 : decode cX19_mayHave 41 = .ok (.invokevirtual 32, 3) := dk_182 0 32 (dk_at dksX19_mayHave_1 17 rfl rfl)
theorem dX19_mayHave_44 : decode cX19_mayHave 44 = .ok (.invokevirtual 46, 3) := dk_182 0 46 (dk_at dksX19_mayHave_1 20 rfl rfl)
theorem dX19_mayHave_47 : decode cX19_mayHave 47 = .ok (.iload_n 1, 1) := dk_27 (dk_at dksX19_mayHave_1 23 rfl rfl)
theorem dX19_mayHave_48 : decode cX19_mayHave 48 = .ok (.invokestatic 21, 3) := dk_184 0 21 (dk_at dksX19_mayHave_2 0 rfl rfl)
theorem dX19_mayHave_51 : decode cX19_mayHave 51 = .ok (.ifCond .eq 8, 3) := dk_153 0 8 (dk_at dksX19_mayHave_2 3 rfl rfl)
theorem dX19_mayHave_54 : decode cX19_mayHave 54 = .ok (.bipush 8, 2) := dk_16 8 (dk_at dksX19_mayHave_2 6 rfl rfl)
theorem dX19_mayHave_56 : decode cX19_mayHave 56 = .ok (.goto 5, 3) := dk_167 0 5 (dk_at dksX19_mayHave_2 8 rfl rfl)
theorem dX19_mayHave_59 : decode cX19_mayHave 59 = .ok (.bipush 6, 2) := dk_16 6 (dk_at dksX19_mayHave_2 11 rfl rfl)
theorem dX19_mayHave_61 : decode cX19_mayHave 61 = .ok (.if_icmp .ge 7, 3) := dk_162 0 7 (dk_at dksX19_mayHave_2 13 rfl rfl)
theorem dX19_mayHave_64 : decode cX19_mayHave 64 = .ok (.iconst 1, 1) := dk_4 (dk_at dksX19_mayHave_2 16 rfl rfl)
theorem dX19_mayHave_65 : decode cX19_mayHave 65 = .ok (.goto 4, 3) := dk_167 0 4 (dk_at dksX19_mayHave_2 17 rfl rfl)
theorem dX19_mayHave_68 : decode cX19_mayHave 68 = .ok (.iconst 0, 1) := dk_3 (dk_at dksX19_mayHave_2 20 rfl rfl)
theorem dX19_mayHave_69 : decode cX19_mayHave 69 = .ok (.ireturn, 1) := dk_172 (dk_at dksX19_mayHave_2 21 rfl rfl)
abbrev cX19_of : ByteArray := prog_16_method_2_code
def yX19_of : MethodName := ⟨RX19, "of", "(I)Ljava/util/ArrayList;"⟩
def dkwX19_of_0 : List UInt8 := [27, 184, 0, 21, 153, 0, 10, 42, 180, 0, 12, 167, 0, 7, 42, 180, 0, 18, 176]
abbrev dktX19_of_0 : List UInt8 := dkwX19_of_0 ++ []
theorem dksX19_of_0 : cX19_of.data.toList.drop 0 = dktX19_of_0 := by decide +kernel
theorem dX19_of_0 : decode cX19_of 0 = .ok (.iload_n 1, 1) := dk_27 (dk_at dksX19_of_0 0 rfl rfl)
theorem dX19_of_1 : decode cX19_of 1 = .ok (.invokestatic 21, 3) := dk_184 0 21 (dk_at dksX19_of_0 1 rfl rfl)
theorem dX19_of_4 : decode cX19_of 4 = .ok (.ifCond .eq 10, 3) := dk_153 0 10 (dk_at dksX19_of_0 4 rfl rfl)
theorem dX19_of_7 : decode cX19_of 7 = .ok (.aload_n 0, 1) := dk_42 (dk_at dksX19_of_0 7 rfl rfl)
theorem dX19_of_8 : decode cX19_of 8 = .ok (.getfield 12, 3) := dk_180 0 12 (dk_at dksX19_of_0 8 rfl rfl)
theorem dX19_of_11 : decode cX19_of 11 = .ok (.goto 7, 3) := dk_167 0 7 (dk_at dksX19_of_0 11 rfl rfl)
theorem dX19_of_14 : decode cX19_of 14 = .ok (.aload_n 0, 1) := dk_42 (dk_at dksX19_of_0 14 rfl rfl)
theorem dX19_of_15 : decode cX19_of 15 = .ok (.getfield 18, 3) := dk_180 0 18 (dk_at dksX19_of_0 15 rfl rfl)
theorem dX19_of_18 : decode cX19_of 18 = .ok (.areturn, 1) := dk_176 (dk_at dksX19_of_0 18 rfl rfl)
abbrev cX19_takes : ByteArray := prog_16_method_4_code
def yX19_takes : MethodName := ⟨RX19, "takes", "(I)V"⟩
def dkwX19_takes_1 : List UInt8 := [182, 0, 54, 27, 162, 0, 9, 132, 3, 1, 167, 255, 230, 44, 29, 27, 184, 0, 36, 182, 0, 57, 177]
abbrev dktX19_takes_1 : List UInt8 := dkwX19_takes_1 ++ []
def dkwX19_takes_0 : List UInt8 := [42, 27, 182, 0, 32, 77, 3, 62, 29, 44, 182, 0, 46, 162, 0, 24, 44, 29, 182, 0, 50, 192, 0, 37]
abbrev dktX19_takes_0 : List UInt8 := dkwX19_takes_0 ++ dktX19_takes_1
theorem dksX19_takes_0 : cX19_takes.data.toList.drop 0 = dktX19_takes_0 := by decide +kernel
theorem dksX19_takes_1 : cX19_takes.data.toList.drop 24 = dktX19_takes_1 := dk_seg dksX19_takes_0 24 rfl rfl
theorem dX19_takes_0 : decode cX19_takes 0 = .ok (.aload_n 0, 1) := dk_42 (dk_at dksX19_takes_0 0 rfl rfl)
theorem dX19_takes_1 : decode cX19_takes 1 = .ok (.iload_n 1, 1) := dk_27 (dk_at dksX19_takes_0 1 rfl rfl)
theorem dX19_takes_2 : decode cX19_takes 2 = .ok (.invokevirtual 32, 3) := dk_182 0 32 (dk_at dksX19_takes_0 2 rfl rfl)
theorem dX19_takes_5 : decode cX19_takes 5 = .ok (.astore_n 2, 1) := dk_77 (dk_at dksX19_takes_0 5 rfl rfl)
theorem dX19_takes_6 : decode cX19_takes 6 = .ok (.iconst 0, 1) := dk_3 (dk_at dksX19_takes_0 6 rfl rfl)
theorem dX19_takes_7 : decode cX19_takes 7 = .ok (.istore_n 3, 1) := dk_62 (dk_at dksX19_takes_0 7 rfl rfl)
theorem dX19_takes_8 : decode cX19_takes 8 = .ok (.iload_n 3, 1) := dk_29 (dk_at dksX19_takes_0 8 rfl rfl)
theorem dX19_takes_9 : decode cX19_takes 9 = .ok (.aload_n 2, 1) := dk_44 (dk_at dksX19_takes_0 9 rfl rfl)
theorem dX19_takes_10 : decode cX19_takes 10 = .ok (.invokevirtual 46, 3) := dk_182 0 46 (dk_at dksX19_takes_0 10 rfl rfl)
theorem dX19_takes_13 : decode cX19_takes 13 = .ok (.if_icmp .ge 24, 3) := dk_162 0 24 (dk_at dksX19_takes_0 13 rfl rfl)
theorem dX19_takes_16 : decode cX19_takes 16 = .ok (.aload_n 2, 1) := dk_44 (dk_at dksX19_takes_0 16 rfl rfl)
theorem dX19_takes_17 : decode cX19_takes 17 = .ok (.iload_n 3, 1) := dk_29 (dk_at dksX19_takes_0 17 rfl rfl)
theorem dX19_takes_18 : decode cX19_takes 18 = .ok (.invokevirtual 50, 3) := dk_182 0 50 (dk_at dksX19_takes_0 18 rfl rfl)
theorem dX19_takes_21 : decode cX19_takes 21 = .ok (.checkcast 37, 3) := dk_192 0 37 (dk_at dksX19_takes_0 21 rfl rfl)
theorem dX19_takes_24 : decode cX19_takes 24 = .ok (.invokevirtual 54, 3) := dk_182 0 54 (dk_at dksX19_takes_1 0 rfl rfl)
theorem dX19_takes_27 : decode cX19_takes 27 = .ok (.iload_n 1, 1) := dk_27 (dk_at dksX19_takes_1 3 rfl rfl)
theorem dX19_takes_28 : decode cX19_takes 28 = .ok (.if_icmp .ge 9, 3) := dk_162 0 9 (dk_at dksX19_takes_1 4 rfl rfl)
theorem dX19_takes_31 : decode cX19_takes 31 = .ok (.iinc 3 1, 3) := dk_132 3 1 (dk_at dksX19_takes_1 7 rfl rfl)
theorem dX19_takes_34 : decode cX19_takes 34 = .ok (.goto (-26), 3) := dk_167 255 230 (dk_at dksX19_takes_1 10 rfl rfl)
theorem dX19_takes_37 : decode cX19_takes 37 = .ok (.aload_n 2, 1) := dk_44 (dk_at dksX19_takes_1 13 rfl rfl)
theorem dX19_takes_38 : decode cX19_takes 38 = .ok (.iload_n 3, 1) := dk_29 (dk_at dksX19_takes_1 14 rfl rfl)
theorem dX19_takes_39 : decode cX19_takes 39 = .ok (.iload_n 1, 1) := dk_27 (dk_at dksX19_takes_1 15 rfl rfl)
theorem dX19_takes_40 : decode cX19_takes 40 = .ok (.invokestatic 36, 3) := dk_184 0 36 (dk_at dksX19_takes_1 16 rfl rfl)
theorem dX19_takes_43 : decode cX19_takes 43 = .ok (.invokevirtual 57, 3) := dk_182 0 57 (dk_at dksX19_takes_1 19 rfl rfl)
theorem dX19_takes_46 : decode cX19_takes 46 = .ok (.return_, 1) := dk_177 (dk_at dksX19_takes_1 22 rfl rfl)
abbrev cX19_loses : ByteArray := prog_16_method_5_code
def yX19_loses : MethodName := ⟨RX19, "loses", "(I)Z"⟩
def dkwX19_loses_0 : List UInt8 := [42, 27, 182, 0, 32, 27, 184, 0, 36, 182, 0, 61, 172]
abbrev dktX19_loses_0 : List UInt8 := dkwX19_loses_0 ++ []
theorem dksX19_loses_0 : cX19_loses.data.toList.drop 0 = dktX19_loses_0 := by decide +kernel
theorem dX19_loses_0 : decode cX19_loses 0 = .ok (.aload_n 0, 1) := dk_42 (dk_at dksX19_loses_0 0 rfl rfl)
theorem dX19_loses_1 : decode cX19_loses 1 = .ok (.iload_n 1, 1) := dk_27 (dk_at dksX19_loses_0 1 rfl rfl)
theorem dX19_loses_2 : decode cX19_loses 2 = .ok (.invokevirtual 32, 3) := dk_182 0 32 (dk_at dksX19_loses_0 2 rfl rfl)
theorem dX19_loses_5 : decode cX19_loses 5 = .ok (.iload_n 1, 1) := dk_27 (dk_at dksX19_loses_0 5 rfl rfl)
theorem dX19_loses_6 : decode cX19_loses 6 = .ok (.invokestatic 36, 3) := dk_184 0 36 (dk_at dksX19_loses_0 6 rfl rfl)
theorem dX19_loses_9 : decode cX19_loses 9 = .ok (.invokevirtual 61, 3) := dk_182 0 61 (dk_at dksX19_loses_0 9 rfl rfl)
theorem dX19_loses_12 : decode cX19_loses 12 = .ok (.ireturn, 1) := dk_172 (dk_at dksX19_loses_0 12 rfl rfl)
abbrev cX19_codes : ByteArray := prog_16_method_7_code
def yX19_codes : MethodName := ⟨RX19, "codes", "()I"⟩
def dkwX19_codes_0 : List UInt8 := [42, 180, 0, 12, 182, 0, 46, 42, 180, 0, 18, 182, 0, 46, 96, 172]
abbrev dktX19_codes_0 : List UInt8 := dkwX19_codes_0 ++ []
theorem dksX19_codes_0 : cX19_codes.data.toList.drop 0 = dktX19_codes_0 := by decide +kernel
theorem dX19_codes_0 : decode cX19_codes 0 = .ok (.aload_n 0, 1) := dk_42 (dk_at dksX19_codes_0 0 rfl rfl)
theorem dX19_codes_1 : decode cX19_codes 1 = .ok (.getfield 12, 3) := dk_180 0 12 (dk_at dksX19_codes_0 1 rfl rfl)
theorem dX19_codes_4 : decode cX19_codes 4 = .ok (.invokevirtual 46, 3) := dk_182 0 46 (dk_at dksX19_codes_0 4 rfl rfl)
theorem dX19_codes_7 : decode cX19_codes 7 = .ok (.aload_n 0, 1) := dk_42 (dk_at dksX19_codes_0 7 rfl rfl)
theorem dX19_codes_8 : decode cX19_codes 8 = .ok (.getfield 18, 3) := dk_180 0 18 (dk_at dksX19_codes_0 8 rfl rfl)
theorem dX19_codes_11 : decode cX19_codes 11 = .ok (.invokevirtual 46, 3) := dk_182 0 46 (dk_at dksX19_codes_0 11 rfl rfl)
theorem dX19_codes_14 : decode cX19_codes 14 = .ok (.iadd, 1) := dk_96 (dk_at dksX19_codes_0 14 rfl rfl)
theorem dX19_codes_15 : decode cX19_codes 15 = .ok (.ireturn, 1) := dk_172 (dk_at dksX19_codes_0 15 rfl rfl)
abbrev cX19_codeAt : ByteArray := prog_16_method_6_code
def yX19_codeAt : MethodName := ⟨RX19, "codeAt", "(I)I"⟩
def dkwX19_codeAt_2 : List UInt8 := [182, 0, 54, 172]
abbrev dktX19_codeAt_2 : List UInt8 := dkwX19_codeAt_2 ++ []
def dkwX19_codeAt_1 : List UInt8 := [167, 0, 22, 42, 180, 0, 18, 27, 42, 180, 0, 12, 182, 0, 46, 100, 182, 0, 50, 192, 0, 37]
abbrev dktX19_codeAt_1 : List UInt8 := dkwX19_codeAt_1 ++ dktX19_codeAt_2
def dkwX19_codeAt_0 : List UInt8 := [27, 42, 180, 0, 12, 182, 0, 46, 162, 0, 17, 42, 180, 0, 12, 27, 182, 0, 50, 192, 0, 37]
abbrev dktX19_codeAt_0 : List UInt8 := dkwX19_codeAt_0 ++ dktX19_codeAt_1
theorem dksX19_codeAt_0 : cX19_codeAt.data.toList.drop 0 = dktX19_codeAt_0 := by decide +kernel
theorem dksX19_codeAt_1 : cX19_codeAt.data.toList.drop 22 = dktX19_codeAt_1 := dk_seg dksX19_codeAt_0 22 rfl rfl
theorem dksX19_codeAt_2 : cX19_codeAt.data.toList.drop 44 = dktX19_codeAt_2 := dk_seg dksX19_codeAt_1 22 rfl rfl
theorem dX19_codeAt_0 : decode cX19_codeAt 0 = .ok (.iload_n 1, 1) := dk_27 (dk_at dksX19_codeAt_0 0 rfl rfl)
theorem dX19_codeAt_1 : decode cX19_codeAt 1 = .ok (.aload_n 0, 1) := dk_42 (dk_at dksX19_codeAt_0 1 rfl rfl)
theorem dX19_codeAt_2 : decode cX19_codeAt 2 = .ok (.getfield 12, 3) := dk_180 0 12 (dk_at dksX19_codeAt_0 2 rfl rfl)
theorem dX19_codeAt_5 : decode cX19_codeAt 5 = .ok (.invokevirtual 46, 3) := dk_182 0 46 (dk_at dksX19_codeAt_0 5 rfl rfl)
theorem dX19_codeAt_8 : decode cX19_codeAt 8 = .ok (.if_icmp .ge 17, 3) := dk_162 0 17 (dk_at dksX19_codeAt_0 8 rfl rfl)
theorem dX19_codeAt_11 : decode cX19_codeAt 11 = .ok (.aload_n 0, 1) := dk_42 (dk_at dksX19_codeAt_0 11 rfl rfl)
theorem dX19_codeAt_12 : decode cX19_codeAt 12 = .ok (.getfield 12, 3) := dk_180 0 12 (dk_at dksX19_codeAt_0 12 rfl rfl)
theorem dX19_codeAt_15 : decode cX19_codeAt 15 = .ok (.iload_n 1, 1) := dk_27 (dk_at dksX19_codeAt_0 15 rfl rfl)
theorem dX19_codeAt_16 : decode cX19_codeAt 16 = .ok (.invokevirtual 50, 3) := dk_182 0 50 (dk_at dksX19_codeAt_0 16 rfl rfl)
theorem dX19_codeAt_19 : decode cX19_codeAt 19 = .ok (.checkcast 37, 3) := dk_192 0 37 (dk_at dksX19_codeAt_0 19 rfl rfl)
theorem dX19_codeAt_22 : decode cX19_codeAt 22 = .ok (.goto 22, 3) := dk_167 0 22 (dk_at dksX19_codeAt_1 0 rfl rfl)
theorem dX19_codeAt_25 : decode cX19_codeAt 25 = .ok (.aload_n 0, 1) := dk_42 (dk_at dksX19_codeAt_1 3 rfl rfl)
theorem dX19_codeAt_26 : decode cX19_codeAt 26 = .ok (.getfield 18, 3) := dk_180 0 18 (dk_at dksX19_codeAt_1 4 rfl rfl)
theorem dX19_codeAt_29 : decode cX19_codeAt 29 = .ok (.iload_n 1, 1) := dk_27 (dk_at dksX19_codeAt_1 7 rfl rfl)
theorem dX19_codeAt_30 : decode cX19_codeAt 30 = .ok (.aload_n 0, 1) := dk_42 (dk_at dksX19_codeAt_1 8 rfl rfl)
theorem dX19_codeAt_31 : decode cX19_codeAt 31 = .ok (.getfield 12, 3) := dk_180 0 12 (dk_at dksX19_codeAt_1 9 rfl rfl)
theorem dX19_codeAt_34 : decode cX19_codeAt 34 = .ok (.invokevirtual 46, 3) := dk_182 0 46 (dk_at dksX19_codeAt_1 12 rfl rfl)
theorem dX19_codeAt_37 : decode cX19_codeAt 37 = .ok (.isub, 1) := dk_100 (dk_at dksX19_codeAt_1 15 rfl rfl)
theorem dX19_codeAt_38 : decode cX19_codeAt 38 = .ok (.invokevirtual 50, 3) := dk_182 0 50 (dk_at dksX19_codeAt_1 16 rfl rfl)
theorem dX19_codeAt_41 : decode cX19_codeAt 41 = .ok (.checkcast 37, 3) := dk_192 0 37 (dk_at dksX19_codeAt_1 19 rfl rfl)
theorem dX19_codeAt_44 : decode cX19_codeAt 44 = .ok (.invokevirtual 54, 3) := dk_182 0 54 (dk_at dksX19_codeAt_2 0 rfl rfl)
theorem dX19_codeAt_47 : decode cX19_codeAt 47 = .ok (.ireturn, 1) := dk_172 (dk_at dksX19_codeAt_2 3 rfl rfl)
theorem q163 : (Jvm.Cond.initialized "CaseGrouper$Stay") ∈ lw_all := lw_g (lw_at lw_m1 43 rfl) rfl
theorem q946 : (Jvm.Cond.selects "CaseGrouper$Stay" ({ cls := "java/lang/Object", name := "getClass", desc := "()Ljava/lang/Class;" } : Jvm.MethodName) ({ cls := "java/lang/Object", name := "getClass", desc := "()Ljava/lang/Class;" } : Jvm.MethodName)) ∈ lw_all := lw_g (lw_at lw_m4 106 rfl) rfl
theorem q1455 : (Jvm.Cond.instantiable "CaseGrouper$Stay" (5 : Nat)) ∈ lw_all := lw_g (lw_at lw_m6 135 rfl) rfl
theorem q1457 : (Jvm.Cond.instanceMethod ({ cls := "CaseGrouper$Stay", name := "<init>", desc := "()V" } : Jvm.MethodName)) ∈ lw_all := lw_g (lw_at lw_m6 137 rfl) rfl
theorem q1458 : (Jvm.Cond.code ({ cls := "CaseGrouper$Stay", name := "<init>", desc := "()V" } : Jvm.MethodName) prog_16_method_1_code (1 : Nat) (Option.none : Option Jvm.ClassFile.FieldType)) ∈ lw_all := lw_g (lw_at lw_m6 138 rfl) rfl
theorem q1459 : (Jvm.Cond.methodLink "CaseGrouper$Stay" (3 : Nat) ({ cls := "java/lang/Object", name := "<init>", desc := "()V" } : Jvm.MethodName)) ∈ lw_all := lw_g (lw_at lw_m6 139 rfl) rfl
theorem q1460 : (Jvm.Cond.classLink "CaseGrouper$Stay" (9 : Nat) "java/util/ArrayList") ∈ lw_all := lw_g (lw_at lw_m6 140 rfl) rfl
theorem q1461 : (Jvm.Cond.methodLink "CaseGrouper$Stay" (11 : Nat) ({ cls := "java/util/ArrayList", name := "<init>", desc := "()V" } : Jvm.MethodName)) ∈ lw_all := lw_g (lw_at lw_m6 141 rfl) rfl
theorem q1462 : (Jvm.Cond.fieldLink "CaseGrouper$Stay" (28 : Nat) "CaseGrouper$Stay" "main" "I") ∈ lw_all := lw_g (lw_at lw_m6 142 rfl) rfl
theorem q1469 : (Jvm.Cond.fieldLink "CaseGrouper$Stay" (12 : Nat) "CaseGrouper$Stay" "seconds" "Ljava/util/ArrayList;") ∈ lw_all := lw_g (lw_at lw_m6 149 rfl) rfl
theorem q1472 : (Jvm.Cond.fieldLink "CaseGrouper$Stay" (18 : Nat) "CaseGrouper$Stay" "procedures" "Ljava/util/ArrayList;") ∈ lw_all := lw_g (lw_at lw_m6 152 rfl) rfl
theorem q1475 : (Jvm.Cond.lays "CaseGrouper$Stay" "CaseGrouper$Stay" "main" "I") ∈ lw_all := lw_g (lw_at lw_m6 155 rfl) rfl
theorem q1476 : (Jvm.Cond.soleField "CaseGrouper$Stay" "main") ∈ lw_all := lw_g (lw_at lw_m6 156 rfl) rfl
theorem q1477 : (Jvm.Cond.lays "CaseGrouper$Stay" "CaseGrouper$Stay" "age" "I") ∈ lw_all := lw_g (lw_at lw_m6 157 rfl) rfl
theorem q1478 : (Jvm.Cond.soleField "CaseGrouper$Stay" "age") ∈ lw_all := lw_g (lw_at lw_m6 158 rfl) rfl
theorem q1479 : (Jvm.Cond.lays "CaseGrouper$Stay" "CaseGrouper$Stay" "days" "I") ∈ lw_all := lw_g (lw_at lw_m6 159 rfl) rfl
theorem q1480 : (Jvm.Cond.soleField "CaseGrouper$Stay" "days") ∈ lw_all := lw_g (lw_at lw_m6 160 rfl) rfl
theorem q1481 : (Jvm.Cond.laysFinal "CaseGrouper$Stay" "CaseGrouper$Stay" "seconds" "Ljava/util/ArrayList;") ∈ lw_all := lw_g (lw_at lw_m6 161 rfl) rfl
theorem q1482 : (Jvm.Cond.soleField "CaseGrouper$Stay" "seconds") ∈ lw_all := lw_g (lw_at lw_m6 162 rfl) rfl
theorem q1483 : (Jvm.Cond.laysFinal "CaseGrouper$Stay" "CaseGrouper$Stay" "procedures" "Ljava/util/ArrayList;") ∈ lw_all := lw_g (lw_at lw_m6 163 rfl) rfl
theorem q1484 : (Jvm.Cond.soleField "CaseGrouper$Stay" "procedures") ∈ lw_all := lw_g (lw_at lw_m6 164 rfl) rfl
theorem q1485 : (Jvm.Cond.superclass "CaseGrouper$Stay" "java/lang/Object") ∈ lw_all := lw_g (lw_at lw_m6 165 rfl) rfl
theorem q1497 : (Jvm.Cond.instanceMethod ({ cls := "CaseGrouper$Stay", name := "mayHave", desc := "(I)Z" } : Jvm.MethodName)) ∈ lw_all := lw_g (lw_at lw_m6 177 rfl) rfl
theorem q1498 : (Jvm.Cond.selects "CaseGrouper$Stay" ({ cls := "CaseGrouper$Stay", name := "mayHave", desc := "(I)Z" } : Jvm.MethodName) ({ cls := "CaseGrouper$Stay", name := "mayHave", desc := "(I)Z" } : Jvm.MethodName)) ∈ lw_all := lw_g (lw_at lw_m6 178 rfl) rfl
theorem q1499 : (Jvm.Cond.code ({ cls := "CaseGrouper$Stay", name := "mayHave", desc := "(I)Z" } : Jvm.MethodName) prog_16_method_3_code (2 : Nat) (Option.some Jvm.ClassFile.FieldType.boolean)) ∈ lw_all := lw_g (lw_at lw_m6 179 rfl) rfl
theorem q1500 : (Jvm.Cond.methodLinkNest "CaseGrouper$Stay" (21 : Nat) ({ cls := "CaseGrouper", name := "isDiagnosis", desc := "(I)Z" } : Jvm.MethodName) "CaseGrouper") ∈ lw_tbl := lw_at lw_m6 180 rfl
theorem q1501 : (Jvm.Cond.methodLinkNest "CaseGrouper$Stay" (25 : Nat) ({ cls := "CaseGrouper", name := "isProcedure", desc := "(I)Z" } : Jvm.MethodName) "CaseGrouper") ∈ lw_tbl := lw_at lw_m6 181 rfl
theorem q1504 : (Jvm.Cond.methodLink "CaseGrouper$Stay" (32 : Nat) ({ cls := "CaseGrouper$Stay", name := "of", desc := "(I)Ljava/util/ArrayList;" } : Jvm.MethodName)) ∈ lw_all := lw_g (lw_at lw_m6 184 rfl) rfl
theorem q1505 : (Jvm.Cond.instanceMethod ({ cls := "CaseGrouper$Stay", name := "of", desc := "(I)Ljava/util/ArrayList;" } : Jvm.MethodName)) ∈ lw_all := lw_g (lw_at lw_m6 185 rfl) rfl
theorem q1506 : (Jvm.Cond.selects "CaseGrouper$Stay" ({ cls := "CaseGrouper$Stay", name := "of", desc := "(I)Ljava/util/ArrayList;" } : Jvm.MethodName) ({ cls := "CaseGrouper$Stay", name := "of", desc := "(I)Ljava/util/ArrayList;" } : Jvm.MethodName)) ∈ lw_all := lw_g (lw_at lw_m6 186 rfl) rfl
theorem q1507 : (Jvm.Cond.code ({ cls := "CaseGrouper$Stay", name := "of", desc := "(I)Ljava/util/ArrayList;" } : Jvm.MethodName) prog_16_method_2_code (2 : Nat) (Option.some (Jvm.ClassFile.FieldType.object "java/util/ArrayList"))) ∈ lw_all := lw_g (lw_at lw_m6 187 rfl) rfl
theorem q1508 : (Jvm.Cond.methodLink "CaseGrouper$Stay" (36 : Nat) ({ cls := "java/lang/Integer", name := "valueOf", desc := "(I)Ljava/lang/Integer;" } : Jvm.MethodName)) ∈ lw_all := lw_g (lw_at lw_m6 188 rfl) rfl
theorem q1509 : (Jvm.Cond.methodLink "CaseGrouper$Stay" (42 : Nat) ({ cls := "java/util/ArrayList", name := "contains", desc := "(Ljava/lang/Object;)Z" } : Jvm.MethodName)) ∈ lw_all := lw_g (lw_at lw_m6 189 rfl) rfl
theorem q1539 : (Jvm.Cond.selects "CaseGrouper$Stay" ({ cls := "java/lang/Object", name := "equals", desc := "(Ljava/lang/Object;)Z" } : Jvm.MethodName) ({ cls := "java/lang/Object", name := "equals", desc := "(Ljava/lang/Object;)Z" } : Jvm.MethodName)) ∈ lw_all := lw_g (lw_at lw_m6 219 rfl) rfl
theorem q1558 : (Jvm.Cond.methodLink "CaseGrouper$Stay" (46 : Nat) ({ cls := "java/util/ArrayList", name := "size", desc := "()I" } : Jvm.MethodName)) ∈ lw_all := lw_g (lw_at lw_m6 238 rfl) rfl
theorem q1560 : (Jvm.Cond.instanceMethod ({ cls := "CaseGrouper$Stay", name := "takes", desc := "(I)V" } : Jvm.MethodName)) ∈ lw_all := lw_g (lw_at lw_m7 0 rfl) rfl
theorem q1561 : (Jvm.Cond.selects "CaseGrouper$Stay" ({ cls := "CaseGrouper$Stay", name := "takes", desc := "(I)V" } : Jvm.MethodName) ({ cls := "CaseGrouper$Stay", name := "takes", desc := "(I)V" } : Jvm.MethodName)) ∈ lw_all := lw_g (lw_at lw_m7 1 rfl) rfl
theorem q1562 : (Jvm.Cond.code ({ cls := "CaseGrouper$Stay", name := "takes", desc := "(I)V" } : Jvm.MethodName) prog_16_method_4_code (4 : Nat) (Option.none : Option Jvm.ClassFile.FieldType)) ∈ lw_all := lw_g (lw_at lw_m7 2 rfl) rfl
theorem q1563 : (Jvm.Cond.methodLink "CaseGrouper$Stay" (50 : Nat) ({ cls := "java/util/ArrayList", name := "get", desc := "(I)Ljava/lang/Object;" } : Jvm.MethodName)) ∈ lw_all := lw_g (lw_at lw_m7 3 rfl) rfl
theorem q1564 : (Jvm.Cond.classLink "CaseGrouper$Stay" (37 : Nat) "java/lang/Integer") ∈ lw_all := lw_g (lw_at lw_m7 4 rfl) rfl
theorem q1565 : (Jvm.Cond.methodLink "CaseGrouper$Stay" (54 : Nat) ({ cls := "java/lang/Integer", name := "intValue", desc := "()I" } : Jvm.MethodName)) ∈ lw_all := lw_g (lw_at lw_m7 5 rfl) rfl
theorem q1566 : (Jvm.Cond.methodLink "CaseGrouper$Stay" (57 : Nat) ({ cls := "java/util/ArrayList", name := "add", desc := "(ILjava/lang/Object;)V" } : Jvm.MethodName)) ∈ lw_all := lw_g (lw_at lw_m7 6 rfl) rfl
theorem q1581 : (Jvm.Cond.instanceMethod ({ cls := "CaseGrouper$Stay", name := "loses", desc := "(I)Z" } : Jvm.MethodName)) ∈ lw_all := lw_g (lw_at lw_m7 21 rfl) rfl
theorem q1582 : (Jvm.Cond.selects "CaseGrouper$Stay" ({ cls := "CaseGrouper$Stay", name := "loses", desc := "(I)Z" } : Jvm.MethodName) ({ cls := "CaseGrouper$Stay", name := "loses", desc := "(I)Z" } : Jvm.MethodName)) ∈ lw_all := lw_g (lw_at lw_m7 22 rfl) rfl
theorem q1583 : (Jvm.Cond.code ({ cls := "CaseGrouper$Stay", name := "loses", desc := "(I)Z" } : Jvm.MethodName) prog_16_method_5_code (2 : Nat) (Option.some Jvm.ClassFile.FieldType.boolean)) ∈ lw_all := lw_g (lw_at lw_m7 23 rfl) rfl
theorem q1584 : (Jvm.Cond.methodLink "CaseGrouper$Stay" (61 : Nat) ({ cls := "java/util/ArrayList", name := "remove", desc := "(Ljava/lang/Object;)Z" } : Jvm.MethodName)) ∈ lw_all := lw_g (lw_at lw_m7 24 rfl) rfl
theorem q1687 : (Jvm.Cond.instanceMethod ({ cls := "CaseGrouper$Stay", name := "codes", desc := "()I" } : Jvm.MethodName)) ∈ lw_all := lw_g (lw_at lw_m7 127 rfl) rfl
theorem q1688 : (Jvm.Cond.selects "CaseGrouper$Stay" ({ cls := "CaseGrouper$Stay", name := "codes", desc := "()I" } : Jvm.MethodName) ({ cls := "CaseGrouper$Stay", name := "codes", desc := "()I" } : Jvm.MethodName)) ∈ lw_all := lw_g (lw_at lw_m7 128 rfl) rfl
theorem q1689 : (Jvm.Cond.code ({ cls := "CaseGrouper$Stay", name := "codes", desc := "()I" } : Jvm.MethodName) prog_16_method_7_code (1 : Nat) (Option.some Jvm.ClassFile.FieldType.int)) ∈ lw_all := lw_g (lw_at lw_m7 129 rfl) rfl
theorem q1691 : (Jvm.Cond.instanceMethod ({ cls := "CaseGrouper$Stay", name := "codeAt", desc := "(I)I" } : Jvm.MethodName)) ∈ lw_all := lw_g (lw_at lw_m7 131 rfl) rfl
theorem q1692 : (Jvm.Cond.selects "CaseGrouper$Stay" ({ cls := "CaseGrouper$Stay", name := "codeAt", desc := "(I)I" } : Jvm.MethodName) ({ cls := "CaseGrouper$Stay", name := "codeAt", desc := "(I)I" } : Jvm.MethodName)) ∈ lw_all := lw_g (lw_at lw_m7 132 rfl) rfl
theorem q1693 : (Jvm.Cond.code ({ cls := "CaseGrouper$Stay", name := "codeAt", desc := "(I)I" } : Jvm.MethodName) prog_16_method_6_code (2 : Nat) (Option.some Jvm.ClassFile.FieldType.int)) ∈ lw_all := lw_g (lw_at lw_m7 133 rfl) rfl
theorem q2489 : (Jvm.Cond.castable "CaseGrouper$Stay" "java/lang/Object") ∈ lw_tbl := lw_at lw_m10 209 rfl
theorem in_X19 : ∀ w ∈ wsX190, w ∈ lw_all := lw_in wsX190 [1475, 1477, 1479, 1481, 1483] (by decide +kernel) (by decide +kernel)
/-! CaseGrouper$Edition -/
set_option maxRecDepth 100000
def RX2 : String := "CaseGrouper$Edition"
def TX2 : u_T := fun k => match k with
  | 0 => ("CaseGrouper$Edition", "chapters", "Ljava/util/ArrayList;", true)
  | 1 => ("CaseGrouper$Edition", "ranks", "Ljava/util/ArrayList;", true)
  | 2 => ("CaseGrouper$Edition", "partners", "Ljava/util/ArrayList;", true)
  | 3 => ("CaseGrouper$Edition", "leaves", "Ljava/util/ArrayList;", true)
  | 4 => ("CaseGrouper$Edition", "chapterOf", "Ljava/util/ArrayList;", true)
  | 5 => ("CaseGrouper$Edition", "names", "[[C", true)
  | 6 => ("CaseGrouper$Edition", "weights", "[S", true)
  | 7 => ("CaseGrouper$Edition", "classes", "I", false)
  | _ => ("CaseGrouper$Edition", "nodes", "I", false)
def tyX2 : Nat → FieldType := fun k => match k with
  | 0 => .object "java/util/ArrayList"
  | 1 => .object "java/util/ArrayList"
  | 2 => .object "java/util/ArrayList"
  | 3 => .object "java/util/ArrayList"
  | 4 => .object "java/util/ArrayList"
  | 5 => .array (.array .char)
  | 6 => .array .short
  | 7 => .int
  | _ => .int
abbrev wsX20 : List Cond := u_ws RX2 TX2 9
theorem nmX2 : ∀ a, a < 9 → ∀ b, b < 9 → a ≠ b → (TX2 a).2.1 ≠ (TX2 b).2.1 := by decide +kernel
theorem tyX2_ok : ∀ k, k < 9 → parseFieldDescriptor (TX2 k).2.2.1 = some (tyX2 k) := by decide +kernel
abbrev cX2_init : ByteArray := prog_6_method_1_code
def yX2_init : MethodName := ⟨RX2, "<init>", "()V"⟩
def dkwX2_init_3 : List UInt8 := [16, 16, 188, 9, 181, 0, 36, 177]
abbrev dktX2_init_3 : List UInt8 := dkwX2_init_3 ++ []
def dkwX2_init_2 : List UInt8 := [181, 0, 24, 42, 187, 0, 9, 89, 183, 0, 11, 181, 0, 27, 42, 16, 16, 189, 0, 30, 181, 0, 32, 42]
abbrev dktX2_init_2 : List UInt8 := dkwX2_init_2 ++ dktX2_init_3
def dkwX2_init_1 : List UInt8 := [181, 0, 18, 42, 187, 0, 9, 89, 183, 0, 11, 181, 0, 21, 42, 187, 0, 9, 89, 183, 0, 11]
abbrev dktX2_init_1 : List UInt8 := dkwX2_init_1 ++ dktX2_init_2
def dkwX2_init_0 : List UInt8 := [42, 183, 0, 3, 42, 187, 0, 9, 89, 183, 0, 11, 181, 0, 12, 42, 187, 0, 9, 89, 183, 0, 11]
abbrev dktX2_init_0 : List UInt8 := dkwX2_init_0 ++ dktX2_init_1
theorem dksX2_init_0 : cX2_init.data.toList.drop 0 = dktX2_init_0 := by decide +kernel
theorem dksX2_init_1 : cX2_init.data.toList.drop 23 = dktX2_init_1 := dk_seg dksX2_init_0 23 rfl rfl
theorem dksX2_init_2 : cX2_init.data.toList.drop 45 = dktX2_init_2 := dk_seg dksX2_init_1 22 rfl rfl
theorem dksX2_init_3 : cX2_init.data.toList.drop 69 = dktX2_init_3 := dk_seg dksX2_init_2 24 rfl rfl
theorem dX2_init_0 : decode cX2_init 0 = .ok (.aload_n 0, 1) := dk_42 (dk_at dksX2_init_0 0 rfl rfl)
theorem dX2_init_1 : decode cX2_init 1 = .ok (.invokespecial 3, 3) := dk_183 0 3 (dk_at dksX2_init_0 1 rfl rfl)
theorem dX2_init_4 : decode cX2_init 4 = .ok (.aload_n 0, 1) := dk_42 (dk_at dksX2_init_0 4 rfl rfl)
theorem dX2_init_5 : decode cX2_init 5 = .ok (.new 9, 3) := dk_187 0 9 (dk_at dksX2_init_0 5 rfl rfl)
theorem dX2_init_8 : decode cX2_init 8 = .ok (.dup, 1) := dk_89 (dk_at dksX2_init_0 8 rfl rfl)
theorem dX2_init_9 : decode cX2_init 9 = .ok (.invokespecial 11, 3) := dk_183 0 11 (dk_at dksX2_init_0 9 rfl rfl)
theorem dX2_init_12 : decode cX2_init 12 = .ok (.putfield 12, 3) := dk_181 0 12 (dk_at dksX2_init_0 12 rfl rfl)
theorem dX2_init_15 : decode cX2_init 15 = .ok (.aload_n 0, 1) := dk_42 (dk_at dksX2_init_0 15 rfl rfl)
theorem dX2_init_16 : decode cX2_init 16 = .ok (.new 9, 3) := dk_187 0 9 (dk_at dksX2_init_0 16 rfl rfl)
theorem dX2_init_19 : decode cX2_init 19 = .ok (.dup, 1) := dk_89 (dk_at dksX2_init_0 19 rfl rfl)
theorem dX2_init_20 : decode cX2_init 20 = .ok (.invokespecial 11, 3) := dk_183 0 11 (dk_at dksX2_init_0 20 rfl rfl)
theorem dX2_init_23 : decode cX2_init 23 = .ok (.putfield 18, 3) := dk_181 0 18 (dk_at dksX2_init_1 0 rfl rfl)
theorem dX2_init_26 : decode cX2_init 26 = .ok (.aload_n 0, 1) := dk_42 (dk_at dksX2_init_1 3 rfl rfl)
theorem dX2_init_27 : decode cX2_init 27 = .ok (.new 9, 3) := dk_187 0 9 (dk_at dksX2_init_1 4 rfl rfl)
theorem dX2_init_30 : decode cX2_init 30 = .ok (.dup, 1) := dk_89 (dk_at dksX2_init_1 7 rfl rfl)
theorem dX2_init_31 : decode cX2_init 31 = .ok (.invokespecial 11, 3) := dk_183 0 11 (dk_at dksX2_init_1 8 rfl rfl)
theorem dX2_init_34 : decode cX2_init 34 = .ok (.putfield 21, 3) := dk_181 0 21 (dk_at dksX2_init_1 11 rfl rfl)
theorem dX2_init_37 : decode cX2_init 37 = .ok (.aload_n 0, 1) := dk_42 (dk_at dksX2_init_1 14 rfl rfl)
theorem dX2_init_38 : decode cX2_init 38 = .ok (.new 9, 3) := dk_187 0 9 (dk_at dksX2_init_1 15 rfl rfl)
theorem dX2_init_41 : decode cX2_init 41 = .ok (.dup, 1) := dk_89 (dk_at dksX2_init_1 18 rfl rfl)
theorem dX2_init_42 : decode cX2_init 42 = .ok (.invokespecial 11, 3) := dk_183 0 11 (dk_at dksX2_init_1 19 rfl rfl)
theorem dX2_init_45 : decode cX2_init 45 = .ok (.putfield 24, 3) := dk_181 0 24 (dk_at dksX2_init_2 0 rfl rfl)
theorem dX2_init_48 : decode cX2_init 48 = .ok (.aload_n 0, 1) := dk_42 (dk_at dksX2_init_2 3 rfl rfl)
theorem dX2_init_49 : decode cX2_init 49 = .ok (.new 9, 3) := dk_187 0 9 (dk_at dksX2_init_2 4 rfl rfl)
theorem dX2_init_52 : decode cX2_init 52 = .ok (.dup, 1) := dk_89 (dk_at dksX2_init_2 7 rfl rfl)
theorem dX2_init_53 : decode cX2_init 53 = .ok (.invokespecial 11, 3) := dk_183 0 11 (dk_at dksX2_init_2 8 rfl rfl)
theorem dX2_init_56 : decode cX2_init 56 = .ok (.putfield 27, 3) := dk_181 0 27 (dk_at dksX2_init_2 11 rfl rfl)
theorem dX2_init_59 : decode cX2_init 59 = .ok (.aload_n 0, 1) := dk_42 (dk_at dksX2_init_2 14 rfl rfl)
theorem dX2_init_60 : decode cX2_init 60 = .ok (.bipush 16, 2) := dk_16 16 (dk_at dksX2_init_2 15 rfl rfl)
theorem dX2_init_62 : decode cX2_init 62 = .ok (.anewarray 30, 3) := dk_189 0 30 (dk_at dksX2_init_2 17 rfl rfl)
theorem dX2_init_65 : decode cX2_init 65 = .ok (.putfield 32, 3) := dk_181 0 32 (dk_at dksX2_init_2 20 rfl rfl)
theorem dX2_init_68 : decode cX2_init 68 = .ok (.aload_n 0, 1) := dk_42 (dk_at dksX2_init_2 23 rfl rfl)
theorem dX2_init_69 : decode cX2_init 69 = .ok (.bipush 16, 2) := dk_16 16 (dk_at dksX2_init_3 0 rfl rfl)
theorem dX2_init_71 : decode cX2_init 71 = .ok (.newarray .short, 2) := dk_188_9 (dk_at dksX2_init_3 2 rfl rfl)
theorem dX2_init_73 : decode cX2_init 73 = .ok (.putfield 36, 3) := dk_181 0 36 (dk_at dksX2_init_3 4 rfl rfl)
theorem dX2_init_76 : decode cX2_init 76 = .ok (.return_, 1) := dk_177 (dk_at dksX2_init_3 7 rfl rfl)
abbrev cX2_find : ByteArray := prog_6_method_2_code
def yX2_find : MethodName := ⟨RX2, "find", "(Ljava/lang/String;)LCaseGrouper$Chapter;"⟩
def dkwX2_find_2 : List UInt8 := [132, 2, 1, 167, 255, 209, 1, 176]
abbrev dktX2_find_2 : List UInt8 := dkwX2_find_2 ++ []
def dkwX2_find_1 : List UInt8 := [180, 0, 50, 43, 182, 0, 54, 153, 0, 15, 42, 180, 0, 12, 28, 182, 0, 44, 192, 0, 48, 176]
abbrev dktX2_find_1 : List UInt8 := dkwX2_find_1 ++ dktX2_find_2
def dkwX2_find_0 : List UInt8 := [3, 61, 28, 42, 180, 0, 12, 182, 0, 40, 162, 0, 42, 42, 180, 0, 12, 28, 182, 0, 44, 192, 0, 48]
abbrev dktX2_find_0 : List UInt8 := dkwX2_find_0 ++ dktX2_find_1
theorem dksX2_find_0 : cX2_find.data.toList.drop 0 = dktX2_find_0 := by decide +kernel
theorem dksX2_find_1 : cX2_find.data.toList.drop 24 = dktX2_find_1 := dk_seg dksX2_find_0 24 rfl rfl
theorem dksX2_find_2 : cX2_find.data.toList.drop 46 = dktX2_find_2 := dk_seg dksX2_find_1 22 rfl rfl
theorem dX2_find_0 : decode cX2_find 0 = .ok (.iconst 0, 1) := dk_3 (dk_at dksX2_find_0 0 rfl rfl)
theorem dX2_find_1 : decode cX2_find 1 = .ok (.istore_n 2, 1) := dk_61 (dk_at dksX2_find_0 1 rfl rfl)
theorem dX2_find_2 : decode cX2_find 2 = .ok (.iload_n 2, 1) := dk_28 (dk_at dksX2_find_0 2 rfl rfl)
theorem dX2_find_3 : decode cX2_find 3 = .ok (.aload_n 0, 1) := dk_42 (dk_at dksX2_find_0 3 rfl rfl)
theorem dX2_find_4 : decode cX2_find 4 = .ok (.getfield 12, 3) := dk_180 0 12 (dk_at dksX2_find_0 4 rfl rfl)
theorem dX2_find_7 : decode cX2_find 7 = .ok (.invokevirtual 40, 3) := dk_182 0 40 (dk_at dksX2_find_0 7 rfl rfl)
theorem dX2_find_10 : decode cX2_find 10 = .ok (.if_icmp .ge 42, 3) := dk_162 0 42 (dk_at dksX2_find_0 10 rfl rfl)
theorem dX2_find_13 : decode cX2_find 13 = .ok (.aload_n 0, 1) := dk_42 (dk_at dksX2_find_0 13 rfl rfl)
theorem dX2_find_14 : decode cX2_find 14 = .ok (.getfield 12, 3) := dk_180 0 12 (dk_at dksX2_find_0 14 rfl rfl)
theorem dX2_find_17 : decode cX2_find 17 = .ok (.iload_n 2, 1) := dk_28 (dk_at dksX2_find_0 17 rfl rfl)
theorem dX2_find_18 : decode cX2_find 18 = .ok (.invokevirtual 44, 3) := dk_182 0 44 (dk_at dksX2_find_0 18 rfl rfl)
theorem dX2_find_21 : decode cX2_find 21 = .ok (.checkcast 48, 3) := dk_192 0 48 (dk_at dksX2_find_0 21 rfl rfl)
theorem dX2_find_24 : decode cX2_find 24 = .ok (.getfield 50, 3) := dk_180 0 50 (dk_at dksX2_find_1 0 rfl rfl)
theorem dX2_find_27 : decode cX2_find 27 = .ok (.aload_n 1, 1) := dk_43 (dk_at dksX2_find_1 3 rfl rfl)
theorem dX2_find_28 : decode cX2_find 28 = .ok (.invokevirtual 54, 3) := dk_182 0 54 (dk_at dksX2_find_1 4 rfl rfl)
theorem dX2_find_31 : decode cX2_find 31 = .ok (.ifCond .eq 15, 3) := dk_153 0 15 (dk_at dksX2_find_1 7 rfl rfl)
theorem dX2_find_34 : decode cX2_find 34 = .ok (.aload_n 0, 1) := dk_42 (dk_at dksX2_find_1 10 rfl rfl)
theorem dX2_find_35 : decode cX2_find 35 = .ok (.getfield 12, 3) := dk_180 0 12 (dk_at dksX2_find_1 11 rfl rfl)
theorem dX2_find_38 : decode cX2_find 38 = .ok (.iload_n 2, 1) := dk_28 (dk_at dksX2_find_1 14 rfl rfl)
theorem dX2_find_39 : decode cX2_find 39 = .ok (.invokevirtual 44, 3) := dk_182 0 44 (dk_at dksX2_find_1 15 rfl rfl)
theorem dX2_find_42 : decode cX2_find 42 = .ok (.checkcast 48, 3) := dk_192 0 48 (dk_at dksX2_find_1 18 rfl rfl)
theorem dX2_find_45 : decode cX2_find 45 = .ok (.areturn, 1) := dk_176 (dk_at dksX2_find_1 21 rfl rfl)
theorem dX2_find_46 : decode cX2_find 46 = .ok (.iinc 2 1, 3) := dk_132 2 1 (dk_at dksX2_find_2 0 rfl rfl)
theorem dX2_find_49 : decode cX2_find 49 = .ok (.goto (-47), 3) := dk_167 255 209 (dk_at dksX2_find_2 3 rfl rfl)
theorem dX2_find_52 : decode cX2_find 52 = .ok (.aconst_null, 1) := dk_1 (dk_at dksX2_find_2 6 rfl rfl)
theorem dX2_find_53 : decode cX2_find 53 = .ok (.areturn, 1) := dk_176 (dk_at dksX2_find_2 7 rfl rfl)
abbrev cX2_classOf : ByteArray := prog_6_method_3_code
def yX2_classOf : MethodName := ⟨RX2, "classOf", "(Ljava/lang/String;)I"⟩
def dkwX2_classOf_1 : List UInt8 := [132, 2, 1, 167, 255, 231, 2, 172]
abbrev dktX2_classOf_1 : List UInt8 := dkwX2_classOf_1 ++ []
def dkwX2_classOf_0 : List UInt8 := [3, 61, 28, 42, 180, 0, 60, 162, 0, 23, 42, 28, 43, 182, 0, 64, 182, 0, 68, 153, 0, 5, 28, 172]
abbrev dktX2_classOf_0 : List UInt8 := dkwX2_classOf_0 ++ dktX2_classOf_1
theorem dksX2_classOf_0 : cX2_classOf.data.toList.drop 0 = dktX2_classOf_0 := by decide +kernel
theorem dksX2_classOf_1 : cX2_classOf.data.toList.drop 24 = dktX2_classOf_1 := dk_seg dksX2_classOf_0 24 rfl rfl
theorem dX2_classOf_0 : decode cX2_classOf 0 = .ok (.iconst 0, 1) := dk_3 (dk_at dksX2_classOf_0 0 rfl rfl)
theorem dX2_classOf_1 : decode cX2_classOf 1 = .ok (.istore_n 2, 1) := dk_61 (dk_at dksX2_classOf_0 1 rfl rfl)
theorem dX2_classOf_2 : decode cX2_classOf 2 = .ok (.iload_n 2, 1) := dk_28 (dk_at dksX2_classOf_0 2 rfl rfl)
theorem dX2_classOf_3 : decode cX2_classOf 3 = .ok (.aload_n 0, 1) := dk_42 (dk_at dksX2_classOf_0 3 rfl rfl)
theorem dX2_classOf_4 : decode cX2_classOf 4 = .ok (.getfield 60, 3) := dk_180 0 60 (dk_at dksX2_classOf_0 4 rfl rfl)
theorem dX2_classOf_7 : decode cX2_classOf 7 = .ok (.if_icmp .ge 23, 3) := dk_162 0 23 (dk_at dksX2_classOf_0 7 rfl rfl)
theorem dX2_classOf_10 : decode cX2_classOf 10 = .ok (.aload_n 0, 1) := dk_42 (dk_at dksX2_classOf_0 10 rfl rfl)
theorem dX2_classOf_11 : decode cX2_classOf 11 = .ok (.iload_n 2, 1) := dk_28 (dk_at dksX2_classOf_0 11 rfl rfl)
theorem dX2_classOf_12 : decode cX2_classOf 12 = .ok (.aload_n 1, 1) := dk_43 (dk_at dksX2_classOf_0 12 rfl rfl)
theorem dX2_classOf_13 : decode cX2_classOf 13 = .ok (.invokevirtual 64, 3) := dk_182 0 64 (dk_at dksX2_classOf_0 13 rfl rfl)
theorem dX2_classOf_16 : decode cX2_classOf 16 = .ok (.invokevirtual 68, 3) := dk_182 0 68 (dk_at dksX2_classOf_0 16 rfl rfl)
theorem dX2_classOf_19 : decode cX2_classOf 19 = .ok (.ifCond .eq 5, 3) := dk_153 0 5 (dk_at dksX2_classOf_0 19 rfl rfl)
theorem dX2_classOf_22 : decode cX2_classOf 22 = .ok (.iload_n 2, 1) := dk_28 (dk_at dksX2_classOf_0 22 rfl rfl)
theorem dX2_classOf_23 : decode cX2_classOf 23 = .ok (.ireturn, 1) := dk_172 (dk_at dksX2_classOf_0 23 rfl rfl)
theorem dX2_classOf_24 : decode cX2_classOf 24 = .ok (.iinc 2 1, 3) := dk_132 2 1 (dk_at dksX2_classOf_1 0 rfl rfl)
theorem dX2_classOf_27 : decode cX2_classOf 27 = .ok (.goto (-25), 3) := dk_167 255 231 (dk_at dksX2_classOf_1 3 rfl rfl)
theorem dX2_classOf_30 : decode cX2_classOf 30 = .ok (.iconst (-1), 1) := dk_2 (dk_at dksX2_classOf_1 6 rfl rfl)
theorem dX2_classOf_31 : decode cX2_classOf 31 = .ok (.ireturn, 1) := dk_172 (dk_at dksX2_classOf_1 7 rfl rfl)
abbrev cX2_isCalled : ByteArray := prog_6_method_4_code
def yX2_isCalled : MethodName := ⟨RX2, "isCalled", "(I[C)Z"⟩
def dkwX2_isCalled_1 : List UInt8 := [180, 0, 32, 27, 50, 29, 52, 44, 29, 52, 159, 0, 5, 3, 172, 132, 3, 1, 167, 255, 231, 4, 172]
abbrev dktX2_isCalled_1 : List UInt8 := dkwX2_isCalled_1 ++ []
def dkwX2_isCalled_0 : List UInt8 := [42, 180, 0, 32, 27, 50, 190, 44, 190, 159, 0, 5, 3, 172, 3, 62, 29, 44, 190, 162, 0, 25, 42]
abbrev dktX2_isCalled_0 : List UInt8 := dkwX2_isCalled_0 ++ dktX2_isCalled_1
theorem dksX2_isCalled_0 : cX2_isCalled.data.toList.drop 0 = dktX2_isCalled_0 := by decide +kernel
theorem dksX2_isCalled_1 : cX2_isCalled.data.toList.drop 23 = dktX2_isCalled_1 := dk_seg dksX2_isCalled_0 23 rfl rfl
theorem dX2_isCalled_0 : decode cX2_isCalled 0 = .ok (.aload_n 0, 1) := dk_42 (dk_at dksX2_isCalled_0 0 rfl rfl)
theorem dX2_isCalled_1 : decode cX2_isCalled 1 = .ok (.getfield 32, 3) := dk_180 0 32 (dk_at dksX2_isCalled_0 1 rfl rfl)
theorem dX2_isCalled_4 : decode cX2_isCalled 4 = .ok (.iload_n 1, 1) := dk_27 (dk_at dksX2_isCalled_0 4 rfl rfl)
theorem dX2_isCalled_5 : decode cX2_isCalled 5 = .ok (.aaload, 1) := dk_50 (dk_at dksX2_isCalled_0 5 rfl rfl)
theorem dX2_isCalled_6 : decode cX2_isCalled 6 = .ok (.arraylength, 1) := dk_190 (dk_at dksX2_isCalled_0 6 rfl rfl)
theorem dX2_isCalled_7 : decode cX2_isCalled 7 = .ok (.aload_n 2, 1) := dk_44 (dk_at dksX2_isCalled_0 7 rfl rfl)
theorem dX2_isCalled_8 : decode cX2_isCalled 8 = .ok (.arraylength, 1) := dk_190 (dk_at dksX2_isCalled_0 8 rfl rfl)
theorem dX2_isCalled_9 : decode cX2_isCalled 9 = .ok (.if_icmp .eq 5, 3) := dk_159 0 5 (dk_at dksX2_isCalled_0 9 rfl rfl)
theorem dX2_isCalled_12 : decode cX2_isCalled 12 = .ok (.iconst 0, 1) := dk_3 (dk_at dksX2_isCalled_0 12 rfl rfl)
theorem dX2_isCalled_13 : decode cX2_isCalled 13 = .ok (.ireturn, 1) := dk_172 (dk_at dksX2_isCalled_0 13 rfl rfl)
theorem dX2_isCalled_14 : decode cX2_isCalled 14 = .ok (.iconst 0, 1) := dk_3 (dk_at dksX2_isCalled_0 14 rfl rfl)
theorem dX2_isCalled_15 : decode cX2_isCalled 15 = .ok (.istore_n 3, 1) := dk_62 (dk_at dksX2_isCalled_0 15 rfl rfl)
theorem dX2_isCalled_16 : decode cX2_isCalled 16 = .ok (.iload_n 3, 1) := dk_29 (dk_at dksX2_isCalled_0 16 rfl rfl)
theorem dX2_isCalled_17 : decode cX2_isCalled 17 = .ok (.aload_n 2, 1) := dk_44 (dk_at dksX2_isCalled_0 17 rfl rfl)
theorem dX2_isCalled_18 : decode cX2_isCalled 18 = .ok (.arraylength, 1) := dk_190 (dk_at dksX2_isCalled_0 18 rfl rfl)
theorem dX2_isCalled_19 : decode cX2_isCalled 19 = .ok (.if_icmp .ge 25, 3) := dk_162 0 25 (dk_at dksX2_isCalled_0 19 rfl rfl)
theorem dX2_isCalled_22 : decode cX2_isCalled 22 = .ok (.aload_n 0, 1) := dk_42 (dk_at dksX2_isCalled_0 22 rfl rfl)
theorem dX2_isCalled_23 : decode cX2_isCalled 23 = .ok (.getfield 32, 3) := dk_180 0 32 (dk_at dksX2_isCalled_1 0 rfl rfl)
theorem dX2_isCalled_26 : decode cX2_isCalled 26 = .ok (.iload_n 1, 1) := dk_27 (dk_at dksX2_isCalled_1 3 rfl rfl)
theorem dX2_isCalled_27 : decode cX2_isCalled 27 = .ok (.aaload, 1) := dk_50 (dk_at dksX2_isCalled_1 4 rfl rfl)
theorem dX2_isCalled_28 : decode cX2_isCalled 28 = .ok (.iload_n 3, 1) := dk_29 (dk_at dksX2_isCalled_1 5 rfl rfl)
theorem dX2_isCalled_29 : decode cX2_isCalled 29 = .ok (.caload, 1) := dk_52 (dk_at dksX2_isCalled_1 6 rfl rfl)
theorem dX2_isCalled_30 : decode cX2_isCalled 30 = .ok (.aload_n 2, 1) := dk_44 (dk_at dksX2_isCalled_1 7 rfl rfl)
theorem dX2_isCalled_31 : decode cX2_isCalled 31 = .ok (.iload_n 3, 1) := dk_29 (dk_at dksX2_isCalled_1 8 rfl rfl)
theorem dX2_isCalled_32 : decode cX2_isCalled 32 = .ok (.caload, 1) := dk_52 (dk_at dksX2_isCalled_1 9 rfl rfl)
theorem dX2_isCalled_33 : decode cX2_isCalled 33 = .ok (.if_icmp .eq 5, 3) := dk_159 0 5 (dk_at dksX2_isCalled_1 10 rfl rfl)
theorem dX2_isCalled_36 : decode cX2_isCalled 36 = .ok (.iconst 0, 1) := dk_3 (dk_at dksX2_isCalled_1 13 rfl rfl)
theorem dX2_isCalled_37 : decode cX2_isCalled 37 = .ok (.ireturn, 1) := dk_172 (dk_at dksX2_isCalled_1 14 rfl rfl)
theorem dX2_isCalled_38 : decode cX2_isCalled 38 = .ok (.iinc 3 1, 3) := dk_132 3 1 (dk_at dksX2_isCalled_1 15 rfl rfl)
theorem dX2_isCalled_41 : decode cX2_isCalled 41 = .ok (.goto (-25), 3) := dk_167 255 231 (dk_at dksX2_isCalled_1 18 rfl rfl)
theorem dX2_isCalled_44 : decode cX2_isCalled 44 = .ok (.iconst 1, 1) := dk_4 (dk_at dksX2_isCalled_1 21 rfl rfl)
theorem dX2_isCalled_45 : decode cX2_isCalled 45 = .ok (.ireturn, 1) := dk_172 (dk_at dksX2_isCalled_1 22 rfl rfl)
abbrev cX2_adds : ByteArray := prog_6_method_5_code
def yX2_adds : MethodName := ⟨RX2, "adds", "(Ljava/lang/String;I)I"⟩
def dkwX2_adds_1 : List UInt8 := [42, 89, 180, 0, 60, 4, 96, 181, 0, 60, 42, 180, 0, 60, 4, 100, 172]
abbrev dktX2_adds_1 : List UInt8 := dkwX2_adds_1 ++ []
def dkwX2_adds_0 : List UInt8 := [42, 180, 0, 32, 42, 180, 0, 60, 43, 182, 0, 64, 83, 42, 180, 0, 36, 42, 180, 0, 60, 28, 147, 86]
abbrev dktX2_adds_0 : List UInt8 := dkwX2_adds_0 ++ dktX2_adds_1
theorem dksX2_adds_0 : cX2_adds.data.toList.drop 0 = dktX2_adds_0 := by decide +kernel
theorem dksX2_adds_1 : cX2_adds.data.toList.drop 24 = dktX2_adds_1 := dk_seg dksX2_adds_0 24 rfl rfl
theorem dX2_adds_0 : decode cX2_adds 0 = .ok (.aload_n 0, 1) := dk_42 (dk_at dksX2_adds_0 0 rfl rfl)
theorem dX2_adds_1 : decode cX2_adds 1 = .ok (.getfield 32, 3) := dk_180 0 32 (dk_at dksX2_adds_0 1 rfl rfl)
theorem dX2_adds_4 : decode cX2_adds 4 = .ok (.aload_n 0, 1) := dk_42 (dk_at dksX2_adds_0 4 rfl rfl)
theorem dX2_adds_5 : decode cX2_adds 5 = .ok (.getfield 60, 3) := dk_180 0 60 (dk_at dksX2_adds_0 5 rfl rfl)
theorem dX2_adds_8 : decode cX2_adds 8 = .ok (.aload_n 1, 1) := dk_43 (dk_at dksX2_adds_0 8 rfl rfl)
theorem dX2_adds_9 : decode cX2_adds 9 = .ok (.invokevirtual 64, 3) := dk_182 0 64 (dk_at dksX2_adds_0 9 rfl rfl)
theorem dX2_adds_12 : decode cX2_adds 12 = .ok (.aastore, 1) := dk_83 (dk_at dksX2_adds_0 12 rfl rfl)
theorem dX2_adds_13 : decode cX2_adds 13 = .ok (.aload_n 0, 1) := dk_42 (dk_at dksX2_adds_0 13 rfl rfl)
theorem dX2_adds_14 : decode cX2_adds 14 = .ok (.getfield 36, 3) := dk_180 0 36 (dk_at dksX2_adds_0 14 rfl rfl)
theorem dX2_adds_17 : decode cX2_adds 17 = .ok (.aload_n 0, 1) := dk_42 (dk_at dksX2_adds_0 17 rfl rfl)
theorem dX2_adds_18 : decode cX2_adds 18 = .ok (.getfield 60, 3) := dk_180 0 60 (dk_at dksX2_adds_0 18 rfl rfl)
theorem dX2_adds_21 : decode cX2_adds 21 = .ok (.iload_n 2, 1) := dk_28 (dk_at dksX2_adds_0 21 rfl rfl)
theorem dX2_adds_22 : decode cX2_adds 22 = .ok (.i2s, 1) := dk_147 (dk_at dksX2_adds_0 22 rfl rfl)
theorem dX2_adds_23 : decode cX2_adds 23 = .ok (.sastore, 1) := dk_86 (dk_at dksX2_adds_0 23 rfl rfl)
theorem dX2_adds_24 : decode cX2_adds 24 = .ok (.aload_n 0, 1) := dk_42 (dk_at dksX2_adds_1 0 rfl rfl)
theorem dX2_adds_25 : decode cX2_adds 25 = .ok (.dup, 1) := dk_89 (dk_at dksX2_adds_1 1 rfl rfl)
theorem dX2_adds_26 : decode cX2_adds 26 = .ok (.getfield 60, 3) := dk_180 0 60 (dk_at dksX2_adds_1 2 rfl rfl)
theorem dX2_adds_29 : decode cX2_adds 29 = .ok (.iconst 1, 1) := dk_4 (dk_at dksX2_adds_1 5 rfl rfl)
theorem dX2_adds_30 : decode cX2_adds 30 = .ok (.iadd, 1) := dk_96 (dk_at dksX2_adds_1 6 rfl rfl)
theorem dX2_adds_31 : decode cX2_adds 31 = .ok (.putfield 60, 3) := dk_181 0 60 (dk_at dksX2_adds_1 7 rfl rfl)
theorem dX2_adds_34 : decode cX2_adds 34 = .ok (.aload_n 0, 1) := dk_42 (dk_at dksX2_adds_1 10 rfl rfl)
theorem dX2_adds_35 : decode cX2_adds 35 = .ok (.getfield 60, 3) := dk_180 0 60 (dk_at dksX2_adds_1 11 rfl rfl)
theorem dX2_adds_38 : decode cX2_adds 38 = .ok (.iconst 1, 1) := dk_4 (dk_at dksX2_adds_1 14 rfl rfl)
theorem dX2_adds_39 : decode cX2_adds 39 = .ok (.isub, 1) := dk_100 (dk_at dksX2_adds_1 15 rfl rfl)
theorem dX2_adds_40 : decode cX2_adds 40 = .ok (.ireturn, 1) := dk_172 (dk_at dksX2_adds_1 16 rfl rfl)
abbrev cX2_ends : ByteArray := prog_6_method_6_code
def yX2_ends : MethodName := ⟨RX2, "ends", "()V"⟩
def dkwX2_ends_3 : List UInt8 := [167, 255, 214, 42, 44, 182, 0, 78, 132, 1, 1, 167, 255, 178, 177]
abbrev dktX2_ends_3 : List UInt8 := dkwX2_ends_3 ++ []
def dkwX2_ends_2 : List UInt8 := [182, 0, 44, 192, 0, 73, 182, 0, 75, 87, 42, 180, 0, 27, 44, 182, 0, 75, 87, 132, 3, 1]
abbrev dktX2_ends_2 : List UInt8 := dkwX2_ends_2 ++ dktX2_ends_3
def dkwX2_ends_1 : List UInt8 := [77, 3, 62, 29, 44, 180, 0, 72, 182, 0, 40, 162, 0, 37, 42, 180, 0, 24, 44, 180, 0, 72, 29]
abbrev dktX2_ends_1 : List UInt8 := dkwX2_ends_1 ++ dktX2_ends_2
def dkwX2_ends_0 : List UInt8 := [3, 60, 27, 42, 180, 0, 12, 182, 0, 40, 162, 0, 73, 42, 180, 0, 12, 27, 182, 0, 44, 192, 0, 48]
abbrev dktX2_ends_0 : List UInt8 := dkwX2_ends_0 ++ dktX2_ends_1
theorem dksX2_ends_0 : cX2_ends.data.toList.drop 0 = dktX2_ends_0 := by decide +kernel
theorem dksX2_ends_1 : cX2_ends.data.toList.drop 24 = dktX2_ends_1 := dk_seg dksX2_ends_0 24 rfl rfl
theorem dksX2_ends_2 : cX2_ends.data.toList.drop 47 = dktX2_ends_2 := dk_seg dksX2_ends_1 23 rfl rfl
theorem dksX2_ends_3 : cX2_ends.data.toList.drop 69 = dktX2_ends_3 := dk_seg dksX2_ends_2 22 rfl rfl
theorem dX2_ends_0 : decode cX2_ends 0 = .ok (.iconst 0, 1) := dk_3 (dk_at dksX2_ends_0 0 rfl rfl)
theorem dX2_ends_1 : decode cX2_ends 1 = .ok (.istore_n 1, 1) := dk_60 (dk_at dksX2_ends_0 1 rfl rfl)
theorem dX2_ends_2 : decode cX2_ends 2 = .ok (.iload_n 1, 1) := dk_27 (dk_at dksX2_ends_0 2 rfl rfl)
theorem dX2_ends_3 : decode cX2_ends 3 = .ok (.aload_n 0, 1) := dk_42 (dk_at dksX2_ends_0 3 rfl rfl)
theorem dX2_ends_4 : decode cX2_ends 4 = .ok (.getfield 12, 3) := dk_180 0 12 (dk_at dksX2_ends_0 4 rfl rfl)
theorem dX2_ends_7 : decode cX2_ends 7 = .ok (.invokevirtual 40, 3) := dk_182 0 40 (dk_at dksX2_ends_0 7 rfl rfl)
theorem dX2_ends_10 : decode cX2_ends 10 = .ok (.if_icmp .ge 73, 3) := dk_162 0 73 (dk_at dksX2_ends_0 10 rfl rfl)
theorem dX2_ends_13 : decode cX2_ends 13 = .ok (.aload_n 0, 1) := dk_42 (dk_at dksX2_ends_0 13 rfl rfl)
theorem dX2_ends_14 : decode cX2_ends 14 = .ok (.getfield 12, 3) := dk_180 0 12 (dk_at dksX2_ends_0 14 rfl rfl)
theorem dX2_ends_17 : decode cX2_ends 17 = .ok (.iload_n 1, 1) := dk_27 (dk_at dksX2_ends_0 17 rfl rfl)
theorem dX2_ends_18 : decode cX2_ends 18 = .ok (.invokevirtual 44, 3) := dk_182 0 44 (dk_at dksX2_ends_0 18 rfl rfl)
theorem dX2_ends_21 : decode cX2_ends 21 = .ok (.checkcast 48, 3) := dk_192 0 48 (dk_at dksX2_ends_0 21 rfl rfl)
theorem dX2_ends_24 : decode cX2_ends 24 = .ok (.astore_n 2, 1) := dk_77 (dk_at dksX2_ends_1 0 rfl rfl)
theorem dX2_ends_25 : decode cX2_ends 25 = .ok (.iconst 0, 1) := dk_3 (dk_at dksX2_ends_1 1 rfl rfl)
theorem dX2_ends_26 : decode cX2_ends 26 = .ok (.istore_n 3, 1) := dk_62 (dk_at dksX2_ends_1 2 rfl rfl)
theorem dX2_ends_27 : decode cX2_ends 27 = .ok (.iload_n 3, 1) := dk_29 (dk_at dksX2_ends_1 3 rfl rfl)
theorem dX2_ends_28 : decode cX2_ends 28 = .ok (.aload_n 2, 1) := dk_44 (dk_at dksX2_ends_1 4 rfl rfl)
theorem dX2_ends_29 : decode cX2_ends 29 = .ok (.getfield 72, 3) := dk_180 0 72 (dk_at dksX2_ends_1 5 rfl rfl)
theorem dX2_ends_32 : decode cX2_ends 32 = .ok (.invokevirtual 40, 3) := dk_182 0 40 (dk_at dksX2_ends_1 8 rfl rfl)
theorem dX2_ends_35 : decode cX2_ends 35 = .ok (.if_icmp .ge 37, 3) := dk_162 0 37 (dk_at dksX2_ends_1 11 rfl rfl)
theorem dX2_ends_38 : decode cX2_ends 38 = .ok (.aload_n 0, 1) := dk_42 (dk_at dksX2_ends_1 14 rfl rfl)
theorem dX2_ends_39 : decode cX2_ends 39 = .ok (.getfield 24, 3) := dk_180 0 24 (dk_at dksX2_ends_1 15 rfl rfl)
theorem dX2_ends_42 : decode cX2_ends 42 = .ok (.aload_n 2, 1) := dk_44 (dk_at dksX2_ends_1 18 rfl rfl)
theorem dX2_ends_43 : decode cX2_ends 43 = .ok (.getfield 72, 3) := dk_180 0 72 (dk_at dksX2_ends_1 19 rfl rfl)
theorem dX2_ends_46 : decode cX2_ends 46 = .ok (.iload_n 3, 1) := dk_29 (dk_at dksX2_ends_1 22 rfl rfl)
theorem dX2_ends_47 : decode cX2_ends 47 = .ok (.invokevirtual 44, 3) := dk_182 0 44 (dk_at dksX2_ends_2 0 rfl rfl)
theorem dX2_ends_50 : decode cX2_ends 50 = .ok (.checkcast 73, 3) := dk_192 0 73 (dk_at dksX2_ends_2 3 rfl rfl)
theorem dX2_ends_53 : decode cX2_ends 53 = .ok (.invokevirtual 75, 3) := dk_182 0 75 (dk_at dksX2_ends_2 6 rfl rfl)
theorem dX2_ends_56 : decode cX2_ends 56 = .ok (.pop, 1) := dk_87 (dk_at dksX2_ends_2 9 rfl rfl)
theorem dX2_ends_57 : decode cX2_ends 57 = .ok (.aload_n 0, 1) := dk_42 (dk_at dksX2_ends_2 10 rfl rfl)
theorem dX2_ends_58 : decode cX2_ends 58 = .ok (.getfield 27, 3) := dk_180 0 27 (dk_at dksX2_ends_2 11 rfl rfl)
theorem dX2_ends_61 : decode cX2_ends 61 = .ok (.aload_n 2, 1) := dk_44 (dk_at dksX2_ends_2 14 rfl rfl)
theorem dX2_ends_62 : decode cX2_ends 62 = .ok (.invokevirtual 75, 3) := dk_182 0 75 (dk_at dksX2_ends_2 15 rfl rfl)
theorem dX2_ends_65 : decode cX2_ends 65 = .ok (.pop, 1) := dk_87 (dk_at dksX2_ends_2 18 rfl rfl)
theorem dX2_ends_66 : decode cX2_ends 66 = .ok (.iinc 3 1, 3) := dk_132 3 1 (dk_at dksX2_ends_2 19 rfl rfl)
theorem dX2_ends_69 : decode cX2_ends 69 = .ok (.goto (-42), 3) := dk_167 255 214 (dk_at dksX2_ends_3 0 rfl rfl)
theorem dX2_ends_72 : decode cX2_ends 72 = .ok (.aload_n 0, 1) := dk_42 (dk_at dksX2_ends_3 3 rfl rfl)
theorem dX2_ends_73 : decode cX2_ends 73 = .ok (.aload_n 2, 1) := dk_44 (dk_at dksX2_ends_3 4 rfl rfl)
theorem dX2_ends_74 : decode cX2_ends 74 = .ok (.invokevirtual 78, 3) := dk_182 0 78 (dk_at dksX2_ends_3 5 rfl rfl)
theorem dX2_ends_77 : decode cX2_ends 77 = .ok (.iinc 1 1, 3) := dk_132 1 1 (dk_at dksX2_ends_3 8 rfl rfl)
theorem dX2_ends_80 : decode cX2_ends 80 = .ok (.goto (-78), 3) := dk_167 255 178 (dk_at dksX2_ends_3 11 rfl rfl)
theorem dX2_ends_83 : decode cX2_ends 83 = .ok (.return_, 1) := dk_177 (dk_at dksX2_ends_3 14 rfl rfl)
abbrev cX2_tries : ByteArray := prog_6_method_7_code
def yX2_tries : MethodName := ⟨RX2, "tries", "(LCaseGrouper$Chapter;)V"⟩
def dkwX2_tries_10 : List UInt8 := [167, 255, 123, 44, 89, 180, 0, 102, 4, 96, 181, 0, 102, 167, 255, 95, 177]
abbrev dktX2_tries_10 : List UInt8 := dkwX2_tries_10 ++ []
def dkwX2_tries_9 : List UInt8 := [44, 89, 180, 0, 108, 4, 96, 181, 0, 108, 167, 255, 149, 44, 89, 180, 0, 105, 4, 96, 181, 0, 105]
abbrev dktX2_tries_9 : List UInt8 := dkwX2_tries_9 ++ dktX2_tries_10
def dkwX2_tries_8 : List UInt8 := [44, 43, 180, 0, 115, 182, 0, 119, 4, 181, 0, 123, 132, 12, 1, 167, 255, 215, 132, 8, 1, 167, 255, 183]
abbrev dktX2_tries_8 : List UInt8 := dkwX2_tries_8 ++ dktX2_tries_9
def dkwX2_tries_7 : List UInt8 := [21, 11, 162, 0, 40, 25, 10, 21, 12, 46, 54, 13, 44, 21, 9, 181, 0, 111, 44, 21, 13, 181, 0, 113]
abbrev dktX2_tries_7 : List UInt8 := dkwX2_tries_7 ++ dktX2_tries_8
def dkwX2_tries_6 : List UInt8 := [162, 0, 72, 25, 6, 21, 8, 46, 54, 9, 25, 5, 58, 10, 25, 10, 190, 54, 11, 3, 54, 12, 21, 12]
abbrev dktX2_tries_6 : List UInt8 := dkwX2_tries_6 ++ dktX2_tries_7
def dkwX2_tries_5 : List UInt8 := [180, 0, 108, 16, 9, 163, 0, 104, 25, 4, 58, 6, 25, 6, 190, 54, 7, 3, 54, 8, 21, 8, 21, 7]
abbrev dktX2_tries_5 : List UInt8 := dkwX2_tries_5 ++ dktX2_tries_6
def dkwX2_tries_4 : List UInt8 := [120, 162, 0, 157, 44, 3, 181, 0, 105, 44, 180, 0, 105, 6, 163, 0, 131, 44, 3, 181, 0, 108, 44]
abbrev dktX2_tries_4 : List UInt8 := dkwX2_tries_4 ++ dktX2_tries_5
def dkwX2_tries_3 : List UInt8 := [42, 43, 18, 100, 4, 17, 1, 144, 182, 0, 96, 58, 5, 44, 3, 181, 0, 102, 44, 180, 0, 102, 4, 29]
abbrev dktX2_tries_3 : List UInt8 := dkwX2_tries_3 ++ dktX2_tries_4
def dkwX2_tries_2 : List UInt8 := [167, 0, 4, 3, 96, 62, 132, 4, 1, 167, 255, 215, 42, 43, 18, 94, 3, 16, 120, 182, 0, 96, 58, 4]
abbrev dktX2_tries_2 : List UInt8 := dkwX2_tries_2 ++ dktX2_tries_3
def dkwX2_tries_1 : List UInt8 := [162, 0, 35, 29, 43, 180, 0, 85, 21, 4, 182, 0, 44, 192, 0, 88, 182, 0, 90, 153, 0, 7, 4]
abbrev dktX2_tries_1 : List UInt8 := dkwX2_tries_1 ++ dktX2_tries_2
def dkwX2_tries_0 : List UInt8 := [187, 0, 82, 89, 183, 0, 84, 77, 3, 62, 3, 54, 4, 21, 4, 43, 180, 0, 85, 182, 0, 40]
abbrev dktX2_tries_0 : List UInt8 := dkwX2_tries_0 ++ dktX2_tries_1
theorem dksX2_tries_0 : cX2_tries.data.toList.drop 0 = dktX2_tries_0 := by decide +kernel
theorem dksX2_tries_1 : cX2_tries.data.toList.drop 22 = dktX2_tries_1 := dk_seg dksX2_tries_0 22 rfl rfl
theorem dksX2_tries_2 : cX2_tries.data.toList.drop 45 = dktX2_tries_2 := dk_seg dksX2_tries_1 23 rfl rfl
theorem dksX2_tries_3 : cX2_tries.data.toList.drop 69 = dktX2_tries_3 := dk_seg dksX2_tries_2 24 rfl rfl
theorem dksX2_tries_4 : cX2_tries.data.toList.drop 93 = dktX2_tries_4 := dk_seg dksX2_tries_3 24 rfl rfl
theorem dksX2_tries_5 : cX2_tries.data.toList.drop 116 = dktX2_tries_5 := dk_seg dksX2_tries_4 23 rfl rfl
theorem dksX2_tries_6 : cX2_tries.data.toList.drop 140 = dktX2_tries_6 := dk_seg dksX2_tries_5 24 rfl rfl
theorem dksX2_tries_7 : cX2_tries.data.toList.drop 164 = dktX2_tries_7 := dk_seg dksX2_tries_6 24 rfl rfl
theorem dksX2_tries_8 : cX2_tries.data.toList.drop 188 = dktX2_tries_8 := dk_seg dksX2_tries_7 24 rfl rfl
theorem dksX2_tries_9 : cX2_tries.data.toList.drop 212 = dktX2_tries_9 := dk_seg dksX2_tries_8 24 rfl rfl
theorem dksX2_tries_10 : cX2_tries.data.toList.drop 235 = dktX2_tries_10 := dk_seg dksX2_tries_9 23 rfl rfl
theorem dX2_tries_0 : decode cX2_tries 0 = .ok (.new 82, 3) := dk_187 0 82 (dk_at dksX2_tries_0 0 rfl rfl)
theorem dX2_tries_3 : decode cX2_tries 3 = .ok (.dup, 1) := dk_89 (dk_at dksX2_tries_0 3 rfl rfl)
theorem dX2_tries_4 : decode cX2_tries 4 = .ok (.invokespecial 84, 3) := dk_183 0 84 (dk_at dksX2_tries_0 4 rfl rfl)
theorem dX2_tries_7 : decode cX2_tries 7 = .ok (.astore_n 2, 1) := dk_77 (dk_at dksX2_tries_0 7 rfl rfl)
theorem dX2_tries_8 : decode cX2_tries 8 = .ok (.iconst 0, 1) := dk_3 (dk_at dksX2_tries_0 8 rfl rfl)
theorem dX2_tries_9 : decode cX2_tries 9 = .ok (.istore_n 3, 1) := dk_62 (dk_at dksX2_tries_0 9 rfl rfl)
theorem dX2_tries_10 : decode cX2_tries 10 = .ok (.iconst 0, 1) := dk_3 (dk_at dksX2_tries_0 10 rfl rfl)
theorem dX2_tries_11 : decode cX2_tries 11 = .ok (.istore 4, 2) := dk_54 4 (dk_at dksX2_tries_0 11 rfl rfl)
theorem dX2_tries_13 : decode cX2_tries 13 = .ok (.iload 4, 2) := dk_21 4 (dk_at dksX2_tries_0 13 rfl rfl)
theorem dX2_tries_15 : decode cX2_tries 15 = .ok (.aload_n 1, 1) := dk_43 (dk_at dksX2_tries_0 15 rfl rfl)
theorem dX2_tries_16 : decode cX2_tries 16 = .ok (.getfield 85, 3) := dk_180 0 85 (dk_at dksX2_tries_0 16 rfl rfl)
theorem dX2_tries_19 : decode cX2_tries 19 = .ok (.invokevirtual 40, 3) := dk_182 0 40 (dk_at dksX2_tries_0 19 rfl rfl)
theorem dX2_tries_22 : decode cX2_tries 22 = .ok (.if_icmp .ge 35, 3) := dk_162 0 35 (dk_at dksX2_tries_1 0 rfl rfl)
theorem dX2_tries_25 : decode cX2_tries 25 = .ok (.iload_n 3, 1) := dk_29 (dk_at dksX2_tries_1 3 rfl rfl)
theorem dX2_tries_26 : decode cX2_tries 26 = .ok (.aload_n 1, 1) := dk_43 (dk_at dksX2_tries_1 4 rfl rfl)
theorem dX2_tries_27 : decode cX2_tries 27 = .ok (.getfield 85, 3) := dk_180 0 85 (dk_at dksX2_tries_1 5 rfl rfl)
theorem dX2_tries_30 : decode cX2_tries 30 = .ok (.iload 4, 2) := dk_21 4 (dk_at dksX2_tries_1 8 rfl rfl)
theorem dX2_tries_32 : decode cX2_tries 32 = .ok (.invokevirtual 44, 3) := dk_182 0 44 (dk_at dksX2_tries_1 10 rfl rfl)
theorem dX2_tries_35 : decode cX2_tries 35 = .ok (.checkcast 88, 3) := dk_192 0 88 (dk_at dksX2_tries_1 13 rfl rfl)
theorem dX2_tries_38 : decode cX2_tries 38 = .ok (.invokevirtual 90, 3) := dk_182 0 90 (dk_at dksX2_tries_1 16 rfl rfl)
theorem dX2_tries_41 : decode cX2_tries 41 = .ok (.ifCond .eq 7, 3) := dk_153 0 7 (dk_at dksX2_tries_1 19 rfl rfl)
theorem dX2_tries_44 : decode cX2_tries 44 = .ok (.iconst 1, 1) := dk_4 (dk_at dksX2_tries_1 22 rfl rfl)
theorem dX2_tries_45 : decode cX2_tries 45 = .ok (.goto 4, 3) := dk_167 0 4 (dk_at dksX2_tries_2 0 rfl rfl)
theorem dX2_tries_48 : decode cX2_tries 48 = .ok (.iconst 0, 1) := dk_3 (dk_at dksX2_tries_2 3 rfl rfl)
theorem dX2_tries_49 : decode cX2_tries 49 = .ok (.iadd, 1) := dk_96 (dk_at dksX2_tries_2 4 rfl rfl)
theorem dX2_tries_50 : decode cX2_tries 50 = .ok (.istore_n 3, 1) := dk_62 (dk_at dksX2_tries_2 5 rfl rfl)
theorem dX2_tries_51 : decode cX2_tries 51 = .ok (.iinc 4 1, 3) := dk_132 4 1 (dk_at dksX2_tries_2 6 rfl rfl)
theorem dX2_tries_54 : decode cX2_tries 54 = .ok (.goto (-41), 3) := dk_167 255 215 (dk_at dksX2_tries_2 9 rfl rfl)
theorem dX2_tries_57 : decode cX2_tries 57 = .ok (.aload_n 0, 1) := dk_42 (dk_at dksX2_tries_2 12 rfl rfl)
theorem dX2_tries_58 : decode cX2_tries 58 = .ok (.aload_n 1, 1) := dk_43 (dk_at dksX2_tries_2 13 rfl rfl)
theorem dX2_tries_59 : decode cX2_tries 59 = .ok (.ldc 94, 2) := dk_18 94 (dk_at dksX2_tries_2 14 rfl rfl)
theorem dX2_tries_61 : decode cX2_tries 61 = .ok (.iconst 0, 1) := dk_3 (dk_at dksX2_tries_2 16 rfl rfl)
theorem dX2_tries_62 : decode cX2_tries 62 = .ok (.bipush 120, 2) := dk_16 120 (dk_at dksX2_tries_2 17 rfl rfl)
theorem dX2_tries_64 : decode cX2_tries 64 = .ok (.invokevirtual 96, 3) := dk_182 0 96 (dk_at dksX2_tries_2 19 rfl rfl)
theorem dX2_tries_67 : decode cX2_tries 67 = .ok (.astore 4, 2) := dk_58 4 (dk_at dksX2_tries_2 22 rfl rfl)
theorem dX2_tries_69 : decode cX2_tries 69 = .ok (.aload_n 0, 1) := dk_42 (dk_at dksX2_tries_3 0 rfl rfl)
theorem dX2_tries_70 : decode cX2_tries 70 = .ok (.aload_n 1, 1) := dk_43 (dk_at dksX2_tries_3 1 rfl rfl)
theorem dX2_tries_71 : decode cX2_tries 71 = .ok (.ldc 100, 2) := dk_18 100 (dk_at dksX2_tries_3 2 rfl rfl)
theorem dX2_tries_73 : decode cX2_tries 73 = .ok (.iconst 1, 1) := dk_4 (dk_at dksX2_tries_3 4 rfl rfl)
theorem dX2_tries_74 : decode cX2_tries 74 = .ok (.sipush 400, 3) := dk_17 1 144 (dk_at dksX2_tries_3 5 rfl rfl)
theorem dX2_tries_77 : decode cX2_tries 77 = .ok (.invokevirtual 96, 3) := dk_182 0 96 (dk_at dksX2_tries_3 8 rfl rfl)
theorem dX2_tries_80 : decode cX2_tries 80 = .ok (.astore 5, 2) := dk_58 5 (dk_at dksX2_tries_3 11 rfl rfl)
theorem dX2_tries_82 : decode cX2_tries 82 = .ok (.aload_n 2, 1) := dk_44 (dk_at dksX2_tries_3 13 rfl rfl)
theorem dX2_tries_83 : decode cX2_tries 83 = .ok (.iconst 0, 1) := dk_3 (dk_at dksX2_tries_3 14 rfl rfl)
theorem dX2_tries_84 : decode cX2_tries 84 = .ok (.putfield 102, 3) := dk_181 0 102 (dk_at dksX2_tries_3 15 rfl rfl)
theorem dX2_tries_87 : decode cX2_tries 87 = .ok (.aload_n 2, 1) := dk_44 (dk_at dksX2_tries_3 18 rfl rfl)
theorem dX2_tries_88 : decode cX2_tries 88 = .ok (.getfield 102, 3) := dk_180 0 102 (dk_at dksX2_tries_3 19 rfl rfl)
theorem dX2_tries_91 : decode cX2_tries 91 = .ok (.iconst 1, 1) := dk_4 (dk_at dksX2_tries_3 22 rfl rfl)
theorem dX2_tries_92 : decode cX2_tries 92 = .ok (.iload_n 3, 1) := dk_29 (dk_at dksX2_tries_3 23 rfl rfl)
theorem dX2_tries_93 : decode cX2_tries 93 = .ok (.ishl, 1) := dk_120 (dk_at dksX2_tries_4 0 rfl rfl)
theorem dX2_tries_94 : decode cX2_tries 94 = .ok (.if_icmp .ge 157, 3) := dk_162 0 157 (dk_at dksX2_tries_4 1 rfl rfl)
theorem dX2_tries_97 : decode cX2_tries 97 = .ok (.aload_n 2, 1) := dk_44 (dk_at dksX2_tries_4 4 rfl rfl)
theorem dX2_tries_98 : decode cX2_tries 98 = .ok (.iconst 0, 1) := dk_3 (dk_at dksX2_tries_4 5 rfl rfl)
theorem dX2_tries_99 : decode cX2_tries 99 = .ok (.putfield 105, 3) := dk_181 0 105 (dk_at dksX2_tries_4 6 rfl rfl)
theorem dX2_tries_102 : decode cX2_tries 102 = .ok (.aload_n 2, 1) := dk_44 (dk_at dksX2_tries_4 9 rfl rfl)
theorem dX2_tries_103 : decode cX2_tries 103 = .ok (.getfield 105, 3) := dk_180 0 105 (dk_at dksX2_tries_4 10 rfl rfl)
theorem dX2_tries_106 : decode cX2_tries 106 = .ok (.iconst 3, 1) := dk_6 (dk_at dksX2_tries_4 13 rfl rfl)
theorem dX2_tries_107 : decode cX2_tries 107 = .ok (.if_icmp .gt 131, 3) := dk_163 0 131 (dk_at dksX2_tries_4 14 rfl rfl)
theorem dX2_tries_110 : decode cX2_tries 110 = .ok (.aload_n 2, 1) := dk_44 (dk_at dksX2_tries_4 17 rfl rfl)
theorem dX2_tries_111 : decode cX2_tries 111 = .ok (.iconst 0, 1) := dk_3 (dk_at dksX2_tries_4 18 rfl rfl)
theorem dX2_tries_112 : decode cX2_tries 112 = .ok (.putfield 108, 3) := dk_181 0 108 (dk_at dksX2_tries_4 19 rfl rfl)
theorem dX2_tries_115 : decode cX2_tries 115 = .ok (.aload_n 2, 1) := dk_44 (dk_at dksX2_tries_4 22 rfl rfl)
theorem dX2_tries_116 : decode cX2_tries 116 = .ok (.getfield 108, 3) := dk_180 0 108 (dk_at dksX2_tries_5 0 rfl rfl)
theorem dX2_tries_119 : decode cX2_tries 119 = .ok (.bipush 9, 2) := dk_16 9 (dk_at dksX2_tries_5 3 rfl rfl)
theorem dX2_tries_121 : decode cX2_tries 121 = .ok (.if_icmp .gt 104, 3) := dk_163 0 104 (dk_at dksX2_tries_5 5 rfl rfl)
theorem dX2_tries_124 : decode cX2_tries 124 = .ok (.aload 4, 2) := dk_25 4 (dk_at dksX2_tries_5 8 rfl rfl)
theorem dX2_tries_126 : decode cX2_tries 126 = .ok (.astore 6, 2) := dk_58 6 (dk_at dksX2_tries_5 10 rfl rfl)
theorem dX2_tries_128 : decode cX2_tries 128 = .ok (.aload 6, 2) := dk_25 6 (dk_at dksX2_tries_5 12 rfl rfl)
theorem dX2_tries_130 : decode cX2_tries 130 = .ok (.arraylength, 1) := dk_190 (dk_at dksX2_tries_5 14 rfl rfl)
theorem dX2_tries_131 : decode cX2_tries 131 = .ok (.istore 7, 2) := dk_54 7 (dk_at dksX2_tries_5 15 rfl rfl)
theorem dX2_tries_133 : decode cX2_tries 133 = .ok (.iconst 0, 1) := dk_3 (dk_at dksX2_tries_5 17 rfl rfl)
theorem dX2_tries_134 : decode cX2_tries 134 = .ok (.istore 8, 2) := dk_54 8 (dk_at dksX2_tries_5 18 rfl rfl)
theorem dX2_tries_136 : decode cX2_tries 136 = .ok (.iload 8, 2) := dk_21 8 (dk_at dksX2_tries_5 20 rfl rfl)
theorem dX2_tries_138 : decode cX2_tries 138 = .ok (.iload 7, 2) := dk_21 7 (dk_at dksX2_tries_5 22 rfl rfl)
theorem dX2_tries_140 : decode cX2_tries 140 = .ok (.if_icmp .ge 72, 3) := dk_162 0 72 (dk_at dksX2_tries_6 0 rfl rfl)
theorem dX2_tries_143 : decode cX2_tries 143 = .ok (.aload 6, 2) := dk_25 6 (dk_at dksX2_tries_6 3 rfl rfl)
theorem dX2_tries_145 : decode cX2_tries 145 = .ok (.iload 8, 2) := dk_21 8 (dk_at dksX2_tries_6 5 rfl rfl)
theorem dX2_tries_147 : decode cX2_tries 147 = .ok (.iaload, 1) := dk_46 (dk_at dksX2_tries_6 7 rfl rfl)
theorem dX2_tries_148 : decode cX2_tries 148 = .ok (.istore 9, 2) := dk_54 9 (dk_at dksX2_tries_6 8 rfl rfl)
theorem dX2_tries_150 : decode cX2_tries 150 = .ok (.aload 5, 2) := dk_25 5 (dk_at dksX2_tries_6 10 rfl rfl)
theorem dX2_tries_152 : decode cX2_tries 152 = .ok (.astore 10, 2) := dk_58 10 (dk_at dksX2_tries_6 12 rfl rfl)
theorem dX2_tries_154 : decode cX2_tries 154 = .ok (.aload 10, 2) := dk_25 10 (dk_at dksX2_tries_6 14 rfl rfl)
theorem dX2_tries_156 : decode cX2_tries 156 = .ok (.arraylength, 1) := dk_190 (dk_at dksX2_tries_6 16 rfl rfl)
theorem dX2_tries_157 : decode cX2_tries 157 = .ok (.istore 11, 2) := dk_54 11 (dk_at dksX2_tries_6 17 rfl rfl)
theorem dX2_tries_159 : decode cX2_tries 159 = .ok (.iconst 0, 1) := dk_3 (dk_at dksX2_tries_6 19 rfl rfl)
theorem dX2_tries_160 : decode cX2_tries 160 = .ok (.istore 12, 2) := dk_54 12 (dk_at dksX2_tries_6 20 rfl rfl)
theorem dX2_tries_162 : decode cX2_tries 162 = .ok (.iload 12, 2) := dk_21 12 (dk_at dksX2_tries_6 22 rfl rfl)
theorem dX2_tries_164 : decode cX2_tries 164 = .ok (.iload 11, 2) := dk_21 11 (dk_at dksX2_tries_7 0 rfl rfl)
theorem dX2_tries_166 : decode cX2_tries 166 = .ok (.if_icmp .ge 40, 3) := dk_162 0 40 (dk_at dksX2_tries_7 2 rfl rfl)
theorem dX2_tries_169 : decode cX2_tries 169 = .ok (.aload 10, 2) := dk_25 10 (dk_at dksX2_tries_7 5 rfl rfl)
theorem dX2_tries_171 : decode cX2_tries 171 = .ok (.iload 12, 2) := dk_21 12 (dk_at dksX2_tries_7 7 rfl rfl)
theorem dX2_tries_173 : decode cX2_tries 173 = .ok (.iaload, 1) := dk_46 (dk_at dksX2_tries_7 9 rfl rfl)
theorem dX2_tries_174 : decode cX2_tries 174 = .ok (.istore 13, 2) := dk_54 13 (dk_at dksX2_tries_7 10 rfl rfl)
theorem dX2_tries_176 : decode cX2_tries 176 = .ok (.aload_n 2, 1) := dk_44 (dk_at dksX2_tries_7 12 rfl rfl)
theorem dX2_tries_177 : decode cX2_tries 177 = .ok (.iload 9, 2) := dk_21 9 (dk_at dksX2_tries_7 13 rfl rfl)
theorem dX2_tries_179 : decode cX2_tries 179 = .ok (.putfield 111, 3) := dk_181 0 111 (dk_at dksX2_tries_7 15 rfl rfl)
theorem dX2_tries_182 : decode cX2_tries 182 = .ok (.aload_n 2, 1) := dk_44 (dk_at dksX2_tries_7 18 rfl rfl)
theorem dX2_tries_183 : decode cX2_tries 183 = .ok (.iload 13, 2) := dk_21 13 (dk_at dksX2_tries_7 19 rfl rfl)
theorem dX2_tries_185 : decode cX2_tries 185 = .ok (.putfield 113, 3) := dk_181 0 113 (dk_at dksX2_tries_7 21 rfl rfl)
theorem dX2_tries_188 : decode cX2_tries 188 = .ok (.aload_n 2, 1) := dk_44 (dk_at dksX2_tries_8 0 rfl rfl)
theorem dX2_tries_189 : decode cX2_tries 189 = .ok (.aload_n 1, 1) := dk_43 (dk_at dksX2_tries_8 1 rfl rfl)
theorem dX2_tries_190 : decode cX2_tries 190 = .ok (.getfield 115, 3) := dk_180 0 115 (dk_at dksX2_tries_8 2 rfl rfl)
theorem dX2_tries_193 : decode cX2_tries 193 = .ok (.invokevirtual 119, 3) := dk_182 0 119 (dk_at dksX2_tries_8 5 rfl rfl)
theorem dX2_tries_196 : decode cX2_tries 196 = .ok (.iconst 1, 1) := dk_4 (dk_at dksX2_tries_8 8 rfl rfl)
theorem dX2_tries_197 : decode cX2_tries 197 = .ok (.putfield 123, 3) := dk_181 0 123 (dk_at dksX2_tries_8 9 rfl rfl)
theorem dX2_tries_200 : decode cX2_tries 200 = .ok (.iinc 12 1, 3) := dk_132 12 1 (dk_at dksX2_tries_8 12 rfl rfl)
theorem dX2_tries_203 : decode cX2_tries 203 = .ok (.goto (-41), 3) := dk_167 255 215 (dk_at dksX2_tries_8 15 rfl rfl)
theorem dX2_tries_206 : decode cX2_tries 206 = .ok (.iinc 8 1, 3) := dk_132 8 1 (dk_at dksX2_tries_8 18 rfl rfl)
theorem dX2_tries_209 : decode cX2_tries 209 = .ok (.goto (-73), 3) := dk_167 255 183 (dk_at dksX2_tries_8 21 rfl rfl)
theorem dX2_tries_212 : decode cX2_tries 212 = .ok (.aload_n 2, 1) := dk_44 (dk_at dksX2_tries_9 0 rfl rfl)
theorem dX2_tries_213 : decode cX2_tries 213 = .ok (.dup, 1) := dk_89 (dk_at dksX2_tries_9 1 rfl rfl)
theorem dX2_tries_214 : decode cX2_tries 214 = .ok (.getfield 108, 3) := dk_180 0 108 (dk_at dksX2_tries_9 2 rfl rfl)
theorem dX2_tries_217 : decode cX2_tries 217 = .ok (.iconst 1, 1) := dk_4 (dk_at dksX2_tries_9 5 rfl rfl)
theorem dX2_tries_218 : decode cX2_tries 218 = .ok (.iadd, 1) := dk_96 (dk_at dksX2_tries_9 6 rfl rfl)
theorem dX2_tries_219 : decode cX2_tries 219 = .ok (.putfield 108, 3) := dk_181 0 108 (dk_at dksX2_tries_9 7 rfl rfl)
theorem dX2_tries_222 : decode cX2_tries 222 = .ok (.goto (-107), 3) := dk_167 255 149 (dk_at dksX2_tries_9 10 rfl rfl)
theorem dX2_tries_225 : decode cX2_tries 225 = .ok (.aload_n 2, 1) := dk_44 (dk_at dksX2_tries_9 13 rfl rfl)
theorem dX2_tries_226 : decode cX2_tries 226 = .ok (.dup, 1) := dk_89 (dk_at dksX2_tries_9 14 rfl rfl)
theorem dX2_tries_227 : decode cX2_tries 227 = .ok (.getfield 105, 3) := dk_180 0 105 (dk_at dksX2_tries_9 15 rfl rfl)
theorem dX2_tries_230 : decode cX2_tries 230 = .ok (.iconst 1, 1) := dk_4 (dk_at dksX2_tries_9 18 rfl rfl)
theorem dX2_tries_231 : decode cX2_tries 231 = .ok (.iadd, 1) := dk_96 (dk_at dksX2_tries_9 19 rfl rfl)
theorem dX2_tries_232 : decode cX2_tries 232 = .ok (.putfield 105, 3) := dk_181 0 105 (dk_at dksX2_tries_9 20 rfl rfl)
theorem dX2_tries_235 : decode cX2_tries 235 = .ok (.goto (-133), 3) := dk_167 255 123 (dk_at dksX2_tries_10 0 rfl rfl)
theorem dX2_tries_238 : decode cX2_tries 238 = .ok (.aload_n 2, 1) := dk_44 (dk_at dksX2_tries_10 3 rfl rfl)
theorem dX2_tries_239 : decode cX2_tries 239 = .ok (.dup, 1) := dk_89 (dk_at dksX2_tries_10 4 rfl rfl)
theorem dX2_tries_240 : decode cX2_tries 240 = .ok (.getfield 102, 3) := dk_180 0 102 (dk_at dksX2_tries_10 5 rfl rfl)
theorem dX2_tries_243 : decode cX2_tries 243 = .ok (.iconst 1, 1) := dk_4 (dk_at dksX2_tries_10 8 rfl rfl)
theorem dX2_tries_244 : decode cX2_tries 244 = .ok (.iadd, 1) := dk_96 (dk_at dksX2_tries_10 9 rfl rfl)
theorem dX2_tries_245 : decode cX2_tries 245 = .ok (.putfield 102, 3) := dk_181 0 102 (dk_at dksX2_tries_10 10 rfl rfl)
theorem dX2_tries_248 : decode cX2_tries 248 = .ok (.goto (-161), 3) := dk_167 255 95 (dk_at dksX2_tries_10 13 rfl rfl)
theorem dX2_tries_251 : decode cX2_tries 251 = .ok (.return_, 1) := dk_177 (dk_at dksX2_tries_10 16 rfl rfl)
abbrev cX2_turns : ByteArray := prog_6_method_8_code
def yX2_turns : MethodName := ⟨RX2, "turns", "(LCaseGrouper$Chapter;Ljava/lang/String;II)[I"⟩
def dkwX2_turns_7 : List UInt8 := [167, 255, 227, 25, 6, 176]
abbrev dktX2_turns_7 : List UInt8 := dkwX2_turns_7 ++ []
def dkwX2_turns_6 : List UInt8 := [162, 0, 27, 25, 6, 21, 7, 25, 5, 21, 7, 182, 0, 44, 192, 0, 128, 182, 0, 146, 79, 132, 7, 1]
abbrev dktX2_turns_6 : List UInt8 := dkwX2_turns_6 ++ dktX2_turns_7
def dkwX2_turns_5 : List UInt8 := [132, 6, 1, 167, 255, 158, 25, 5, 182, 0, 40, 188, 10, 58, 6, 3, 54, 7, 21, 7, 25, 6, 190]
abbrev dktX2_turns_5 : List UInt8 := dkwX2_turns_5 ++ dktX2_turns_6
def dkwX2_turns_4 : List UInt8 := [21, 8, 29, 21, 4, 184, 0, 142, 153, 0, 14, 25, 5, 21, 8, 184, 0, 127, 182, 0, 75, 87]
abbrev dktX2_turns_4 : List UInt8 := dkwX2_turns_4 ++ dktX2_turns_5
def dkwX2_turns_3 : List UInt8 := [96, 54, 8, 25, 7, 182, 0, 90, 154, 0, 37, 25, 7, 180, 0, 139, 44, 182, 0, 54, 153, 0, 25]
abbrev dktX2_turns_3 : List UInt8 := dkwX2_turns_3 ++ dktX2_turns_4
def dkwX2_turns_2 : List UInt8 := [25, 7, 180, 0, 133, 16, 60, 160, 0, 11, 25, 7, 180, 0, 136, 167, 0, 10, 25, 7, 180, 0, 136, 4]
abbrev dktX2_turns_2 : List UInt8 := dkwX2_turns_2 ++ dktX2_turns_3
def dkwX2_turns_1 : List UInt8 := [43, 180, 0, 85, 182, 0, 40, 162, 0, 92, 43, 180, 0, 85, 21, 6, 182, 0, 44, 192, 0, 88, 58, 7]
abbrev dktX2_turns_1 : List UInt8 := dkwX2_turns_1 ++ dktX2_turns_2
def dkwX2_turns_0 : List UInt8 := [187, 0, 9, 89, 183, 0, 11, 58, 5, 25, 5, 29, 184, 0, 127, 182, 0, 75, 87, 3, 54, 6, 21, 6]
abbrev dktX2_turns_0 : List UInt8 := dkwX2_turns_0 ++ dktX2_turns_1
theorem dksX2_turns_0 : cX2_turns.data.toList.drop 0 = dktX2_turns_0 := by decide +kernel
theorem dksX2_turns_1 : cX2_turns.data.toList.drop 24 = dktX2_turns_1 := dk_seg dksX2_turns_0 24 rfl rfl
theorem dksX2_turns_2 : cX2_turns.data.toList.drop 48 = dktX2_turns_2 := dk_seg dksX2_turns_1 24 rfl rfl
theorem dksX2_turns_3 : cX2_turns.data.toList.drop 72 = dktX2_turns_3 := dk_seg dksX2_turns_2 24 rfl rfl
theorem dksX2_turns_4 : cX2_turns.data.toList.drop 95 = dktX2_turns_4 := dk_seg dksX2_turns_3 23 rfl rfl
theorem dksX2_turns_5 : cX2_turns.data.toList.drop 117 = dktX2_turns_5 := dk_seg dksX2_turns_4 22 rfl rfl
theorem dksX2_turns_6 : cX2_turns.data.toList.drop 140 = dktX2_turns_6 := dk_seg dksX2_turns_5 23 rfl rfl
theorem dksX2_turns_7 : cX2_turns.data.toList.drop 164 = dktX2_turns_7 := dk_seg dksX2_turns_6 24 rfl rfl
theorem dX2_turns_0 : decode cX2_turns 0 = .ok (.new 9, 3) := dk_187 0 9 (dk_at dksX2_turns_0 0 rfl rfl)
theorem dX2_turns_3 : decode cX2_turns 3 = .ok (.dup, 1) := dk_89 (dk_at dksX2_turns_0 3 rfl rfl)
theorem dX2_turns_4 : decode cX2_turns 4 = .ok (.invokespecial 11, 3) := dk_183 0 11 (dk_at dksX2_turns_0 4 rfl rfl)
theorem dX2_turns_7 : decode cX2_turns 7 = .ok (.astore 5, 2) := dk_58 5 (dk_at dksX2_turns_0 7 rfl rfl)
theorem dX2_turns_9 : decode cX2_turns 9 = .ok (.aload 5, 2) := dk_25 5 (dk_at dksX2_turns_0 9 rfl rfl)
theorem dX2_turns_11 : decode cX2_turns 11 = .ok (.iload_n 3, 1) := dk_29 (dk_at dksX2_turns_0 11 rfl rfl)
theorem dX2_turns_12 : decode cX2_turns 12 = .ok (.invokestatic 127, 3) := dk_184 0 127 (dk_at dksX2_turns_0 12 rfl rfl)
theorem dX2_turns_15 : decode cX2_turns 15 = .ok (.invokevirtual 75, 3) := dk_182 0 75 (dk_at dksX2_turns_0 15 rfl rfl)
theorem dX2_turns_18 : decode cX2_turns 18 = .ok (.pop, 1) := dk_87 (dk_at dksX2_turns_0 18 rfl rfl)
theorem dX2_turns_19 : decode cX2_turns 19 = .ok (.iconst 0, 1) := dk_3 (dk_at dksX2_turns_0 19 rfl rfl)
theorem dX2_turns_20 : decode cX2_turns 20 = .ok (.istore 6, 2) := dk_54 6 (dk_at dksX2_turns_0 20 rfl rfl)
theorem dX2_turns_22 : decode cX2_turns 22 = .ok (.iload 6, 2) := dk_21 6 (dk_at dksX2_turns_0 22 rfl rfl)
theorem dX2_turns_24 : decode cX2_turns 24 = .ok (.aload_n 1, 1) := dk_43 (dk_at dksX2_turns_1 0 rfl rfl)
theorem dX2_turns_25 : decode cX2_turns 25 = .ok (.getfield 85, 3) := dk_180 0 85 (dk_at dksX2_turns_1 1 rfl rfl)
theorem dX2_turns_28 : decode cX2_turns 28 = .ok (.invokevirtual 40, 3) := dk_182 0 40 (dk_at dksX2_turns_1 4 rfl rfl)
theorem dX2_turns_31 : decode cX2_turns 31 = .ok (.if_icmp .ge 92, 3) := dk_162 0 92 (dk_at dksX2_turns_1 7 rfl rfl)
theorem dX2_turns_34 : decode cX2_turns 34 = .ok (.aload_n 1, 1) := dk_43 (dk_at dksX2_turns_1 10 rfl rfl)
theorem dX2_turns_35 : decode cX2_turns 35 = .ok (.getfield 85, 3) := dk_180 0 85 (dk_at dksX2_turns_1 11 rfl rfl)
theorem dX2_turns_38 : decode cX2_turns 38 = .ok (.iload 6, 2) := dk_21 6 (dk_at dksX2_turns_1 14 rfl rfl)
theorem dX2_turns_40 : decode cX2_turns 40 = .ok (.invokevirtual 44, 3) := dk_182 0 44 (dk_at dksX2_turns_1 16 rfl rfl)
theorem dX2_turns_43 : decode cX2_turns 43 = .ok (.checkcast 88, 3) := dk_192 0 88 (dk_at dksX2_turns_1 19 rfl rfl)
theorem dX2_turns_46 : decode cX2_turns 46 = .ok (.astore 7, 2) := dk_58 7 (dk_at dksX2_turns_1 22 rfl rfl)
theorem dX2_turns_48 : decode cX2_turns 48 = .ok (.aload 7, 2) := dk_25 7 (dk_at dksX2_turns_2 0 rfl rfl)
theorem dX2_turns_50 : decode cX2_turns 50 = .ok (.getfield 133, 3) := dk_180 0 133 (dk_at dksX2_turns_2 2 rfl rfl)
theorem dX2_turns_53 : decode cX2_turns 53 = .ok (.bipush 60, 2) := dk_16 60 (dk_at dksX2_turns_2 5 rfl rfl)
theorem dX2_turns_55 : decode cX2_turns 55 = .ok (.if_icmp .ne 11, 3) := dk_160 0 11 (dk_at dksX2_turns_2 7 rfl rfl)
theorem dX2_turns_58 : decode cX2_turns 58 = .ok (.aload 7, 2) := dk_25 7 (dk_at dksX2_turns_2 10 rfl rfl)
theorem dX2_turns_60 : decode cX2_turns 60 = .ok (.getfield 136, 3) := dk_180 0 136 (dk_at dksX2_turns_2 12 rfl rfl)
theorem dX2_turns_63 : decode cX2_turns 63 = .ok (.goto 10, 3) := dk_167 0 10 (dk_at dksX2_turns_2 15 rfl rfl)
theorem dX2_turns_66 : decode cX2_turns 66 = .ok (.aload 7, 2) := dk_25 7 (dk_at dksX2_turns_2 18 rfl rfl)
theorem dX2_turns_68 : decode cX2_turns 68 = .ok (.getfield 136, 3) := dk_180 0 136 (dk_at dksX2_turns_2 20 rfl rfl)
theorem dX2_turns_71 : decode cX2_turns 71 = .ok (.iconst 1, 1) := dk_4 (dk_at dksX2_turns_2 23 rfl rfl)
theorem dX2_turns_72 : decode cX2_turns 72 = .ok (.iadd, 1) := dk_96 (dk_at dksX2_turns_3 0 rfl rfl)
theorem dX2_turns_73 : decode cX2_turns 73 = .ok (.istore 8, 2) := dk_54 8 (dk_at dksX2_turns_3 1 rfl rfl)
theorem dX2_turns_75 : decode cX2_turns 75 = .ok (.aload 7, 2) := dk_25 7 (dk_at dksX2_turns_3 3 rfl rfl)
theorem dX2_turns_77 : decode cX2_turns 77 = .ok (.invokevirtual 90, 3) := dk_182 0 90 (dk_at dksX2_turns_3 5 rfl rfl)
theorem dX2_turns_80 : decode cX2_turns 80 = .ok (.ifCond .ne 37, 3) := dk_154 0 37 (dk_at dksX2_turns_3 8 rfl rfl)
theorem dX2_turns_83 : decode cX2_turns 83 = .ok (.aload 7, 2) := dk_25 7 (dk_at dksX2_turns_3 11 rfl rfl)
theorem dX2_turns_85 : decode cX2_turns 85 = .ok (.getfield 139, 3) := dk_180 0 139 (dk_at dksX2_turns_3 13 rfl rfl)
theorem dX2_turns_88 : decode cX2_turns 88 = .ok (.aload_n 2, 1) := dk_44 (dk_at dksX2_turns_3 16 rfl rfl)
theorem dX2_turns_89 : decode cX2_turns 89 = .ok (.invokevirtual 54, 3) := dk_182 0 54 (dk_at dksX2_turns_3 17 rfl rfl)
theorem dX2_turns_92 : decode cX2_turns 92 = .ok (.ifCond .eq 25, 3) := dk_153 0 25 (dk_at dksX2_turns_3 20 rfl rfl)
theorem dX2_turns_95 : decode cX2_turns 95 = .ok (.iload 8, 2) := dk_21 8 (dk_at dksX2_turns_4 0 rfl rfl)
theorem dX2_turns_97 : decode cX2_turns 97 = .ok (.iload_n 3, 1) := dk_29 (dk_at dksX2_turns_4 2 rfl rfl)
theorem dX2_turns_98 : decode cX2_turns 98 = .ok (.iload 4, 2) := dk_21 4 (dk_at dksX2_turns_4 3 rfl rfl)
theorem dX2_turns_100 : decode cX2_turns 100 = .ok (.invokestatic 142, 3) := dk_184 0 142 (dk_at dksX2_turns_4 5 rfl rfl)
theorem dX2_turns_103 : decode cX2_turns 103 = .ok (.ifCond .eq 14, 3) := dk_153 0 14 (dk_at dksX2_turns_4 8 rfl rfl)
theorem dX2_turns_106 : decode cX2_turns 106 = .ok (.aload 5, 2) := dk_25 5 (dk_at dksX2_turns_4 11 rfl rfl)
theorem dX2_turns_108 : decode cX2_turns 108 = .ok (.iload 8, 2) := dk_21 8 (dk_at dksX2_turns_4 13 rfl rfl)
theorem dX2_turns_110 : decode cX2_turns 110 = .ok (.invokestatic 127, 3) := dk_184 0 127 (dk_at dksX2_turns_4 15 rfl rfl)
theorem dX2_turns_113 : decode cX2_turns 113 = .ok (.invokevirtual 75, 3) := dk_182 0 75 (dk_at dksX2_turns_4 18 rfl rfl)
theorem dX2_turns_116 : decode cX2_turns 116 = .ok (.pop, 1) := dk_87 (dk_at dksX2_turns_4 21 rfl rfl)
theorem dX2_turns_117 : decode cX2_turns 117 = .ok (.iinc 6 1, 3) := dk_132 6 1 (dk_at dksX2_turns_5 0 rfl rfl)
theorem dX2_turns_120 : decode cX2_turns 120 = .ok (.goto (-98), 3) := dk_167 255 158 (dk_at dksX2_turns_5 3 rfl rfl)
theorem dX2_turns_123 : decode cX2_turns 123 = .ok (.aload 5, 2) := dk_25 5 (dk_at dksX2_turns_5 6 rfl rfl)
theorem dX2_turns_125 : decode cX2_turns 125 = .ok (.invokevirtual 40, 3) := dk_182 0 40 (dk_at dksX2_turns_5 8 rfl rfl)
theorem dX2_turns_128 : decode cX2_turns 128 = .ok (.newarray .int, 2) := dk_188_10 (dk_at dksX2_turns_5 11 rfl rfl)
theorem dX2_turns_130 : decode cX2_turns 130 = .ok (.astore 6, 2) := dk_58 6 (dk_at dksX2_turns_5 13 rfl rfl)
theorem dX2_turns_132 : decode cX2_turns 132 = .ok (.iconst 0, 1) := dk_3 (dk_at dksX2_turns_5 15 rfl rfl)
theorem dX2_turns_133 : decode cX2_turns 133 = .ok (.istore 7, 2) := dk_54 7 (dk_at dksX2_turns_5 16 rfl rfl)
theorem dX2_turns_135 : decode cX2_turns 135 = .ok (.iload 7, 2) := dk_21 7 (dk_at dksX2_turns_5 18 rfl rfl)
theorem dX2_turns_137 : decode cX2_turns 137 = .ok (.aload 6, 2) := dk_25 6 (dk_at dksX2_turns_5 20 rfl rfl)
theorem dX2_turns_139 : decode cX2_turns 139 = .ok (.arraylength, 1) := dk_190 (dk_at dksX2_turns_5 22 rfl rfl)
theorem dX2_turns_140 : decode cX2_turns 140 = .ok (.if_icmp .ge 27, 3) := dk_162 0 27 (dk_at dksX2_turns_6 0 rfl rfl)
theorem dX2_turns_143 : decode cX2_turns 143 = .ok (.aload 6, 2) := dk_25 6 (dk_at dksX2_turns_6 3 rfl rfl)
theorem dX2_turns_145 : decode cX2_turns 145 = .ok (.iload 7, 2) := dk_21 7 (dk_at dksX2_turns_6 5 rfl rfl)
theorem dX2_turns_147 : decode cX2_turns 147 = .ok (.aload 5, 2) := dk_25 5 (dk_at dksX2_turns_6 7 rfl rfl)
theorem dX2_turns_149 : decode cX2_turns 149 = .ok (.iload 7, 2) := dk_21 7 (dk_at dksX2_turns_6 9 rfl rfl)
theorem dX2_turns_151 : decode cX2_turns 151 = .ok (.invokevirtual 44, 3) := dk_182 0 44 (dk_at dksX2_turns_6 11 rfl rfl)
theorem dX2_turns_154 : decode cX2_turns 154 = .ok (.checkcast 128, 3) := dk_192 0 128 (dk_at dksX2_turns_6 14 rfl rfl)
theorem dX2_turns_157 : decode cX2_turns 157 = .ok (.invokevirtual 146, 3) := dk_182 0 146 (dk_at dksX2_turns_6 17 rfl rfl)
theorem dX2_turns_160 : decode cX2_turns 160 = .ok (.iastore, 1) := dk_79 (dk_at dksX2_turns_6 20 rfl rfl)
theorem dX2_turns_161 : decode cX2_turns 161 = .ok (.iinc 7 1, 3) := dk_132 7 1 (dk_at dksX2_turns_6 21 rfl rfl)
theorem dX2_turns_164 : decode cX2_turns 164 = .ok (.goto (-29), 3) := dk_167 255 227 (dk_at dksX2_turns_7 0 rfl rfl)
theorem dX2_turns_167 : decode cX2_turns 167 = .ok (.aload 6, 2) := dk_25 6 (dk_at dksX2_turns_7 3 rfl rfl)
theorem dX2_turns_169 : decode cX2_turns 169 = .ok (.areturn, 1) := dk_176 (dk_at dksX2_turns_7 5 rfl rfl)
theorem q125 : (Jvm.Cond.initialized "CaseGrouper$Edition") ∈ lw_all := lw_g (lw_at lw_m1 5 rfl) rfl
theorem q197 : (Jvm.Cond.instantiable "CaseGrouper$Edition" (9 : Nat)) ∈ lw_all := lw_g (lw_at lw_m1 77 rfl) rfl
theorem q199 : (Jvm.Cond.instanceMethod ({ cls := "CaseGrouper$Edition", name := "<init>", desc := "()V" } : Jvm.MethodName)) ∈ lw_all := lw_g (lw_at lw_m1 79 rfl) rfl
theorem q200 : (Jvm.Cond.code ({ cls := "CaseGrouper$Edition", name := "<init>", desc := "()V" } : Jvm.MethodName) prog_6_method_1_code (1 : Nat) (Option.none : Option Jvm.ClassFile.FieldType)) ∈ lw_all := lw_g (lw_at lw_m1 80 rfl) rfl
theorem q201 : (Jvm.Cond.methodLink "CaseGrouper$Edition" (3 : Nat) ({ cls := "java/lang/Object", name := "<init>", desc := "()V" } : Jvm.MethodName)) ∈ lw_all := lw_g (lw_at lw_m1 81 rfl) rfl
theorem q202 : (Jvm.Cond.classLink "CaseGrouper$Edition" (9 : Nat) "java/util/ArrayList") ∈ lw_all := lw_g (lw_at lw_m1 82 rfl) rfl
theorem q204 : (Jvm.Cond.methodLink "CaseGrouper$Edition" (11 : Nat) ({ cls := "java/util/ArrayList", name := "<init>", desc := "()V" } : Jvm.MethodName)) ∈ lw_all := lw_g (lw_at lw_m1 84 rfl) rfl
theorem q228 : (Jvm.Cond.classLink "CaseGrouper$Edition" (30 : Nat) "[C") ∈ lw_all := lw_g (lw_at lw_m1 108 rfl) rfl
theorem q230 : (Jvm.Cond.fieldLink "CaseGrouper$Edition" (12 : Nat) "CaseGrouper$Edition" "chapters" "Ljava/util/ArrayList;") ∈ lw_all := lw_g (lw_at lw_m1 110 rfl) rfl
theorem q234 : (Jvm.Cond.fieldLink "CaseGrouper$Edition" (18 : Nat) "CaseGrouper$Edition" "ranks" "Ljava/util/ArrayList;") ∈ lw_all := lw_g (lw_at lw_m1 114 rfl) rfl
theorem q238 : (Jvm.Cond.fieldLink "CaseGrouper$Edition" (21 : Nat) "CaseGrouper$Edition" "partners" "Ljava/util/ArrayList;") ∈ lw_all := lw_g (lw_at lw_m1 118 rfl) rfl
theorem q242 : (Jvm.Cond.fieldLink "CaseGrouper$Edition" (24 : Nat) "CaseGrouper$Edition" "leaves" "Ljava/util/ArrayList;") ∈ lw_all := lw_g (lw_at lw_m1 122 rfl) rfl
theorem q244 : (Jvm.Cond.fieldLink "CaseGrouper$Edition" (27 : Nat) "CaseGrouper$Edition" "chapterOf" "Ljava/util/ArrayList;") ∈ lw_all := lw_g (lw_at lw_m1 124 rfl) rfl
theorem q246 : (Jvm.Cond.fieldLink "CaseGrouper$Edition" (32 : Nat) "CaseGrouper$Edition" "names" "[[C") ∈ lw_all := lw_g (lw_at lw_m1 126 rfl) rfl
theorem q248 : (Jvm.Cond.fieldLink "CaseGrouper$Edition" (36 : Nat) "CaseGrouper$Edition" "weights" "[S") ∈ lw_all := lw_g (lw_at lw_m1 128 rfl) rfl
theorem q252 : (Jvm.Cond.fieldLink "CaseGrouper$Edition" (60 : Nat) "CaseGrouper$Edition" "classes" "I") ∈ lw_all := lw_g (lw_at lw_m1 132 rfl) rfl
theorem q257 : (Jvm.Cond.laysFinal "CaseGrouper$Edition" "CaseGrouper$Edition" "chapters" "Ljava/util/ArrayList;") ∈ lw_all := lw_g (lw_at lw_m1 137 rfl) rfl
theorem q258 : (Jvm.Cond.soleField "CaseGrouper$Edition" "chapters") ∈ lw_all := lw_g (lw_at lw_m1 138 rfl) rfl
theorem q259 : (Jvm.Cond.laysFinal "CaseGrouper$Edition" "CaseGrouper$Edition" "ranks" "Ljava/util/ArrayList;") ∈ lw_all := lw_g (lw_at lw_m1 139 rfl) rfl
theorem q260 : (Jvm.Cond.soleField "CaseGrouper$Edition" "ranks") ∈ lw_all := lw_g (lw_at lw_m1 140 rfl) rfl
theorem q261 : (Jvm.Cond.laysFinal "CaseGrouper$Edition" "CaseGrouper$Edition" "partners" "Ljava/util/ArrayList;") ∈ lw_all := lw_g (lw_at lw_m1 141 rfl) rfl
theorem q262 : (Jvm.Cond.soleField "CaseGrouper$Edition" "partners") ∈ lw_all := lw_g (lw_at lw_m1 142 rfl) rfl
theorem q263 : (Jvm.Cond.laysFinal "CaseGrouper$Edition" "CaseGrouper$Edition" "leaves" "Ljava/util/ArrayList;") ∈ lw_all := lw_g (lw_at lw_m1 143 rfl) rfl
theorem q264 : (Jvm.Cond.soleField "CaseGrouper$Edition" "leaves") ∈ lw_all := lw_g (lw_at lw_m1 144 rfl) rfl
theorem q265 : (Jvm.Cond.laysFinal "CaseGrouper$Edition" "CaseGrouper$Edition" "chapterOf" "Ljava/util/ArrayList;") ∈ lw_all := lw_g (lw_at lw_m1 145 rfl) rfl
theorem q266 : (Jvm.Cond.soleField "CaseGrouper$Edition" "chapterOf") ∈ lw_all := lw_g (lw_at lw_m1 146 rfl) rfl
theorem q267 : (Jvm.Cond.laysFinal "CaseGrouper$Edition" "CaseGrouper$Edition" "names" "[[C") ∈ lw_all := lw_g (lw_at lw_m1 147 rfl) rfl
theorem q268 : (Jvm.Cond.soleField "CaseGrouper$Edition" "names") ∈ lw_all := lw_g (lw_at lw_m1 148 rfl) rfl
theorem q269 : (Jvm.Cond.laysFinal "CaseGrouper$Edition" "CaseGrouper$Edition" "weights" "[S") ∈ lw_all := lw_g (lw_at lw_m1 149 rfl) rfl
theorem q270 : (Jvm.Cond.soleField "CaseGrouper$Edition" "weights") ∈ lw_all := lw_g (lw_at lw_m1 150 rfl) rfl
theorem q271 : (Jvm.Cond.lays "CaseGrouper$Edition" "CaseGrouper$Edition" "classes" "I") ∈ lw_all := lw_g (lw_at lw_m1 151 rfl) rfl
theorem q272 : (Jvm.Cond.soleField "CaseGrouper$Edition" "classes") ∈ lw_all := lw_g (lw_at lw_m1 152 rfl) rfl
theorem q273 : (Jvm.Cond.lays "CaseGrouper$Edition" "CaseGrouper$Edition" "nodes" "I") ∈ lw_all := lw_g (lw_at lw_m1 153 rfl) rfl
theorem q274 : (Jvm.Cond.soleField "CaseGrouper$Edition" "nodes") ∈ lw_all := lw_g (lw_at lw_m1 154 rfl) rfl
theorem q275 : (Jvm.Cond.superclass "CaseGrouper$Edition" "java/lang/Object") ∈ lw_all := lw_g (lw_at lw_m1 155 rfl) rfl
theorem q780 : (Jvm.Cond.instanceMethod ({ cls := "CaseGrouper$Edition", name := "find", desc := "(Ljava/lang/String;)LCaseGrouper$Chapter;" } : Jvm.MethodName)) ∈ lw_all := lw_g (lw_at lw_m3 180 rfl) rfl
theorem q781 : (Jvm.Cond.selects "CaseGrouper$Edition" ({ cls := "CaseGrouper$Edition", name := "find", desc := "(Ljava/lang/String;)LCaseGrouper$Chapter;" } : Jvm.MethodName) ({ cls := "CaseGrouper$Edition", name := "find", desc := "(Ljava/lang/String;)LCaseGrouper$Chapter;" } : Jvm.MethodName)) ∈ lw_all := lw_g (lw_at lw_m3 181 rfl) rfl
theorem q782 : (Jvm.Cond.code ({ cls := "CaseGrouper$Edition", name := "find", desc := "(Ljava/lang/String;)LCaseGrouper$Chapter;" } : Jvm.MethodName) prog_6_method_2_code (3 : Nat) (Option.some (Jvm.ClassFile.FieldType.object "CaseGrouper$Chapter"))) ∈ lw_all := lw_g (lw_at lw_m3 182 rfl) rfl
theorem q783 : (Jvm.Cond.methodLink "CaseGrouper$Edition" (40 : Nat) ({ cls := "java/util/ArrayList", name := "size", desc := "()I" } : Jvm.MethodName)) ∈ lw_all := lw_g (lw_at lw_m3 183 rfl) rfl
theorem q784 : (Jvm.Cond.methodLink "CaseGrouper$Edition" (44 : Nat) ({ cls := "java/util/ArrayList", name := "get", desc := "(I)Ljava/lang/Object;" } : Jvm.MethodName)) ∈ lw_all := lw_g (lw_at lw_m3 184 rfl) rfl
theorem q796 : (Jvm.Cond.classLink "CaseGrouper$Edition" (48 : Nat) "CaseGrouper$Chapter") ∈ lw_all := lw_g (lw_at lw_m3 196 rfl) rfl
theorem q797 : (Jvm.Cond.methodLink "CaseGrouper$Edition" (54 : Nat) ({ cls := "java/lang/String", name := "equals", desc := "(Ljava/lang/Object;)Z" } : Jvm.MethodName)) ∈ lw_all := lw_g (lw_at lw_m3 197 rfl) rfl
theorem q807 : (Jvm.Cond.fieldLinkNest "CaseGrouper$Edition" (50 : Nat) "CaseGrouper$Chapter" "name" "Ljava/lang/String;" "CaseGrouper") ∈ lw_tbl := lw_at lw_m3 207 rfl
theorem q812 : (Jvm.Cond.fieldLinkNest "CaseGrouper$Edition" (115 : Nat) "CaseGrouper$Chapter" "tree" "Ljava/lang/Object;" "CaseGrouper") ∈ lw_tbl := lw_at lw_m3 212 rfl
theorem q815 : (Jvm.Cond.fieldLinkNest "CaseGrouper$Edition" (85 : Nat) "CaseGrouper$Chapter" "atoms" "Ljava/util/ArrayList;" "CaseGrouper") ∈ lw_tbl := lw_at lw_m3 215 rfl
theorem q818 : (Jvm.Cond.fieldLinkNest "CaseGrouper$Edition" (72 : Nat) "CaseGrouper$Chapter" "leaves" "Ljava/util/ArrayList;" "CaseGrouper") ∈ lw_tbl := lw_at lw_m3 218 rfl
theorem q937 : (Jvm.Cond.selects "CaseGrouper$Edition" ({ cls := "java/lang/Object", name := "getClass", desc := "()Ljava/lang/Class;" } : Jvm.MethodName) ({ cls := "java/lang/Object", name := "getClass", desc := "()Ljava/lang/Class;" } : Jvm.MethodName)) ∈ lw_all := lw_g (lw_at lw_m4 97 rfl) rfl
theorem q1056 : (Jvm.Cond.instanceMethod ({ cls := "CaseGrouper$Edition", name := "classOf", desc := "(Ljava/lang/String;)I" } : Jvm.MethodName)) ∈ lw_all := lw_g (lw_at lw_m4 216 rfl) rfl
theorem q1057 : (Jvm.Cond.selects "CaseGrouper$Edition" ({ cls := "CaseGrouper$Edition", name := "classOf", desc := "(Ljava/lang/String;)I" } : Jvm.MethodName) ({ cls := "CaseGrouper$Edition", name := "classOf", desc := "(Ljava/lang/String;)I" } : Jvm.MethodName)) ∈ lw_all := lw_g (lw_at lw_m4 217 rfl) rfl
theorem q1058 : (Jvm.Cond.code ({ cls := "CaseGrouper$Edition", name := "classOf", desc := "(Ljava/lang/String;)I" } : Jvm.MethodName) prog_6_method_3_code (3 : Nat) (Option.some Jvm.ClassFile.FieldType.int)) ∈ lw_all := lw_g (lw_at lw_m4 218 rfl) rfl
theorem q1059 : (Jvm.Cond.methodLink "CaseGrouper$Edition" (64 : Nat) ({ cls := "java/lang/String", name := "toCharArray", desc := "()[C" } : Jvm.MethodName)) ∈ lw_all := lw_g (lw_at lw_m4 219 rfl) rfl
theorem q1075 : (Jvm.Cond.methodLink "CaseGrouper$Edition" (68 : Nat) ({ cls := "CaseGrouper$Edition", name := "isCalled", desc := "(I[C)Z" } : Jvm.MethodName)) ∈ lw_all := lw_g (lw_at lw_m4 235 rfl) rfl
theorem q1076 : (Jvm.Cond.instanceMethod ({ cls := "CaseGrouper$Edition", name := "isCalled", desc := "(I[C)Z" } : Jvm.MethodName)) ∈ lw_all := lw_g (lw_at lw_m4 236 rfl) rfl
theorem q1077 : (Jvm.Cond.selects "CaseGrouper$Edition" ({ cls := "CaseGrouper$Edition", name := "isCalled", desc := "(I[C)Z" } : Jvm.MethodName) ({ cls := "CaseGrouper$Edition", name := "isCalled", desc := "(I[C)Z" } : Jvm.MethodName)) ∈ lw_all := lw_g (lw_at lw_m4 237 rfl) rfl
theorem q1078 : (Jvm.Cond.code ({ cls := "CaseGrouper$Edition", name := "isCalled", desc := "(I[C)Z" } : Jvm.MethodName) prog_6_method_4_code (4 : Nat) (Option.some Jvm.ClassFile.FieldType.boolean)) ∈ lw_all := lw_g (lw_at lw_m4 238 rfl) rfl
theorem q1082 : (Jvm.Cond.instanceMethod ({ cls := "CaseGrouper$Edition", name := "adds", desc := "(Ljava/lang/String;I)I" } : Jvm.MethodName)) ∈ lw_all := lw_g (lw_at lw_m5 2 rfl) rfl
theorem q1083 : (Jvm.Cond.selects "CaseGrouper$Edition" ({ cls := "CaseGrouper$Edition", name := "adds", desc := "(Ljava/lang/String;I)I" } : Jvm.MethodName) ({ cls := "CaseGrouper$Edition", name := "adds", desc := "(Ljava/lang/String;I)I" } : Jvm.MethodName)) ∈ lw_all := lw_g (lw_at lw_m5 3 rfl) rfl
theorem q1084 : (Jvm.Cond.code ({ cls := "CaseGrouper$Edition", name := "adds", desc := "(Ljava/lang/String;I)I" } : Jvm.MethodName) prog_6_method_5_code (3 : Nat) (Option.some Jvm.ClassFile.FieldType.int)) ∈ lw_all := lw_g (lw_at lw_m5 4 rfl) rfl
theorem q1092 : (Jvm.Cond.fieldLinkNest "CaseGrouper$Edition" (123 : Nat) "CaseGrouper$Leaf" "isMet" "Z" "CaseGrouper") ∈ lw_tbl := lw_at lw_m5 12 rfl
theorem q1156 : (Jvm.Cond.fieldLinkNest "CaseGrouper$Edition" (139 : Nat) "CaseGrouper$Atom" "word" "Ljava/lang/String;" "CaseGrouper") ∈ lw_tbl := lw_at lw_m5 76 rfl
theorem q1162 : (Jvm.Cond.fieldLinkNest "CaseGrouper$Edition" (133 : Nat) "CaseGrouper$Atom" "sign" "I" "CaseGrouper") ∈ lw_tbl := lw_at lw_m5 82 rfl
theorem q1165 : (Jvm.Cond.fieldLinkNest "CaseGrouper$Edition" (136 : Nat) "CaseGrouper$Atom" "number" "I" "CaseGrouper") ∈ lw_tbl := lw_at lw_m5 85 rfl
theorem q1238 : (Jvm.Cond.instanceMethod ({ cls := "CaseGrouper$Edition", name := "ends", desc := "()V" } : Jvm.MethodName)) ∈ lw_all := lw_g (lw_at lw_m5 158 rfl) rfl
theorem q1239 : (Jvm.Cond.selects "CaseGrouper$Edition" ({ cls := "CaseGrouper$Edition", name := "ends", desc := "()V" } : Jvm.MethodName) ({ cls := "CaseGrouper$Edition", name := "ends", desc := "()V" } : Jvm.MethodName)) ∈ lw_all := lw_g (lw_at lw_m5 159 rfl) rfl
theorem q1240 : (Jvm.Cond.code ({ cls := "CaseGrouper$Edition", name := "ends", desc := "()V" } : Jvm.MethodName) prog_6_method_6_code (4 : Nat) (Option.none : Option Jvm.ClassFile.FieldType)) ∈ lw_all := lw_g (lw_at lw_m5 160 rfl) rfl
theorem q1241 : (Jvm.Cond.classLink "CaseGrouper$Edition" (73 : Nat) "CaseGrouper$Leaf") ∈ lw_all := lw_g (lw_at lw_m5 161 rfl) rfl
theorem q1242 : (Jvm.Cond.methodLink "CaseGrouper$Edition" (75 : Nat) ({ cls := "java/util/ArrayList", name := "add", desc := "(Ljava/lang/Object;)Z" } : Jvm.MethodName)) ∈ lw_all := lw_g (lw_at lw_m5 162 rfl) rfl
theorem q1243 : (Jvm.Cond.methodLink "CaseGrouper$Edition" (78 : Nat) ({ cls := "CaseGrouper$Edition", name := "tries", desc := "(LCaseGrouper$Chapter;)V" } : Jvm.MethodName)) ∈ lw_all := lw_g (lw_at lw_m5 163 rfl) rfl
theorem q1244 : (Jvm.Cond.privateMethod ({ cls := "CaseGrouper$Edition", name := "tries", desc := "(LCaseGrouper$Chapter;)V" } : Jvm.MethodName)) ∈ lw_tbl := lw_at lw_m5 164 rfl
theorem q1245 : (Jvm.Cond.instanceMethod ({ cls := "CaseGrouper$Edition", name := "tries", desc := "(LCaseGrouper$Chapter;)V" } : Jvm.MethodName)) ∈ lw_all := lw_g (lw_at lw_m5 165 rfl) rfl
theorem q1246 : (Jvm.Cond.code ({ cls := "CaseGrouper$Edition", name := "tries", desc := "(LCaseGrouper$Chapter;)V" } : Jvm.MethodName) prog_6_method_7_code (14 : Nat) (Option.none : Option Jvm.ClassFile.FieldType)) ∈ lw_all := lw_g (lw_at lw_m5 166 rfl) rfl
theorem q1247 : (Jvm.Cond.classLink "CaseGrouper$Edition" (82 : Nat) "CaseGrouper$Tried") ∈ lw_all := lw_g (lw_at lw_m5 167 rfl) rfl
theorem q1249 : (Jvm.Cond.methodLinkNest "CaseGrouper$Edition" (84 : Nat) ({ cls := "CaseGrouper$Tried", name := "<init>", desc := "()V" } : Jvm.MethodName) "CaseGrouper") ∈ lw_tbl := lw_at lw_m5 169 rfl
theorem q1257 : (Jvm.Cond.fieldLinkNest "CaseGrouper$Edition" (102 : Nat) "CaseGrouper$Tried" "answers" "I" "CaseGrouper") ∈ lw_tbl := lw_at lw_m5 177 rfl
theorem q1259 : (Jvm.Cond.fieldLinkNest "CaseGrouper$Edition" (111 : Nat) "CaseGrouper$Tried" "age" "I" "CaseGrouper") ∈ lw_tbl := lw_at lw_m5 179 rfl
theorem q1261 : (Jvm.Cond.fieldLinkNest "CaseGrouper$Edition" (113 : Nat) "CaseGrouper$Tried" "days" "I" "CaseGrouper") ∈ lw_tbl := lw_at lw_m5 181 rfl
theorem q1263 : (Jvm.Cond.fieldLinkNest "CaseGrouper$Edition" (105 : Nat) "CaseGrouper$Tried" "level" "I" "CaseGrouper") ∈ lw_tbl := lw_at lw_m5 183 rfl
theorem q1265 : (Jvm.Cond.fieldLinkNest "CaseGrouper$Edition" (108 : Nat) "CaseGrouper$Tried" "top" "I" "CaseGrouper") ∈ lw_tbl := lw_at lw_m5 185 rfl
theorem q1277 : (Jvm.Cond.classLink "CaseGrouper$Edition" (88 : Nat) "CaseGrouper$Atom") ∈ lw_all := lw_g (lw_at lw_m5 197 rfl) rfl
theorem q1278 : (Jvm.Cond.methodLink "CaseGrouper$Edition" (90 : Nat) ({ cls := "CaseGrouper$Atom", name := "isOfCodes", desc := "()Z" } : Jvm.MethodName)) ∈ lw_all := lw_g (lw_at lw_m5 198 rfl) rfl
theorem q1279 : (Jvm.Cond.stringRef "CaseGrouper$Edition" (94 : Nat) "age") ∈ lw_tbl := lw_at lw_m5 199 rfl
theorem q1280 : (Jvm.Cond.methodLink "CaseGrouper$Edition" (96 : Nat) ({ cls := "CaseGrouper$Edition", name := "turns", desc := "(LCaseGrouper$Chapter;Ljava/lang/String;II)[I" } : Jvm.MethodName)) ∈ lw_all := lw_g (lw_at lw_m5 200 rfl) rfl
theorem q1281 : (Jvm.Cond.privateMethod ({ cls := "CaseGrouper$Edition", name := "turns", desc := "(LCaseGrouper$Chapter;Ljava/lang/String;II)[I" } : Jvm.MethodName)) ∈ lw_tbl := lw_at lw_m5 201 rfl
theorem q1282 : (Jvm.Cond.instanceMethod ({ cls := "CaseGrouper$Edition", name := "turns", desc := "(LCaseGrouper$Chapter;Ljava/lang/String;II)[I" } : Jvm.MethodName)) ∈ lw_all := lw_g (lw_at lw_m5 202 rfl) rfl
theorem q1283 : (Jvm.Cond.code ({ cls := "CaseGrouper$Edition", name := "turns", desc := "(LCaseGrouper$Chapter;Ljava/lang/String;II)[I" } : Jvm.MethodName) prog_6_method_8_code (9 : Nat) (Option.some (Jvm.ClassFile.FieldType.array Jvm.ClassFile.FieldType.int))) ∈ lw_all := lw_g (lw_at lw_m5 203 rfl) rfl
theorem q1284 : (Jvm.Cond.methodLink "CaseGrouper$Edition" (127 : Nat) ({ cls := "java/lang/Integer", name := "valueOf", desc := "(I)Ljava/lang/Integer;" } : Jvm.MethodName)) ∈ lw_all := lw_g (lw_at lw_m5 204 rfl) rfl
theorem q1285 : (Jvm.Cond.methodLinkNest "CaseGrouper$Edition" (142 : Nat) ({ cls := "CaseGrouper", name := "within", desc := "(III)Z" } : Jvm.MethodName) "CaseGrouper") ∈ lw_tbl := lw_at lw_m5 205 rfl
theorem q1286 : (Jvm.Cond.classLink "CaseGrouper$Edition" (128 : Nat) "java/lang/Integer") ∈ lw_all := lw_g (lw_at lw_m5 206 rfl) rfl
theorem q1287 : (Jvm.Cond.methodLink "CaseGrouper$Edition" (146 : Nat) ({ cls := "java/lang/Integer", name := "intValue", desc := "()I" } : Jvm.MethodName)) ∈ lw_all := lw_g (lw_at lw_m5 207 rfl) rfl
theorem q1288 : (Jvm.Cond.stringRef "CaseGrouper$Edition" (100 : Nat) "days") ∈ lw_tbl := lw_at lw_m5 208 rfl
theorem q1289 : (Jvm.Cond.methodLink "CaseGrouper$Edition" (119 : Nat) ({ cls := "CaseGrouper$Tried", name := "goes", desc := "(Ljava/lang/Object;)LCaseGrouper$Leaf;" } : Jvm.MethodName)) ∈ lw_all := lw_g (lw_at lw_m5 209 rfl) rfl
theorem q1530 : (Jvm.Cond.selects "CaseGrouper$Edition" ({ cls := "java/lang/Object", name := "equals", desc := "(Ljava/lang/Object;)Z" } : Jvm.MethodName) ({ cls := "java/lang/Object", name := "equals", desc := "(Ljava/lang/Object;)Z" } : Jvm.MethodName)) ∈ lw_all := lw_g (lw_at lw_m6 210 rfl) rfl
theorem q2466 : (Jvm.Cond.castable "CaseGrouper$Edition" "java/lang/Object") ∈ lw_tbl := lw_at lw_m10 186 rfl
theorem in_X2 : ∀ w ∈ wsX20, w ∈ lw_all := lw_in wsX20 [257, 259, 261, 263, 265, 267, 269, 271, 273] (by decide +kernel) (by decide +kernel)
/-! CaseGrouper$Facts -/
set_option maxRecDepth 100000
def RX3 : String := "CaseGrouper$Facts"
abbrev cX3_init : ByteArray := prog_7_method_1_code
def yX3_init : MethodName := ⟨RX3, "<init>", "()V"⟩
theorem dX3_init_0 : decode cX3_init 0 = .ok (.aload_n 0, 1) := by decide +kernel
theorem dX3_init_1 : decode cX3_init 1 = .ok (.invokespecial 1, 3) := by decide +kernel
theorem dX3_init_4 : decode cX3_init 4 = .ok (.return_, 1) := by decide +kernel
abbrev cX3_goes : ByteArray := prog_7_method_5_code
def yX3_goes : MethodName := ⟨RX3, "goes", "(Ljava/lang/Object;)LCaseGrouper$Leaf;"⟩
def dkwX3_goes_2 : List UInt8 := [182, 0, 67, 176]
abbrev dktX3_goes_2 : List UInt8 := dkwX3_goes_2 ++ []
def dkwX3_goes_1 : List UInt8 := [182, 0, 45, 62, 42, 29, 182, 0, 59, 42, 44, 180, 0, 63, 29, 153, 0, 7, 3, 167, 0, 4, 4, 50]
abbrev dktX3_goes_1 : List UInt8 := dkwX3_goes_1 ++ dktX3_goes_2
def dkwX3_goes_0 : List UInt8 := [43, 193, 0, 51, 153, 0, 10, 43, 192, 0, 51, 77, 44, 176, 43, 192, 0, 53, 77, 42, 44, 180, 0, 55]
abbrev dktX3_goes_0 : List UInt8 := dkwX3_goes_0 ++ dktX3_goes_1
theorem dksX3_goes_0 : cX3_goes.data.toList.drop 0 = dktX3_goes_0 := by decide +kernel
theorem dksX3_goes_1 : cX3_goes.data.toList.drop 24 = dktX3_goes_1 := dk_seg dksX3_goes_0 24 rfl rfl
theorem dksX3_goes_2 : cX3_goes.data.toList.drop 48 = dktX3_goes_2 := dk_seg dksX3_goes_1 24 rfl rfl
theorem dX3_goes_0 : decode cX3_goes 0 = .ok (.aload_n 1, 1) := dk_43 (dk_at dksX3_goes_0 0 rfl rfl)
theorem dX3_goes_1 : decode cX3_goes 1 = .ok (.instanceof 51, 3) := dk_193 0 51 (dk_at dksX3_goes_0 1 rfl rfl)
theorem dX3_goes_4 : decode cX3_goes 4 = .ok (.ifCond .eq 10, 3) := dk_153 0 10 (dk_at dksX3_goes_0 4 rfl rfl)
theorem dX3_goes_7 : decode cX3_goes 7 = .ok (.aload_n 1, 1) := dk_43 (dk_at dksX3_goes_0 7 rfl rfl)
theorem dX3_goes_8 : decode cX3_goes 8 = .ok (.checkcast 51, 3) := dk_192 0 51 (dk_at dksX3_goes_0 8 rfl rfl)
theorem dX3_goes_11 : decode cX3_goes 11 = .ok (.astore_n 2, 1) := dk_77 (dk_at dksX3_goes_0 11 rfl rfl)
theorem dX3_goes_12 : decode cX3_goes 12 = .ok (.aload_n 2, 1) := dk_44 (dk_at dksX3_goes_0 12 rfl rfl)
theorem dX3_goes_13 : decode cX3_goes 13 = .ok (.areturn, 1) := dk_176 (dk_at dksX3_goes_0 13 rfl rfl)
theorem dX3_goes_14 : decode cX3_goes 14 = .ok (.aload_n 1, 1) := dk_43 (dk_at dksX3_goes_0 14 rfl rfl)
theorem dX3_goes_15 : decode cX3_goes 15 = .ok (.checkcast 53, 3) := dk_192 0 53 (dk_at dksX3_goes_0 15 rfl rfl)
theorem dX3_goes_18 : decode cX3_goes 18 = .ok (.astore_n 2, 1) := dk_77 (dk_at dksX3_goes_0 18 rfl rfl)
theorem dX3_goes_19 : decode cX3_goes 19 = .ok (.aload_n 0, 1) := dk_42 (dk_at dksX3_goes_0 19 rfl rfl)
theorem dX3_goes_20 : decode cX3_goes 20 = .ok (.aload_n 2, 1) := dk_44 (dk_at dksX3_goes_0 20 rfl rfl)
theorem dX3_goes_21 : decode cX3_goes 21 = .ok (.getfield 55, 3) := dk_180 0 55 (dk_at dksX3_goes_0 21 rfl rfl)
theorem dX3_goes_24 : decode cX3_goes 24 = .ok (.invokevirtual 45, 3) := dk_182 0 45 (dk_at dksX3_goes_1 0 rfl rfl)
theorem dX3_goes_27 : decode cX3_goes 27 = .ok (.istore_n 3, 1) := dk_62 (dk_at dksX3_goes_1 3 rfl rfl)
theorem dX3_goes_28 : decode cX3_goes 28 = .ok (.aload_n 0, 1) := dk_42 (dk_at dksX3_goes_1 4 rfl rfl)
theorem dX3_goes_29 : decode cX3_goes 29 = .ok (.iload_n 3, 1) := dk_29 (dk_at dksX3_goes_1 5 rfl rfl)
theorem dX3_goes_30 : decode cX3_goes 30 = .ok (.invokevirtual 59, 3) := dk_182 0 59 (dk_at dksX3_goes_1 6 rfl rfl)
theorem dX3_goes_33 : decode cX3_goes 33 = .ok (.aload_n 0, 1) := dk_42 (dk_at dksX3_goes_1 9 rfl rfl)
theorem dX3_goes_34 : decode cX3_goes 34 = .ok (.aload_n 2, 1) := dk_44 (dk_at dksX3_goes_1 10 rfl rfl)
theorem dX3_goes_35 : decode cX3_goes 35 = .ok (.getfield 63, 3) := dk_180 0 63 (dk_at dksX3_goes_1 11 rfl rfl)
theorem dX3_goes_38 : decode cX3_goes 38 = .ok (.iload_n 3, 1) := dk_29 (dk_at dksX3_goes_1 14 rfl rfl)
theorem dX3_goes_39 : decode cX3_goes 39 = .ok (.ifCond .eq 7, 3) := dk_153 0 7 (dk_at dksX3_goes_1 15 rfl rfl)
theorem dX3_goes_42 : decode cX3_goes 42 = .ok (.iconst 0, 1) := dk_3 (dk_at dksX3_goes_1 18 rfl rfl)
theorem dX3_goes_43 : decode cX3_goes 43 = .ok (.goto 4, 3) := dk_167 0 4 (dk_at dksX3_goes_1 19 rfl rfl)
theorem dX3_goes_46 : decode cX3_goes 46 = .ok (.iconst 1, 1) := dk_4 (dk_at dksX3_goes_1 22 rfl rfl)
theorem dX3_goes_47 : decode cX3_goes 47 = .ok (.aaload, 1) := dk_50 (dk_at dksX3_goes_1 23 rfl rfl)
theorem dX3_goes_48 : decode cX3_goes 48 = .ok (.invokevirtual 67, 3) := dk_182 0 67 (dk_at dksX3_goes_2 0 rfl rfl)
theorem dX3_goes_51 : decode cX3_goes 51 = .ok (.areturn, 1) := dk_176 (dk_at dksX3_goes_2 3 rfl rfl)
abbrev cX3_is : ByteArray := prog_7_method_4_code
def yX3_is : MethodName := ⟨RX3, "is", "(Ljava/lang/Object;)Z"⟩
def dkwX3_is_10 : List UInt8 := [153, 0, 5, 4, 172, 132, 5, 1, 167, 255, 223, 3, 172]
abbrev dktX3_is_10 : List UInt8 := dkwX3_is_10 ++ []
def dkwX3_is_9 : List UInt8 := [180, 0, 35, 182, 0, 48, 162, 0, 27, 42, 44, 180, 0, 35, 21, 5, 182, 0, 39, 182, 0, 45]
abbrev dktX3_is_9 : List UInt8 := dkwX3_is_9 ++ dktX3_is_10
def dkwX3_is_8 : List UInt8 := [182, 0, 45, 154, 0, 5, 3, 172, 132, 5, 1, 167, 255, 223, 4, 172, 3, 54, 5, 21, 5, 44]
abbrev dktX3_is_8 : List UInt8 := dkwX3_is_8 ++ dktX3_is_9
def dkwX3_is_7 : List UInt8 := [21, 5, 44, 180, 0, 35, 182, 0, 48, 162, 0, 27, 42, 44, 180, 0, 35, 21, 5, 182, 0, 39]
abbrev dktX3_is_7 : List UInt8 := dkwX3_is_7 ++ dktX3_is_8
def dkwX3_is_6 : List UInt8 := [42, 44, 180, 0, 35, 3, 182, 0, 39, 182, 0, 45, 154, 0, 7, 4, 167, 0, 4, 3, 172, 3, 54, 5]
abbrev dktX3_is_6 : List UInt8 := dkwX3_is_6 ++ dktX3_is_7
def dkwX3_is_5 : List UInt8 := [171, 0, 0, 0, 0, 0, 89, 0, 0, 0, 2, 0, 0, 0, 0, 0, 0, 0, 27, 0, 0, 0, 1, 0, 0, 0, 48]
abbrev dktX3_is_5 : List UInt8 := dkwX3_is_5 ++ dktX3_is_6
def dkwX3_is_4 : List UInt8 := [4, 54, 4, 21, 4]
abbrev dktX3_is_4 : List UInt8 := dkwX3_is_4 ++ dktX3_is_5
def dkwX3_is_3 : List UInt8 := [45, 18, 27, 182, 0, 29, 153, 0, 21, 3, 54, 4, 167, 0, 15, 45, 18, 33, 182, 0, 29, 153, 0, 6]
abbrev dktX3_is_3 : List UInt8 := dkwX3_is_3 ++ dktX3_is_4
def dkwX3_is_2 : List UInt8 := [171, 0, 0, 0, 52, 0, 0, 0, 2, 0, 1, 121, 215, 0, 0, 0, 40, 0, 1, 170, 211, 0, 0, 0, 25]
abbrev dktX3_is_2 : List UInt8 := dkwX3_is_2 ++ dktX3_is_3
def dkwX3_is_1 : List UInt8 := [180, 0, 17, 78, 2, 54, 4, 45, 182, 0, 21]
abbrev dktX3_is_1 : List UInt8 := dkwX3_is_1 ++ dktX3_is_2
def dkwX3_is_0 : List UInt8 := [43, 193, 0, 7, 153, 0, 14, 43, 192, 0, 7, 77, 42, 44, 182, 0, 9, 172, 43, 192, 0, 15, 77, 44]
abbrev dktX3_is_0 : List UInt8 := dkwX3_is_0 ++ dktX3_is_1
theorem dksX3_is_0 : cX3_is.data.toList.drop 0 = dktX3_is_0 := by decide +kernel
theorem dksX3_is_1 : cX3_is.data.toList.drop 24 = dktX3_is_1 := dk_seg dksX3_is_0 24 rfl rfl
theorem dksX3_is_2 : cX3_is.data.toList.drop 35 = dktX3_is_2 := dk_seg dksX3_is_1 11 rfl rfl
theorem dksX3_is_3 : cX3_is.data.toList.drop 60 = dktX3_is_3 := dk_seg dksX3_is_2 25 rfl rfl
theorem dksX3_is_4 : cX3_is.data.toList.drop 84 = dktX3_is_4 := dk_seg dksX3_is_3 24 rfl rfl
theorem dksX3_is_5 : cX3_is.data.toList.drop 89 = dktX3_is_5 := dk_seg dksX3_is_4 5 rfl rfl
theorem dksX3_is_6 : cX3_is.data.toList.drop 116 = dktX3_is_6 := dk_seg dksX3_is_5 27 rfl rfl
theorem dksX3_is_7 : cX3_is.data.toList.drop 140 = dktX3_is_7 := dk_seg dksX3_is_6 24 rfl rfl
theorem dksX3_is_8 : cX3_is.data.toList.drop 162 = dktX3_is_8 := dk_seg dksX3_is_7 22 rfl rfl
theorem dksX3_is_9 : cX3_is.data.toList.drop 184 = dktX3_is_9 := dk_seg dksX3_is_8 22 rfl rfl
theorem dksX3_is_10 : cX3_is.data.toList.drop 206 = dktX3_is_10 := dk_seg dksX3_is_9 22 rfl rfl
theorem dX3_is_0 : decode cX3_is 0 = .ok (.aload_n 1, 1) := dk_43 (dk_at dksX3_is_0 0 rfl rfl)
theorem dX3_is_1 : decode cX3_is 1 = .ok (.instanceof 7, 3) := dk_193 0 7 (dk_at dksX3_is_0 1 rfl rfl)
theorem dX3_is_4 : decode cX3_is 4 = .ok (.ifCond .eq 14, 3) := dk_153 0 14 (dk_at dksX3_is_0 4 rfl rfl)
theorem dX3_is_7 : decode cX3_is 7 = .ok (.aload_n 1, 1) := dk_43 (dk_at dksX3_is_0 7 rfl rfl)
theorem dX3_is_8 : decode cX3_is 8 = .ok (.checkcast 7, 3) := dk_192 0 7 (dk_at dksX3_is_0 8 rfl rfl)
theorem dX3_is_11 : decode cX3_is 11 = .ok (.astore_n 2, 1) := dk_77 (dk_at dksX3_is_0 11 rfl rfl)
theorem dX3_is_12 : decode cX3_is 12 = .ok (.aload_n 0, 1) := dk_42 (dk_at dksX3_is_0 12 rfl rfl)
theorem dX3_is_13 : decode cX3_is 13 = .ok (.aload_n 2, 1) := dk_44 (dk_at dksX3_is_0 13 rfl rfl)
theorem dX3_is_14 : decode cX3_is 14 = .ok (.invokevirtual 9, 3) := dk_182 0 9 (dk_at dksX3_is_0 14 rfl rfl)
theorem dX3_is_17 : decode cX3_is 17 = .ok (.ireturn, 1) := dk_172 (dk_at dksX3_is_0 17 rfl rfl)
theorem dX3_is_18 : decode cX3_is 18 = .ok (.aload_n 1, 1) := dk_43 (dk_at dksX3_is_0 18 rfl rfl)
theorem dX3_is_19 : decode cX3_is 19 = .ok (.checkcast 15, 3) := dk_192 0 15 (dk_at dksX3_is_0 19 rfl rfl)
theorem dX3_is_22 : decode cX3_is 22 = .ok (.astore_n 2, 1) := dk_77 (dk_at dksX3_is_0 22 rfl rfl)
theorem dX3_is_23 : decode cX3_is 23 = .ok (.aload_n 2, 1) := dk_44 (dk_at dksX3_is_0 23 rfl rfl)
theorem dX3_is_24 : decode cX3_is 24 = .ok (.getfield 17, 3) := dk_180 0 17 (dk_at dksX3_is_1 0 rfl rfl)
theorem dX3_is_27 : decode cX3_is 27 = .ok (.astore_n 3, 1) := dk_78 (dk_at dksX3_is_1 3 rfl rfl)
theorem dX3_is_28 : decode cX3_is 28 = .ok (.iconst (-1), 1) := dk_2 (dk_at dksX3_is_1 4 rfl rfl)
theorem dX3_is_29 : decode cX3_is 29 = .ok (.istore 4, 2) := dk_54 4 (dk_at dksX3_is_1 5 rfl rfl)
theorem dX3_is_31 : decode cX3_is 31 = .ok (.aload_n 3, 1) := dk_45 (dk_at dksX3_is_1 7 rfl rfl)
theorem dX3_is_32 : decode cX3_is 32 = .ok (.invokevirtual 21, 3) := dk_182 0 21 (dk_at dksX3_is_1 8 rfl rfl)
theorem dX3_is_35 : decode cX3_is 35 = .ok (.lookupswitch 52 #[(96727, 40), (109267, 25)], 25) := by decide +kernel
theorem dX3_is_60 : decode cX3_is 60 = .ok (.aload_n 3, 1) := dk_45 (dk_at dksX3_is_3 0 rfl rfl)
theorem dX3_is_61 : decode cX3_is 61 = .ok (.ldc 27, 2) := dk_18 27 (dk_at dksX3_is_3 1 rfl rfl)
theorem dX3_is_63 : decode cX3_is 63 = .ok (.invokevirtual 29, 3) := dk_182 0 29 (dk_at dksX3_is_3 3 rfl rfl)
theorem dX3_is_66 : decode cX3_is 66 = .ok (.ifCond .eq 21, 3) := dk_153 0 21 (dk_at dksX3_is_3 6 rfl rfl)
theorem dX3_is_69 : decode cX3_is 69 = .ok (.iconst 0, 1) := dk_3 (dk_at dksX3_is_3 9 rfl rfl)
theorem dX3_is_70 : decode cX3_is 70 = .ok (.istore 4, 2) := dk_54 4 (dk_at dksX3_is_3 10 rfl rfl)
theorem dX3_is_72 : decode cX3_is 72 = .ok (.goto 15, 3) := dk_167 0 15 (dk_at dksX3_is_3 12 rfl rfl)
theorem dX3_is_75 : decode cX3_is 75 = .ok (.aload_n 3, 1) := dk_45 (dk_at dksX3_is_3 15 rfl rfl)
theorem dX3_is_76 : decode cX3_is 76 = .ok (.ldc 33, 2) := dk_18 33 (dk_at dksX3_is_3 16 rfl rfl)
theorem dX3_is_78 : decode cX3_is 78 = .ok (.invokevirtual 29, 3) := dk_182 0 29 (dk_at dksX3_is_3 18 rfl rfl)
theorem dX3_is_81 : decode cX3_is 81 = .ok (.ifCond .eq 6, 3) := dk_153 0 6 (dk_at dksX3_is_3 21 rfl rfl)
theorem dX3_is_84 : decode cX3_is 84 = .ok (.iconst 1, 1) := dk_4 (dk_at dksX3_is_4 0 rfl rfl)
theorem dX3_is_85 : decode cX3_is 85 = .ok (.istore 4, 2) := dk_54 4 (dk_at dksX3_is_4 1 rfl rfl)
theorem dX3_is_87 : decode cX3_is 87 = .ok (.iload 4, 2) := dk_21 4 (dk_at dksX3_is_4 3 rfl rfl)
theorem dX3_is_89 : decode cX3_is 89 = .ok (.lookupswitch 89 #[(0, 27), (1, 48)], 27) := by decide +kernel
theorem dX3_is_116 : decode cX3_is 116 = .ok (.aload_n 0, 1) := dk_42 (dk_at dksX3_is_6 0 rfl rfl)
theorem dX3_is_117 : decode cX3_is 117 = .ok (.aload_n 2, 1) := dk_44 (dk_at dksX3_is_6 1 rfl rfl)
theorem dX3_is_118 : decode cX3_is 118 = .ok (.getfield 35, 3) := dk_180 0 35 (dk_at dksX3_is_6 2 rfl rfl)
theorem dX3_is_121 : decode cX3_is 121 = .ok (.iconst 0, 1) := dk_3 (dk_at dksX3_is_6 5 rfl rfl)
theorem dX3_is_122 : decode cX3_is 122 = .ok (.invokevirtual 39, 3) := dk_182 0 39 (dk_at dksX3_is_6 6 rfl rfl)
theorem dX3_is_125 : decode cX3_is 125 = .ok (.invokevirtual 45, 3) := dk_182 0 45 (dk_at dksX3_is_6 9 rfl rfl)
theorem dX3_is_128 : decode cX3_is 128 = .ok (.ifCond .ne 7, 3) := dk_154 0 7 (dk_at dksX3_is_6 12 rfl rfl)
theorem dX3_is_131 : decode cX3_is 131 = .ok (.iconst 1, 1) := dk_4 (dk_at dksX3_is_6 15 rfl rfl)
theorem dX3_is_132 : decode cX3_is 132 = .ok (.goto 4, 3) := dk_167 0 4 (dk_at dksX3_is_6 16 rfl rfl)
theorem dX3_is_135 : decode cX3_is 135 = .ok (.iconst 0, 1) := dk_3 (dk_at dksX3_is_6 19 rfl rfl)
theorem dX3_is_136 : decode cX3_is 136 = .ok (.ireturn, 1) := dk_172 (dk_at dksX3_is_6 20 rfl rfl)
theorem dX3_is_137 : decode cX3_is 137 = .ok (.iconst 0, 1) := dk_3 (dk_at dksX3_is_6 21 rfl rfl)
theorem dX3_is_138 : decode cX3_is 138 = .ok (.istore 5, 2) := dk_54 5 (dk_at dksX3_is_6 22 rfl rfl)
theorem dX3_is_140 : decode cX3_is 140 = .ok (.iload 5, 2) := dk_21 5 (dk_at dksX3_is_7 0 rfl rfl)
theorem dX3_is_142 : decode cX3_is 142 = .ok (.aload_n 2, 1) := dk_44 (dk_at dksX3_is_7 2 rfl rfl)
theorem dX3_is_143 : decode cX3_is 143 = .ok (.getfield 35, 3) := dk_180 0 35 (dk_at dksX3_is_7 3 rfl rfl)
theorem dX3_is_146 : decode cX3_is 146 = .ok (.invokevirtual 48, 3) := dk_182 0 48 (dk_at dksX3_is_7 6 rfl rfl)
theorem dX3_is_149 : decode cX3_is 149 = .ok (.if_icmp .ge 27, 3) := dk_162 0 27 (dk_at dksX3_is_7 9 rfl rfl)
theorem dX3_is_152 : decode cX3_is 152 = .ok (.aload_n 0, 1) := dk_42 (dk_at dksX3_is_7 12 rfl rfl)
theorem dX3_is_153 : decode cX3_is 153 = .ok (.aload_n 2, 1) := dk_44 (dk_at dksX3_is_7 13 rfl rfl)
theorem dX3_is_154 : decode cX3_is 154 = .ok (.getfield 35, 3) := dk_180 0 35 (dk_at dksX3_is_7 14 rfl rfl)
theorem dX3_is_157 : decode cX3_is 157 = .ok (.iload 5, 2) := dk_21 5 (dk_at dksX3_is_7 17 rfl rfl)
theorem dX3_is_159 : decode cX3_is 159 = .ok (.invokevirtual 39, 3) := dk_182 0 39 (dk_at dksX3_is_7 19 rfl rfl)
theorem dX3_is_162 : decode cX3_is 162 = .ok (.invokevirtual 45, 3) := dk_182 0 45 (dk_at dksX3_is_8 0 rfl rfl)
theorem dX3_is_165 : decode cX3_is 165 = .ok (.ifCond .ne 5, 3) := dk_154 0 5 (dk_at dksX3_is_8 3 rfl rfl)
theorem dX3_is_168 : decode cX3_is 168 = .ok (.iconst 0, 1) := dk_3 (dk_at dksX3_is_8 6 rfl rfl)
theorem dX3_is_169 : decode cX3_is 169 = .ok (.ireturn, 1) := dk_172 (dk_at dksX3_is_8 7 rfl rfl)
theorem dX3_is_170 : decode cX3_is 170 = .ok (.iinc 5 1, 3) := dk_132 5 1 (dk_at dksX3_is_8 8 rfl rfl)
theorem dX3_is_173 : decode cX3_is 173 = .ok (.goto (-33), 3) := dk_167 255 223 (dk_at dksX3_is_8 11 rfl rfl)
theorem dX3_is_176 : decode cX3_is 176 = .ok (.iconst 1, 1) := dk_4 (dk_at dksX3_is_8 14 rfl rfl)
theorem dX3_is_177 : decode cX3_is 177 = .ok (.ireturn, 1) := dk_172 (dk_at dksX3_is_8 15 rfl rfl)
theorem dX3_is_178 : decode cX3_is 178 = .ok (.iconst 0, 1) := dk_3 (dk_at dksX3_is_8 16 rfl rfl)
theorem dX3_is_179 : decode cX3_is 179 = .ok (.istore 5, 2) := dk_54 5 (dk_at dksX3_is_8 17 rfl rfl)
theorem dX3_is_181 : decode cX3_is 181 = .ok (.iload 5, 2) := dk_21 5 (dk_at dksX3_is_8 19 rfl rfl)
theorem dX3_is_183 : decode cX3_is 183 = .ok (.aload_n 2, 1) := dk_44 (dk_at dksX3_is_8 21 rfl rfl)
theorem dX3_is_184 : decode cX3_is 184 = .ok (.getfield 35, 3) := dk_180 0 35 (dk_at dksX3_is_9 0 rfl rfl)
theorem dX3_is_187 : decode cX3_is 187 = .ok (.invokevirtual 48, 3) := dk_182 0 48 (dk_at dksX3_is_9 3 rfl rfl)
theorem dX3_is_190 : decode cX3_is 190 = .ok (.if_icmp .ge 27, 3) := dk_162 0 27 (dk_at dksX3_is_9 6 rfl rfl)
theorem dX3_is_193 : decode cX3_is 193 = .ok (.aload_n 0, 1) := dk_42 (dk_at dksX3_is_9 9 rfl rfl)
theorem dX3_is_194 : decode cX3_is 194 = .ok (.aload_n 2, 1) := dk_44 (dk_at dksX3_is_9 10 rfl rfl)
theorem dX3_is_195 : decode cX3_is 195 = .ok (.getfield 35, 3) := dk_180 0 35 (dk_at dksX3_is_9 11 rfl rfl)
theorem dX3_is_198 : decode cX3_is 198 = .ok (.iload 5, 2) := dk_21 5 (dk_at dksX3_is_9 14 rfl rfl)
theorem dX3_is_200 : decode cX3_is 200 = .ok (.invokevirtual 39, 3) := dk_182 0 39 (dk_at dksX3_is_9 16 rfl rfl)
theorem dX3_is_203 : decode cX3_is 203 = .ok (.invokevirtual 45, 3) := dk_182 0 45 (dk_at dksX3_is_9 19 rfl rfl)
theorem dX3_is_206 : decode cX3_is 206 = .ok (.ifCond .eq 5, 3) := dk_153 0 5 (dk_at dksX3_is_10 0 rfl rfl)
theorem dX3_is_209 : decode cX3_is 209 = .ok (.iconst 1, 1) := dk_4 (dk_at dksX3_is_10 3 rfl rfl)
theorem dX3_is_210 : decode cX3_is 210 = .ok (.ireturn, 1) := dk_172 (dk_at dksX3_is_10 4 rfl rfl)
theorem dX3_is_211 : decode cX3_is 211 = .ok (.iinc 5 1, 3) := dk_132 5 1 (dk_at dksX3_is_10 5 rfl rfl)
theorem dX3_is_214 : decode cX3_is 214 = .ok (.goto (-33), 3) := dk_167 255 223 (dk_at dksX3_is_10 8 rfl rfl)
theorem dX3_is_217 : decode cX3_is 217 = .ok (.iconst 0, 1) := dk_3 (dk_at dksX3_is_10 11 rfl rfl)
theorem dX3_is_218 : decode cX3_is 218 = .ok (.ireturn, 1) := dk_172 (dk_at dksX3_is_10 12 rfl rfl)
abbrev cX3_compares : ByteArray := prog_7_method_6_code
def yX3_compares : MethodName := ⟨RX3, "compares", "(LCaseGrouper$Atom;I)Z"⟩
def dkwX3_compares_1 : List UInt8 := [167, 0, 16, 27, 42, 180, 0, 75, 164, 0, 7, 4, 167, 0, 4, 3, 172]
abbrev dktX3_compares_1 : List UInt8 := dkwX3_compares_1 ++ []
def dkwX3_compares_0 : List UInt8 := [42, 180, 0, 71, 16, 60, 160, 0, 19, 27, 42, 180, 0, 75, 162, 0, 7, 4, 167, 0, 20, 3]
abbrev dktX3_compares_0 : List UInt8 := dkwX3_compares_0 ++ dktX3_compares_1
theorem dksX3_compares_0 : cX3_compares.data.toList.drop 0 = dktX3_compares_0 := by decide +kernel
theorem dksX3_compares_1 : cX3_compares.data.toList.drop 22 = dktX3_compares_1 := dk_seg dksX3_compares_0 22 rfl rfl
theorem dX3_compares_0 : decode cX3_compares 0 = .ok (.aload_n 0, 1) := dk_42 (dk_at dksX3_compares_0 0 rfl rfl)
theorem dX3_compares_1 : decode cX3_compares 1 = .ok (.getfield 71, 3) := dk_180 0 71 (dk_at dksX3_compares_0 1 rfl rfl)
theorem dX3_compares_4 : decode cX3_compares 4 = .ok (.bipush 60, 2) := dk_16 60 (dk_at dksX3_compares_0 4 rfl rfl)
theorem dX3_compares_6 : decode cX3_compares 6 = .ok (.if_icmp .ne 19, 3) := dk_160 0 19 (dk_at dksX3_compares_0 6 rfl rfl)
theorem dX3_compares_9 : decode cX3_compares 9 = .ok (.iload_n 1, 1) := dk_27 (dk_at dksX3_compares_0 9 rfl rfl)
theorem dX3_compares_10 : decode cX3_compares 10 = .ok (.aload_n 0, 1) := dk_42 (dk_at dksX3_compares_0 10 rfl rfl)
theorem dX3_compares_11 : decode cX3_compares 11 = .ok (.getfield 75, 3) := dk_180 0 75 (dk_at dksX3_compares_0 11 rfl rfl)
theorem dX3_compares_14 : decode cX3_compares 14 = .ok (.if_icmp .ge 7, 3) := dk_162 0 7 (dk_at dksX3_compares_0 14 rfl rfl)
theorem dX3_compares_17 : decode cX3_compares 17 = .ok (.iconst 1, 1) := dk_4 (dk_at dksX3_compares_0 17 rfl rfl)
theorem dX3_compares_18 : decode cX3_compares 18 = .ok (.goto 20, 3) := dk_167 0 20 (dk_at dksX3_compares_0 18 rfl rfl)
theorem dX3_compares_21 : decode cX3_compares 21 = .ok (.iconst 0, 1) := dk_3 (dk_at dksX3_compares_0 21 rfl rfl)
theorem dX3_compares_22 : decode cX3_compares 22 = .ok (.goto 16, 3) := dk_167 0 16 (dk_at dksX3_compares_1 0 rfl rfl)
theorem dX3_compares_25 : decode cX3_compares 25 = .ok (.iload_n 1, 1) := dk_27 (dk_at dksX3_compares_1 3 rfl rfl)
theorem dX3_compares_26 : decode cX3_compares 26 = .ok (.aload_n 0, 1) := dk_42 (dk_at dksX3_compares_1 4 rfl rfl)
theorem dX3_compares_27 : decode cX3_compares 27 = .ok (.getfield 75, 3) := dk_180 0 75 (dk_at dksX3_compares_1 5 rfl rfl)
theorem dX3_compares_30 : decode cX3_compares 30 = .ok (.if_icmp .le 7, 3) := dk_164 0 7 (dk_at dksX3_compares_1 8 rfl rfl)
theorem dX3_compares_33 : decode cX3_compares 33 = .ok (.iconst 1, 1) := dk_4 (dk_at dksX3_compares_1 11 rfl rfl)
theorem dX3_compares_34 : decode cX3_compares 34 = .ok (.goto 4, 3) := dk_167 0 4 (dk_at dksX3_compares_1 12 rfl rfl)
theorem dX3_compares_37 : decode cX3_compares 37 = .ok (.iconst 0, 1) := dk_3 (dk_at dksX3_compares_1 15 rfl rfl)
theorem dX3_compares_38 : decode cX3_compares 38 = .ok (.ireturn, 1) := dk_172 (dk_at dksX3_compares_1 16 rfl rfl)
abbrev cX3_answers : ByteArray := prog_7_method_3_code
def yX3_answers : MethodName := ⟨RX3, "answers", "(Z)V"⟩
theorem dX3_answers_0 : decode cX3_answers 0 = .ok (.return_, 1) := by decide +kernel
theorem q126 : (Jvm.Cond.initialized "CaseGrouper$Facts") ∈ lw_all := lw_g (lw_at lw_m1 6 rfl) rfl
theorem q1126 : (Jvm.Cond.fieldLinkNest "CaseGrouper$Facts" (17 : Nat) "CaseGrouper$Joined" "word" "Ljava/lang/String;" "CaseGrouper") ∈ lw_tbl := lw_at lw_m5 46 rfl
theorem q1128 : (Jvm.Cond.fieldLinkNest "CaseGrouper$Facts" (35 : Nat) "CaseGrouper$Joined" "parts" "Ljava/util/ArrayList;" "CaseGrouper") ∈ lw_tbl := lw_at lw_m5 48 rfl
theorem q1161 : (Jvm.Cond.fieldLinkNest "CaseGrouper$Facts" (71 : Nat) "CaseGrouper$Atom" "sign" "I" "CaseGrouper") ∈ lw_tbl := lw_at lw_m5 81 rfl
theorem q1164 : (Jvm.Cond.fieldLinkNest "CaseGrouper$Facts" (75 : Nat) "CaseGrouper$Atom" "number" "I" "CaseGrouper") ∈ lw_tbl := lw_at lw_m5 84 rfl
theorem q1210 : (Jvm.Cond.fieldLinkNest "CaseGrouper$Facts" (55 : Nat) "CaseGrouper$Choice" "cond" "Ljava/lang/Object;" "CaseGrouper") ∈ lw_tbl := lw_at lw_m5 130 rfl
theorem q1212 : (Jvm.Cond.fieldLinkNest "CaseGrouper$Facts" (63 : Nat) "CaseGrouper$Choice" "nodes" "[Ljava/lang/Object;" "CaseGrouper") ∈ lw_tbl := lw_at lw_m5 132 rfl
theorem q1253 : (Jvm.Cond.instanceMethod ({ cls := "CaseGrouper$Facts", name := "<init>", desc := "()V" } : Jvm.MethodName)) ∈ lw_all := lw_g (lw_at lw_m5 173 rfl) rfl
theorem q1254 : (Jvm.Cond.code ({ cls := "CaseGrouper$Facts", name := "<init>", desc := "()V" } : Jvm.MethodName) prog_7_method_1_code (1 : Nat) (Option.none : Option Jvm.ClassFile.FieldType)) ∈ lw_all := lw_g (lw_at lw_m5 174 rfl) rfl
theorem q1255 : (Jvm.Cond.methodLink "CaseGrouper$Facts" (1 : Nat) ({ cls := "java/lang/Object", name := "<init>", desc := "()V" } : Jvm.MethodName)) ∈ lw_all := lw_g (lw_at lw_m5 175 rfl) rfl
theorem q1291 : (Jvm.Cond.declares ({ cls := "CaseGrouper$Facts", name := "goes", desc := "(Ljava/lang/Object;)LCaseGrouper$Leaf;" } : Jvm.MethodName)) ∈ lw_tbl := lw_at lw_m5 211 rfl
theorem q1293 : (Jvm.Cond.instanceMethod ({ cls := "CaseGrouper$Facts", name := "goes", desc := "(Ljava/lang/Object;)LCaseGrouper$Leaf;" } : Jvm.MethodName)) ∈ lw_all := lw_g (lw_at lw_m5 213 rfl) rfl
theorem q1294 : (Jvm.Cond.code ({ cls := "CaseGrouper$Facts", name := "goes", desc := "(Ljava/lang/Object;)LCaseGrouper$Leaf;" } : Jvm.MethodName) prog_7_method_5_code (4 : Nat) (Option.some (Jvm.ClassFile.FieldType.object "CaseGrouper$Leaf"))) ∈ lw_all := lw_g (lw_at lw_m5 214 rfl) rfl
theorem q1295 : (Jvm.Cond.classLink "CaseGrouper$Facts" (51 : Nat) "CaseGrouper$Leaf") ∈ lw_all := lw_g (lw_at lw_m5 215 rfl) rfl
theorem q1296 : (Jvm.Cond.classLink "CaseGrouper$Facts" (53 : Nat) "CaseGrouper$Choice") ∈ lw_all := lw_g (lw_at lw_m5 216 rfl) rfl
theorem q1297 : (Jvm.Cond.methodLink "CaseGrouper$Facts" (45 : Nat) ({ cls := "CaseGrouper$Facts", name := "is", desc := "(Ljava/lang/Object;)Z" } : Jvm.MethodName)) ∈ lw_all := lw_g (lw_at lw_m5 217 rfl) rfl
theorem q1298 : (Jvm.Cond.instanceMethod ({ cls := "CaseGrouper$Facts", name := "is", desc := "(Ljava/lang/Object;)Z" } : Jvm.MethodName)) ∈ lw_all := lw_g (lw_at lw_m5 218 rfl) rfl
theorem q1299 : (Jvm.Cond.sameMethod "CaseGrouper$Facts" "CaseGrouper$Facts" "is" "(Ljava/lang/Object;)Z") ∈ lw_all := lw_g (lw_at lw_m5 219 rfl) rfl
theorem q1302 : (Jvm.Cond.code ({ cls := "CaseGrouper$Facts", name := "is", desc := "(Ljava/lang/Object;)Z" } : Jvm.MethodName) prog_7_method_4_code (6 : Nat) (Option.some Jvm.ClassFile.FieldType.boolean)) ∈ lw_all := lw_g (lw_at lw_m5 222 rfl) rfl
theorem q1303 : (Jvm.Cond.classLink "CaseGrouper$Facts" (7 : Nat) "CaseGrouper$Atom") ∈ lw_all := lw_g (lw_at lw_m5 223 rfl) rfl
theorem q1304 : (Jvm.Cond.methodLink "CaseGrouper$Facts" (9 : Nat) ({ cls := "CaseGrouper$Facts", name := "holds", desc := "(LCaseGrouper$Atom;)Z" } : Jvm.MethodName)) ∈ lw_all := lw_g (lw_at lw_m5 224 rfl) rfl
theorem q1305 : (Jvm.Cond.declares ({ cls := "CaseGrouper$Facts", name := "holds", desc := "(LCaseGrouper$Atom;)Z" } : Jvm.MethodName)) ∈ lw_tbl := lw_at lw_m5 225 rfl
theorem q1306 : (Jvm.Cond.sameMethod "CaseGrouper$Facts" "CaseGrouper$Facts" "holds" "(LCaseGrouper$Atom;)Z") ∈ lw_all := lw_g (lw_at lw_m5 226 rfl) rfl
theorem q1334 : (Jvm.Cond.static ({ cls := "CaseGrouper$Facts", name := "compares", desc := "(LCaseGrouper$Atom;I)Z" } : Jvm.MethodName)) ∈ lw_all := lw_g (lw_at lw_m6 14 rfl) rfl
theorem q1335 : (Jvm.Cond.code ({ cls := "CaseGrouper$Facts", name := "compares", desc := "(LCaseGrouper$Atom;I)Z" } : Jvm.MethodName) prog_7_method_6_code (2 : Nat) (Option.some Jvm.ClassFile.FieldType.boolean)) ∈ lw_all := lw_g (lw_at lw_m6 15 rfl) rfl
theorem q1346 : (Jvm.Cond.classLink "CaseGrouper$Facts" (15 : Nat) "CaseGrouper$Joined") ∈ lw_all := lw_g (lw_at lw_m6 26 rfl) rfl
theorem q1347 : (Jvm.Cond.methodLink "CaseGrouper$Facts" (21 : Nat) ({ cls := "java/lang/String", name := "hashCode", desc := "()I" } : Jvm.MethodName)) ∈ lw_all := lw_g (lw_at lw_m6 27 rfl) rfl
theorem q1348 : (Jvm.Cond.stringRef "CaseGrouper$Facts" (27 : Nat) "not") ∈ lw_tbl := lw_at lw_m6 28 rfl
theorem q1349 : (Jvm.Cond.methodLink "CaseGrouper$Facts" (29 : Nat) ({ cls := "java/lang/String", name := "equals", desc := "(Ljava/lang/Object;)Z" } : Jvm.MethodName)) ∈ lw_all := lw_g (lw_at lw_m6 29 rfl) rfl
theorem q1350 : (Jvm.Cond.stringRef "CaseGrouper$Facts" (33 : Nat) "and") ∈ lw_tbl := lw_at lw_m6 30 rfl
theorem q1351 : (Jvm.Cond.methodLink "CaseGrouper$Facts" (39 : Nat) ({ cls := "java/util/ArrayList", name := "get", desc := "(I)Ljava/lang/Object;" } : Jvm.MethodName)) ∈ lw_all := lw_g (lw_at lw_m6 31 rfl) rfl
theorem q1352 : (Jvm.Cond.methodLink "CaseGrouper$Facts" (48 : Nat) ({ cls := "java/util/ArrayList", name := "size", desc := "()I" } : Jvm.MethodName)) ∈ lw_all := lw_g (lw_at lw_m6 32 rfl) rfl
theorem q1353 : (Jvm.Cond.methodLink "CaseGrouper$Facts" (59 : Nat) ({ cls := "CaseGrouper$Facts", name := "answers", desc := "(Z)V" } : Jvm.MethodName)) ∈ lw_all := lw_g (lw_at lw_m6 33 rfl) rfl
theorem q1354 : (Jvm.Cond.instanceMethod ({ cls := "CaseGrouper$Facts", name := "answers", desc := "(Z)V" } : Jvm.MethodName)) ∈ lw_all := lw_g (lw_at lw_m6 34 rfl) rfl
theorem q1355 : (Jvm.Cond.sameMethod "CaseGrouper$Facts" "CaseGrouper$Facts" "answers" "(Z)V") ∈ lw_all := lw_g (lw_at lw_m6 35 rfl) rfl
theorem q1360 : (Jvm.Cond.code ({ cls := "CaseGrouper$Facts", name := "answers", desc := "(Z)V" } : Jvm.MethodName) prog_7_method_3_code (2 : Nat) (Option.none : Option Jvm.ClassFile.FieldType)) ∈ lw_all := lw_g (lw_at lw_m6 40 rfl) rfl
theorem q1361 : (Jvm.Cond.methodLink "CaseGrouper$Facts" (67 : Nat) ({ cls := "CaseGrouper$Facts", name := "goes", desc := "(Ljava/lang/Object;)LCaseGrouper$Leaf;" } : Jvm.MethodName)) ∈ lw_all := lw_g (lw_at lw_m6 41 rfl) rfl
theorem q2461 : (Jvm.Cond.sameMethod "CaseGrouper$Facts" "CaseGrouper$Facts" "goes" "(Ljava/lang/Object;)LCaseGrouper$Leaf;") ∈ lw_all := lw_g (lw_at lw_m10 181 rfl) rfl
/-! CaseGrouper$Seen -/
set_option maxRecDepth 100000
def RX4 : String := "CaseGrouper$Seen"
def TX4 : u_T := fun k => match k with
  | 0 => ("CaseGrouper$Seen", "e", "LCaseGrouper$Edition;", false)
  | 1 => ("CaseGrouper$Seen", "s", "LCaseGrouper$Stay;", false)
  | 2 => ("CaseGrouper$Seen", "chapter", "I", false)
  | 3 => ("CaseGrouper$Seen", "top", "I", false)
  | 4 => ("CaseGrouper$Seen", "level", "I", false)
  | 5 => ("CaseGrouper$Seen", "leaf", "LCaseGrouper$Leaf;", false)
  | 6 => ("CaseGrouper$Seen", "ways", "I", false)
  | _ => ("CaseGrouper$Seen", "way", "J", false)
def tyX4 : Nat → FieldType := fun k => match k with
  | 0 => .object "CaseGrouper$Edition"
  | 1 => .object "CaseGrouper$Stay"
  | 2 => .int
  | 3 => .int
  | 4 => .int
  | 5 => .object "CaseGrouper$Leaf"
  | 6 => .int
  | _ => .long
abbrev wsX40 : List Cond := u_ws RX4 TX4 8
theorem nmX4 : ∀ a, a < 8 → ∀ b, b < 8 → a ≠ b → (TX4 a).2.1 ≠ (TX4 b).2.1 := by decide +kernel
theorem tyX4_ok : ∀ k, k < 8 → parseFieldDescriptor (TX4 k).2.2.1 = some (tyX4 k) := by decide +kernel
abbrev cX4_holds : ByteArray := prog_14_method_10_code
def yX4_holds : MethodName := ⟨RX4, "holds", "(LCaseGrouper$Atom;)Z"⟩
def dkwX4_holds_11 : List UInt8 := [184, 0, 174, 172, 43, 42, 180, 0, 37, 184, 0, 174, 172, 43, 42, 180, 0, 31, 184, 0, 174, 172]
abbrev dktX4_holds_11 : List UInt8 := dkwX4_holds_11 ++ []
def dkwX4_holds_10 : List UInt8 := [182, 0, 168, 172, 43, 42, 180, 0, 15, 180, 0, 172, 184, 0, 174, 172, 43, 42, 180, 0, 15, 180, 0, 178]
abbrev dktX4_holds_10 : List UInt8 := dkwX4_holds_10 ++ dktX4_holds_11
def dkwX4_holds_9 : List UInt8 := [180, 0, 15, 180, 0, 78, 182, 0, 114, 172, 42, 42, 180, 0, 15, 180, 0, 87, 43, 180, 0, 167]
abbrev dktX4_holds_9 : List UInt8 := dkwX4_holds_9 ++ dktX4_holds_10
def dkwX4_holds_8 : List UInt8 := [180, 0, 132, 43, 180, 0, 167, 182, 0, 168, 153, 0, 7, 4, 167, 0, 4, 3, 172, 43, 180, 0, 167, 42]
abbrev dktX4_holds_8 : List UInt8 := dkwX4_holds_8 ++ dktX4_holds_9
def dkwX4_holds_7 : List UInt8 := [43, 180, 0, 167, 42, 180, 0, 15, 180, 0, 78, 182, 0, 114, 154, 0, 21, 42, 42, 180, 0, 15]
abbrev dktX4_holds_7 : List UInt8 := dkwX4_holds_7 ++ dktX4_holds_8
def dkwX4_holds_6 : List UInt8 := [170, 0, 0, 0, 0, 143, 0, 0, 0, 0, 0, 0, 0, 5, 0, 0, 0, 38, 0, 0, 0, 79, 0, 0, 0, 94, 0, 0, 0, 110, 0, 0, 0, 122, 0, 0, 0, 134]
abbrev dktX4_holds_6 : List UInt8 := dkwX4_holds_6 ++ dktX4_holds_7
def dkwX4_holds_5 : List UInt8 := [18, 166, 182, 0, 155, 153, 0, 5, 8, 62, 29]
abbrev dktX4_holds_5 : List UInt8 := dkwX4_holds_5 ++ dktX4_holds_6
def dkwX4_holds_4 : List UInt8 := [153, 0, 33, 6, 62, 167, 0, 28, 44, 18, 164, 182, 0, 155, 153, 0, 19, 7, 62, 167, 0, 14, 44]
abbrev dktX4_holds_4 : List UInt8 := dkwX4_holds_4 ++ dktX4_holds_5
def dkwX4_holds_3 : List UInt8 := [62, 167, 0, 56, 44, 18, 160, 182, 0, 155, 153, 0, 47, 5, 62, 167, 0, 42, 44, 18, 162, 182, 0, 155]
abbrev dktX4_holds_3 : List UInt8 := dkwX4_holds_3 ++ dktX4_holds_4
def dkwX4_holds_2 : List UInt8 := [44, 18, 154, 182, 0, 155, 153, 0, 75, 3, 62, 167, 0, 70, 44, 18, 159, 182, 0, 155, 153, 0, 61, 4]
abbrev dktX4_holds_2 : List UInt8 := dkwX4_holds_2 ++ dktX4_holds_3
def dkwX4_holds_1 : List UInt8 := [171, 0, 0, 0, 138, 0, 0, 0, 6, 0, 1, 120, 255, 0, 0, 0, 99, 0, 1, 132, 127, 0, 0, 0, 85, 0, 1, 146, 154, 0, 0, 0, 57, 0, 46, 240, 87, 0, 0, 0, 113, 0, 51, 5, 185, 0, 0, 0, 71, 6, 33, 155, 132, 0, 0, 0, 127]
abbrev dktX4_holds_1 : List UInt8 := dkwX4_holds_1 ++ dktX4_holds_2
def dkwX4_holds_0 : List UInt8 := [43, 180, 0, 143, 77, 2, 62, 44, 182, 0, 149]
abbrev dktX4_holds_0 : List UInt8 := dkwX4_holds_0 ++ dktX4_holds_1
theorem dksX4_holds_0 : cX4_holds.data.toList.drop 0 = dktX4_holds_0 := by decide +kernel
theorem dksX4_holds_1 : cX4_holds.data.toList.drop 11 = dktX4_holds_1 := dk_seg dksX4_holds_0 11 rfl rfl
theorem dksX4_holds_2 : cX4_holds.data.toList.drop 68 = dktX4_holds_2 := dk_seg dksX4_holds_1 57 rfl rfl
theorem dksX4_holds_3 : cX4_holds.data.toList.drop 92 = dktX4_holds_3 := dk_seg dksX4_holds_2 24 rfl rfl
theorem dksX4_holds_4 : cX4_holds.data.toList.drop 116 = dktX4_holds_4 := dk_seg dksX4_holds_3 24 rfl rfl
theorem dksX4_holds_5 : cX4_holds.data.toList.drop 139 = dktX4_holds_5 := dk_seg dksX4_holds_4 23 rfl rfl
theorem dksX4_holds_6 : cX4_holds.data.toList.drop 150 = dktX4_holds_6 := dk_seg dksX4_holds_5 11 rfl rfl
theorem dksX4_holds_7 : cX4_holds.data.toList.drop 188 = dktX4_holds_7 := dk_seg dksX4_holds_6 38 rfl rfl
theorem dksX4_holds_8 : cX4_holds.data.toList.drop 210 = dktX4_holds_8 := dk_seg dksX4_holds_7 22 rfl rfl
theorem dksX4_holds_9 : cX4_holds.data.toList.drop 234 = dktX4_holds_9 := dk_seg dksX4_holds_8 24 rfl rfl
theorem dksX4_holds_10 : cX4_holds.data.toList.drop 256 = dktX4_holds_10 := dk_seg dksX4_holds_9 22 rfl rfl
theorem dksX4_holds_11 : cX4_holds.data.toList.drop 280 = dktX4_holds_11 := dk_seg dksX4_holds_10 24 rfl rfl
theorem dX4_holds_0 : decode cX4_holds 0 = .ok (.aload_n 1, 1) := dk_43 (dk_at dksX4_holds_0 0 rfl rfl)
theorem dX4_holds_1 : decode cX4_holds 1 = .ok (.getfield 143, 3) := dk_180 0 143 (dk_at dksX4_holds_0 1 rfl rfl)
theorem dX4_holds_4 : decode cX4_holds 4 = .ok (.astore_n 2, 1) := dk_77 (dk_at dksX4_holds_0 4 rfl rfl)
theorem dX4_holds_5 : decode cX4_holds 5 = .ok (.iconst (-1), 1) := dk_2 (dk_at dksX4_holds_0 5 rfl rfl)
theorem dX4_holds_6 : decode cX4_holds 6 = .ok (.istore_n 3, 1) := dk_62 (dk_at dksX4_holds_0 6 rfl rfl)
theorem dX4_holds_7 : decode cX4_holds 7 = .ok (.aload_n 2, 1) := dk_44 (dk_at dksX4_holds_0 7 rfl rfl)
theorem dX4_holds_8 : decode cX4_holds 8 = .ok (.invokevirtual 149, 3) := dk_182 0 149 (dk_at dksX4_holds_0 8 rfl rfl)
theorem dX4_holds_11 : decode cX4_holds 11 = .ok (.lookupswitch 138 #[(96511, 99), (99455, 85), (103066, 57), (3076183, 113), (3343801, 71), (102865796, 127)], 57) := by decide +kernel
theorem dX4_holds_68 : decode cX4_holds 68 = .ok (.aload_n 2, 1) := dk_44 (dk_at dksX4_holds_2 0 rfl rfl)
theorem dX4_holds_69 : decode cX4_holds 69 = .ok (.ldc 154, 2) := dk_18 154 (dk_at dksX4_holds_2 1 rfl rfl)
theorem dX4_holds_71 : decode cX4_holds 71 = .ok (.invokevirtual 155, 3) := dk_182 0 155 (dk_at dksX4_holds_2 3 rfl rfl)
theorem dX4_holds_74 : decode cX4_holds 74 = .ok (.ifCond .eq 75, 3) := dk_153 0 75 (dk_at dksX4_holds_2 6 rfl rfl)
theorem dX4_holds_77 : decode cX4_holds 77 = .ok (.iconst 0, 1) := dk_3 (dk_at dksX4_holds_2 9 rfl rfl)
theorem dX4_holds_78 : decode cX4_holds 78 = .ok (.istore_n 3, 1) := dk_62 (dk_at dksX4_holds_2 10 rfl rfl)
theorem dX4_holds_79 : decode cX4_holds 79 = .ok (.goto 70, 3) := dk_167 0 70 (dk_at dksX4_holds_2 11 rfl rfl)
theorem dX4_holds_82 : decode cX4_holds 82 = .ok (.aload_n 2, 1) := dk_44 (dk_at dksX4_holds_2 14 rfl rfl)
theorem dX4_holds_83 : decode cX4_holds 83 = .ok (.ldc 159, 2) := dk_18 159 (dk_at dksX4_holds_2 15 rfl rfl)
theorem dX4_holds_85 : decode cX4_holds 85 = .ok (.invokevirtual 155, 3) := dk_182 0 155 (dk_at dksX4_holds_2 17 rfl rfl)
theorem dX4_holds_88 : decode cX4_holds 88 = .ok (.ifCond .eq 61, 3) := dk_153 0 61 (dk_at dksX4_holds_2 20 rfl rfl)
theorem dX4_holds_91 : decode cX4_holds 91 = .ok (.iconst 1, 1) := dk_4 (dk_at dksX4_holds_2 23 rfl rfl)
theorem dX4_holds_92 : decode cX4_holds 92 = .ok (.istore_n 3, 1) := dk_62 (dk_at dksX4_holds_3 0 rfl rfl)
theorem dX4_holds_93 : decode cX4_holds 93 = .ok (.goto 56, 3) := dk_167 0 56 (dk_at dksX4_holds_3 1 rfl rfl)
theorem dX4_holds_96 : decode cX4_holds 96 = .ok (.aload_n 2, 1) := dk_44 (dk_at dksX4_holds_3 4 rfl rfl)
theorem dX4_holds_97 : decode cX4_holds 97 = .ok (.ldc 160, 2) := dk_18 160 (dk_at dksX4_holds_3 5 rfl rfl)
theorem dX4_holds_99 : decode cX4_holds 99 = .ok (.invokevirtual 155, 3) := dk_182 0 155 (dk_at dksX4_holds_3 7 rfl rfl)
theorem dX4_holds_102 : decode cX4_holds 102 = .ok (.ifCond .eq 47, 3) := dk_153 0 47 (dk_at dksX4_holds_3 10 rfl rfl)
theorem dX4_holds_105 : decode cX4_holds 105 = .ok (.iconst 2, 1) := dk_5 (dk_at dksX4_holds_3 13 rfl rfl)
theorem dX4_holds_106 : decode cX4_holds 106 = .ok (.istore_n 3, 1) := dk_62 (dk_at dksX4_holds_3 14 rfl rfl)
theorem dX4_holds_107 : decode cX4_holds 107 = .ok (.goto 42, 3) := dk_167 0 42 (dk_at dksX4_holds_3 15 rfl rfl)
theorem dX4_holds_110 : decode cX4_holds 110 = .ok (.aload_n 2, 1) := dk_44 (dk_at dksX4_holds_3 18 rfl rfl)
theorem dX4_holds_111 : decode cX4_holds 111 = .ok (.ldc 162, 2) := dk_18 162 (dk_at dksX4_holds_3 19 rfl rfl)
theorem dX4_holds_113 : decode cX4_holds 113 = .ok (.invokevirtual 155, 3) := dk_182 0 155 (dk_at dksX4_holds_3 21 rfl rfl)
theorem dX4_holds_116 : decode cX4_holds 116 = .ok (.ifCond .eq 33, 3) := dk_153 0 33 (dk_at dksX4_holds_4 0 rfl rfl)
theorem dX4_holds_119 : decode cX4_holds 119 = .ok (.iconst 3, 1) := dk_6 (dk_at dksX4_holds_4 3 rfl rfl)
theorem dX4_holds_120 : decode cX4_holds 120 = .ok (.istore_n 3, 1) := dk_62 (dk_at dksX4_holds_4 4 rfl rfl)
theorem dX4_holds_121 : decode cX4_holds 121 = .ok (.goto 28, 3) := dk_167 0 28 (dk_at dksX4_holds_4 5 rfl rfl)
theorem dX4_holds_124 : decode cX4_holds 124 = .ok (.aload_n 2, 1) := dk_44 (dk_at dksX4_holds_4 8 rfl rfl)
theorem dX4_holds_125 : decode cX4_holds 125 = .ok (.ldc 164, 2) := dk_18 164 (dk_at dksX4_holds_4 9 rfl rfl)
theorem dX4_holds_127 : decode cX4_holds 127 = .ok (.invokevirtual 155, 3) := dk_182 0 155 (dk_at dksX4_holds_4 11 rfl rfl)
theorem dX4_holds_130 : decode cX4_holds 130 = .ok (.ifCond .eq 19, 3) := dk_153 0 19 (dk_at dksX4_holds_4 14 rfl rfl)
theorem dX4_holds_133 : decode cX4_holds 133 = .ok (.iconst 4, 1) := dk_7 (dk_at dksX4_holds_4 17 rfl rfl)
theorem dX4_holds_134 : decode cX4_holds 134 = .ok (.istore_n 3, 1) := dk_62 (dk_at dksX4_holds_4 18 rfl rfl)
theorem dX4_holds_135 : decode cX4_holds 135 = .ok (.goto 14, 3) := dk_167 0 14 (dk_at dksX4_holds_4 19 rfl rfl)
theorem dX4_holds_138 : decode cX4_holds 138 = .ok (.aload_n 2, 1) := dk_44 (dk_at dksX4_holds_4 22 rfl rfl)
theorem dX4_holds_139 : decode cX4_holds 139 = .ok (.ldc 166, 2) := dk_18 166 (dk_at dksX4_holds_5 0 rfl rfl)
theorem dX4_holds_141 : decode cX4_holds 141 = .ok (.invokevirtual 155, 3) := dk_182 0 155 (dk_at dksX4_holds_5 2 rfl rfl)
theorem dX4_holds_144 : decode cX4_holds 144 = .ok (.ifCond .eq 5, 3) := dk_153 0 5 (dk_at dksX4_holds_5 5 rfl rfl)
theorem dX4_holds_147 : decode cX4_holds 147 = .ok (.iconst 5, 1) := dk_8 (dk_at dksX4_holds_5 8 rfl rfl)
theorem dX4_holds_148 : decode cX4_holds 148 = .ok (.istore_n 3, 1) := dk_62 (dk_at dksX4_holds_5 9 rfl rfl)
theorem dX4_holds_149 : decode cX4_holds 149 = .ok (.iload_n 3, 1) := dk_29 (dk_at dksX4_holds_5 10 rfl rfl)
theorem dX4_holds_150 : decode cX4_holds 150 = .ok (.tableswitch 143 0 5 #[38, 79, 94, 110, 122, 134], 38) := by decide +kernel
theorem dX4_holds_188 : decode cX4_holds 188 = .ok (.aload_n 1, 1) := dk_43 (dk_at dksX4_holds_7 0 rfl rfl)
theorem dX4_holds_189 : decode cX4_holds 189 = .ok (.getfield 167, 3) := dk_180 0 167 (dk_at dksX4_holds_7 1 rfl rfl)
theorem dX4_holds_192 : decode cX4_holds 192 = .ok (.aload_n 0, 1) := dk_42 (dk_at dksX4_holds_7 4 rfl rfl)
theorem dX4_holds_193 : decode cX4_holds 193 = .ok (.getfield 15, 3) := dk_180 0 15 (dk_at dksX4_holds_7 5 rfl rfl)
theorem dX4_holds_196 : decode cX4_holds 196 = .ok (.getfield 78, 3) := dk_180 0 78 (dk_at dksX4_holds_7 8 rfl rfl)
theorem dX4_holds_199 : decode cX4_holds 199 = .ok (.invokevirtual 114, 3) := dk_182 0 114 (dk_at dksX4_holds_7 11 rfl rfl)
theorem dX4_holds_202 : decode cX4_holds 202 = .ok (.ifCond .ne 21, 3) := dk_154 0 21 (dk_at dksX4_holds_7 14 rfl rfl)
theorem dX4_holds_205 : decode cX4_holds 205 = .ok (.aload_n 0, 1) := dk_42 (dk_at dksX4_holds_7 17 rfl rfl)
theorem dX4_holds_206 : decode cX4_holds 206 = .ok (.aload_n 0, 1) := dk_42 (dk_at dksX4_holds_7 18 rfl rfl)
theorem dX4_holds_207 : decode cX4_holds 207 = .ok (.getfield 15, 3) := dk_180 0 15 (dk_at dksX4_holds_7 19 rfl rfl)
theorem dX4_holds_210 : decode cX4_holds 210 = .ok (.getfield 132, 3) := dk_180 0 132 (dk_at dksX4_holds_8 0 rfl rfl)
theorem dX4_holds_213 : decode cX4_holds 213 = .ok (.aload_n 1, 1) := dk_43 (dk_at dksX4_holds_8 3 rfl rfl)
theorem dX4_holds_214 : decode cX4_holds 214 = .ok (.getfield 167, 3) := dk_180 0 167 (dk_at dksX4_holds_8 4 rfl rfl)
theorem dX4_holds_217 : decode cX4_holds 217 = .ok (.invokevirtual 168, 3) := dk_182 0 168 (dk_at dksX4_holds_8 7 rfl rfl)
theorem dX4_holds_220 : decode cX4_holds 220 = .ok (.ifCond .eq 7, 3) := dk_153 0 7 (dk_at dksX4_holds_8 10 rfl rfl)
theorem dX4_holds_223 : decode cX4_holds 223 = .ok (.iconst 1, 1) := dk_4 (dk_at dksX4_holds_8 13 rfl rfl)
theorem dX4_holds_224 : decode cX4_holds 224 = .ok (.goto 4, 3) := dk_167 0 4 (dk_at dksX4_holds_8 14 rfl rfl)
theorem dX4_holds_227 : decode cX4_holds 227 = .ok (.iconst 0, 1) := dk_3 (dk_at dksX4_holds_8 17 rfl rfl)
theorem dX4_holds_228 : decode cX4_holds 228 = .ok (.ireturn, 1) := dk_172 (dk_at dksX4_holds_8 18 rfl rfl)
theorem dX4_holds_229 : decode cX4_holds 229 = .ok (.aload_n 1, 1) := dk_43 (dk_at dksX4_holds_8 19 rfl rfl)
theorem dX4_holds_230 : decode cX4_holds 230 = .ok (.getfield 167, 3) := dk_180 0 167 (dk_at dksX4_holds_8 20 rfl rfl)
theorem dX4_holds_233 : decode cX4_holds 233 = .ok (.aload_n 0, 1) := dk_42 (dk_at dksX4_holds_8 23 rfl rfl)
theorem dX4_holds_234 : decode cX4_holds 234 = .ok (.getfield 15, 3) := dk_180 0 15 (dk_at dksX4_holds_9 0 rfl rfl)
theorem dX4_holds_237 : decode cX4_holds 237 = .ok (.getfield 78, 3) := dk_180 0 78 (dk_at dksX4_holds_9 3 rfl rfl)
theorem dX4_holds_240 : decode cX4_holds 240 = .ok (.invokevirtual 114, 3) := dk_182 0 114 (dk_at dksX4_holds_9 6 rfl rfl)
theorem dX4_holds_243 : decode cX4_holds 243 = .ok (.ireturn, 1) := dk_172 (dk_at dksX4_holds_9 9 rfl rfl)
theorem dX4_holds_244 : decode cX4_holds 244 = .ok (.aload_n 0, 1) := dk_42 (dk_at dksX4_holds_9 10 rfl rfl)
theorem dX4_holds_245 : decode cX4_holds 245 = .ok (.aload_n 0, 1) := dk_42 (dk_at dksX4_holds_9 11 rfl rfl)
theorem dX4_holds_246 : decode cX4_holds 246 = .ok (.getfield 15, 3) := dk_180 0 15 (dk_at dksX4_holds_9 12 rfl rfl)
theorem dX4_holds_249 : decode cX4_holds 249 = .ok (.getfield 87, 3) := dk_180 0 87 (dk_at dksX4_holds_9 15 rfl rfl)
theorem dX4_holds_252 : decode cX4_holds 252 = .ok (.aload_n 1, 1) := dk_43 (dk_at dksX4_holds_9 18 rfl rfl)
theorem dX4_holds_253 : decode cX4_holds 253 = .ok (.getfield 167, 3) := dk_180 0 167 (dk_at dksX4_holds_9 19 rfl rfl)
theorem dX4_holds_256 : decode cX4_holds 256 = .ok (.invokevirtual 168, 3) := dk_182 0 168 (dk_at dksX4_holds_10 0 rfl rfl)
theorem dX4_holds_259 : decode cX4_holds 259 = .ok (.ireturn, 1) := dk_172 (dk_at dksX4_holds_10 3 rfl rfl)
theorem dX4_holds_260 : decode cX4_holds 260 = .ok (.aload_n 1, 1) := dk_43 (dk_at dksX4_holds_10 4 rfl rfl)
theorem dX4_holds_261 : decode cX4_holds 261 = .ok (.aload_n 0, 1) := dk_42 (dk_at dksX4_holds_10 5 rfl rfl)
theorem dX4_holds_262 : decode cX4_holds 262 = .ok (.getfield 15, 3) := dk_180 0 15 (dk_at dksX4_holds_10 6 rfl rfl)
theorem dX4_holds_265 : decode cX4_holds 265 = .ok (.getfield 172, 3) := dk_180 0 172 (dk_at dksX4_holds_10 9 rfl rfl)
theorem dX4_holds_268 : decode cX4_holds 268 = .ok (.invokestatic 174, 3) := dk_184 0 174 (dk_at dksX4_holds_10 12 rfl rfl)
theorem dX4_holds_271 : decode cX4_holds 271 = .ok (.ireturn, 1) := dk_172 (dk_at dksX4_holds_10 15 rfl rfl)
theorem dX4_holds_272 : decode cX4_holds 272 = .ok (.aload_n 1, 1) := dk_43 (dk_at dksX4_holds_10 16 rfl rfl)
theorem dX4_holds_273 : decode cX4_holds 273 = .ok (.aload_n 0, 1) := dk_42 (dk_at dksX4_holds_10 17 rfl rfl)
theorem dX4_holds_274 : decode cX4_holds 274 = .ok (.getfield 15, 3) := dk_180 0 15 (dk_at dksX4_holds_10 18 rfl rfl)
theorem dX4_holds_277 : decode cX4_holds 277 = .ok (.getfield 178, 3) := dk_180 0 178 (dk_at dksX4_holds_10 21 rfl rfl)
theorem dX4_holds_280 : decode cX4_holds 280 = .ok (.invokestatic 174, 3) := dk_184 0 174 (dk_at dksX4_holds_11 0 rfl rfl)
theorem dX4_holds_283 : decode cX4_holds 283 = .ok (.ireturn, 1) := dk_172 (dk_at dksX4_holds_11 3 rfl rfl)
theorem dX4_holds_284 : decode cX4_holds 284 = .ok (.aload_n 1, 1) := dk_43 (dk_at dksX4_holds_11 4 rfl rfl)
theorem dX4_holds_285 : decode cX4_holds 285 = .ok (.aload_n 0, 1) := dk_42 (dk_at dksX4_holds_11 5 rfl rfl)
theorem dX4_holds_286 : decode cX4_holds 286 = .ok (.getfield 37, 3) := dk_180 0 37 (dk_at dksX4_holds_11 6 rfl rfl)
theorem dX4_holds_289 : decode cX4_holds 289 = .ok (.invokestatic 174, 3) := dk_184 0 174 (dk_at dksX4_holds_11 9 rfl rfl)
theorem dX4_holds_292 : decode cX4_holds 292 = .ok (.ireturn, 1) := dk_172 (dk_at dksX4_holds_11 12 rfl rfl)
theorem dX4_holds_293 : decode cX4_holds 293 = .ok (.aload_n 1, 1) := dk_43 (dk_at dksX4_holds_11 13 rfl rfl)
theorem dX4_holds_294 : decode cX4_holds 294 = .ok (.aload_n 0, 1) := dk_42 (dk_at dksX4_holds_11 14 rfl rfl)
theorem dX4_holds_295 : decode cX4_holds 295 = .ok (.getfield 31, 3) := dk_180 0 31 (dk_at dksX4_holds_11 15 rfl rfl)
theorem dX4_holds_298 : decode cX4_holds 298 = .ok (.invokestatic 174, 3) := dk_184 0 174 (dk_at dksX4_holds_11 18 rfl rfl)
theorem dX4_holds_301 : decode cX4_holds 301 = .ok (.ireturn, 1) := dk_172 (dk_at dksX4_holds_11 21 rfl rfl)
abbrev cX4_hasAny : ByteArray := prog_14_method_9_code
def yX4_hasAny : MethodName := ⟨RX4, "hasAny", "(Ljava/util/ArrayList;LCaseGrouper$Span;)Z"⟩
def dkwX4_hasAny_1 : List UInt8 := [182, 0, 114, 153, 0, 5, 4, 172, 132, 3, 1, 167, 255, 225, 3, 172]
abbrev dktX4_hasAny_1 : List UInt8 := dkwX4_hasAny_1 ++ []
def dkwX4_hasAny_0 : List UInt8 := [3, 62, 29, 43, 182, 0, 72, 162, 0, 29, 44, 43, 29, 182, 0, 52, 192, 0, 90, 182, 0, 92]
abbrev dktX4_hasAny_0 : List UInt8 := dkwX4_hasAny_0 ++ dktX4_hasAny_1
theorem dksX4_hasAny_0 : cX4_hasAny.data.toList.drop 0 = dktX4_hasAny_0 := by decide +kernel
theorem dksX4_hasAny_1 : cX4_hasAny.data.toList.drop 22 = dktX4_hasAny_1 := dk_seg dksX4_hasAny_0 22 rfl rfl
theorem dX4_hasAny_0 : decode cX4_hasAny 0 = .ok (.iconst 0, 1) := dk_3 (dk_at dksX4_hasAny_0 0 rfl rfl)
theorem dX4_hasAny_1 : decode cX4_hasAny 1 = .ok (.istore_n 3, 1) := dk_62 (dk_at dksX4_hasAny_0 1 rfl rfl)
theorem dX4_hasAny_2 : decode cX4_hasAny 2 = .ok (.iload_n 3, 1) := dk_29 (dk_at dksX4_hasAny_0 2 rfl rfl)
theorem dX4_hasAny_3 : decode cX4_hasAny 3 = .ok (.aload_n 1, 1) := dk_43 (dk_at dksX4_hasAny_0 3 rfl rfl)
theorem dX4_hasAny_4 : decode cX4_hasAny 4 = .ok (.invokevirtual 72, 3) := dk_182 0 72 (dk_at dksX4_hasAny_0 4 rfl rfl)
theorem dX4_hasAny_7 : decode cX4_hasAny 7 = .ok (.if_icmp .ge 29, 3) := dk_162 0 29 (dk_at dksX4_hasAny_0 7 rfl rfl)
theorem dX4_hasAny_10 : decode cX4_hasAny 10 = .ok (.aload_n 2, 1) := dk_44 (dk_at dksX4_hasAny_0 10 rfl rfl)
theorem dX4_hasAny_11 : decode cX4_hasAny 11 = .ok (.aload_n 1, 1) := dk_43 (dk_at dksX4_hasAny_0 11 rfl rfl)
theorem dX4_hasAny_12 : decode cX4_hasAny 12 = .ok (.iload_n 3, 1) := dk_29 (dk_at dksX4_hasAny_0 12 rfl rfl)
theorem dX4_hasAny_13 : decode cX4_hasAny 13 = .ok (.invokevirtual 52, 3) := dk_182 0 52 (dk_at dksX4_hasAny_0 13 rfl rfl)
theorem dX4_hasAny_16 : decode cX4_hasAny 16 = .ok (.checkcast 90, 3) := dk_192 0 90 (dk_at dksX4_hasAny_0 16 rfl rfl)
theorem dX4_hasAny_19 : decode cX4_hasAny 19 = .ok (.invokevirtual 92, 3) := dk_182 0 92 (dk_at dksX4_hasAny_0 19 rfl rfl)
theorem dX4_hasAny_22 : decode cX4_hasAny 22 = .ok (.invokevirtual 114, 3) := dk_182 0 114 (dk_at dksX4_hasAny_1 0 rfl rfl)
theorem dX4_hasAny_25 : decode cX4_hasAny 25 = .ok (.ifCond .eq 5, 3) := dk_153 0 5 (dk_at dksX4_hasAny_1 3 rfl rfl)
theorem dX4_hasAny_28 : decode cX4_hasAny 28 = .ok (.iconst 1, 1) := dk_4 (dk_at dksX4_hasAny_1 6 rfl rfl)
theorem dX4_hasAny_29 : decode cX4_hasAny 29 = .ok (.ireturn, 1) := dk_172 (dk_at dksX4_hasAny_1 7 rfl rfl)
theorem dX4_hasAny_30 : decode cX4_hasAny 30 = .ok (.iinc 3 1, 3) := dk_132 3 1 (dk_at dksX4_hasAny_1 8 rfl rfl)
theorem dX4_hasAny_33 : decode cX4_hasAny 33 = .ok (.goto (-31), 3) := dk_167 255 225 (dk_at dksX4_hasAny_1 11 rfl rfl)
theorem dX4_hasAny_36 : decode cX4_hasAny 36 = .ok (.iconst 0, 1) := dk_3 (dk_at dksX4_hasAny_1 14 rfl rfl)
theorem dX4_hasAny_37 : decode cX4_hasAny 37 = .ok (.ireturn, 1) := dk_172 (dk_at dksX4_hasAny_1 15 rfl rfl)
abbrev cX4_answers : ByteArray := prog_14_method_11_code
def yX4_answers : MethodName := ⟨RX4, "answers", "(Z)V"⟩
def dkwX4_answers_1 : List UInt8 := [89, 180, 0, 19, 4, 96, 181, 0, 19, 177]
abbrev dktX4_answers_1 : List UInt8 := dkwX4_answers_1 ++ []
def dkwX4_answers_0 : List UInt8 := [42, 89, 180, 0, 23, 27, 153, 0, 12, 10, 42, 180, 0, 19, 121, 167, 0, 4, 9, 129, 181, 0, 23, 42]
abbrev dktX4_answers_0 : List UInt8 := dkwX4_answers_0 ++ dktX4_answers_1
theorem dksX4_answers_0 : cX4_answers.data.toList.drop 0 = dktX4_answers_0 := by decide +kernel
theorem dksX4_answers_1 : cX4_answers.data.toList.drop 24 = dktX4_answers_1 := dk_seg dksX4_answers_0 24 rfl rfl
theorem dX4_answers_0 : decode cX4_answers 0 = .ok (.aload_n 0, 1) := dk_42 (dk_at dksX4_answers_0 0 rfl rfl)
theorem dX4_answers_1 : decode cX4_answers 1 = .ok (.dup, 1) := dk_89 (dk_at dksX4_answers_0 1 rfl rfl)
theorem dX4_answers_2 : decode cX4_answers 2 = .ok (.getfield 23, 3) := dk_180 0 23 (dk_at dksX4_answers_0 2 rfl rfl)
theorem dX4_answers_5 : decode cX4_answers 5 = .ok (.iload_n 1, 1) := dk_27 (dk_at dksX4_answers_0 5 rfl rfl)
theorem dX4_answers_6 : decode cX4_answers 6 = .ok (.ifCond .eq 12, 3) := dk_153 0 12 (dk_at dksX4_answers_0 6 rfl rfl)
theorem dX4_answers_9 : decode cX4_answers 9 = .ok (.lconst 1, 1) := dk_10 (dk_at dksX4_answers_0 9 rfl rfl)
theorem dX4_answers_10 : decode cX4_answers 10 = .ok (.aload_n 0, 1) := dk_42 (dk_at dksX4_answers_0 10 rfl rfl)
theorem dX4_answers_11 : decode cX4_answers 11 = .ok (.getfield 19, 3) := dk_180 0 19 (dk_at dksX4_answers_0 11 rfl rfl)
theorem dX4_answers_14 : decode cX4_answers 14 = .ok (.lshl, 1) := dk_121 (dk_at dksX4_answers_0 14 rfl rfl)
theorem dX4_answers_15 : decode cX4_answers 15 = .ok (.goto 4, 3) := dk_167 0 4 (dk_at dksX4_answers_0 15 rfl rfl)
theorem dX4_answers_18 : decode cX4_answers 18 = .ok (.lconst 0, 1) := dk_9 (dk_at dksX4_answers_0 18 rfl rfl)
theorem dX4_answers_19 : decode cX4_answers 19 = .ok (.lor, 1) := dk_129 (dk_at dksX4_answers_0 19 rfl rfl)
theorem dX4_answers_20 : decode cX4_answers 20 = .ok (.putfield 23, 3) := dk_181 0 23 (dk_at dksX4_answers_0 20 rfl rfl)
theorem dX4_answers_23 : decode cX4_answers 23 = .ok (.aload_n 0, 1) := dk_42 (dk_at dksX4_answers_0 23 rfl rfl)
theorem dX4_answers_24 : decode cX4_answers 24 = .ok (.dup, 1) := dk_89 (dk_at dksX4_answers_1 0 rfl rfl)
theorem dX4_answers_25 : decode cX4_answers 25 = .ok (.getfield 19, 3) := dk_180 0 19 (dk_at dksX4_answers_1 1 rfl rfl)
theorem dX4_answers_28 : decode cX4_answers 28 = .ok (.iconst 1, 1) := dk_4 (dk_at dksX4_answers_1 4 rfl rfl)
theorem dX4_answers_29 : decode cX4_answers 29 = .ok (.iadd, 1) := dk_96 (dk_at dksX4_answers_1 5 rfl rfl)
theorem dX4_answers_30 : decode cX4_answers 30 = .ok (.putfield 19, 3) := dk_181 0 19 (dk_at dksX4_answers_1 6 rfl rfl)
theorem dX4_answers_33 : decode cX4_answers 33 = .ok (.return_, 1) := dk_177 (dk_at dksX4_answers_1 9 rfl rfl)
abbrev cX4_init : ByteArray := prog_14_method_1_code
def yX4_init : MethodName := ⟨RX4, "<init>", "()V"⟩
theorem dX4_init_0 : decode cX4_init 0 = .ok (.aload_n 0, 1) := by decide +kernel
theorem dX4_init_1 : decode cX4_init 1 = .ok (.invokespecial 3, 3) := by decide +kernel
theorem dX4_init_4 : decode cX4_init 4 = .ok (.return_, 1) := by decide +kernel
abbrev cX4_looks : ByteArray := prog_14_method_2_code
def yX4_looks : MethodName := ⟨RX4, "looks", "(LCaseGrouper$Edition;LCaseGrouper$Stay;)V"⟩
def dkwX4_looks_3 : List UInt8 := [192, 0, 58, 180, 0, 60, 182, 0, 64, 181, 0, 68, 177]
abbrev dktX4_looks_3 : List UInt8 := dkwX4_looks_3 ++ []
def dkwX4_looks_2 : List UInt8 := [180, 0, 43, 156, 0, 7, 1, 167, 0, 24, 42, 43, 180, 0, 46, 42, 180, 0, 43, 182, 0, 52]
abbrev dktX4_looks_2 : List UInt8 := dkwX4_looks_2 ++ dktX4_looks_3
def dkwX4_looks_1 : List UInt8 := [182, 0, 27, 181, 0, 31, 42, 42, 182, 0, 34, 181, 0, 37, 42, 42, 182, 0, 40, 181, 0, 43, 42, 42]
abbrev dktX4_looks_1 : List UInt8 := dkwX4_looks_1 ++ dktX4_looks_2
def dkwX4_looks_0 : List UInt8 := [42, 43, 181, 0, 9, 42, 44, 181, 0, 15, 42, 3, 181, 0, 19, 42, 9, 181, 0, 23, 42, 42]
abbrev dktX4_looks_0 : List UInt8 := dkwX4_looks_0 ++ dktX4_looks_1
theorem dksX4_looks_0 : cX4_looks.data.toList.drop 0 = dktX4_looks_0 := by decide +kernel
theorem dksX4_looks_1 : cX4_looks.data.toList.drop 22 = dktX4_looks_1 := dk_seg dksX4_looks_0 22 rfl rfl
theorem dksX4_looks_2 : cX4_looks.data.toList.drop 46 = dktX4_looks_2 := dk_seg dksX4_looks_1 24 rfl rfl
theorem dksX4_looks_3 : cX4_looks.data.toList.drop 68 = dktX4_looks_3 := dk_seg dksX4_looks_2 22 rfl rfl
theorem dX4_looks_0 : decode cX4_looks 0 = .ok (.aload_n 0, 1) := dk_42 (dk_at dksX4_looks_0 0 rfl rfl)
theorem dX4_looks_1 : decode cX4_looks 1 = .ok (.aload_n 1, 1) := dk_43 (dk_at dksX4_looks_0 1 rfl rfl)
theorem dX4_looks_2 : decode cX4_looks 2 = .ok (.putfield 9, 3) := dk_181 0 9 (dk_at dksX4_looks_0 2 rfl rfl)
theorem dX4_looks_5 : decode cX4_looks 5 = .ok (.aload_n 0, 1) := dk_42 (dk_at dksX4_looks_0 5 rfl rfl)
theorem dX4_looks_6 : decode cX4_looks 6 = .ok (.aload_n 2, 1) := dk_44 (dk_at dksX4_looks_0 6 rfl rfl)
theorem dX4_looks_7 : decode cX4_looks 7 = .ok (.putfield 15, 3) := dk_181 0 15 (dk_at dksX4_looks_0 7 rfl rfl)
theorem dX4_looks_10 : decode cX4_looks 10 = .ok (.aload_n 0, 1) := dk_42 (dk_at dksX4_looks_0 10 rfl rfl)
theorem dX4_looks_11 : decode cX4_looks 11 = .ok (.iconst 0, 1) := dk_3 (dk_at dksX4_looks_0 11 rfl rfl)
theorem dX4_looks_12 : decode cX4_looks 12 = .ok (.putfield 19, 3) := dk_181 0 19 (dk_at dksX4_looks_0 12 rfl rfl)
theorem dX4_looks_15 : decode cX4_looks 15 = .ok (.aload_n 0, 1) := dk_42 (dk_at dksX4_looks_0 15 rfl rfl)
theorem dX4_looks_16 : decode cX4_looks 16 = .ok (.lconst 0, 1) := dk_9 (dk_at dksX4_looks_0 16 rfl rfl)
theorem dX4_looks_17 : decode cX4_looks 17 = .ok (.putfield 23, 3) := dk_181 0 23 (dk_at dksX4_looks_0 17 rfl rfl)
theorem dX4_looks_20 : decode cX4_looks 20 = .ok (.aload_n 0, 1) := dk_42 (dk_at dksX4_looks_0 20 rfl rfl)
theorem dX4_looks_21 : decode cX4_looks 21 = .ok (.aload_n 0, 1) := dk_42 (dk_at dksX4_looks_0 21 rfl rfl)
theorem dX4_looks_22 : decode cX4_looks 22 = .ok (.invokevirtual 27, 3) := dk_182 0 27 (dk_at dksX4_looks_1 0 rfl rfl)
theorem dX4_looks_25 : decode cX4_looks 25 = .ok (.putfield 31, 3) := dk_181 0 31 (dk_at dksX4_looks_1 3 rfl rfl)
theorem dX4_looks_28 : decode cX4_looks 28 = .ok (.aload_n 0, 1) := dk_42 (dk_at dksX4_looks_1 6 rfl rfl)
theorem dX4_looks_29 : decode cX4_looks 29 = .ok (.aload_n 0, 1) := dk_42 (dk_at dksX4_looks_1 7 rfl rfl)
theorem dX4_looks_30 : decode cX4_looks 30 = .ok (.invokevirtual 34, 3) := dk_182 0 34 (dk_at dksX4_looks_1 8 rfl rfl)
theorem dX4_looks_33 : decode cX4_looks 33 = .ok (.putfield 37, 3) := dk_181 0 37 (dk_at dksX4_looks_1 11 rfl rfl)
theorem dX4_looks_36 : decode cX4_looks 36 = .ok (.aload_n 0, 1) := dk_42 (dk_at dksX4_looks_1 14 rfl rfl)
theorem dX4_looks_37 : decode cX4_looks 37 = .ok (.aload_n 0, 1) := dk_42 (dk_at dksX4_looks_1 15 rfl rfl)
theorem dX4_looks_38 : decode cX4_looks 38 = .ok (.invokevirtual 40, 3) := dk_182 0 40 (dk_at dksX4_looks_1 16 rfl rfl)
theorem dX4_looks_41 : decode cX4_looks 41 = .ok (.putfield 43, 3) := dk_181 0 43 (dk_at dksX4_looks_1 19 rfl rfl)
theorem dX4_looks_44 : decode cX4_looks 44 = .ok (.aload_n 0, 1) := dk_42 (dk_at dksX4_looks_1 22 rfl rfl)
theorem dX4_looks_45 : decode cX4_looks 45 = .ok (.aload_n 0, 1) := dk_42 (dk_at dksX4_looks_1 23 rfl rfl)
theorem dX4_looks_46 : decode cX4_looks 46 = .ok (.getfield 43, 3) := dk_180 0 43 (dk_at dksX4_looks_2 0 rfl rfl)
theorem dX4_looks_49 : decode cX4_looks 49 = .ok (.ifCond .ge 7, 3) := dk_156 0 7 (dk_at dksX4_looks_2 3 rfl rfl)
theorem dX4_looks_52 : decode cX4_looks 52 = .ok (.aconst_null, 1) := dk_1 (dk_at dksX4_looks_2 6 rfl rfl)
theorem dX4_looks_53 : decode cX4_looks 53 = .ok (.goto 24, 3) := dk_167 0 24 (dk_at dksX4_looks_2 7 rfl rfl)
theorem dX4_looks_56 : decode cX4_looks 56 = .ok (.aload_n 0, 1) := dk_42 (dk_at dksX4_looks_2 10 rfl rfl)
theorem dX4_looks_57 : decode cX4_looks 57 = .ok (.aload_n 1, 1) := dk_43 (dk_at dksX4_looks_2 11 rfl rfl)
theorem dX4_looks_58 : decode cX4_looks 58 = .ok (.getfield 46, 3) := dk_180 0 46 (dk_at dksX4_looks_2 12 rfl rfl)
theorem dX4_looks_61 : decode cX4_looks 61 = .ok (.aload_n 0, 1) := dk_42 (dk_at dksX4_looks_2 15 rfl rfl)
theorem dX4_looks_62 : decode cX4_looks 62 = .ok (.getfield 43, 3) := dk_180 0 43 (dk_at dksX4_looks_2 16 rfl rfl)
theorem dX4_looks_65 : decode cX4_looks 65 = .ok (.invokevirtual 52, 3) := dk_182 0 52 (dk_at dksX4_looks_2 19 rfl rfl)
theorem dX4_looks_68 : decode cX4_looks 68 = .ok (.checkcast 58, 3) := dk_192 0 58 (dk_at dksX4_looks_3 0 rfl rfl)
theorem dX4_looks_71 : decode cX4_looks 71 = .ok (.getfield 60, 3) := dk_180 0 60 (dk_at dksX4_looks_3 3 rfl rfl)
theorem dX4_looks_74 : decode cX4_looks 74 = .ok (.invokevirtual 64, 3) := dk_182 0 64 (dk_at dksX4_looks_3 6 rfl rfl)
theorem dX4_looks_77 : decode cX4_looks 77 = .ok (.putfield 68, 3) := dk_181 0 68 (dk_at dksX4_looks_3 9 rfl rfl)
theorem dX4_looks_80 : decode cX4_looks 80 = .ok (.return_, 1) := dk_177 (dk_at dksX4_looks_3 12 rfl rfl)
abbrev cX4_topOf : ByteArray := prog_14_method_4_code
def yX4_topOf : MethodName := ⟨RX4, "topOf", "()I"⟩
def dkwX4_topOf_2 : List UInt8 := [167, 255, 213, 27, 172]
abbrev dktX4_topOf_2 : List UInt8 := dkwX4_topOf_2 ++ []
def dkwX4_topOf_1 : List UInt8 := [180, 0, 87, 28, 182, 0, 52, 192, 0, 90, 182, 0, 92, 182, 0, 95, 184, 0, 99, 60, 132, 2, 1]
abbrev dktX4_topOf_1 : List UInt8 := dkwX4_topOf_1 ++ dktX4_topOf_2
def dkwX4_topOf_0 : List UInt8 := [3, 60, 3, 61, 28, 42, 180, 0, 15, 180, 0, 87, 182, 0, 72, 162, 0, 35, 27, 42, 42, 180, 0, 15]
abbrev dktX4_topOf_0 : List UInt8 := dkwX4_topOf_0 ++ dktX4_topOf_1
theorem dksX4_topOf_0 : cX4_topOf.data.toList.drop 0 = dktX4_topOf_0 := by decide +kernel
theorem dksX4_topOf_1 : cX4_topOf.data.toList.drop 24 = dktX4_topOf_1 := dk_seg dksX4_topOf_0 24 rfl rfl
theorem dksX4_topOf_2 : cX4_topOf.data.toList.drop 47 = dktX4_topOf_2 := dk_seg dksX4_topOf_1 23 rfl rfl
theorem dX4_topOf_0 : decode cX4_topOf 0 = .ok (.iconst 0, 1) := dk_3 (dk_at dksX4_topOf_0 0 rfl rfl)
theorem dX4_topOf_1 : decode cX4_topOf 1 = .ok (.istore_n 1, 1) := dk_60 (dk_at dksX4_topOf_0 1 rfl rfl)
theorem dX4_topOf_2 : decode cX4_topOf 2 = .ok (.iconst 0, 1) := dk_3 (dk_at dksX4_topOf_0 2 rfl rfl)
theorem dX4_topOf_3 : decode cX4_topOf 3 = .ok (.istore_n 2, 1) := dk_61 (dk_at dksX4_topOf_0 3 rfl rfl)
theorem dX4_topOf_4 : decode cX4_topOf 4 = .ok (.iload_n 2, 1) := dk_28 (dk_at dksX4_topOf_0 4 rfl rfl)
theorem dX4_topOf_5 : decode cX4_topOf 5 = .ok (.aload_n 0, 1) := dk_42 (dk_at dksX4_topOf_0 5 rfl rfl)
theorem dX4_topOf_6 : decode cX4_topOf 6 = .ok (.getfield 15, 3) := dk_180 0 15 (dk_at dksX4_topOf_0 6 rfl rfl)
theorem dX4_topOf_9 : decode cX4_topOf 9 = .ok (.getfield 87, 3) := dk_180 0 87 (dk_at dksX4_topOf_0 9 rfl rfl)
theorem dX4_topOf_12 : decode cX4_topOf 12 = .ok (.invokevirtual 72, 3) := dk_182 0 72 (dk_at dksX4_topOf_0 12 rfl rfl)
theorem dX4_topOf_15 : decode cX4_topOf 15 = .ok (.if_icmp .ge 35, 3) := dk_162 0 35 (dk_at dksX4_topOf_0 15 rfl rfl)
theorem dX4_topOf_18 : decode cX4_topOf 18 = .ok (.iload_n 1, 1) := dk_27 (dk_at dksX4_topOf_0 18 rfl rfl)
theorem dX4_topOf_19 : decode cX4_topOf 19 = .ok (.aload_n 0, 1) := dk_42 (dk_at dksX4_topOf_0 19 rfl rfl)
theorem dX4_topOf_20 : decode cX4_topOf 20 = .ok (.aload_n 0, 1) := dk_42 (dk_at dksX4_topOf_0 20 rfl rfl)
theorem dX4_topOf_21 : decode cX4_topOf 21 = .ok (.getfield 15, 3) := dk_180 0 15 (dk_at dksX4_topOf_0 21 rfl rfl)
theorem dX4_topOf_24 : decode cX4_topOf 24 = .ok (.getfield 87, 3) := dk_180 0 87 (dk_at dksX4_topOf_1 0 rfl rfl)
theorem dX4_topOf_27 : decode cX4_topOf 27 = .ok (.iload_n 2, 1) := dk_28 (dk_at dksX4_topOf_1 3 rfl rfl)
theorem dX4_topOf_28 : decode cX4_topOf 28 = .ok (.invokevirtual 52, 3) := dk_182 0 52 (dk_at dksX4_topOf_1 4 rfl rfl)
theorem dX4_topOf_31 : decode cX4_topOf 31 = .ok (.checkcast 90, 3) := dk_192 0 90 (dk_at dksX4_topOf_1 7 rfl rfl)
theorem dX4_topOf_34 : decode cX4_topOf 34 = .ok (.invokevirtual 92, 3) := dk_182 0 92 (dk_at dksX4_topOf_1 10 rfl rfl)
theorem dX4_topOf_37 : decode cX4_topOf 37 = .ok (.invokevirtual 95, 3) := dk_182 0 95 (dk_at dksX4_topOf_1 13 rfl rfl)
theorem dX4_topOf_40 : decode cX4_topOf 40 = .ok (.invokestatic 99, 3) := dk_184 0 99 (dk_at dksX4_topOf_1 16 rfl rfl)
theorem dX4_topOf_43 : decode cX4_topOf 43 = .ok (.istore_n 1, 1) := dk_60 (dk_at dksX4_topOf_1 19 rfl rfl)
theorem dX4_topOf_44 : decode cX4_topOf 44 = .ok (.iinc 2 1, 3) := dk_132 2 1 (dk_at dksX4_topOf_1 20 rfl rfl)
theorem dX4_topOf_47 : decode cX4_topOf 47 = .ok (.goto (-43), 3) := dk_167 255 213 (dk_at dksX4_topOf_2 0 rfl rfl)
theorem dX4_topOf_50 : decode cX4_topOf 50 = .ok (.iload_n 1, 1) := dk_27 (dk_at dksX4_topOf_2 3 rfl rfl)
theorem dX4_topOf_51 : decode cX4_topOf 51 = .ok (.ireturn, 1) := dk_172 (dk_at dksX4_topOf_2 4 rfl rfl)
abbrev cX4_rankOf : ByteArray := prog_14_method_5_code
def yX4_rankOf : MethodName := ⟨RX4, "rankOf", "(I)I"⟩
def dkwX4_rankOf_2 : List UInt8 := [182, 0, 52, 192, 0, 108, 180, 0, 120, 172, 132, 2, 1, 167, 255, 197, 3, 172]
abbrev dktX4_rankOf_2 : List UInt8 := dkwX4_rankOf_2 ++ []
def dkwX4_rankOf_1 : List UInt8 := [182, 0, 52, 192, 0, 108, 180, 0, 110, 27, 182, 0, 114, 153, 0, 21, 42, 180, 0, 9, 180, 0, 105, 28]
abbrev dktX4_rankOf_1 : List UInt8 := dkwX4_rankOf_1 ++ dktX4_rankOf_2
def dkwX4_rankOf_0 : List UInt8 := [3, 61, 28, 42, 180, 0, 9, 180, 0, 105, 182, 0, 72, 162, 0, 51, 42, 180, 0, 9, 180, 0, 105, 28]
abbrev dktX4_rankOf_0 : List UInt8 := dkwX4_rankOf_0 ++ dktX4_rankOf_1
theorem dksX4_rankOf_0 : cX4_rankOf.data.toList.drop 0 = dktX4_rankOf_0 := by decide +kernel
theorem dksX4_rankOf_1 : cX4_rankOf.data.toList.drop 24 = dktX4_rankOf_1 := dk_seg dksX4_rankOf_0 24 rfl rfl
theorem dksX4_rankOf_2 : cX4_rankOf.data.toList.drop 48 = dktX4_rankOf_2 := dk_seg dksX4_rankOf_1 24 rfl rfl
theorem dX4_rankOf_0 : decode cX4_rankOf 0 = .ok (.iconst 0, 1) := dk_3 (dk_at dksX4_rankOf_0 0 rfl rfl)
theorem dX4_rankOf_1 : decode cX4_rankOf 1 = .ok (.istore_n 2, 1) := dk_61 (dk_at dksX4_rankOf_0 1 rfl rfl)
theorem dX4_rankOf_2 : decode cX4_rankOf 2 = .ok (.iload_n 2, 1) := dk_28 (dk_at dksX4_rankOf_0 2 rfl rfl)
theorem dX4_rankOf_3 : decode cX4_rankOf 3 = .ok (.aload_n 0, 1) := dk_42 (dk_at dksX4_rankOf_0 3 rfl rfl)
theorem dX4_rankOf_4 : decode cX4_rankOf 4 = .ok (.getfield 9, 3) := dk_180 0 9 (dk_at dksX4_rankOf_0 4 rfl rfl)
theorem dX4_rankOf_7 : decode cX4_rankOf 7 = .ok (.getfield 105, 3) := dk_180 0 105 (dk_at dksX4_rankOf_0 7 rfl rfl)
theorem dX4_rankOf_10 : decode cX4_rankOf 10 = .ok (.invokevirtual 72, 3) := dk_182 0 72 (dk_at dksX4_rankOf_0 10 rfl rfl)
theorem dX4_rankOf_13 : decode cX4_rankOf 13 = .ok (.if_icmp .ge 51, 3) := dk_162 0 51 (dk_at dksX4_rankOf_0 13 rfl rfl)
theorem dX4_rankOf_16 : decode cX4_rankOf 16 = .ok (.aload_n 0, 1) := dk_42 (dk_at dksX4_rankOf_0 16 rfl rfl)
theorem dX4_rankOf_17 : decode cX4_rankOf 17 = .ok (.getfield 9, 3) := dk_180 0 9 (dk_at dksX4_rankOf_0 17 rfl rfl)
theorem dX4_rankOf_20 : decode cX4_rankOf 20 = .ok (.getfield 105, 3) := dk_180 0 105 (dk_at dksX4_rankOf_0 20 rfl rfl)
theorem dX4_rankOf_23 : decode cX4_rankOf 23 = .ok (.iload_n 2, 1) := dk_28 (dk_at dksX4_rankOf_0 23 rfl rfl)
theorem dX4_rankOf_24 : decode cX4_rankOf 24 = .ok (.invokevirtual 52, 3) := dk_182 0 52 (dk_at dksX4_rankOf_1 0 rfl rfl)
theorem dX4_rankOf_27 : decode cX4_rankOf 27 = .ok (.checkcast 108, 3) := dk_192 0 108 (dk_at dksX4_rankOf_1 3 rfl rfl)
theorem dX4_rankOf_30 : decode cX4_rankOf 30 = .ok (.getfield 110, 3) := dk_180 0 110 (dk_at dksX4_rankOf_1 6 rfl rfl)
theorem dX4_rankOf_33 : decode cX4_rankOf 33 = .ok (.iload_n 1, 1) := dk_27 (dk_at dksX4_rankOf_1 9 rfl rfl)
theorem dX4_rankOf_34 : decode cX4_rankOf 34 = .ok (.invokevirtual 114, 3) := dk_182 0 114 (dk_at dksX4_rankOf_1 10 rfl rfl)
theorem dX4_rankOf_37 : decode cX4_rankOf 37 = .ok (.ifCond .eq 21, 3) := dk_153 0 21 (dk_at dksX4_rankOf_1 13 rfl rfl)
theorem dX4_rankOf_40 : decode cX4_rankOf 40 = .ok (.aload_n 0, 1) := dk_42 (dk_at dksX4_rankOf_1 16 rfl rfl)
theorem dX4_rankOf_41 : decode cX4_rankOf 41 = .ok (.getfield 9, 3) := dk_180 0 9 (dk_at dksX4_rankOf_1 17 rfl rfl)
theorem dX4_rankOf_44 : decode cX4_rankOf 44 = .ok (.getfield 105, 3) := dk_180 0 105 (dk_at dksX4_rankOf_1 20 rfl rfl)
theorem dX4_rankOf_47 : decode cX4_rankOf 47 = .ok (.iload_n 2, 1) := dk_28 (dk_at dksX4_rankOf_1 23 rfl rfl)
theorem dX4_rankOf_48 : decode cX4_rankOf 48 = .ok (.invokevirtual 52, 3) := dk_182 0 52 (dk_at dksX4_rankOf_2 0 rfl rfl)
theorem dX4_rankOf_51 : decode cX4_rankOf 51 = .ok (.checkcast 108, 3) := dk_192 0 108 (dk_at dksX4_rankOf_2 3 rfl rfl)
theorem dX4_rankOf_54 : decode cX4_rankOf 54 = .ok (.getfield 120, 3) := dk_180 0 120 (dk_at dksX4_rankOf_2 6 rfl rfl)
theorem dX4_rankOf_57 : decode cX4_rankOf 57 = .ok (.ireturn, 1) := dk_172 (dk_at dksX4_rankOf_2 9 rfl rfl)
theorem dX4_rankOf_58 : decode cX4_rankOf 58 = .ok (.iinc 2 1, 3) := dk_132 2 1 (dk_at dksX4_rankOf_2 10 rfl rfl)
theorem dX4_rankOf_61 : decode cX4_rankOf 61 = .ok (.goto (-59), 3) := dk_167 255 197 (dk_at dksX4_rankOf_2 13 rfl rfl)
theorem dX4_rankOf_64 : decode cX4_rankOf 64 = .ok (.iconst 0, 1) := dk_3 (dk_at dksX4_rankOf_2 16 rfl rfl)
theorem dX4_rankOf_65 : decode cX4_rankOf 65 = .ok (.ireturn, 1) := dk_172 (dk_at dksX4_rankOf_2 17 rfl rfl)
abbrev cX4_levelOf : ByteArray := prog_14_method_8_code
def yX4_levelOf : MethodName := ⟨RX4, "levelOf", "()I"⟩
def dkwX4_levelOf_3 : List UInt8 := [180, 0, 142, 184, 0, 99, 60, 132, 2, 1, 167, 255, 181, 27, 172]
abbrev dktX4_levelOf_3 : List UInt8 := dkwX4_levelOf_3 ++ []
def dkwX4_levelOf_2 : List UInt8 := [21, 4, 182, 0, 138, 153, 0, 26, 27, 42, 180, 0, 9, 180, 0, 123, 21, 4, 182, 0, 52, 192, 0, 126]
abbrev dktX4_levelOf_2 : List UInt8 := dkwX4_levelOf_2 ++ dktX4_levelOf_3
def dkwX4_levelOf_1 : List UInt8 := [180, 0, 132, 28, 182, 0, 52, 192, 0, 90, 182, 0, 92, 62, 42, 29, 182, 0, 135, 54, 4, 42, 29]
abbrev dktX4_levelOf_1 : List UInt8 := dkwX4_levelOf_1 ++ dktX4_levelOf_2
def dkwX4_levelOf_0 : List UInt8 := [3, 60, 3, 61, 28, 42, 180, 0, 15, 180, 0, 132, 182, 0, 72, 162, 0, 67, 42, 180, 0, 15]
abbrev dktX4_levelOf_0 : List UInt8 := dkwX4_levelOf_0 ++ dktX4_levelOf_1
theorem dksX4_levelOf_0 : cX4_levelOf.data.toList.drop 0 = dktX4_levelOf_0 := by decide +kernel
theorem dksX4_levelOf_1 : cX4_levelOf.data.toList.drop 22 = dktX4_levelOf_1 := dk_seg dksX4_levelOf_0 22 rfl rfl
theorem dksX4_levelOf_2 : cX4_levelOf.data.toList.drop 45 = dktX4_levelOf_2 := dk_seg dksX4_levelOf_1 23 rfl rfl
theorem dksX4_levelOf_3 : cX4_levelOf.data.toList.drop 69 = dktX4_levelOf_3 := dk_seg dksX4_levelOf_2 24 rfl rfl
theorem dX4_levelOf_0 : decode cX4_levelOf 0 = .ok (.iconst 0, 1) := dk_3 (dk_at dksX4_levelOf_0 0 rfl rfl)
theorem dX4_levelOf_1 : decode cX4_levelOf 1 = .ok (.istore_n 1, 1) := dk_60 (dk_at dksX4_levelOf_0 1 rfl rfl)
theorem dX4_levelOf_2 : decode cX4_levelOf 2 = .ok (.iconst 0, 1) := dk_3 (dk_at dksX4_levelOf_0 2 rfl rfl)
theorem dX4_levelOf_3 : decode cX4_levelOf 3 = .ok (.istore_n 2, 1) := dk_61 (dk_at dksX4_levelOf_0 3 rfl rfl)
theorem dX4_levelOf_4 : decode cX4_levelOf 4 = .ok (.iload_n 2, 1) := dk_28 (dk_at dksX4_levelOf_0 4 rfl rfl)
theorem dX4_levelOf_5 : decode cX4_levelOf 5 = .ok (.aload_n 0, 1) := dk_42 (dk_at dksX4_levelOf_0 5 rfl rfl)
theorem dX4_levelOf_6 : decode cX4_levelOf 6 = .ok (.getfield 15, 3) := dk_180 0 15 (dk_at dksX4_levelOf_0 6 rfl rfl)
theorem dX4_levelOf_9 : decode cX4_levelOf 9 = .ok (.getfield 132, 3) := dk_180 0 132 (dk_at dksX4_levelOf_0 9 rfl rfl)
theorem dX4_levelOf_12 : decode cX4_levelOf 12 = .ok (.invokevirtual 72, 3) := dk_182 0 72 (dk_at dksX4_levelOf_0 12 rfl rfl)
theorem dX4_levelOf_15 : decode cX4_levelOf 15 = .ok (.if_icmp .ge 67, 3) := dk_162 0 67 (dk_at dksX4_levelOf_0 15 rfl rfl)
theorem dX4_levelOf_18 : decode cX4_levelOf 18 = .ok (.aload_n 0, 1) := dk_42 (dk_at dksX4_levelOf_0 18 rfl rfl)
theorem dX4_levelOf_19 : decode cX4_levelOf 19 = .ok (.getfield 15, 3) := dk_180 0 15 (dk_at dksX4_levelOf_0 19 rfl rfl)
theorem dX4_levelOf_22 : decode cX4_levelOf 22 = .ok (.getfield 132, 3) := dk_180 0 132 (dk_at dksX4_levelOf_1 0 rfl rfl)
theorem dX4_levelOf_25 : decode cX4_levelOf 25 = .ok (.iload_n 2, 1) := dk_28 (dk_at dksX4_levelOf_1 3 rfl rfl)
theorem dX4_levelOf_26 : decode cX4_levelOf 26 = .ok (.invokevirtual 52, 3) := dk_182 0 52 (dk_at dksX4_levelOf_1 4 rfl rfl)
theorem dX4_levelOf_29 : decode cX4_levelOf 29 = .ok (.checkcast 90, 3) := dk_192 0 90 (dk_at dksX4_levelOf_1 7 rfl rfl)
theorem dX4_levelOf_32 : decode cX4_levelOf 32 = .ok (.invokevirtual 92, 3) := dk_182 0 92 (dk_at dksX4_levelOf_1 10 rfl rfl)
theorem dX4_levelOf_35 : decode cX4_levelOf 35 = .ok (.istore_n 3, 1) := dk_62 (dk_at dksX4_levelOf_1 13 rfl rfl)
theorem dX4_levelOf_36 : decode cX4_levelOf 36 = .ok (.aload_n 0, 1) := dk_42 (dk_at dksX4_levelOf_1 14 rfl rfl)
theorem dX4_levelOf_37 : decode cX4_levelOf 37 = .ok (.iload_n 3, 1) := dk_29 (dk_at dksX4_levelOf_1 15 rfl rfl)
theorem dX4_levelOf_38 : decode cX4_levelOf 38 = .ok (.invokevirtual 135, 3) := dk_182 0 135 (dk_at dksX4_levelOf_1 16 rfl rfl)
theorem dX4_levelOf_41 : decode cX4_levelOf 41 = .ok (.istore 4, 2) := dk_54 4 (dk_at dksX4_levelOf_1 19 rfl rfl)
theorem dX4_levelOf_43 : decode cX4_levelOf 43 = .ok (.aload_n 0, 1) := dk_42 (dk_at dksX4_levelOf_1 21 rfl rfl)
theorem dX4_levelOf_44 : decode cX4_levelOf 44 = .ok (.iload_n 3, 1) := dk_29 (dk_at dksX4_levelOf_1 22 rfl rfl)
theorem dX4_levelOf_45 : decode cX4_levelOf 45 = .ok (.iload 4, 2) := dk_21 4 (dk_at dksX4_levelOf_2 0 rfl rfl)
theorem dX4_levelOf_47 : decode cX4_levelOf 47 = .ok (.invokevirtual 138, 3) := dk_182 0 138 (dk_at dksX4_levelOf_2 2 rfl rfl)
theorem dX4_levelOf_50 : decode cX4_levelOf 50 = .ok (.ifCond .eq 26, 3) := dk_153 0 26 (dk_at dksX4_levelOf_2 5 rfl rfl)
theorem dX4_levelOf_53 : decode cX4_levelOf 53 = .ok (.iload_n 1, 1) := dk_27 (dk_at dksX4_levelOf_2 8 rfl rfl)
theorem dX4_levelOf_54 : decode cX4_levelOf 54 = .ok (.aload_n 0, 1) := dk_42 (dk_at dksX4_levelOf_2 9 rfl rfl)
theorem dX4_levelOf_55 : decode cX4_levelOf 55 = .ok (.getfield 9, 3) := dk_180 0 9 (dk_at dksX4_levelOf_2 10 rfl rfl)
theorem dX4_levelOf_58 : decode cX4_levelOf 58 = .ok (.getfield 123, 3) := dk_180 0 123 (dk_at dksX4_levelOf_2 13 rfl rfl)
theorem dX4_levelOf_61 : decode cX4_levelOf 61 = .ok (.iload 4, 2) := dk_21 4 (dk_at dksX4_levelOf_2 16 rfl rfl)
theorem dX4_levelOf_63 : decode cX4_levelOf 63 = .ok (.invokevirtual 52, 3) := dk_182 0 52 (dk_at dksX4_levelOf_2 18 rfl rfl)
theorem dX4_levelOf_66 : decode cX4_levelOf 66 = .ok (.checkcast 126, 3) := dk_192 0 126 (dk_at dksX4_levelOf_2 21 rfl rfl)
theorem dX4_levelOf_69 : decode cX4_levelOf 69 = .ok (.getfield 142, 3) := dk_180 0 142 (dk_at dksX4_levelOf_3 0 rfl rfl)
theorem dX4_levelOf_72 : decode cX4_levelOf 72 = .ok (.invokestatic 99, 3) := dk_184 0 99 (dk_at dksX4_levelOf_3 3 rfl rfl)
theorem dX4_levelOf_75 : decode cX4_levelOf 75 = .ok (.istore_n 1, 1) := dk_60 (dk_at dksX4_levelOf_3 6 rfl rfl)
theorem dX4_levelOf_76 : decode cX4_levelOf 76 = .ok (.iinc 2 1, 3) := dk_132 2 1 (dk_at dksX4_levelOf_3 7 rfl rfl)
theorem dX4_levelOf_79 : decode cX4_levelOf 79 = .ok (.goto (-75), 3) := dk_167 255 181 (dk_at dksX4_levelOf_3 10 rfl rfl)
theorem dX4_levelOf_82 : decode cX4_levelOf 82 = .ok (.iload_n 1, 1) := dk_27 (dk_at dksX4_levelOf_3 13 rfl rfl)
theorem dX4_levelOf_83 : decode cX4_levelOf 83 = .ok (.ireturn, 1) := dk_172 (dk_at dksX4_levelOf_3 14 rfl rfl)
abbrev cX4_partnerOf : ByteArray := prog_14_method_6_code
def yX4_partnerOf : MethodName := ⟨RX4, "partnerOf", "(I)I"⟩
def dkwX4_partnerOf_2 : List UInt8 := [2, 172]
abbrev dktX4_partnerOf_2 : List UInt8 := dkwX4_partnerOf_2 ++ []
def dkwX4_partnerOf_1 : List UInt8 := [182, 0, 52, 192, 0, 126, 180, 0, 128, 27, 182, 0, 114, 153, 0, 5, 28, 172, 132, 2, 1, 167, 255, 213]
abbrev dktX4_partnerOf_1 : List UInt8 := dkwX4_partnerOf_1 ++ dktX4_partnerOf_2
def dkwX4_partnerOf_0 : List UInt8 := [3, 61, 28, 42, 180, 0, 9, 180, 0, 123, 182, 0, 72, 162, 0, 35, 42, 180, 0, 9, 180, 0, 123, 28]
abbrev dktX4_partnerOf_0 : List UInt8 := dkwX4_partnerOf_0 ++ dktX4_partnerOf_1
theorem dksX4_partnerOf_0 : cX4_partnerOf.data.toList.drop 0 = dktX4_partnerOf_0 := by decide +kernel
theorem dksX4_partnerOf_1 : cX4_partnerOf.data.toList.drop 24 = dktX4_partnerOf_1 := dk_seg dksX4_partnerOf_0 24 rfl rfl
theorem dksX4_partnerOf_2 : cX4_partnerOf.data.toList.drop 48 = dktX4_partnerOf_2 := dk_seg dksX4_partnerOf_1 24 rfl rfl
theorem dX4_partnerOf_0 : decode cX4_partnerOf 0 = .ok (.iconst 0, 1) := dk_3 (dk_at dksX4_partnerOf_0 0 rfl rfl)
theorem dX4_partnerOf_1 : decode cX4_partnerOf 1 = .ok (.istore_n 2, 1) := dk_61 (dk_at dksX4_partnerOf_0 1 rfl rfl)
theorem dX4_partnerOf_2 : decode cX4_partnerOf 2 = .ok (.iload_n 2, 1) := dk_28 (dk_at dksX4_partnerOf_0 2 rfl rfl)
theorem dX4_partnerOf_3 : decode cX4_partnerOf 3 = .ok (.aload_n 0, 1) := dk_42 (dk_at dksX4_partnerOf_0 3 rfl rfl)
theorem dX4_partnerOf_4 : decode cX4_partnerOf 4 = .ok (.getfield 9, 3) := dk_180 0 9 (dk_at dksX4_partnerOf_0 4 rfl rfl)
theorem dX4_partnerOf_7 : decode cX4_partnerOf 7 = .ok (.getfield 123, 3) := dk_180 0 123 (dk_at dksX4_partnerOf_0 7 rfl rfl)
theorem dX4_partnerOf_10 : decode cX4_partnerOf 10 = .ok (.invokevirtual 72, 3) := dk_182 0 72 (dk_at dksX4_partnerOf_0 10 rfl rfl)
theorem dX4_partnerOf_13 : decode cX4_partnerOf 13 = .ok (.if_icmp .ge 35, 3) := dk_162 0 35 (dk_at dksX4_partnerOf_0 13 rfl rfl)
theorem dX4_partnerOf_16 : decode cX4_partnerOf 16 = .ok (.aload_n 0, 1) := dk_42 (dk_at dksX4_partnerOf_0 16 rfl rfl)
theorem dX4_partnerOf_17 : decode cX4_partnerOf 17 = .ok (.getfield 9, 3) := dk_180 0 9 (dk_at dksX4_partnerOf_0 17 rfl rfl)
theorem dX4_partnerOf_20 : decode cX4_partnerOf 20 = .ok (.getfield 123, 3) := dk_180 0 123 (dk_at dksX4_partnerOf_0 20 rfl rfl)
theorem dX4_partnerOf_23 : decode cX4_partnerOf 23 = .ok (.iload_n 2, 1) := dk_28 (dk_at dksX4_partnerOf_0 23 rfl rfl)
theorem dX4_partnerOf_24 : decode cX4_partnerOf 24 = .ok (.invokevirtual 52, 3) := dk_182 0 52 (dk_at dksX4_partnerOf_1 0 rfl rfl)
theorem dX4_partnerOf_27 : decode cX4_partnerOf 27 = .ok (.checkcast 126, 3) := dk_192 0 126 (dk_at dksX4_partnerOf_1 3 rfl rfl)
theorem dX4_partnerOf_30 : decode cX4_partnerOf 30 = .ok (.getfield 128, 3) := dk_180 0 128 (dk_at dksX4_partnerOf_1 6 rfl rfl)
theorem dX4_partnerOf_33 : decode cX4_partnerOf 33 = .ok (.iload_n 1, 1) := dk_27 (dk_at dksX4_partnerOf_1 9 rfl rfl)
theorem dX4_partnerOf_34 : decode cX4_partnerOf 34 = .ok (.invokevirtual 114, 3) := dk_182 0 114 (dk_at dksX4_partnerOf_1 10 rfl rfl)
theorem dX4_partnerOf_37 : decode cX4_partnerOf 37 = .ok (.ifCond .eq 5, 3) := dk_153 0 5 (dk_at dksX4_partnerOf_1 13 rfl rfl)
theorem dX4_partnerOf_40 : decode cX4_partnerOf 40 = .ok (.iload_n 2, 1) := dk_28 (dk_at dksX4_partnerOf_1 16 rfl rfl)
theorem dX4_partnerOf_41 : decode cX4_partnerOf 41 = .ok (.ireturn, 1) := dk_172 (dk_at dksX4_partnerOf_1 17 rfl rfl)
theorem dX4_partnerOf_42 : decode cX4_partnerOf 42 = .ok (.iinc 2 1, 3) := dk_132 2 1 (dk_at dksX4_partnerOf_1 18 rfl rfl)
theorem dX4_partnerOf_45 : decode cX4_partnerOf 45 = .ok (.goto (-43), 3) := dk_167 255 213 (dk_at dksX4_partnerOf_1 21 rfl rfl)
theorem dX4_partnerOf_48 : decode cX4_partnerOf 48 = .ok (.iconst (-1), 1) := dk_2 (dk_at dksX4_partnerOf_2 0 rfl rfl)
theorem dX4_partnerOf_49 : decode cX4_partnerOf 49 = .ok (.ireturn, 1) := dk_172 (dk_at dksX4_partnerOf_2 1 rfl rfl)
abbrev cX4_counts : ByteArray := prog_14_method_7_code
def yX4_counts : MethodName := ⟨RX4, "counts", "(II)Z"⟩
def dkwX4_counts_5 : List UInt8 := [3, 54, 4, 132, 5, 1, 167, 255, 179, 21, 4, 172]
abbrev dktX4_counts_5 : List UInt8 := dkwX4_counts_5 ++ []
def dkwX4_counts_4 : List UInt8 := [180, 0, 132, 21, 5, 182, 0, 52, 192, 0, 90, 182, 0, 92, 184, 0, 83, 154, 0, 7, 4, 167, 0, 4]
abbrev dktX4_counts_4 : List UInt8 := dkwX4_counts_4 ++ dktX4_counts_5
def dkwX4_counts_3 : List UInt8 := [180, 0, 132, 21, 5, 182, 0, 52, 192, 0, 90, 182, 0, 92, 27, 159, 0, 28, 45, 42, 180, 0, 15]
abbrev dktX4_counts_3 : List UInt8 := dkwX4_counts_3 ++ dktX4_counts_4
def dkwX4_counts_2 : List UInt8 := [21, 5, 42, 180, 0, 15, 180, 0, 132, 182, 0, 72, 162, 0, 68, 21, 4, 153, 0, 54, 42, 180, 0, 15]
abbrev dktX4_counts_2 : List UInt8 := dkwX4_counts_2 ++ dktX4_counts_3
def dkwX4_counts_1 : List UInt8 := [45, 42, 180, 0, 15, 180, 0, 78, 184, 0, 83, 154, 0, 7, 4, 167, 0, 4, 3, 54, 4, 3, 54, 5]
abbrev dktX4_counts_1 : List UInt8 := dkwX4_counts_1 ++ dktX4_counts_2
def dkwX4_counts_0 : List UInt8 := [28, 156, 0, 5, 3, 172, 42, 180, 0, 9, 180, 0, 123, 28, 182, 0, 52, 192, 0, 126, 180, 0, 129, 78]
abbrev dktX4_counts_0 : List UInt8 := dkwX4_counts_0 ++ dktX4_counts_1
theorem dksX4_counts_0 : cX4_counts.data.toList.drop 0 = dktX4_counts_0 := by decide +kernel
theorem dksX4_counts_1 : cX4_counts.data.toList.drop 24 = dktX4_counts_1 := dk_seg dksX4_counts_0 24 rfl rfl
theorem dksX4_counts_2 : cX4_counts.data.toList.drop 48 = dktX4_counts_2 := dk_seg dksX4_counts_1 24 rfl rfl
theorem dksX4_counts_3 : cX4_counts.data.toList.drop 72 = dktX4_counts_3 := dk_seg dksX4_counts_2 24 rfl rfl
theorem dksX4_counts_4 : cX4_counts.data.toList.drop 95 = dktX4_counts_4 := dk_seg dksX4_counts_3 23 rfl rfl
theorem dksX4_counts_5 : cX4_counts.data.toList.drop 119 = dktX4_counts_5 := dk_seg dksX4_counts_4 24 rfl rfl
theorem dX4_counts_0 : decode cX4_counts 0 = .ok (.iload_n 2, 1) := dk_28 (dk_at dksX4_counts_0 0 rfl rfl)
theorem dX4_counts_1 : decode cX4_counts 1 = .ok (.ifCond .ge 5, 3) := dk_156 0 5 (dk_at dksX4_counts_0 1 rfl rfl)
theorem dX4_counts_4 : decode cX4_counts 4 = .ok (.iconst 0, 1) := dk_3 (dk_at dksX4_counts_0 4 rfl rfl)
theorem dX4_counts_5 : decode cX4_counts 5 = .ok (.ireturn, 1) := dk_172 (dk_at dksX4_counts_0 5 rfl rfl)
theorem dX4_counts_6 : decode cX4_counts 6 = .ok (.aload_n 0, 1) := dk_42 (dk_at dksX4_counts_0 6 rfl rfl)
theorem dX4_counts_7 : decode cX4_counts 7 = .ok (.getfield 9, 3) := dk_180 0 9 (dk_at dksX4_counts_0 7 rfl rfl)
theorem dX4_counts_10 : decode cX4_counts 10 = .ok (.getfield 123, 3) := dk_180 0 123 (dk_at dksX4_counts_0 10 rfl rfl)
theorem dX4_counts_13 : decode cX4_counts 13 = .ok (.iload_n 2, 1) := dk_28 (dk_at dksX4_counts_0 13 rfl rfl)
theorem dX4_counts_14 : decode cX4_counts 14 = .ok (.invokevirtual 52, 3) := dk_182 0 52 (dk_at dksX4_counts_0 14 rfl rfl)
theorem dX4_counts_17 : decode cX4_counts 17 = .ok (.checkcast 126, 3) := dk_192 0 126 (dk_at dksX4_counts_0 17 rfl rfl)
theorem dX4_counts_20 : decode cX4_counts 20 = .ok (.getfield 129, 3) := dk_180 0 129 (dk_at dksX4_counts_0 20 rfl rfl)
theorem dX4_counts_23 : decode cX4_counts 23 = .ok (.astore_n 3, 1) := dk_78 (dk_at dksX4_counts_0 23 rfl rfl)
theorem dX4_counts_24 : decode cX4_counts 24 = .ok (.aload_n 3, 1) := dk_45 (dk_at dksX4_counts_1 0 rfl rfl)
theorem dX4_counts_25 : decode cX4_counts 25 = .ok (.aload_n 0, 1) := dk_42 (dk_at dksX4_counts_1 1 rfl rfl)
theorem dX4_counts_26 : decode cX4_counts 26 = .ok (.getfield 15, 3) := dk_180 0 15 (dk_at dksX4_counts_1 2 rfl rfl)
theorem dX4_counts_29 : decode cX4_counts 29 = .ok (.getfield 78, 3) := dk_180 0 78 (dk_at dksX4_counts_1 5 rfl rfl)
theorem dX4_counts_32 : decode cX4_counts 32 = .ok (.invokestatic 83, 3) := dk_184 0 83 (dk_at dksX4_counts_1 8 rfl rfl)
theorem dX4_counts_35 : decode cX4_counts 35 = .ok (.ifCond .ne 7, 3) := dk_154 0 7 (dk_at dksX4_counts_1 11 rfl rfl)
theorem dX4_counts_38 : decode cX4_counts 38 = .ok (.iconst 1, 1) := dk_4 (dk_at dksX4_counts_1 14 rfl rfl)
theorem dX4_counts_39 : decode cX4_counts 39 = .ok (.goto 4, 3) := dk_167 0 4 (dk_at dksX4_counts_1 15 rfl rfl)
theorem dX4_counts_42 : decode cX4_counts 42 = .ok (.iconst 0, 1) := dk_3 (dk_at dksX4_counts_1 18 rfl rfl)
theorem dX4_counts_43 : decode cX4_counts 43 = .ok (.istore 4, 2) := dk_54 4 (dk_at dksX4_counts_1 19 rfl rfl)
theorem dX4_counts_45 : decode cX4_counts 45 = .ok (.iconst 0, 1) := dk_3 (dk_at dksX4_counts_1 21 rfl rfl)
theorem dX4_counts_46 : decode cX4_counts 46 = .ok (.istore 5, 2) := dk_54 5 (dk_at dksX4_counts_1 22 rfl rfl)
theorem dX4_counts_48 : decode cX4_counts 48 = .ok (.iload 5, 2) := dk_21 5 (dk_at dksX4_counts_2 0 rfl rfl)
theorem dX4_counts_50 : decode cX4_counts 50 = .ok (.aload_n 0, 1) := dk_42 (dk_at dksX4_counts_2 2 rfl rfl)
theorem dX4_counts_51 : decode cX4_counts 51 = .ok (.getfield 15, 3) := dk_180 0 15 (dk_at dksX4_counts_2 3 rfl rfl)
theorem dX4_counts_54 : decode cX4_counts 54 = .ok (.getfield 132, 3) := dk_180 0 132 (dk_at dksX4_counts_2 6 rfl rfl)
theorem dX4_counts_57 : decode cX4_counts 57 = .ok (.invokevirtual 72, 3) := dk_182 0 72 (dk_at dksX4_counts_2 9 rfl rfl)
theorem dX4_counts_60 : decode cX4_counts 60 = .ok (.if_icmp .ge 68, 3) := dk_162 0 68 (dk_at dksX4_counts_2 12 rfl rfl)
theorem dX4_counts_63 : decode cX4_counts 63 = .ok (.iload 4, 2) := dk_21 4 (dk_at dksX4_counts_2 15 rfl rfl)
theorem dX4_counts_65 : decode cX4_counts 65 = .ok (.ifCond .eq 54, 3) := dk_153 0 54 (dk_at dksX4_counts_2 17 rfl rfl)
theorem dX4_counts_68 : decode cX4_counts 68 = .ok (.aload_n 0, 1) := dk_42 (dk_at dksX4_counts_2 20 rfl rfl)
theorem dX4_counts_69 : decode cX4_counts 69 = .ok (.getfield 15, 3) := dk_180 0 15 (dk_at dksX4_counts_2 21 rfl rfl)
theorem dX4_counts_72 : decode cX4_counts 72 = .ok (.getfield 132, 3) := dk_180 0 132 (dk_at dksX4_counts_3 0 rfl rfl)
theorem dX4_counts_75 : decode cX4_counts 75 = .ok (.iload 5, 2) := dk_21 5 (dk_at dksX4_counts_3 3 rfl rfl)
theorem dX4_counts_77 : decode cX4_counts 77 = .ok (.invokevirtual 52, 3) := dk_182 0 52 (dk_at dksX4_counts_3 5 rfl rfl)
theorem dX4_counts_80 : decode cX4_counts 80 = .ok (.checkcast 90, 3) := dk_192 0 90 (dk_at dksX4_counts_3 8 rfl rfl)
theorem dX4_counts_83 : decode cX4_counts 83 = .ok (.invokevirtual 92, 3) := dk_182 0 92 (dk_at dksX4_counts_3 11 rfl rfl)
theorem dX4_counts_86 : decode cX4_counts 86 = .ok (.iload_n 1, 1) := dk_27 (dk_at dksX4_counts_3 14 rfl rfl)
theorem dX4_counts_87 : decode cX4_counts 87 = .ok (.if_icmp .eq 28, 3) := dk_159 0 28 (dk_at dksX4_counts_3 15 rfl rfl)
theorem dX4_counts_90 : decode cX4_counts 90 = .ok (.aload_n 3, 1) := dk_45 (dk_at dksX4_counts_3 18 rfl rfl)
theorem dX4_counts_91 : decode cX4_counts 91 = .ok (.aload_n 0, 1) := dk_42 (dk_at dksX4_counts_3 19 rfl rfl)
theorem dX4_counts_92 : decode cX4_counts 92 = .ok (.getfield 15, 3) := dk_180 0 15 (dk_at dksX4_counts_3 20 rfl rfl)
theorem dX4_counts_95 : decode cX4_counts 95 = .ok (.getfield 132, 3) := dk_180 0 132 (dk_at dksX4_counts_4 0 rfl rfl)
theorem dX4_counts_98 : decode cX4_counts 98 = .ok (.iload 5, 2) := dk_21 5 (dk_at dksX4_counts_4 3 rfl rfl)
theorem dX4_counts_100 : decode cX4_counts 100 = .ok (.invokevirtual 52, 3) := dk_182 0 52 (dk_at dksX4_counts_4 5 rfl rfl)
theorem dX4_counts_103 : decode cX4_counts 103 = .ok (.checkcast 90, 3) := dk_192 0 90 (dk_at dksX4_counts_4 8 rfl rfl)
theorem dX4_counts_106 : decode cX4_counts 106 = .ok (.invokevirtual 92, 3) := dk_182 0 92 (dk_at dksX4_counts_4 11 rfl rfl)
theorem dX4_counts_109 : decode cX4_counts 109 = .ok (.invokestatic 83, 3) := dk_184 0 83 (dk_at dksX4_counts_4 14 rfl rfl)
theorem dX4_counts_112 : decode cX4_counts 112 = .ok (.ifCond .ne 7, 3) := dk_154 0 7 (dk_at dksX4_counts_4 17 rfl rfl)
theorem dX4_counts_115 : decode cX4_counts 115 = .ok (.iconst 1, 1) := dk_4 (dk_at dksX4_counts_4 20 rfl rfl)
theorem dX4_counts_116 : decode cX4_counts 116 = .ok (.goto 4, 3) := dk_167 0 4 (dk_at dksX4_counts_4 21 rfl rfl)
theorem dX4_counts_119 : decode cX4_counts 119 = .ok (.iconst 0, 1) := dk_3 (dk_at dksX4_counts_5 0 rfl rfl)
theorem dX4_counts_120 : decode cX4_counts 120 = .ok (.istore 4, 2) := dk_54 4 (dk_at dksX4_counts_5 1 rfl rfl)
theorem dX4_counts_122 : decode cX4_counts 122 = .ok (.iinc 5 1, 3) := dk_132 5 1 (dk_at dksX4_counts_5 3 rfl rfl)
theorem dX4_counts_125 : decode cX4_counts 125 = .ok (.goto (-77), 3) := dk_167 255 179 (dk_at dksX4_counts_5 6 rfl rfl)
theorem dX4_counts_128 : decode cX4_counts 128 = .ok (.iload 4, 2) := dk_21 4 (dk_at dksX4_counts_5 9 rfl rfl)
theorem dX4_counts_130 : decode cX4_counts 130 = .ok (.ireturn, 1) := dk_172 (dk_at dksX4_counts_5 11 rfl rfl)
abbrev cX4_chapterOf : ByteArray := prog_14_method_3_code
def yX4_chapterOf : MethodName := ⟨RX4, "chapterOf", "()I"⟩
def dkwX4_chapterOf_2 : List UInt8 := [132, 1, 1, 167, 255, 207, 2, 172]
abbrev dktX4_chapterOf_2 : List UInt8 := dkwX4_chapterOf_2 ++ []
def dkwX4_chapterOf_1 : List UInt8 := [182, 0, 52, 192, 0, 58, 180, 0, 75, 42, 180, 0, 15, 180, 0, 78, 184, 0, 83, 153, 0, 5, 27, 172]
abbrev dktX4_chapterOf_1 : List UInt8 := dkwX4_chapterOf_1 ++ dktX4_chapterOf_2
def dkwX4_chapterOf_0 : List UInt8 := [3, 60, 27, 42, 180, 0, 9, 180, 0, 46, 182, 0, 72, 162, 0, 41, 42, 180, 0, 9, 180, 0, 46, 27]
abbrev dktX4_chapterOf_0 : List UInt8 := dkwX4_chapterOf_0 ++ dktX4_chapterOf_1
theorem dksX4_chapterOf_0 : cX4_chapterOf.data.toList.drop 0 = dktX4_chapterOf_0 := by decide +kernel
theorem dksX4_chapterOf_1 : cX4_chapterOf.data.toList.drop 24 = dktX4_chapterOf_1 := dk_seg dksX4_chapterOf_0 24 rfl rfl
theorem dksX4_chapterOf_2 : cX4_chapterOf.data.toList.drop 48 = dktX4_chapterOf_2 := dk_seg dksX4_chapterOf_1 24 rfl rfl
theorem dX4_chapterOf_0 : decode cX4_chapterOf 0 = .ok (.iconst 0, 1) := dk_3 (dk_at dksX4_chapterOf_0 0 rfl rfl)
theorem dX4_chapterOf_1 : decode cX4_chapterOf 1 = .ok (.istore_n 1, 1) := dk_60 (dk_at dksX4_chapterOf_0 1 rfl rfl)
theorem dX4_chapterOf_2 : decode cX4_chapterOf 2 = .ok (.iload_n 1, 1) := dk_27 (dk_at dksX4_chapterOf_0 2 rfl rfl)
theorem dX4_chapterOf_3 : decode cX4_chapterOf 3 = .ok (.aload_n 0, 1) := dk_42 (dk_at dksX4_chapterOf_0 3 rfl rfl)
theorem dX4_chapterOf_4 : decode cX4_chapterOf 4 = .ok (.getfield 9, 3) := dk_180 0 9 (dk_at dksX4_chapterOf_0 4 rfl rfl)
theorem dX4_chapterOf_7 : decode cX4_chapterOf 7 = .ok (.getfield 46, 3) := dk_180 0 46 (dk_at dksX4_chapterOf_0 7 rfl rfl)
theorem dX4_chapterOf_10 : decode cX4_chapterOf 10 = .ok (.invokevirtual 72, 3) := dk_182 0 72 (dk_at dksX4_chapterOf_0 10 rfl rfl)
theorem dX4_chapterOf_13 : decode cX4_chapterOf 13 = .ok (.if_icmp .ge 41, 3) := dk_162 0 41 (dk_at dksX4_chapterOf_0 13 rfl rfl)
theorem dX4_chapterOf_16 : decode cX4_chapterOf 16 = .ok (.aload_n 0, 1) := dk_42 (dk_at dksX4_chapterOf_0 16 rfl rfl)
theorem dX4_chapterOf_17 : decode cX4_chapterOf 17 = .ok (.getfield 9, 3) := dk_180 0 9 (dk_at dksX4_chapterOf_0 17 rfl rfl)
theorem dX4_chapterOf_20 : decode cX4_chapterOf 20 = .ok (.getfield 46, 3) := dk_180 0 46 (dk_at dksX4_chapterOf_0 20 rfl rfl)
theorem dX4_chapterOf_23 : decode cX4_chapterOf 23 = .ok (.iload_n 1, 1) := dk_27 (dk_at dksX4_chapterOf_0 23 rfl rfl)
theorem dX4_chapterOf_24 : decode cX4_chapterOf 24 = .ok (.invokevirtual 52, 3) := dk_182 0 52 (dk_at dksX4_chapterOf_1 0 rfl rfl)
theorem dX4_chapterOf_27 : decode cX4_chapterOf 27 = .ok (.checkcast 58, 3) := dk_192 0 58 (dk_at dksX4_chapterOf_1 3 rfl rfl)
theorem dX4_chapterOf_30 : decode cX4_chapterOf 30 = .ok (.getfield 75, 3) := dk_180 0 75 (dk_at dksX4_chapterOf_1 6 rfl rfl)
theorem dX4_chapterOf_33 : decode cX4_chapterOf 33 = .ok (.aload_n 0, 1) := dk_42 (dk_at dksX4_chapterOf_1 9 rfl rfl)
theorem dX4_chapterOf_34 : decode cX4_chapterOf 34 = .ok (.getfield 15, 3) := dk_180 0 15 (dk_at dksX4_chapterOf_1 10 rfl rfl)
theorem dX4_chapterOf_37 : decode cX4_chapterOf 37 = .ok (.getfield 78, 3) := dk_180 0 78 (dk_at dksX4_chapterOf_1 13 rfl rfl)
theorem dX4_chapterOf_40 : decode cX4_chapterOf 40 = .ok (.invokestatic 83, 3) := dk_184 0 83 (dk_at dksX4_chapterOf_1 16 rfl rfl)
theorem dX4_chapterOf_43 : decode cX4_chapterOf 43 = .ok (.ifCond .eq 5, 3) := dk_153 0 5 (dk_at dksX4_chapterOf_1 19 rfl rfl)
theorem dX4_chapterOf_46 : decode cX4_chapterOf 46 = .ok (.iload_n 1, 1) := dk_27 (dk_at dksX4_chapterOf_1 22 rfl rfl)
theorem dX4_chapterOf_47 : decode cX4_chapterOf 47 = .ok (.ireturn, 1) := dk_172 (dk_at dksX4_chapterOf_1 23 rfl rfl)
theorem dX4_chapterOf_48 : decode cX4_chapterOf 48 = .ok (.iinc 1 1, 3) := dk_132 1 1 (dk_at dksX4_chapterOf_2 0 rfl rfl)
theorem dX4_chapterOf_51 : decode cX4_chapterOf 51 = .ok (.goto (-49), 3) := dk_167 255 207 (dk_at dksX4_chapterOf_2 3 rfl rfl)
theorem dX4_chapterOf_54 : decode cX4_chapterOf 54 = .ok (.iconst (-1), 1) := dk_2 (dk_at dksX4_chapterOf_2 6 rfl rfl)
theorem dX4_chapterOf_55 : decode cX4_chapterOf 55 = .ok (.ireturn, 1) := dk_172 (dk_at dksX4_chapterOf_2 7 rfl rfl)
abbrev cX4_cls : ByteArray := prog_14_method_12_code
def yX4_cls : MethodName := ⟨RX4, "cls", "()I"⟩
def dkwX4_cls_0 : List UInt8 := [42, 180, 0, 68, 199, 0, 7, 2, 167, 0, 10, 42, 180, 0, 68, 180, 0, 180, 172]
abbrev dktX4_cls_0 : List UInt8 := dkwX4_cls_0 ++ []
theorem dksX4_cls_0 : cX4_cls.data.toList.drop 0 = dktX4_cls_0 := by decide +kernel
theorem dX4_cls_0 : decode cX4_cls 0 = .ok (.aload_n 0, 1) := dk_42 (dk_at dksX4_cls_0 0 rfl rfl)
theorem dX4_cls_1 : decode cX4_cls 1 = .ok (.getfield 68, 3) := dk_180 0 68 (dk_at dksX4_cls_0 1 rfl rfl)
theorem dX4_cls_4 : decode cX4_cls 4 = .ok (.ifnonnull 7, 3) := dk_199 0 7 (dk_at dksX4_cls_0 4 rfl rfl)
theorem dX4_cls_7 : decode cX4_cls 7 = .ok (.iconst (-1), 1) := dk_2 (dk_at dksX4_cls_0 7 rfl rfl)
theorem dX4_cls_8 : decode cX4_cls 8 = .ok (.goto 10, 3) := dk_167 0 10 (dk_at dksX4_cls_0 8 rfl rfl)
theorem dX4_cls_11 : decode cX4_cls 11 = .ok (.aload_n 0, 1) := dk_42 (dk_at dksX4_cls_0 11 rfl rfl)
theorem dX4_cls_12 : decode cX4_cls 12 = .ok (.getfield 68, 3) := dk_180 0 68 (dk_at dksX4_cls_0 12 rfl rfl)
theorem dX4_cls_15 : decode cX4_cls 15 = .ok (.getfield 180, 3) := dk_180 0 180 (dk_at dksX4_cls_0 15 rfl rfl)
theorem dX4_cls_18 : decode cX4_cls 18 = .ok (.ireturn, 1) := dk_172 (dk_at dksX4_cls_0 18 rfl rfl)
abbrev cX4_weight : ByteArray := prog_14_method_13_code
def yX4_weight : MethodName := ⟨RX4, "weight", "()I"⟩
def dkwX4_weight_1 : List UInt8 := [180, 0, 180, 53, 172]
abbrev dktX4_weight_1 : List UInt8 := dkwX4_weight_1 ++ []
def dkwX4_weight_0 : List UInt8 := [42, 180, 0, 68, 199, 0, 7, 3, 167, 0, 18, 42, 180, 0, 9, 180, 0, 185, 42, 180, 0, 68]
abbrev dktX4_weight_0 : List UInt8 := dkwX4_weight_0 ++ dktX4_weight_1
theorem dksX4_weight_0 : cX4_weight.data.toList.drop 0 = dktX4_weight_0 := by decide +kernel
theorem dksX4_weight_1 : cX4_weight.data.toList.drop 22 = dktX4_weight_1 := dk_seg dksX4_weight_0 22 rfl rfl
theorem dX4_weight_0 : decode cX4_weight 0 = .ok (.aload_n 0, 1) := dk_42 (dk_at dksX4_weight_0 0 rfl rfl)
theorem dX4_weight_1 : decode cX4_weight 1 = .ok (.getfield 68, 3) := dk_180 0 68 (dk_at dksX4_weight_0 1 rfl rfl)
theorem dX4_weight_4 : decode cX4_weight 4 = .ok (.ifnonnull 7, 3) := dk_199 0 7 (dk_at dksX4_weight_0 4 rfl rfl)
theorem dX4_weight_7 : decode cX4_weight 7 = .ok (.iconst 0, 1) := dk_3 (dk_at dksX4_weight_0 7 rfl rfl)
theorem dX4_weight_8 : decode cX4_weight 8 = .ok (.goto 18, 3) := dk_167 0 18 (dk_at dksX4_weight_0 8 rfl rfl)
theorem dX4_weight_11 : decode cX4_weight 11 = .ok (.aload_n 0, 1) := dk_42 (dk_at dksX4_weight_0 11 rfl rfl)
theorem dX4_weight_12 : decode cX4_weight 12 = .ok (.getfield 9, 3) := dk_180 0 9 (dk_at dksX4_weight_0 12 rfl rfl)
theorem dX4_weight_15 : decode cX4_weight 15 = .ok (.getfield 185, 3) := dk_180 0 185 (dk_at dksX4_weight_0 15 rfl rfl)
theorem dX4_weight_18 : decode cX4_weight 18 = .ok (.aload_n 0, 1) := dk_42 (dk_at dksX4_weight_0 18 rfl rfl)
theorem dX4_weight_19 : decode cX4_weight 19 = .ok (.getfield 68, 3) := dk_180 0 68 (dk_at dksX4_weight_0 19 rfl rfl)
theorem dX4_weight_22 : decode cX4_weight 22 = .ok (.getfield 180, 3) := dk_180 0 180 (dk_at dksX4_weight_1 0 rfl rfl)
theorem dX4_weight_25 : decode cX4_weight 25 = .ok (.saload, 1) := dk_53 (dk_at dksX4_weight_1 3 rfl rfl)
theorem dX4_weight_26 : decode cX4_weight 26 = .ok (.ireturn, 1) := dk_172 (dk_at dksX4_weight_1 4 rfl rfl)
theorem q127 : (Jvm.Cond.initialized "CaseGrouper$Seen") ∈ lw_all := lw_g (lw_at lw_m1 7 rfl) rfl
theorem q231 : (Jvm.Cond.fieldLinkNest "CaseGrouper$Seen" (46 : Nat) "CaseGrouper$Edition" "chapters" "Ljava/util/ArrayList;" "CaseGrouper") ∈ lw_tbl := lw_at lw_m1 111 rfl
theorem q235 : (Jvm.Cond.fieldLinkNest "CaseGrouper$Seen" (105 : Nat) "CaseGrouper$Edition" "ranks" "Ljava/util/ArrayList;" "CaseGrouper") ∈ lw_tbl := lw_at lw_m1 115 rfl
theorem q239 : (Jvm.Cond.fieldLinkNest "CaseGrouper$Seen" (123 : Nat) "CaseGrouper$Edition" "partners" "Ljava/util/ArrayList;" "CaseGrouper") ∈ lw_tbl := lw_at lw_m1 119 rfl
theorem q249 : (Jvm.Cond.fieldLinkNest "CaseGrouper$Seen" (185 : Nat) "CaseGrouper$Edition" "weights" "[S" "CaseGrouper") ∈ lw_tbl := lw_at lw_m1 129 rfl
theorem q809 : (Jvm.Cond.fieldLinkNest "CaseGrouper$Seen" (75 : Nat) "CaseGrouper$Chapter" "spans" "Ljava/util/ArrayList;" "CaseGrouper") ∈ lw_tbl := lw_at lw_m3 209 rfl
theorem q811 : (Jvm.Cond.fieldLinkNest "CaseGrouper$Seen" (60 : Nat) "CaseGrouper$Chapter" "tree" "Ljava/lang/Object;" "CaseGrouper") ∈ lw_tbl := lw_at lw_m3 211 rfl
theorem q944 : (Jvm.Cond.selects "CaseGrouper$Seen" ({ cls := "java/lang/Object", name := "getClass", desc := "()Ljava/lang/Class;" } : Jvm.MethodName) ({ cls := "java/lang/Object", name := "getClass", desc := "()Ljava/lang/Class;" } : Jvm.MethodName)) ∈ lw_all := lw_g (lw_at lw_m4 104 rfl) rfl
theorem q1001 : (Jvm.Cond.fieldLinkNest "CaseGrouper$Seen" (110 : Nat) "CaseGrouper$Rank" "span" "LCaseGrouper$Span;" "CaseGrouper") ∈ lw_tbl := lw_at lw_m4 161 rfl
theorem q1003 : (Jvm.Cond.fieldLinkNest "CaseGrouper$Seen" (120 : Nat) "CaseGrouper$Rank" "number" "I" "CaseGrouper") ∈ lw_tbl := lw_at lw_m4 163 rfl
theorem q1022 : (Jvm.Cond.fieldLinkNest "CaseGrouper$Seen" (128 : Nat) "CaseGrouper$Partner" "span" "LCaseGrouper$Span;" "CaseGrouper") ∈ lw_tbl := lw_at lw_m4 182 rfl
theorem q1024 : (Jvm.Cond.fieldLinkNest "CaseGrouper$Seen" (142 : Nat) "CaseGrouper$Partner" "level" "I" "CaseGrouper") ∈ lw_tbl := lw_at lw_m4 184 rfl
theorem q1026 : (Jvm.Cond.fieldLinkNest "CaseGrouper$Seen" (129 : Nat) "CaseGrouper$Partner" "but" "Ljava/util/ArrayList;" "CaseGrouper") ∈ lw_tbl := lw_at lw_m4 186 rfl
theorem q1090 : (Jvm.Cond.fieldLinkNest "CaseGrouper$Seen" (180 : Nat) "CaseGrouper$Leaf" "cls" "I" "CaseGrouper") ∈ lw_tbl := lw_at lw_m5 10 rfl
theorem q1157 : (Jvm.Cond.fieldLinkNest "CaseGrouper$Seen" (143 : Nat) "CaseGrouper$Atom" "word" "Ljava/lang/String;" "CaseGrouper") ∈ lw_tbl := lw_at lw_m5 77 rfl
theorem q1159 : (Jvm.Cond.fieldLinkNest "CaseGrouper$Seen" (167 : Nat) "CaseGrouper$Atom" "span" "LCaseGrouper$Span;" "CaseGrouper") ∈ lw_tbl := lw_at lw_m5 79 rfl
theorem q1300 : (Jvm.Cond.selects "CaseGrouper$Seen" ({ cls := "CaseGrouper$Facts", name := "is", desc := "(Ljava/lang/Object;)Z" } : Jvm.MethodName) ({ cls := "CaseGrouper$Facts", name := "is", desc := "(Ljava/lang/Object;)Z" } : Jvm.MethodName)) ∈ lw_all := lw_g (lw_at lw_m5 220 rfl) rfl
theorem q1307 : (Jvm.Cond.selects "CaseGrouper$Seen" ({ cls := "CaseGrouper$Facts", name := "holds", desc := "(LCaseGrouper$Atom;)Z" } : Jvm.MethodName) ({ cls := "CaseGrouper$Seen", name := "holds", desc := "(LCaseGrouper$Atom;)Z" } : Jvm.MethodName)) ∈ lw_all := lw_g (lw_at lw_m5 227 rfl) rfl
theorem q1308 : (Jvm.Cond.instanceMethod ({ cls := "CaseGrouper$Seen", name := "holds", desc := "(LCaseGrouper$Atom;)Z" } : Jvm.MethodName)) ∈ lw_all := lw_g (lw_at lw_m5 228 rfl) rfl
theorem q1309 : (Jvm.Cond.code ({ cls := "CaseGrouper$Seen", name := "holds", desc := "(LCaseGrouper$Atom;)Z" } : Jvm.MethodName) prog_14_method_10_code (4 : Nat) (Option.some Jvm.ClassFile.FieldType.boolean)) ∈ lw_all := lw_g (lw_at lw_m5 229 rfl) rfl
theorem q1310 : (Jvm.Cond.methodLink "CaseGrouper$Seen" (149 : Nat) ({ cls := "java/lang/String", name := "hashCode", desc := "()I" } : Jvm.MethodName)) ∈ lw_all := lw_g (lw_at lw_m5 230 rfl) rfl
theorem q1311 : (Jvm.Cond.stringRef "CaseGrouper$Seen" (154 : Nat) "has") ∈ lw_tbl := lw_at lw_m5 231 rfl
theorem q1312 : (Jvm.Cond.methodLink "CaseGrouper$Seen" (155 : Nat) ({ cls := "java/lang/String", name := "equals", desc := "(Ljava/lang/Object;)Z" } : Jvm.MethodName)) ∈ lw_all := lw_g (lw_at lw_m5 232 rfl) rfl
theorem q1313 : (Jvm.Cond.stringRef "CaseGrouper$Seen" (159 : Nat) "main") ∈ lw_tbl := lw_at lw_m5 233 rfl
theorem q1314 : (Jvm.Cond.stringRef "CaseGrouper$Seen" (160 : Nat) "did") ∈ lw_tbl := lw_at lw_m5 234 rfl
theorem q1315 : (Jvm.Cond.stringRef "CaseGrouper$Seen" (162 : Nat) "age") ∈ lw_tbl := lw_at lw_m5 235 rfl
theorem q1316 : (Jvm.Cond.stringRef "CaseGrouper$Seen" (164 : Nat) "days") ∈ lw_tbl := lw_at lw_m5 236 rfl
theorem q1317 : (Jvm.Cond.stringRef "CaseGrouper$Seen" (166 : Nat) "level") ∈ lw_tbl := lw_at lw_m5 237 rfl
theorem q1318 : (Jvm.Cond.methodLink "CaseGrouper$Seen" (114 : Nat) ({ cls := "CaseGrouper$Span", name := "has", desc := "(I)Z" } : Jvm.MethodName)) ∈ lw_all := lw_g (lw_at lw_m5 238 rfl) rfl
theorem q1323 : (Jvm.Cond.methodLink "CaseGrouper$Seen" (168 : Nat) ({ cls := "CaseGrouper$Seen", name := "hasAny", desc := "(Ljava/util/ArrayList;LCaseGrouper$Span;)Z" } : Jvm.MethodName)) ∈ lw_all := lw_g (lw_at lw_m6 3 rfl) rfl
theorem q1324 : (Jvm.Cond.privateMethod ({ cls := "CaseGrouper$Seen", name := "hasAny", desc := "(Ljava/util/ArrayList;LCaseGrouper$Span;)Z" } : Jvm.MethodName)) ∈ lw_tbl := lw_at lw_m6 4 rfl
theorem q1325 : (Jvm.Cond.instanceMethod ({ cls := "CaseGrouper$Seen", name := "hasAny", desc := "(Ljava/util/ArrayList;LCaseGrouper$Span;)Z" } : Jvm.MethodName)) ∈ lw_all := lw_g (lw_at lw_m6 5 rfl) rfl
theorem q1326 : (Jvm.Cond.instantiable "CaseGrouper$Seen" (8 : Nat)) ∈ lw_all := lw_g (lw_at lw_m6 6 rfl) rfl
theorem q1327 : (Jvm.Cond.code ({ cls := "CaseGrouper$Seen", name := "hasAny", desc := "(Ljava/util/ArrayList;LCaseGrouper$Span;)Z" } : Jvm.MethodName) prog_14_method_9_code (4 : Nat) (Option.some Jvm.ClassFile.FieldType.boolean)) ∈ lw_all := lw_g (lw_at lw_m6 7 rfl) rfl
theorem q1328 : (Jvm.Cond.methodLink "CaseGrouper$Seen" (72 : Nat) ({ cls := "java/util/ArrayList", name := "size", desc := "()I" } : Jvm.MethodName)) ∈ lw_all := lw_g (lw_at lw_m6 8 rfl) rfl
theorem q1329 : (Jvm.Cond.methodLink "CaseGrouper$Seen" (52 : Nat) ({ cls := "java/util/ArrayList", name := "get", desc := "(I)Ljava/lang/Object;" } : Jvm.MethodName)) ∈ lw_all := lw_g (lw_at lw_m6 9 rfl) rfl
theorem q1330 : (Jvm.Cond.classLink "CaseGrouper$Seen" (90 : Nat) "java/lang/Integer") ∈ lw_all := lw_g (lw_at lw_m6 10 rfl) rfl
theorem q1331 : (Jvm.Cond.methodLink "CaseGrouper$Seen" (92 : Nat) ({ cls := "java/lang/Integer", name := "intValue", desc := "()I" } : Jvm.MethodName)) ∈ lw_all := lw_g (lw_at lw_m6 11 rfl) rfl
theorem q1332 : (Jvm.Cond.methodLink "CaseGrouper$Seen" (174 : Nat) ({ cls := "CaseGrouper$Seen", name := "compares", desc := "(LCaseGrouper$Atom;I)Z" } : Jvm.MethodName)) ∈ lw_all := lw_g (lw_at lw_m6 12 rfl) rfl
theorem q1333 : (Jvm.Cond.sameMethod "CaseGrouper$Seen" "CaseGrouper$Facts" "compares" "(LCaseGrouper$Atom;I)Z") ∈ lw_all := lw_g (lw_at lw_m6 13 rfl) rfl
theorem q1356 : (Jvm.Cond.selects "CaseGrouper$Seen" ({ cls := "CaseGrouper$Facts", name := "answers", desc := "(Z)V" } : Jvm.MethodName) ({ cls := "CaseGrouper$Seen", name := "answers", desc := "(Z)V" } : Jvm.MethodName)) ∈ lw_all := lw_g (lw_at lw_m6 36 rfl) rfl
theorem q1357 : (Jvm.Cond.instanceMethod ({ cls := "CaseGrouper$Seen", name := "answers", desc := "(Z)V" } : Jvm.MethodName)) ∈ lw_all := lw_g (lw_at lw_m6 37 rfl) rfl
theorem q1358 : (Jvm.Cond.code ({ cls := "CaseGrouper$Seen", name := "answers", desc := "(Z)V" } : Jvm.MethodName) prog_14_method_11_code (2 : Nat) (Option.none : Option Jvm.ClassFile.FieldType)) ∈ lw_all := lw_g (lw_at lw_m6 38 rfl) rfl
theorem q1385 : (Jvm.Cond.instanceMethod ({ cls := "CaseGrouper$Seen", name := "<init>", desc := "()V" } : Jvm.MethodName)) ∈ lw_all := lw_g (lw_at lw_m6 65 rfl) rfl
theorem q1386 : (Jvm.Cond.code ({ cls := "CaseGrouper$Seen", name := "<init>", desc := "()V" } : Jvm.MethodName) prog_14_method_1_code (1 : Nat) (Option.none : Option Jvm.ClassFile.FieldType)) ∈ lw_all := lw_g (lw_at lw_m6 66 rfl) rfl
theorem q1387 : (Jvm.Cond.methodLinkNest "CaseGrouper$Seen" (3 : Nat) ({ cls := "CaseGrouper$Facts", name := "<init>", desc := "()V" } : Jvm.MethodName) "CaseGrouper") ∈ lw_tbl := lw_at lw_m6 67 rfl
theorem q1388 : (Jvm.Cond.fieldLink "CaseGrouper$Seen" (9 : Nat) "CaseGrouper$Seen" "e" "LCaseGrouper$Edition;") ∈ lw_all := lw_g (lw_at lw_m6 68 rfl) rfl
theorem q1389 : (Jvm.Cond.fieldLink "CaseGrouper$Seen" (15 : Nat) "CaseGrouper$Seen" "s" "LCaseGrouper$Stay;") ∈ lw_all := lw_g (lw_at lw_m6 69 rfl) rfl
theorem q1390 : (Jvm.Cond.fieldLink "CaseGrouper$Seen" (43 : Nat) "CaseGrouper$Seen" "chapter" "I") ∈ lw_all := lw_g (lw_at lw_m6 70 rfl) rfl
theorem q1392 : (Jvm.Cond.fieldLink "CaseGrouper$Seen" (31 : Nat) "CaseGrouper$Seen" "top" "I") ∈ lw_all := lw_g (lw_at lw_m6 72 rfl) rfl
theorem q1394 : (Jvm.Cond.fieldLink "CaseGrouper$Seen" (37 : Nat) "CaseGrouper$Seen" "level" "I") ∈ lw_all := lw_g (lw_at lw_m6 74 rfl) rfl
theorem q1396 : (Jvm.Cond.fieldLink "CaseGrouper$Seen" (68 : Nat) "CaseGrouper$Seen" "leaf" "LCaseGrouper$Leaf;") ∈ lw_all := lw_g (lw_at lw_m6 76 rfl) rfl
theorem q1398 : (Jvm.Cond.fieldLink "CaseGrouper$Seen" (19 : Nat) "CaseGrouper$Seen" "ways" "I") ∈ lw_all := lw_g (lw_at lw_m6 78 rfl) rfl
theorem q1400 : (Jvm.Cond.fieldLink "CaseGrouper$Seen" (23 : Nat) "CaseGrouper$Seen" "way" "J") ∈ lw_all := lw_g (lw_at lw_m6 80 rfl) rfl
theorem q1402 : (Jvm.Cond.lays "CaseGrouper$Seen" "CaseGrouper$Seen" "e" "LCaseGrouper$Edition;") ∈ lw_all := lw_g (lw_at lw_m6 82 rfl) rfl
theorem q1403 : (Jvm.Cond.soleField "CaseGrouper$Seen" "e") ∈ lw_all := lw_g (lw_at lw_m6 83 rfl) rfl
theorem q1404 : (Jvm.Cond.lays "CaseGrouper$Seen" "CaseGrouper$Seen" "s" "LCaseGrouper$Stay;") ∈ lw_all := lw_g (lw_at lw_m6 84 rfl) rfl
theorem q1405 : (Jvm.Cond.soleField "CaseGrouper$Seen" "s") ∈ lw_all := lw_g (lw_at lw_m6 85 rfl) rfl
theorem q1406 : (Jvm.Cond.lays "CaseGrouper$Seen" "CaseGrouper$Seen" "chapter" "I") ∈ lw_all := lw_g (lw_at lw_m6 86 rfl) rfl
theorem q1407 : (Jvm.Cond.soleField "CaseGrouper$Seen" "chapter") ∈ lw_all := lw_g (lw_at lw_m6 87 rfl) rfl
theorem q1408 : (Jvm.Cond.lays "CaseGrouper$Seen" "CaseGrouper$Seen" "top" "I") ∈ lw_all := lw_g (lw_at lw_m6 88 rfl) rfl
theorem q1409 : (Jvm.Cond.soleField "CaseGrouper$Seen" "top") ∈ lw_all := lw_g (lw_at lw_m6 89 rfl) rfl
theorem q1410 : (Jvm.Cond.lays "CaseGrouper$Seen" "CaseGrouper$Seen" "level" "I") ∈ lw_all := lw_g (lw_at lw_m6 90 rfl) rfl
theorem q1411 : (Jvm.Cond.soleField "CaseGrouper$Seen" "level") ∈ lw_all := lw_g (lw_at lw_m6 91 rfl) rfl
theorem q1412 : (Jvm.Cond.lays "CaseGrouper$Seen" "CaseGrouper$Seen" "leaf" "LCaseGrouper$Leaf;") ∈ lw_all := lw_g (lw_at lw_m6 92 rfl) rfl
theorem q1413 : (Jvm.Cond.soleField "CaseGrouper$Seen" "leaf") ∈ lw_all := lw_g (lw_at lw_m6 93 rfl) rfl
theorem q1414 : (Jvm.Cond.lays "CaseGrouper$Seen" "CaseGrouper$Seen" "ways" "I") ∈ lw_all := lw_g (lw_at lw_m6 94 rfl) rfl
theorem q1415 : (Jvm.Cond.soleField "CaseGrouper$Seen" "ways") ∈ lw_all := lw_g (lw_at lw_m6 95 rfl) rfl
theorem q1416 : (Jvm.Cond.lays "CaseGrouper$Seen" "CaseGrouper$Seen" "way" "J") ∈ lw_all := lw_g (lw_at lw_m6 96 rfl) rfl
theorem q1417 : (Jvm.Cond.soleField "CaseGrouper$Seen" "way") ∈ lw_all := lw_g (lw_at lw_m6 97 rfl) rfl
theorem q1418 : (Jvm.Cond.superclass "CaseGrouper$Seen" "CaseGrouper$Facts") ∈ lw_all := lw_g (lw_at lw_m6 98 rfl) rfl
theorem q1463 : (Jvm.Cond.fieldLinkNest "CaseGrouper$Seen" (78 : Nat) "CaseGrouper$Stay" "main" "I" "CaseGrouper") ∈ lw_tbl := lw_at lw_m6 143 rfl
theorem q1465 : (Jvm.Cond.fieldLinkNest "CaseGrouper$Seen" (172 : Nat) "CaseGrouper$Stay" "age" "I" "CaseGrouper") ∈ lw_tbl := lw_at lw_m6 145 rfl
theorem q1467 : (Jvm.Cond.fieldLinkNest "CaseGrouper$Seen" (178 : Nat) "CaseGrouper$Stay" "days" "I" "CaseGrouper") ∈ lw_tbl := lw_at lw_m6 147 rfl
theorem q1470 : (Jvm.Cond.fieldLinkNest "CaseGrouper$Seen" (132 : Nat) "CaseGrouper$Stay" "seconds" "Ljava/util/ArrayList;" "CaseGrouper") ∈ lw_tbl := lw_at lw_m6 150 rfl
theorem q1473 : (Jvm.Cond.fieldLinkNest "CaseGrouper$Seen" (87 : Nat) "CaseGrouper$Stay" "procedures" "Ljava/util/ArrayList;" "CaseGrouper") ∈ lw_tbl := lw_at lw_m6 153 rfl
theorem q1537 : (Jvm.Cond.selects "CaseGrouper$Seen" ({ cls := "java/lang/Object", name := "equals", desc := "(Ljava/lang/Object;)Z" } : Jvm.MethodName) ({ cls := "java/lang/Object", name := "equals", desc := "(Ljava/lang/Object;)Z" } : Jvm.MethodName)) ∈ lw_all := lw_g (lw_at lw_m6 217 rfl) rfl
theorem q1616 : (Jvm.Cond.instanceMethod ({ cls := "CaseGrouper$Seen", name := "looks", desc := "(LCaseGrouper$Edition;LCaseGrouper$Stay;)V" } : Jvm.MethodName)) ∈ lw_all := lw_g (lw_at lw_m7 56 rfl) rfl
theorem q1617 : (Jvm.Cond.selects "CaseGrouper$Seen" ({ cls := "CaseGrouper$Seen", name := "looks", desc := "(LCaseGrouper$Edition;LCaseGrouper$Stay;)V" } : Jvm.MethodName) ({ cls := "CaseGrouper$Seen", name := "looks", desc := "(LCaseGrouper$Edition;LCaseGrouper$Stay;)V" } : Jvm.MethodName)) ∈ lw_all := lw_g (lw_at lw_m7 57 rfl) rfl
theorem q1618 : (Jvm.Cond.code ({ cls := "CaseGrouper$Seen", name := "looks", desc := "(LCaseGrouper$Edition;LCaseGrouper$Stay;)V" } : Jvm.MethodName) prog_14_method_2_code (3 : Nat) (Option.none : Option Jvm.ClassFile.FieldType)) ∈ lw_all := lw_g (lw_at lw_m7 58 rfl) rfl
theorem q1619 : (Jvm.Cond.methodLink "CaseGrouper$Seen" (27 : Nat) ({ cls := "CaseGrouper$Seen", name := "topOf", desc := "()I" } : Jvm.MethodName)) ∈ lw_all := lw_g (lw_at lw_m7 59 rfl) rfl
theorem q1620 : (Jvm.Cond.privateMethod ({ cls := "CaseGrouper$Seen", name := "topOf", desc := "()I" } : Jvm.MethodName)) ∈ lw_tbl := lw_at lw_m7 60 rfl
theorem q1621 : (Jvm.Cond.instanceMethod ({ cls := "CaseGrouper$Seen", name := "topOf", desc := "()I" } : Jvm.MethodName)) ∈ lw_all := lw_g (lw_at lw_m7 61 rfl) rfl
theorem q1622 : (Jvm.Cond.code ({ cls := "CaseGrouper$Seen", name := "topOf", desc := "()I" } : Jvm.MethodName) prog_14_method_4_code (3 : Nat) (Option.some Jvm.ClassFile.FieldType.int)) ∈ lw_all := lw_g (lw_at lw_m7 62 rfl) rfl
theorem q1623 : (Jvm.Cond.methodLink "CaseGrouper$Seen" (95 : Nat) ({ cls := "CaseGrouper$Seen", name := "rankOf", desc := "(I)I" } : Jvm.MethodName)) ∈ lw_all := lw_g (lw_at lw_m7 63 rfl) rfl
theorem q1624 : (Jvm.Cond.privateMethod ({ cls := "CaseGrouper$Seen", name := "rankOf", desc := "(I)I" } : Jvm.MethodName)) ∈ lw_tbl := lw_at lw_m7 64 rfl
theorem q1625 : (Jvm.Cond.instanceMethod ({ cls := "CaseGrouper$Seen", name := "rankOf", desc := "(I)I" } : Jvm.MethodName)) ∈ lw_all := lw_g (lw_at lw_m7 65 rfl) rfl
theorem q1626 : (Jvm.Cond.code ({ cls := "CaseGrouper$Seen", name := "rankOf", desc := "(I)I" } : Jvm.MethodName) prog_14_method_5_code (3 : Nat) (Option.some Jvm.ClassFile.FieldType.int)) ∈ lw_all := lw_g (lw_at lw_m7 66 rfl) rfl
theorem q1627 : (Jvm.Cond.classLink "CaseGrouper$Seen" (108 : Nat) "CaseGrouper$Rank") ∈ lw_all := lw_g (lw_at lw_m7 67 rfl) rfl
theorem q1628 : (Jvm.Cond.methodLink "CaseGrouper$Seen" (99 : Nat) ({ cls := "java/lang/Math", name := "max", desc := "(II)I" } : Jvm.MethodName)) ∈ lw_all := lw_g (lw_at lw_m7 68 rfl) rfl
theorem q1629 : (Jvm.Cond.methodLink "CaseGrouper$Seen" (34 : Nat) ({ cls := "CaseGrouper$Seen", name := "levelOf", desc := "()I" } : Jvm.MethodName)) ∈ lw_all := lw_g (lw_at lw_m7 69 rfl) rfl
theorem q1630 : (Jvm.Cond.privateMethod ({ cls := "CaseGrouper$Seen", name := "levelOf", desc := "()I" } : Jvm.MethodName)) ∈ lw_tbl := lw_at lw_m7 70 rfl
theorem q1631 : (Jvm.Cond.instanceMethod ({ cls := "CaseGrouper$Seen", name := "levelOf", desc := "()I" } : Jvm.MethodName)) ∈ lw_all := lw_g (lw_at lw_m7 71 rfl) rfl
theorem q1632 : (Jvm.Cond.code ({ cls := "CaseGrouper$Seen", name := "levelOf", desc := "()I" } : Jvm.MethodName) prog_14_method_8_code (5 : Nat) (Option.some Jvm.ClassFile.FieldType.int)) ∈ lw_all := lw_g (lw_at lw_m7 72 rfl) rfl
theorem q1633 : (Jvm.Cond.methodLink "CaseGrouper$Seen" (135 : Nat) ({ cls := "CaseGrouper$Seen", name := "partnerOf", desc := "(I)I" } : Jvm.MethodName)) ∈ lw_all := lw_g (lw_at lw_m7 73 rfl) rfl
theorem q1634 : (Jvm.Cond.instanceMethod ({ cls := "CaseGrouper$Seen", name := "partnerOf", desc := "(I)I" } : Jvm.MethodName)) ∈ lw_all := lw_g (lw_at lw_m7 74 rfl) rfl
theorem q1635 : (Jvm.Cond.selects "CaseGrouper$Seen" ({ cls := "CaseGrouper$Seen", name := "partnerOf", desc := "(I)I" } : Jvm.MethodName) ({ cls := "CaseGrouper$Seen", name := "partnerOf", desc := "(I)I" } : Jvm.MethodName)) ∈ lw_all := lw_g (lw_at lw_m7 75 rfl) rfl
theorem q1636 : (Jvm.Cond.code ({ cls := "CaseGrouper$Seen", name := "partnerOf", desc := "(I)I" } : Jvm.MethodName) prog_14_method_6_code (3 : Nat) (Option.some Jvm.ClassFile.FieldType.int)) ∈ lw_all := lw_g (lw_at lw_m7 76 rfl) rfl
theorem q1637 : (Jvm.Cond.classLink "CaseGrouper$Seen" (126 : Nat) "CaseGrouper$Partner") ∈ lw_all := lw_g (lw_at lw_m7 77 rfl) rfl
theorem q1638 : (Jvm.Cond.methodLink "CaseGrouper$Seen" (138 : Nat) ({ cls := "CaseGrouper$Seen", name := "counts", desc := "(II)Z" } : Jvm.MethodName)) ∈ lw_all := lw_g (lw_at lw_m7 78 rfl) rfl
theorem q1639 : (Jvm.Cond.instanceMethod ({ cls := "CaseGrouper$Seen", name := "counts", desc := "(II)Z" } : Jvm.MethodName)) ∈ lw_all := lw_g (lw_at lw_m7 79 rfl) rfl
theorem q1640 : (Jvm.Cond.selects "CaseGrouper$Seen" ({ cls := "CaseGrouper$Seen", name := "counts", desc := "(II)Z" } : Jvm.MethodName) ({ cls := "CaseGrouper$Seen", name := "counts", desc := "(II)Z" } : Jvm.MethodName)) ∈ lw_all := lw_g (lw_at lw_m7 80 rfl) rfl
theorem q1641 : (Jvm.Cond.code ({ cls := "CaseGrouper$Seen", name := "counts", desc := "(II)Z" } : Jvm.MethodName) prog_14_method_7_code (6 : Nat) (Option.some Jvm.ClassFile.FieldType.boolean)) ∈ lw_all := lw_g (lw_at lw_m7 81 rfl) rfl
theorem q1642 : (Jvm.Cond.methodLinkNest "CaseGrouper$Seen" (83 : Nat) ({ cls := "CaseGrouper", name := "haveAny", desc := "(Ljava/util/ArrayList;I)Z" } : Jvm.MethodName) "CaseGrouper") ∈ lw_tbl := lw_at lw_m7 82 rfl
theorem q1647 : (Jvm.Cond.methodLink "CaseGrouper$Seen" (40 : Nat) ({ cls := "CaseGrouper$Seen", name := "chapterOf", desc := "()I" } : Jvm.MethodName)) ∈ lw_all := lw_g (lw_at lw_m7 87 rfl) rfl
theorem q1648 : (Jvm.Cond.privateMethod ({ cls := "CaseGrouper$Seen", name := "chapterOf", desc := "()I" } : Jvm.MethodName)) ∈ lw_tbl := lw_at lw_m7 88 rfl
theorem q1649 : (Jvm.Cond.instanceMethod ({ cls := "CaseGrouper$Seen", name := "chapterOf", desc := "()I" } : Jvm.MethodName)) ∈ lw_all := lw_g (lw_at lw_m7 89 rfl) rfl
theorem q1650 : (Jvm.Cond.code ({ cls := "CaseGrouper$Seen", name := "chapterOf", desc := "()I" } : Jvm.MethodName) prog_14_method_3_code (2 : Nat) (Option.some Jvm.ClassFile.FieldType.int)) ∈ lw_all := lw_g (lw_at lw_m7 90 rfl) rfl
theorem q1651 : (Jvm.Cond.classLink "CaseGrouper$Seen" (58 : Nat) "CaseGrouper$Chapter") ∈ lw_all := lw_g (lw_at lw_m7 91 rfl) rfl
theorem q1652 : (Jvm.Cond.methodLink "CaseGrouper$Seen" (64 : Nat) ({ cls := "CaseGrouper$Seen", name := "goes", desc := "(Ljava/lang/Object;)LCaseGrouper$Leaf;" } : Jvm.MethodName)) ∈ lw_all := lw_g (lw_at lw_m7 92 rfl) rfl
theorem q1653 : (Jvm.Cond.sameMethod "CaseGrouper$Seen" "CaseGrouper$Facts" "goes" "(Ljava/lang/Object;)LCaseGrouper$Leaf;") ∈ lw_all := lw_g (lw_at lw_m7 93 rfl) rfl
theorem q1654 : (Jvm.Cond.selects "CaseGrouper$Seen" ({ cls := "CaseGrouper$Seen", name := "goes", desc := "(Ljava/lang/Object;)LCaseGrouper$Leaf;" } : Jvm.MethodName) ({ cls := "CaseGrouper$Facts", name := "goes", desc := "(Ljava/lang/Object;)LCaseGrouper$Leaf;" } : Jvm.MethodName)) ∈ lw_all := lw_g (lw_at lw_m7 94 rfl) rfl
theorem q1656 : (Jvm.Cond.instanceMethod ({ cls := "CaseGrouper$Seen", name := "cls", desc := "()I" } : Jvm.MethodName)) ∈ lw_all := lw_g (lw_at lw_m7 96 rfl) rfl
theorem q1657 : (Jvm.Cond.selects "CaseGrouper$Seen" ({ cls := "CaseGrouper$Seen", name := "cls", desc := "()I" } : Jvm.MethodName) ({ cls := "CaseGrouper$Seen", name := "cls", desc := "()I" } : Jvm.MethodName)) ∈ lw_all := lw_g (lw_at lw_m7 97 rfl) rfl
theorem q1658 : (Jvm.Cond.code ({ cls := "CaseGrouper$Seen", name := "cls", desc := "()I" } : Jvm.MethodName) prog_14_method_12_code (1 : Nat) (Option.some Jvm.ClassFile.FieldType.int)) ∈ lw_all := lw_g (lw_at lw_m7 98 rfl) rfl
theorem q1660 : (Jvm.Cond.instanceMethod ({ cls := "CaseGrouper$Seen", name := "weight", desc := "()I" } : Jvm.MethodName)) ∈ lw_all := lw_g (lw_at lw_m7 100 rfl) rfl
theorem q1661 : (Jvm.Cond.selects "CaseGrouper$Seen" ({ cls := "CaseGrouper$Seen", name := "weight", desc := "()I" } : Jvm.MethodName) ({ cls := "CaseGrouper$Seen", name := "weight", desc := "()I" } : Jvm.MethodName)) ∈ lw_all := lw_g (lw_at lw_m7 101 rfl) rfl
theorem q1662 : (Jvm.Cond.code ({ cls := "CaseGrouper$Seen", name := "weight", desc := "()I" } : Jvm.MethodName) prog_14_method_13_code (1 : Nat) (Option.some Jvm.ClassFile.FieldType.int)) ∈ lw_all := lw_g (lw_at lw_m7 102 rfl) rfl
theorem q2462 : (Jvm.Cond.selects "CaseGrouper$Seen" ({ cls := "CaseGrouper$Facts", name := "goes", desc := "(Ljava/lang/Object;)LCaseGrouper$Leaf;" } : Jvm.MethodName) ({ cls := "CaseGrouper$Facts", name := "goes", desc := "(Ljava/lang/Object;)LCaseGrouper$Leaf;" } : Jvm.MethodName)) ∈ lw_all := lw_g (lw_at lw_m10 182 rfl) rfl
theorem q2467 : (Jvm.Cond.castable "CaseGrouper$Seen" "java/lang/Object") ∈ lw_tbl := lw_at lw_m10 187 rfl
theorem in_X4 : ∀ w ∈ wsX40, w ∈ lw_all := lw_in wsX40 [1402, 1404, 1406, 1408, 1410, 1412, 1414, 1416] (by decide +kernel) (by decide +kernel)
/-! CaseGrouper$Reader -/
set_option maxRecDepth 100000
def RX6 : String := "CaseGrouper$Reader"
def TX6 : u_T := fun k => match k with
  | 0 => ("CaseGrouper$Reader", "size", "I", true)
  | 1 => ("CaseGrouper$Reader", "e", "LCaseGrouper$Edition;", true)
  | 2 => ("CaseGrouper$Reader", "p", "I", false)
  | 3 => ("CaseGrouper$Reader", "at", "I", false)
  | 4 => ("CaseGrouper$Reader", "token", "Ljava/lang/Object;", false)
  | 5 => ("CaseGrouper$Reader", "ended", "Z", false)
  | 6 => ("CaseGrouper$Reader", "open", "I", false)
  | 7 => ("CaseGrouper$Reader", "lines", "I", false)
  | 8 => ("CaseGrouper$Reader", "chapter", "LCaseGrouper$Chapter;", false)
  | _ => ("CaseGrouper$Reader", "this$0", "LCaseGrouper;", true)
def tyX6 : Nat → FieldType := fun k => match k with
  | 0 => .int
  | 1 => .object "CaseGrouper$Edition"
  | 2 => .int
  | 3 => .int
  | 4 => .object "java/lang/Object"
  | 5 => .boolean
  | 6 => .int
  | 7 => .int
  | 8 => .object "CaseGrouper$Chapter"
  | _ => .object "CaseGrouper"
abbrev wsX60 : List Cond := u_ws RX6 TX6 10
theorem nmX6 : ∀ a, a < 10 → ∀ b, b < 10 → a ≠ b → (TX6 a).2.1 ≠ (TX6 b).2.1 := by decide +kernel
theorem tyX6_ok : ∀ k, k < 10 → parseFieldDescriptor (TX6 k).2.2.1 = some (tyX6 k) := by decide +kernel
abbrev cX6_init : ByteArray := prog_12_method_1_code
def yX6_init : MethodName := ⟨RX6, "<init>", "(LCaseGrouper;I)V"⟩
def dkwX6_init_1 : List UInt8 := [181, 0, 22, 177]
abbrev dktX6_init_1 : List UInt8 := dkwX6_init_1 ++ []
def dkwX6_init_0 : List UInt8 := [42, 43, 181, 0, 3, 42, 183, 0, 9, 42, 187, 0, 15, 89, 183, 0, 17, 181, 0, 18, 42, 28]
abbrev dktX6_init_0 : List UInt8 := dkwX6_init_0 ++ dktX6_init_1
theorem dksX6_init_0 : cX6_init.data.toList.drop 0 = dktX6_init_0 := by decide +kernel
theorem dksX6_init_1 : cX6_init.data.toList.drop 22 = dktX6_init_1 := dk_seg dksX6_init_0 22 rfl rfl
theorem dX6_init_0 : decode cX6_init 0 = .ok (.aload_n 0, 1) := dk_42 (dk_at dksX6_init_0 0 rfl rfl)
theorem dX6_init_1 : decode cX6_init 1 = .ok (.aload_n 1, 1) := dk_43 (dk_at dksX6_init_0 1 rfl rfl)
theorem dX6_init_2 : decode cX6_init 2 = .ok (.putfield 3, 3) := dk_181 0 3 (dk_at dksX6_init_0 2 rfl rfl)
theorem dX6_init_5 : decode cX6_init 5 = .ok (.aload_n 0, 1) := dk_42 (dk_at dksX6_init_0 5 rfl rfl)
theorem dX6_init_6 : decode cX6_init 6 = .ok (.invokespecial 9, 3) := dk_183 0 9 (dk_at dksX6_init_0 6 rfl rfl)
theorem dX6_init_9 : decode cX6_init 9 = .ok (.aload_n 0, 1) := dk_42 (dk_at dksX6_init_0 9 rfl rfl)
theorem dX6_init_10 : decode cX6_init 10 = .ok (.new 15, 3) := dk_187 0 15 (dk_at dksX6_init_0 10 rfl rfl)
theorem dX6_init_13 : decode cX6_init 13 = .ok (.dup, 1) := dk_89 (dk_at dksX6_init_0 13 rfl rfl)
theorem dX6_init_14 : decode cX6_init 14 = .ok (.invokespecial 17, 3) := dk_183 0 17 (dk_at dksX6_init_0 14 rfl rfl)
theorem dX6_init_17 : decode cX6_init 17 = .ok (.putfield 18, 3) := dk_181 0 18 (dk_at dksX6_init_0 17 rfl rfl)
theorem dX6_init_20 : decode cX6_init 20 = .ok (.aload_n 0, 1) := dk_42 (dk_at dksX6_init_0 20 rfl rfl)
theorem dX6_init_21 : decode cX6_init 21 = .ok (.iload_n 2, 1) := dk_28 (dk_at dksX6_init_0 21 rfl rfl)
theorem dX6_init_22 : decode cX6_init 22 = .ok (.putfield 22, 3) := dk_181 0 22 (dk_at dksX6_init_1 0 rfl rfl)
theorem dX6_init_25 : decode cX6_init 25 = .ok (.return_, 1) := dk_177 (dk_at dksX6_init_1 3 rfl rfl)
abbrev cX6_whole : ByteArray := prog_12_method_37_code
def yX6_whole : MethodName := ⟨RX6, "whole", "()LCaseGrouper$Edition;"⟩
def dkwX6_whole_4 : List UInt8 := [183, 1, 126, 191, 42, 180, 0, 18, 182, 1, 129, 42, 180, 0, 18, 176]
abbrev dktX6_whole_4 : List UInt8 := dkwX6_whole_4 ++ []
def dkwX6_whole_3 : List UInt8 := [8, 182, 0, 126, 132, 1, 1, 167, 255, 209, 167, 0, 17, 76, 187, 1, 124, 89, 42, 180, 1, 121, 43]
abbrev dktX6_whole_3 : List UInt8 := dkwX6_whole_3 ++ dktX6_whole_4
def dkwX6_whole_2 : List UInt8 := [180, 0, 18, 180, 0, 225, 27, 182, 1, 103, 192, 0, 236, 180, 1, 12, 198, 0, 7, 4, 167, 0, 4, 3]
abbrev dktX6_whole_2 : List UInt8 := dkwX6_whole_2 ++ dktX6_whole_3
def dkwX6_whole_1 : List UInt8 := [181, 1, 121, 167, 255, 235, 3, 60, 27, 42, 180, 0, 18, 180, 0, 225, 182, 0, 165, 162, 0, 39, 42, 42]
abbrev dktX6_whole_1 : List UInt8 := dkwX6_whole_1 ++ dktX6_whole_2
def dkwX6_whole_0 : List UInt8 := [42, 182, 0, 130, 42, 180, 0, 53, 154, 0, 20, 42, 182, 1, 118, 42, 89, 180, 1, 121, 4, 96]
abbrev dktX6_whole_0 : List UInt8 := dkwX6_whole_0 ++ dktX6_whole_1
theorem dksX6_whole_0 : cX6_whole.data.toList.drop 0 = dktX6_whole_0 := by decide +kernel
theorem dksX6_whole_1 : cX6_whole.data.toList.drop 22 = dktX6_whole_1 := dk_seg dksX6_whole_0 22 rfl rfl
theorem dksX6_whole_2 : cX6_whole.data.toList.drop 46 = dktX6_whole_2 := dk_seg dksX6_whole_1 24 rfl rfl
theorem dksX6_whole_3 : cX6_whole.data.toList.drop 70 = dktX6_whole_3 := dk_seg dksX6_whole_2 24 rfl rfl
theorem dksX6_whole_4 : cX6_whole.data.toList.drop 93 = dktX6_whole_4 := dk_seg dksX6_whole_3 23 rfl rfl
theorem dX6_whole_0 : decode cX6_whole 0 = .ok (.aload_n 0, 1) := dk_42 (dk_at dksX6_whole_0 0 rfl rfl)
theorem dX6_whole_1 : decode cX6_whole 1 = .ok (.invokevirtual 130, 3) := dk_182 0 130 (dk_at dksX6_whole_0 1 rfl rfl)
theorem dX6_whole_4 : decode cX6_whole 4 = .ok (.aload_n 0, 1) := dk_42 (dk_at dksX6_whole_0 4 rfl rfl)
theorem dX6_whole_5 : decode cX6_whole 5 = .ok (.getfield 53, 3) := dk_180 0 53 (dk_at dksX6_whole_0 5 rfl rfl)
theorem dX6_whole_8 : decode cX6_whole 8 = .ok (.ifCond .ne 20, 3) := dk_154 0 20 (dk_at dksX6_whole_0 8 rfl rfl)
theorem dX6_whole_11 : decode cX6_whole 11 = .ok (.aload_n 0, 1) := dk_42 (dk_at dksX6_whole_0 11 rfl rfl)
theorem dX6_whole_12 : decode cX6_whole 12 = .ok (.invokevirtual 374, 3) := dk_182 1 118 (dk_at dksX6_whole_0 12 rfl rfl)
theorem dX6_whole_15 : decode cX6_whole 15 = .ok (.aload_n 0, 1) := dk_42 (dk_at dksX6_whole_0 15 rfl rfl)
theorem dX6_whole_16 : decode cX6_whole 16 = .ok (.dup, 1) := dk_89 (dk_at dksX6_whole_0 16 rfl rfl)
theorem dX6_whole_17 : decode cX6_whole 17 = .ok (.getfield 377, 3) := dk_180 1 121 (dk_at dksX6_whole_0 17 rfl rfl)
theorem dX6_whole_20 : decode cX6_whole 20 = .ok (.iconst 1, 1) := dk_4 (dk_at dksX6_whole_0 20 rfl rfl)
theorem dX6_whole_21 : decode cX6_whole 21 = .ok (.iadd, 1) := dk_96 (dk_at dksX6_whole_0 21 rfl rfl)
theorem dX6_whole_22 : decode cX6_whole 22 = .ok (.putfield 377, 3) := dk_181 1 121 (dk_at dksX6_whole_1 0 rfl rfl)
theorem dX6_whole_25 : decode cX6_whole 25 = .ok (.goto (-21), 3) := dk_167 255 235 (dk_at dksX6_whole_1 3 rfl rfl)
theorem dX6_whole_28 : decode cX6_whole 28 = .ok (.iconst 0, 1) := dk_3 (dk_at dksX6_whole_1 6 rfl rfl)
theorem dX6_whole_29 : decode cX6_whole 29 = .ok (.istore_n 1, 1) := dk_60 (dk_at dksX6_whole_1 7 rfl rfl)
theorem dX6_whole_30 : decode cX6_whole 30 = .ok (.iload_n 1, 1) := dk_27 (dk_at dksX6_whole_1 8 rfl rfl)
theorem dX6_whole_31 : decode cX6_whole 31 = .ok (.aload_n 0, 1) := dk_42 (dk_at dksX6_whole_1 9 rfl rfl)
theorem dX6_whole_32 : decode cX6_whole 32 = .ok (.getfield 18, 3) := dk_180 0 18 (dk_at dksX6_whole_1 10 rfl rfl)
theorem dX6_whole_35 : decode cX6_whole 35 = .ok (.getfield 225, 3) := dk_180 0 225 (dk_at dksX6_whole_1 13 rfl rfl)
theorem dX6_whole_38 : decode cX6_whole 38 = .ok (.invokevirtual 165, 3) := dk_182 0 165 (dk_at dksX6_whole_1 16 rfl rfl)
theorem dX6_whole_41 : decode cX6_whole 41 = .ok (.if_icmp .ge 39, 3) := dk_162 0 39 (dk_at dksX6_whole_1 19 rfl rfl)
theorem dX6_whole_44 : decode cX6_whole 44 = .ok (.aload_n 0, 1) := dk_42 (dk_at dksX6_whole_1 22 rfl rfl)
theorem dX6_whole_45 : decode cX6_whole 45 = .ok (.aload_n 0, 1) := dk_42 (dk_at dksX6_whole_1 23 rfl rfl)
theorem dX6_whole_46 : decode cX6_whole 46 = .ok (.getfield 18, 3) := dk_180 0 18 (dk_at dksX6_whole_2 0 rfl rfl)
theorem dX6_whole_49 : decode cX6_whole 49 = .ok (.getfield 225, 3) := dk_180 0 225 (dk_at dksX6_whole_2 3 rfl rfl)
theorem dX6_whole_52 : decode cX6_whole 52 = .ok (.iload_n 1, 1) := dk_27 (dk_at dksX6_whole_2 6 rfl rfl)
theorem dX6_whole_53 : decode cX6_whole 53 = .ok (.invokevirtual 359, 3) := dk_182 1 103 (dk_at dksX6_whole_2 7 rfl rfl)
theorem dX6_whole_56 : decode cX6_whole 56 = .ok (.checkcast 236, 3) := dk_192 0 236 (dk_at dksX6_whole_2 10 rfl rfl)
theorem dX6_whole_59 : decode cX6_whole 59 = .ok (.getfield 268, 3) := dk_180 1 12 (dk_at dksX6_whole_2 13 rfl rfl)
theorem dX6_whole_62 : decode cX6_whole 62 = .ok (.ifnull 7, 3) := dk_198 0 7 (dk_at dksX6_whole_2 16 rfl rfl)
theorem dX6_whole_65 : decode cX6_whole 65 = .ok (.iconst 1, 1) := dk_4 (dk_at dksX6_whole_2 19 rfl rfl)
theorem dX6_whole_66 : decode cX6_whole 66 = .ok (.goto 4, 3) := dk_167 0 4 (dk_at dksX6_whole_2 20 rfl rfl)
theorem dX6_whole_69 : decode cX6_whole 69 = .ok (.iconst 0, 1) := dk_3 (dk_at dksX6_whole_2 23 rfl rfl)
theorem dX6_whole_70 : decode cX6_whole 70 = .ok (.iconst 5, 1) := dk_8 (dk_at dksX6_whole_3 0 rfl rfl)
theorem dX6_whole_71 : decode cX6_whole 71 = .ok (.invokevirtual 126, 3) := dk_182 0 126 (dk_at dksX6_whole_3 1 rfl rfl)
theorem dX6_whole_74 : decode cX6_whole 74 = .ok (.iinc 1 1, 3) := dk_132 1 1 (dk_at dksX6_whole_3 4 rfl rfl)
theorem dX6_whole_77 : decode cX6_whole 77 = .ok (.goto (-47), 3) := dk_167 255 209 (dk_at dksX6_whole_3 7 rfl rfl)
theorem dX6_whole_80 : decode cX6_whole 80 = .ok (.goto 17, 3) := dk_167 0 17 (dk_at dksX6_whole_3 10 rfl rfl)
theorem dX6_whole_83 : decode cX6_whole 83 = .ok (.astore_n 1, 1) := dk_76 (dk_at dksX6_whole_3 13 rfl rfl)
theorem dX6_whole_84 : decode cX6_whole 84 = .ok (.new 380, 3) := dk_187 1 124 (dk_at dksX6_whole_3 14 rfl rfl)
theorem dX6_whole_87 : decode cX6_whole 87 = .ok (.dup, 1) := dk_89 (dk_at dksX6_whole_3 17 rfl rfl)
theorem dX6_whole_88 : decode cX6_whole 88 = .ok (.aload_n 0, 1) := dk_42 (dk_at dksX6_whole_3 18 rfl rfl)
theorem dX6_whole_89 : decode cX6_whole 89 = .ok (.getfield 377, 3) := dk_180 1 121 (dk_at dksX6_whole_3 19 rfl rfl)
theorem dX6_whole_92 : decode cX6_whole 92 = .ok (.aload_n 1, 1) := dk_43 (dk_at dksX6_whole_3 22 rfl rfl)
theorem dX6_whole_93 : decode cX6_whole 93 = .ok (.invokespecial 382, 3) := dk_183 1 126 (dk_at dksX6_whole_4 0 rfl rfl)
theorem dX6_whole_96 : decode cX6_whole 96 = .ok (.athrow, 1) := dk_191 (dk_at dksX6_whole_4 3 rfl rfl)
theorem dX6_whole_97 : decode cX6_whole 97 = .ok (.aload_n 0, 1) := dk_42 (dk_at dksX6_whole_4 4 rfl rfl)
theorem dX6_whole_98 : decode cX6_whole 98 = .ok (.getfield 18, 3) := dk_180 0 18 (dk_at dksX6_whole_4 5 rfl rfl)
theorem dX6_whole_101 : decode cX6_whole 101 = .ok (.invokevirtual 385, 3) := dk_182 1 129 (dk_at dksX6_whole_4 8 rfl rfl)
theorem dX6_whole_104 : decode cX6_whole 104 = .ok (.aload_n 0, 1) := dk_42 (dk_at dksX6_whole_4 11 rfl rfl)
theorem dX6_whole_105 : decode cX6_whole 105 = .ok (.getfield 18, 3) := dk_180 0 18 (dk_at dksX6_whole_4 12 rfl rfl)
theorem dX6_whole_108 : decode cX6_whole 108 = .ok (.areturn, 1) := dk_176 (dk_at dksX6_whole_4 15 rfl rfl)
abbrev cX6_next : ByteArray := prog_12_method_7_code
def yX6_next : MethodName := ⟨RX6, "next", "()V"⟩
def dkwX6_next_6 : List UInt8 := [184, 0, 71, 181, 0, 57, 177]
abbrev dktX6_next_6 : List UInt8 := dkwX6_next_6 ++ []
def dkwX6_next_5 : List UInt8 := [159, 0, 21, 27, 16, 59, 159, 0, 15, 27, 16, 60, 159, 0, 9, 27, 16, 62, 160, 0, 12, 42, 27, 146]
abbrev dktX6_next_5 : List UInt8 := dkwX6_next_5 ++ dktX6_next_6
def dkwX6_next_4 : List UInt8 := [180, 0, 26, 4, 96, 181, 0, 26, 27, 16, 40, 159, 0, 33, 27, 16, 41, 159, 0, 27, 27, 16, 44]
abbrev dktX6_next_4 : List UInt8 := dkwX6_next_4 ++ dktX6_next_5
def dkwX6_next_3 : List UInt8 := [42, 27, 182, 0, 61, 154, 0, 11, 42, 27, 182, 0, 65, 153, 0, 8, 42, 182, 0, 68, 177, 42, 89]
abbrev dktX6_next_3 : List UInt8 := dkwX6_next_3 ++ dktX6_next_4
def dkwX6_next_2 : List UInt8 := [156, 0, 7, 4, 167, 0, 4, 3, 181, 0, 53, 42, 1, 181, 0, 57, 42, 180, 0, 53, 153, 0, 4, 177]
abbrev dktX6_next_2 : List UInt8 := dkwX6_next_2 ++ dktX6_next_3
def dkwX6_next_1 : List UInt8 := [96, 181, 0, 26, 167, 255, 228, 42, 42, 180, 0, 26, 181, 0, 39, 42, 182, 0, 49, 60, 42, 27]
abbrev dktX6_next_1 : List UInt8 := dkwX6_next_1 ++ dktX6_next_2
def dkwX6_next_0 : List UInt8 := [42, 182, 0, 49, 16, 32, 159, 0, 12, 42, 182, 0, 49, 16, 10, 160, 0, 16, 42, 89, 180, 0, 26, 4]
abbrev dktX6_next_0 : List UInt8 := dkwX6_next_0 ++ dktX6_next_1
theorem dksX6_next_0 : cX6_next.data.toList.drop 0 = dktX6_next_0 := by decide +kernel
theorem dksX6_next_1 : cX6_next.data.toList.drop 24 = dktX6_next_1 := dk_seg dksX6_next_0 24 rfl rfl
theorem dksX6_next_2 : cX6_next.data.toList.drop 46 = dktX6_next_2 := dk_seg dksX6_next_1 22 rfl rfl
theorem dksX6_next_3 : cX6_next.data.toList.drop 70 = dktX6_next_3 := dk_seg dksX6_next_2 24 rfl rfl
theorem dksX6_next_4 : cX6_next.data.toList.drop 93 = dktX6_next_4 := dk_seg dksX6_next_3 23 rfl rfl
theorem dksX6_next_5 : cX6_next.data.toList.drop 116 = dktX6_next_5 := dk_seg dksX6_next_4 23 rfl rfl
theorem dksX6_next_6 : cX6_next.data.toList.drop 140 = dktX6_next_6 := dk_seg dksX6_next_5 24 rfl rfl
theorem dX6_next_0 : decode cX6_next 0 = .ok (.aload_n 0, 1) := dk_42 (dk_at dksX6_next_0 0 rfl rfl)
theorem dX6_next_1 : decode cX6_next 1 = .ok (.invokevirtual 49, 3) := dk_182 0 49 (dk_at dksX6_next_0 1 rfl rfl)
theorem dX6_next_4 : decode cX6_next 4 = .ok (.bipush 32, 2) := dk_16 32 (dk_at dksX6_next_0 4 rfl rfl)
theorem dX6_next_6 : decode cX6_next 6 = .ok (.if_icmp .eq 12, 3) := dk_159 0 12 (dk_at dksX6_next_0 6 rfl rfl)
theorem dX6_next_9 : decode cX6_next 9 = .ok (.aload_n 0, 1) := dk_42 (dk_at dksX6_next_0 9 rfl rfl)
theorem dX6_next_10 : decode cX6_next 10 = .ok (.invokevirtual 49, 3) := dk_182 0 49 (dk_at dksX6_next_0 10 rfl rfl)
theorem dX6_next_13 : decode cX6_next 13 = .ok (.bipush 10, 2) := dk_16 10 (dk_at dksX6_next_0 13 rfl rfl)
theorem dX6_next_15 : decode cX6_next 15 = .ok (.if_icmp .ne 16, 3) := dk_160 0 16 (dk_at dksX6_next_0 15 rfl rfl)
theorem dX6_next_18 : decode cX6_next 18 = .ok (.aload_n 0, 1) := dk_42 (dk_at dksX6_next_0 18 rfl rfl)
theorem dX6_next_19 : decode cX6_next 19 = .ok (.dup, 1) := dk_89 (dk_at dksX6_next_0 19 rfl rfl)
theorem dX6_next_20 : decode cX6_next 20 = .ok (.getfield 26, 3) := dk_180 0 26 (dk_at dksX6_next_0 20 rfl rfl)
theorem dX6_next_23 : decode cX6_next 23 = .ok (.iconst 1, 1) := dk_4 (dk_at dksX6_next_0 23 rfl rfl)
theorem dX6_next_24 : decode cX6_next 24 = .ok (.iadd, 1) := dk_96 (dk_at dksX6_next_1 0 rfl rfl)
theorem dX6_next_25 : decode cX6_next 25 = .ok (.putfield 26, 3) := dk_181 0 26 (dk_at dksX6_next_1 1 rfl rfl)
theorem dX6_next_28 : decode cX6_next 28 = .ok (.goto (-28), 3) := dk_167 255 228 (dk_at dksX6_next_1 4 rfl rfl)
theorem dX6_next_31 : decode cX6_next 31 = .ok (.aload_n 0, 1) := dk_42 (dk_at dksX6_next_1 7 rfl rfl)
theorem dX6_next_32 : decode cX6_next 32 = .ok (.aload_n 0, 1) := dk_42 (dk_at dksX6_next_1 8 rfl rfl)
theorem dX6_next_33 : decode cX6_next 33 = .ok (.getfield 26, 3) := dk_180 0 26 (dk_at dksX6_next_1 9 rfl rfl)
theorem dX6_next_36 : decode cX6_next 36 = .ok (.putfield 39, 3) := dk_181 0 39 (dk_at dksX6_next_1 12 rfl rfl)
theorem dX6_next_39 : decode cX6_next 39 = .ok (.aload_n 0, 1) := dk_42 (dk_at dksX6_next_1 15 rfl rfl)
theorem dX6_next_40 : decode cX6_next 40 = .ok (.invokevirtual 49, 3) := dk_182 0 49 (dk_at dksX6_next_1 16 rfl rfl)
theorem dX6_next_43 : decode cX6_next 43 = .ok (.istore_n 1, 1) := dk_60 (dk_at dksX6_next_1 19 rfl rfl)
theorem dX6_next_44 : decode cX6_next 44 = .ok (.aload_n 0, 1) := dk_42 (dk_at dksX6_next_1 20 rfl rfl)
theorem dX6_next_45 : decode cX6_next 45 = .ok (.iload_n 1, 1) := dk_27 (dk_at dksX6_next_1 21 rfl rfl)
theorem dX6_next_46 : decode cX6_next 46 = .ok (.ifCond .ge 7, 3) := dk_156 0 7 (dk_at dksX6_next_2 0 rfl rfl)
theorem dX6_next_49 : decode cX6_next 49 = .ok (.iconst 1, 1) := dk_4 (dk_at dksX6_next_2 3 rfl rfl)
theorem dX6_next_50 : decode cX6_next 50 = .ok (.goto 4, 3) := dk_167 0 4 (dk_at dksX6_next_2 4 rfl rfl)
theorem dX6_next_53 : decode cX6_next 53 = .ok (.iconst 0, 1) := dk_3 (dk_at dksX6_next_2 7 rfl rfl)
theorem dX6_next_54 : decode cX6_next 54 = .ok (.putfield 53, 3) := dk_181 0 53 (dk_at dksX6_next_2 8 rfl rfl)
theorem dX6_next_57 : decode cX6_next 57 = .ok (.aload_n 0, 1) := dk_42 (dk_at dksX6_next_2 11 rfl rfl)
theorem dX6_next_58 : decode cX6_next 58 = .ok (.aconst_null, 1) := dk_1 (dk_at dksX6_next_2 12 rfl rfl)
theorem dX6_next_59 : decode cX6_next 59 = .ok (.putfield 57, 3) := dk_181 0 57 (dk_at dksX6_next_2 13 rfl rfl)
theorem dX6_next_62 : decode cX6_next 62 = .ok (.aload_n 0, 1) := dk_42 (dk_at dksX6_next_2 16 rfl rfl)
theorem dX6_next_63 : decode cX6_next 63 = .ok (.getfield 53, 3) := dk_180 0 53 (dk_at dksX6_next_2 17 rfl rfl)
theorem dX6_next_66 : decode cX6_next 66 = .ok (.ifCond .eq 4, 3) := dk_153 0 4 (dk_at dksX6_next_2 20 rfl rfl)
theorem dX6_next_69 : decode cX6_next 69 = .ok (.return_, 1) := dk_177 (dk_at dksX6_next_2 23 rfl rfl)
theorem dX6_next_70 : decode cX6_next 70 = .ok (.aload_n 0, 1) := dk_42 (dk_at dksX6_next_3 0 rfl rfl)
theorem dX6_next_71 : decode cX6_next 71 = .ok (.iload_n 1, 1) := dk_27 (dk_at dksX6_next_3 1 rfl rfl)
theorem dX6_next_72 : decode cX6_next 72 = .ok (.invokevirtual 61, 3) := dk_182 0 61 (dk_at dksX6_next_3 2 rfl rfl)
theorem dX6_next_75 : decode cX6_next 75 = .ok (.ifCond .ne 11, 3) := dk_154 0 11 (dk_at dksX6_next_3 5 rfl rfl)
theorem dX6_next_78 : decode cX6_next 78 = .ok (.aload_n 0, 1) := dk_42 (dk_at dksX6_next_3 8 rfl rfl)
theorem dX6_next_79 : decode cX6_next 79 = .ok (.iload_n 1, 1) := dk_27 (dk_at dksX6_next_3 9 rfl rfl)
theorem dX6_next_80 : decode cX6_next 80 = .ok (.invokevirtual 65, 3) := dk_182 0 65 (dk_at dksX6_next_3 10 rfl rfl)
theorem dX6_next_83 : decode cX6_next 83 = .ok (.ifCond .eq 8, 3) := dk_153 0 8 (dk_at dksX6_next_3 13 rfl rfl)
theorem dX6_next_86 : decode cX6_next 86 = .ok (.aload_n 0, 1) := dk_42 (dk_at dksX6_next_3 16 rfl rfl)
theorem dX6_next_87 : decode cX6_next 87 = .ok (.invokevirtual 68, 3) := dk_182 0 68 (dk_at dksX6_next_3 17 rfl rfl)
theorem dX6_next_90 : decode cX6_next 90 = .ok (.return_, 1) := dk_177 (dk_at dksX6_next_3 20 rfl rfl)
theorem dX6_next_91 : decode cX6_next 91 = .ok (.aload_n 0, 1) := dk_42 (dk_at dksX6_next_3 21 rfl rfl)
theorem dX6_next_92 : decode cX6_next 92 = .ok (.dup, 1) := dk_89 (dk_at dksX6_next_3 22 rfl rfl)
theorem dX6_next_93 : decode cX6_next 93 = .ok (.getfield 26, 3) := dk_180 0 26 (dk_at dksX6_next_4 0 rfl rfl)
theorem dX6_next_96 : decode cX6_next 96 = .ok (.iconst 1, 1) := dk_4 (dk_at dksX6_next_4 3 rfl rfl)
theorem dX6_next_97 : decode cX6_next 97 = .ok (.iadd, 1) := dk_96 (dk_at dksX6_next_4 4 rfl rfl)
theorem dX6_next_98 : decode cX6_next 98 = .ok (.putfield 26, 3) := dk_181 0 26 (dk_at dksX6_next_4 5 rfl rfl)
theorem dX6_next_101 : decode cX6_next 101 = .ok (.iload_n 1, 1) := dk_27 (dk_at dksX6_next_4 8 rfl rfl)
theorem dX6_next_102 : decode cX6_next 102 = .ok (.bipush 40, 2) := dk_16 40 (dk_at dksX6_next_4 9 rfl rfl)
theorem dX6_next_104 : decode cX6_next 104 = .ok (.if_icmp .eq 33, 3) := dk_159 0 33 (dk_at dksX6_next_4 11 rfl rfl)
theorem dX6_next_107 : decode cX6_next 107 = .ok (.iload_n 1, 1) := dk_27 (dk_at dksX6_next_4 14 rfl rfl)
theorem dX6_next_108 : decode cX6_next 108 = .ok (.bipush 41, 2) := dk_16 41 (dk_at dksX6_next_4 15 rfl rfl)
theorem dX6_next_110 : decode cX6_next 110 = .ok (.if_icmp .eq 27, 3) := dk_159 0 27 (dk_at dksX6_next_4 17 rfl rfl)
theorem dX6_next_113 : decode cX6_next 113 = .ok (.iload_n 1, 1) := dk_27 (dk_at dksX6_next_4 20 rfl rfl)
theorem dX6_next_114 : decode cX6_next 114 = .ok (.bipush 44, 2) := dk_16 44 (dk_at dksX6_next_4 21 rfl rfl)
theorem dX6_next_116 : decode cX6_next 116 = .ok (.if_icmp .eq 21, 3) := dk_159 0 21 (dk_at dksX6_next_5 0 rfl rfl)
theorem dX6_next_119 : decode cX6_next 119 = .ok (.iload_n 1, 1) := dk_27 (dk_at dksX6_next_5 3 rfl rfl)
theorem dX6_next_120 : decode cX6_next 120 = .ok (.bipush 59, 2) := dk_16 59 (dk_at dksX6_next_5 4 rfl rfl)
theorem dX6_next_122 : decode cX6_next 122 = .ok (.if_icmp .eq 15, 3) := dk_159 0 15 (dk_at dksX6_next_5 6 rfl rfl)
theorem dX6_next_125 : decode cX6_next 125 = .ok (.iload_n 1, 1) := dk_27 (dk_at dksX6_next_5 9 rfl rfl)
theorem dX6_next_126 : decode cX6_next 126 = .ok (.bipush 60, 2) := dk_16 60 (dk_at dksX6_next_5 10 rfl rfl)
theorem dX6_next_128 : decode cX6_next 128 = .ok (.if_icmp .eq 9, 3) := dk_159 0 9 (dk_at dksX6_next_5 12 rfl rfl)
theorem dX6_next_131 : decode cX6_next 131 = .ok (.iload_n 1, 1) := dk_27 (dk_at dksX6_next_5 15 rfl rfl)
theorem dX6_next_132 : decode cX6_next 132 = .ok (.bipush 62, 2) := dk_16 62 (dk_at dksX6_next_5 16 rfl rfl)
theorem dX6_next_134 : decode cX6_next 134 = .ok (.if_icmp .ne 12, 3) := dk_160 0 12 (dk_at dksX6_next_5 18 rfl rfl)
theorem dX6_next_137 : decode cX6_next 137 = .ok (.aload_n 0, 1) := dk_42 (dk_at dksX6_next_5 21 rfl rfl)
theorem dX6_next_138 : decode cX6_next 138 = .ok (.iload_n 1, 1) := dk_27 (dk_at dksX6_next_5 22 rfl rfl)
theorem dX6_next_139 : decode cX6_next 139 = .ok (.i2c, 1) := dk_146 (dk_at dksX6_next_5 23 rfl rfl)
theorem dX6_next_140 : decode cX6_next 140 = .ok (.invokestatic 71, 3) := dk_184 0 71 (dk_at dksX6_next_6 0 rfl rfl)
theorem dX6_next_143 : decode cX6_next 143 = .ok (.putfield 57, 3) := dk_181 0 57 (dk_at dksX6_next_6 3 rfl rfl)
theorem dX6_next_146 : decode cX6_next 146 = .ok (.return_, 1) := dk_177 (dk_at dksX6_next_6 6 rfl rfl)
abbrev cX6_here : ByteArray := prog_12_method_2_code
def yX6_here : MethodName := ⟨RX6, "here", "()I"⟩
def dkwX6_here_1 : List UInt8 := [17, 0, 255, 126, 167, 0, 4, 2, 172]
abbrev dktX6_here_1 : List UInt8 := dkwX6_here_1 ++ []
def dkwX6_here_0 : List UInt8 := [42, 180, 0, 26, 42, 180, 0, 22, 162, 0, 22, 42, 180, 0, 3, 180, 0, 29, 42, 180, 0, 26, 51]
abbrev dktX6_here_0 : List UInt8 := dkwX6_here_0 ++ dktX6_here_1
theorem dksX6_here_0 : cX6_here.data.toList.drop 0 = dktX6_here_0 := by decide +kernel
theorem dksX6_here_1 : cX6_here.data.toList.drop 23 = dktX6_here_1 := dk_seg dksX6_here_0 23 rfl rfl
theorem dX6_here_0 : decode cX6_here 0 = .ok (.aload_n 0, 1) := dk_42 (dk_at dksX6_here_0 0 rfl rfl)
theorem dX6_here_1 : decode cX6_here 1 = .ok (.getfield 26, 3) := dk_180 0 26 (dk_at dksX6_here_0 1 rfl rfl)
theorem dX6_here_4 : decode cX6_here 4 = .ok (.aload_n 0, 1) := dk_42 (dk_at dksX6_here_0 4 rfl rfl)
theorem dX6_here_5 : decode cX6_here 5 = .ok (.getfield 22, 3) := dk_180 0 22 (dk_at dksX6_here_0 5 rfl rfl)
theorem dX6_here_8 : decode cX6_here 8 = .ok (.if_icmp .ge 22, 3) := dk_162 0 22 (dk_at dksX6_here_0 8 rfl rfl)
theorem dX6_here_11 : decode cX6_here 11 = .ok (.aload_n 0, 1) := dk_42 (dk_at dksX6_here_0 11 rfl rfl)
theorem dX6_here_12 : decode cX6_here 12 = .ok (.getfield 3, 3) := dk_180 0 3 (dk_at dksX6_here_0 12 rfl rfl)
theorem dX6_here_15 : decode cX6_here 15 = .ok (.getfield 29, 3) := dk_180 0 29 (dk_at dksX6_here_0 15 rfl rfl)
theorem dX6_here_18 : decode cX6_here 18 = .ok (.aload_n 0, 1) := dk_42 (dk_at dksX6_here_0 18 rfl rfl)
theorem dX6_here_19 : decode cX6_here 19 = .ok (.getfield 26, 3) := dk_180 0 26 (dk_at dksX6_here_0 19 rfl rfl)
theorem dX6_here_22 : decode cX6_here 22 = .ok (.baload, 1) := dk_51 (dk_at dksX6_here_0 22 rfl rfl)
theorem dX6_here_23 : decode cX6_here 23 = .ok (.sipush 255, 3) := dk_17 0 255 (dk_at dksX6_here_1 0 rfl rfl)
theorem dX6_here_26 : decode cX6_here 26 = .ok (.iand, 1) := dk_126 (dk_at dksX6_here_1 3 rfl rfl)
theorem dX6_here_27 : decode cX6_here 27 = .ok (.goto 4, 3) := dk_167 0 4 (dk_at dksX6_here_1 4 rfl rfl)
theorem dX6_here_30 : decode cX6_here 30 = .ok (.iconst (-1), 1) := dk_2 (dk_at dksX6_here_1 7 rfl rfl)
theorem dX6_here_31 : decode cX6_here 31 = .ok (.ireturn, 1) := dk_172 (dk_at dksX6_here_1 8 rfl rfl)
abbrev cX6_isLetter : ByteArray := prog_12_method_3_code
def yX6_isLetter : MethodName := ⟨RX6, "isLetter", "(I)Z"⟩
def dkwX6_isLetter_0 : List UInt8 := [27, 16, 97, 16, 122, 184, 0, 33, 172]
abbrev dktX6_isLetter_0 : List UInt8 := dkwX6_isLetter_0 ++ []
theorem dksX6_isLetter_0 : cX6_isLetter.data.toList.drop 0 = dktX6_isLetter_0 := by decide +kernel
theorem dX6_isLetter_0 : decode cX6_isLetter 0 = .ok (.iload_n 1, 1) := dk_27 (dk_at dksX6_isLetter_0 0 rfl rfl)
theorem dX6_isLetter_1 : decode cX6_isLetter 1 = .ok (.bipush 97, 2) := dk_16 97 (dk_at dksX6_isLetter_0 1 rfl rfl)
theorem dX6_isLetter_3 : decode cX6_isLetter 3 = .ok (.bipush 122, 2) := dk_16 122 (dk_at dksX6_isLetter_0 3 rfl rfl)
theorem dX6_isLetter_5 : decode cX6_isLetter 5 = .ok (.invokestatic 33, 3) := dk_184 0 33 (dk_at dksX6_isLetter_0 5 rfl rfl)
theorem dX6_isLetter_8 : decode cX6_isLetter 8 = .ok (.ireturn, 1) := dk_172 (dk_at dksX6_isLetter_0 8 rfl rfl)
abbrev cX6_isDigit : ByteArray := prog_12_method_4_code
def yX6_isDigit : MethodName := ⟨RX6, "isDigit", "(I)Z"⟩
def dkwX6_isDigit_0 : List UInt8 := [27, 16, 48, 16, 57, 184, 0, 33, 172]
abbrev dktX6_isDigit_0 : List UInt8 := dkwX6_isDigit_0 ++ []
theorem dksX6_isDigit_0 : cX6_isDigit.data.toList.drop 0 = dktX6_isDigit_0 := by decide +kernel
theorem dX6_isDigit_0 : decode cX6_isDigit 0 = .ok (.iload_n 1, 1) := dk_27 (dk_at dksX6_isDigit_0 0 rfl rfl)
theorem dX6_isDigit_1 : decode cX6_isDigit 1 = .ok (.bipush 48, 2) := dk_16 48 (dk_at dksX6_isDigit_0 1 rfl rfl)
theorem dX6_isDigit_3 : decode cX6_isDigit 3 = .ok (.bipush 57, 2) := dk_16 57 (dk_at dksX6_isDigit_0 3 rfl rfl)
theorem dX6_isDigit_5 : decode cX6_isDigit 5 = .ok (.invokestatic 33, 3) := dk_184 0 33 (dk_at dksX6_isDigit_0 5 rfl rfl)
theorem dX6_isDigit_8 : decode cX6_isDigit 8 = .ok (.ireturn, 1) := dk_172 (dk_at dksX6_isDigit_0 8 rfl rfl)
abbrev cX6_runs : ByteArray := prog_12_method_8_code
def yX6_runs : MethodName := ⟨RX6, "runs", "()V"⟩
def dkwX6_runs_6 : List UInt8 := [28, 4, 160, 0, 17, 29, 6, 160, 0, 12, 42, 42, 43, 182, 0, 100, 181, 0, 57, 177]
abbrev dktX6_runs_6 : List UInt8 := dkwX6_runs_6 ++ []
def dkwX6_runs_5 : List UInt8 := [154, 0, 24, 29, 6, 163, 0, 19, 42, 42, 43, 3, 182, 0, 91, 184, 0, 95, 181, 0, 57, 167, 0, 22]
abbrev dktX6_runs_5 : List UInt8 := dkwX6_runs_5 ++ dktX6_runs_6
def dkwX6_runs_4 : List UInt8 := [28, 29, 160, 0, 20, 29, 16, 8, 163, 0, 14, 42, 43, 182, 0, 87, 181, 0, 57, 167, 0, 47, 28]
abbrev dktX6_runs_4 : List UInt8 := dkwX6_runs_4 ++ dktX6_runs_5
def dkwX6_runs_3 : List UInt8 := [87, 42, 89, 180, 0, 26, 4, 96, 181, 0, 26, 167, 255, 186, 42, 180, 0, 26, 42, 180, 0, 39, 100, 62]
abbrev dktX6_runs_3 : List UInt8 := dkwX6_runs_3 ++ dktX6_runs_4
def dkwX6_runs_2 : List UInt8 := [167, 0, 4, 3, 96, 61, 43, 182, 0, 80, 16, 9, 162, 0, 13, 43, 42, 182, 0, 49, 146, 182, 0, 83]
abbrev dktX6_runs_2 : List UInt8 := dkwX6_runs_2 ++ dktX6_runs_3
def dkwX6_runs_1 : List UInt8 := [182, 0, 49, 182, 0, 65, 153, 0, 54, 28, 42, 42, 182, 0, 49, 182, 0, 61, 153, 0, 7, 4]
abbrev dktX6_runs_1 : List UInt8 := dkwX6_runs_1 ++ dktX6_runs_2
def dkwX6_runs_0 : List UInt8 := [187, 0, 77, 89, 183, 0, 79, 76, 3, 61, 42, 42, 182, 0, 49, 182, 0, 61, 154, 0, 14, 42, 42]
abbrev dktX6_runs_0 : List UInt8 := dkwX6_runs_0 ++ dktX6_runs_1
theorem dksX6_runs_0 : cX6_runs.data.toList.drop 0 = dktX6_runs_0 := by decide +kernel
theorem dksX6_runs_1 : cX6_runs.data.toList.drop 23 = dktX6_runs_1 := dk_seg dksX6_runs_0 23 rfl rfl
theorem dksX6_runs_2 : cX6_runs.data.toList.drop 45 = dktX6_runs_2 := dk_seg dksX6_runs_1 22 rfl rfl
theorem dksX6_runs_3 : cX6_runs.data.toList.drop 69 = dktX6_runs_3 := dk_seg dksX6_runs_2 24 rfl rfl
theorem dksX6_runs_4 : cX6_runs.data.toList.drop 93 = dktX6_runs_4 := dk_seg dksX6_runs_3 24 rfl rfl
theorem dksX6_runs_5 : cX6_runs.data.toList.drop 116 = dktX6_runs_5 := dk_seg dksX6_runs_4 23 rfl rfl
theorem dksX6_runs_6 : cX6_runs.data.toList.drop 140 = dktX6_runs_6 := dk_seg dksX6_runs_5 24 rfl rfl
theorem dX6_runs_0 : decode cX6_runs 0 = .ok (.new 77, 3) := dk_187 0 77 (dk_at dksX6_runs_0 0 rfl rfl)
theorem dX6_runs_3 : decode cX6_runs 3 = .ok (.dup, 1) := dk_89 (dk_at dksX6_runs_0 3 rfl rfl)
theorem dX6_runs_4 : decode cX6_runs 4 = .ok (.invokespecial 79, 3) := dk_183 0 79 (dk_at dksX6_runs_0 4 rfl rfl)
theorem dX6_runs_7 : decode cX6_runs 7 = .ok (.astore_n 1, 1) := dk_76 (dk_at dksX6_runs_0 7 rfl rfl)
theorem dX6_runs_8 : decode cX6_runs 8 = .ok (.iconst 0, 1) := dk_3 (dk_at dksX6_runs_0 8 rfl rfl)
theorem dX6_runs_9 : decode cX6_runs 9 = .ok (.istore_n 2, 1) := dk_61 (dk_at dksX6_runs_0 9 rfl rfl)
theorem dX6_runs_10 : decode cX6_runs 10 = .ok (.aload_n 0, 1) := dk_42 (dk_at dksX6_runs_0 10 rfl rfl)
theorem dX6_runs_11 : decode cX6_runs 11 = .ok (.aload_n 0, 1) := dk_42 (dk_at dksX6_runs_0 11 rfl rfl)
theorem dX6_runs_12 : decode cX6_runs 12 = .ok (.invokevirtual 49, 3) := dk_182 0 49 (dk_at dksX6_runs_0 12 rfl rfl)
theorem dX6_runs_15 : decode cX6_runs 15 = .ok (.invokevirtual 61, 3) := dk_182 0 61 (dk_at dksX6_runs_0 15 rfl rfl)
theorem dX6_runs_18 : decode cX6_runs 18 = .ok (.ifCond .ne 14, 3) := dk_154 0 14 (dk_at dksX6_runs_0 18 rfl rfl)
theorem dX6_runs_21 : decode cX6_runs 21 = .ok (.aload_n 0, 1) := dk_42 (dk_at dksX6_runs_0 21 rfl rfl)
theorem dX6_runs_22 : decode cX6_runs 22 = .ok (.aload_n 0, 1) := dk_42 (dk_at dksX6_runs_0 22 rfl rfl)
theorem dX6_runs_23 : decode cX6_runs 23 = .ok (.invokevirtual 49, 3) := dk_182 0 49 (dk_at dksX6_runs_1 0 rfl rfl)
theorem dX6_runs_26 : decode cX6_runs 26 = .ok (.invokevirtual 65, 3) := dk_182 0 65 (dk_at dksX6_runs_1 3 rfl rfl)
theorem dX6_runs_29 : decode cX6_runs 29 = .ok (.ifCond .eq 54, 3) := dk_153 0 54 (dk_at dksX6_runs_1 6 rfl rfl)
theorem dX6_runs_32 : decode cX6_runs 32 = .ok (.iload_n 2, 1) := dk_28 (dk_at dksX6_runs_1 9 rfl rfl)
theorem dX6_runs_33 : decode cX6_runs 33 = .ok (.aload_n 0, 1) := dk_42 (dk_at dksX6_runs_1 10 rfl rfl)
theorem dX6_runs_34 : decode cX6_runs 34 = .ok (.aload_n 0, 1) := dk_42 (dk_at dksX6_runs_1 11 rfl rfl)
theorem dX6_runs_35 : decode cX6_runs 35 = .ok (.invokevirtual 49, 3) := dk_182 0 49 (dk_at dksX6_runs_1 12 rfl rfl)
theorem dX6_runs_38 : decode cX6_runs 38 = .ok (.invokevirtual 61, 3) := dk_182 0 61 (dk_at dksX6_runs_1 15 rfl rfl)
theorem dX6_runs_41 : decode cX6_runs 41 = .ok (.ifCond .eq 7, 3) := dk_153 0 7 (dk_at dksX6_runs_1 18 rfl rfl)
theorem dX6_runs_44 : decode cX6_runs 44 = .ok (.iconst 1, 1) := dk_4 (dk_at dksX6_runs_1 21 rfl rfl)
theorem dX6_runs_45 : decode cX6_runs 45 = .ok (.goto 4, 3) := dk_167 0 4 (dk_at dksX6_runs_2 0 rfl rfl)
theorem dX6_runs_48 : decode cX6_runs 48 = .ok (.iconst 0, 1) := dk_3 (dk_at dksX6_runs_2 3 rfl rfl)
theorem dX6_runs_49 : decode cX6_runs 49 = .ok (.iadd, 1) := dk_96 (dk_at dksX6_runs_2 4 rfl rfl)
theorem dX6_runs_50 : decode cX6_runs 50 = .ok (.istore_n 2, 1) := dk_61 (dk_at dksX6_runs_2 5 rfl rfl)
theorem dX6_runs_51 : decode cX6_runs 51 = .ok (.aload_n 1, 1) := dk_43 (dk_at dksX6_runs_2 6 rfl rfl)
theorem dX6_runs_52 : decode cX6_runs 52 = .ok (.invokevirtual 80, 3) := dk_182 0 80 (dk_at dksX6_runs_2 7 rfl rfl)
theorem dX6_runs_55 : decode cX6_runs 55 = .ok (.bipush 9, 2) := dk_16 9 (dk_at dksX6_runs_2 10 rfl rfl)
theorem dX6_runs_57 : decode cX6_runs 57 = .ok (.if_icmp .ge 13, 3) := dk_162 0 13 (dk_at dksX6_runs_2 12 rfl rfl)
theorem dX6_runs_60 : decode cX6_runs 60 = .ok (.aload_n 1, 1) := dk_43 (dk_at dksX6_runs_2 15 rfl rfl)
theorem dX6_runs_61 : decode cX6_runs 61 = .ok (.aload_n 0, 1) := dk_42 (dk_at dksX6_runs_2 16 rfl rfl)
theorem dX6_runs_62 : decode cX6_runs 62 = .ok (.invokevirtual 49, 3) := dk_182 0 49 (dk_at dksX6_runs_2 17 rfl rfl)
theorem dX6_runs_65 : decode cX6_runs 65 = .ok (.i2c, 1) := dk_146 (dk_at dksX6_runs_2 20 rfl rfl)
theorem dX6_runs_66 : decode cX6_runs 66 = .ok (.invokevirtual 83, 3) := dk_182 0 83 (dk_at dksX6_runs_2 21 rfl rfl)
theorem dX6_runs_69 : decode cX6_runs 69 = .ok (.pop, 1) := dk_87 (dk_at dksX6_runs_3 0 rfl rfl)
theorem dX6_runs_70 : decode cX6_runs 70 = .ok (.aload_n 0, 1) := dk_42 (dk_at dksX6_runs_3 1 rfl rfl)
theorem dX6_runs_71 : decode cX6_runs 71 = .ok (.dup, 1) := dk_89 (dk_at dksX6_runs_3 2 rfl rfl)
theorem dX6_runs_72 : decode cX6_runs 72 = .ok (.getfield 26, 3) := dk_180 0 26 (dk_at dksX6_runs_3 3 rfl rfl)
theorem dX6_runs_75 : decode cX6_runs 75 = .ok (.iconst 1, 1) := dk_4 (dk_at dksX6_runs_3 6 rfl rfl)
theorem dX6_runs_76 : decode cX6_runs 76 = .ok (.iadd, 1) := dk_96 (dk_at dksX6_runs_3 7 rfl rfl)
theorem dX6_runs_77 : decode cX6_runs 77 = .ok (.putfield 26, 3) := dk_181 0 26 (dk_at dksX6_runs_3 8 rfl rfl)
theorem dX6_runs_80 : decode cX6_runs 80 = .ok (.goto (-70), 3) := dk_167 255 186 (dk_at dksX6_runs_3 11 rfl rfl)
theorem dX6_runs_83 : decode cX6_runs 83 = .ok (.aload_n 0, 1) := dk_42 (dk_at dksX6_runs_3 14 rfl rfl)
theorem dX6_runs_84 : decode cX6_runs 84 = .ok (.getfield 26, 3) := dk_180 0 26 (dk_at dksX6_runs_3 15 rfl rfl)
theorem dX6_runs_87 : decode cX6_runs 87 = .ok (.aload_n 0, 1) := dk_42 (dk_at dksX6_runs_3 18 rfl rfl)
theorem dX6_runs_88 : decode cX6_runs 88 = .ok (.getfield 39, 3) := dk_180 0 39 (dk_at dksX6_runs_3 19 rfl rfl)
theorem dX6_runs_91 : decode cX6_runs 91 = .ok (.isub, 1) := dk_100 (dk_at dksX6_runs_3 22 rfl rfl)
theorem dX6_runs_92 : decode cX6_runs 92 = .ok (.istore_n 3, 1) := dk_62 (dk_at dksX6_runs_3 23 rfl rfl)
theorem dX6_runs_93 : decode cX6_runs 93 = .ok (.iload_n 2, 1) := dk_28 (dk_at dksX6_runs_4 0 rfl rfl)
theorem dX6_runs_94 : decode cX6_runs 94 = .ok (.iload_n 3, 1) := dk_29 (dk_at dksX6_runs_4 1 rfl rfl)
theorem dX6_runs_95 : decode cX6_runs 95 = .ok (.if_icmp .ne 20, 3) := dk_160 0 20 (dk_at dksX6_runs_4 2 rfl rfl)
theorem dX6_runs_98 : decode cX6_runs 98 = .ok (.iload_n 3, 1) := dk_29 (dk_at dksX6_runs_4 5 rfl rfl)
theorem dX6_runs_99 : decode cX6_runs 99 = .ok (.bipush 8, 2) := dk_16 8 (dk_at dksX6_runs_4 6 rfl rfl)
theorem dX6_runs_101 : decode cX6_runs 101 = .ok (.if_icmp .gt 14, 3) := dk_163 0 14 (dk_at dksX6_runs_4 8 rfl rfl)
theorem dX6_runs_104 : decode cX6_runs 104 = .ok (.aload_n 0, 1) := dk_42 (dk_at dksX6_runs_4 11 rfl rfl)
theorem dX6_runs_105 : decode cX6_runs 105 = .ok (.aload_n 1, 1) := dk_43 (dk_at dksX6_runs_4 12 rfl rfl)
theorem dX6_runs_106 : decode cX6_runs 106 = .ok (.invokevirtual 87, 3) := dk_182 0 87 (dk_at dksX6_runs_4 13 rfl rfl)
theorem dX6_runs_109 : decode cX6_runs 109 = .ok (.putfield 57, 3) := dk_181 0 57 (dk_at dksX6_runs_4 16 rfl rfl)
theorem dX6_runs_112 : decode cX6_runs 112 = .ok (.goto 47, 3) := dk_167 0 47 (dk_at dksX6_runs_4 19 rfl rfl)
theorem dX6_runs_115 : decode cX6_runs 115 = .ok (.iload_n 2, 1) := dk_28 (dk_at dksX6_runs_4 22 rfl rfl)
theorem dX6_runs_116 : decode cX6_runs 116 = .ok (.ifCond .ne 24, 3) := dk_154 0 24 (dk_at dksX6_runs_5 0 rfl rfl)
theorem dX6_runs_119 : decode cX6_runs 119 = .ok (.iload_n 3, 1) := dk_29 (dk_at dksX6_runs_5 3 rfl rfl)
theorem dX6_runs_120 : decode cX6_runs 120 = .ok (.iconst 3, 1) := dk_6 (dk_at dksX6_runs_5 4 rfl rfl)
theorem dX6_runs_121 : decode cX6_runs 121 = .ok (.if_icmp .gt 19, 3) := dk_163 0 19 (dk_at dksX6_runs_5 5 rfl rfl)
theorem dX6_runs_124 : decode cX6_runs 124 = .ok (.aload_n 0, 1) := dk_42 (dk_at dksX6_runs_5 8 rfl rfl)
theorem dX6_runs_125 : decode cX6_runs 125 = .ok (.aload_n 0, 1) := dk_42 (dk_at dksX6_runs_5 9 rfl rfl)
theorem dX6_runs_126 : decode cX6_runs 126 = .ok (.aload_n 1, 1) := dk_43 (dk_at dksX6_runs_5 10 rfl rfl)
theorem dX6_runs_127 : decode cX6_runs 127 = .ok (.iconst 0, 1) := dk_3 (dk_at dksX6_runs_5 11 rfl rfl)
theorem dX6_runs_128 : decode cX6_runs 128 = .ok (.invokevirtual 91, 3) := dk_182 0 91 (dk_at dksX6_runs_5 12 rfl rfl)
theorem dX6_runs_131 : decode cX6_runs 131 = .ok (.invokestatic 95, 3) := dk_184 0 95 (dk_at dksX6_runs_5 15 rfl rfl)
theorem dX6_runs_134 : decode cX6_runs 134 = .ok (.putfield 57, 3) := dk_181 0 57 (dk_at dksX6_runs_5 18 rfl rfl)
theorem dX6_runs_137 : decode cX6_runs 137 = .ok (.goto 22, 3) := dk_167 0 22 (dk_at dksX6_runs_5 21 rfl rfl)
theorem dX6_runs_140 : decode cX6_runs 140 = .ok (.iload_n 2, 1) := dk_28 (dk_at dksX6_runs_6 0 rfl rfl)
theorem dX6_runs_141 : decode cX6_runs 141 = .ok (.iconst 1, 1) := dk_4 (dk_at dksX6_runs_6 1 rfl rfl)
theorem dX6_runs_142 : decode cX6_runs 142 = .ok (.if_icmp .ne 17, 3) := dk_160 0 17 (dk_at dksX6_runs_6 2 rfl rfl)
theorem dX6_runs_145 : decode cX6_runs 145 = .ok (.iload_n 3, 1) := dk_29 (dk_at dksX6_runs_6 5 rfl rfl)
theorem dX6_runs_146 : decode cX6_runs 146 = .ok (.iconst 3, 1) := dk_6 (dk_at dksX6_runs_6 6 rfl rfl)
theorem dX6_runs_147 : decode cX6_runs 147 = .ok (.if_icmp .ne 12, 3) := dk_160 0 12 (dk_at dksX6_runs_6 7 rfl rfl)
theorem dX6_runs_150 : decode cX6_runs 150 = .ok (.aload_n 0, 1) := dk_42 (dk_at dksX6_runs_6 10 rfl rfl)
theorem dX6_runs_151 : decode cX6_runs 151 = .ok (.aload_n 0, 1) := dk_42 (dk_at dksX6_runs_6 11 rfl rfl)
theorem dX6_runs_152 : decode cX6_runs 152 = .ok (.aload_n 1, 1) := dk_43 (dk_at dksX6_runs_6 12 rfl rfl)
theorem dX6_runs_153 : decode cX6_runs 153 = .ok (.invokevirtual 100, 3) := dk_182 0 100 (dk_at dksX6_runs_6 13 rfl rfl)
theorem dX6_runs_156 : decode cX6_runs 156 = .ok (.putfield 57, 3) := dk_181 0 57 (dk_at dksX6_runs_6 16 rfl rfl)
theorem dX6_runs_159 : decode cX6_runs 159 = .ok (.return_, 1) := dk_177 (dk_at dksX6_runs_6 19 rfl rfl)
abbrev cX6_numberOf : ByteArray := prog_12_method_9_code
def yX6_numberOf : MethodName := ⟨RX6, "numberOf", "(Ljava/lang/StringBuilder;I)I"⟩
def dkwX6_numberOf_1 : List UInt8 := [96, 16, 48, 100, 62, 132, 4, 1, 167, 255, 229, 29, 172]
abbrev dktX6_numberOf_1 : List UInt8 := dkwX6_numberOf_1 ++ []
def dkwX6_numberOf_0 : List UInt8 := [3, 62, 28, 54, 4, 21, 4, 43, 182, 0, 80, 162, 0, 24, 16, 10, 29, 104, 43, 21, 4, 182, 0, 104]
abbrev dktX6_numberOf_0 : List UInt8 := dkwX6_numberOf_0 ++ dktX6_numberOf_1
theorem dksX6_numberOf_0 : cX6_numberOf.data.toList.drop 0 = dktX6_numberOf_0 := by decide +kernel
theorem dksX6_numberOf_1 : cX6_numberOf.data.toList.drop 24 = dktX6_numberOf_1 := dk_seg dksX6_numberOf_0 24 rfl rfl
theorem dX6_numberOf_0 : decode cX6_numberOf 0 = .ok (.iconst 0, 1) := dk_3 (dk_at dksX6_numberOf_0 0 rfl rfl)
theorem dX6_numberOf_1 : decode cX6_numberOf 1 = .ok (.istore_n 3, 1) := dk_62 (dk_at dksX6_numberOf_0 1 rfl rfl)
theorem dX6_numberOf_2 : decode cX6_numberOf 2 = .ok (.iload_n 2, 1) := dk_28 (dk_at dksX6_numberOf_0 2 rfl rfl)
theorem dX6_numberOf_3 : decode cX6_numberOf 3 = .ok (.istore 4, 2) := dk_54 4 (dk_at dksX6_numberOf_0 3 rfl rfl)
theorem dX6_numberOf_5 : decode cX6_numberOf 5 = .ok (.iload 4, 2) := dk_21 4 (dk_at dksX6_numberOf_0 5 rfl rfl)
theorem dX6_numberOf_7 : decode cX6_numberOf 7 = .ok (.aload_n 1, 1) := dk_43 (dk_at dksX6_numberOf_0 7 rfl rfl)
theorem dX6_numberOf_8 : decode cX6_numberOf 8 = .ok (.invokevirtual 80, 3) := dk_182 0 80 (dk_at dksX6_numberOf_0 8 rfl rfl)
theorem dX6_numberOf_11 : decode cX6_numberOf 11 = .ok (.if_icmp .ge 24, 3) := dk_162 0 24 (dk_at dksX6_numberOf_0 11 rfl rfl)
theorem dX6_numberOf_14 : decode cX6_numberOf 14 = .ok (.bipush 10, 2) := dk_16 10 (dk_at dksX6_numberOf_0 14 rfl rfl)
theorem dX6_numberOf_16 : decode cX6_numberOf 16 = .ok (.iload_n 3, 1) := dk_29 (dk_at dksX6_numberOf_0 16 rfl rfl)
theorem dX6_numberOf_17 : decode cX6_numberOf 17 = .ok (.imul, 1) := dk_104 (dk_at dksX6_numberOf_0 17 rfl rfl)
theorem dX6_numberOf_18 : decode cX6_numberOf 18 = .ok (.aload_n 1, 1) := dk_43 (dk_at dksX6_numberOf_0 18 rfl rfl)
theorem dX6_numberOf_19 : decode cX6_numberOf 19 = .ok (.iload 4, 2) := dk_21 4 (dk_at dksX6_numberOf_0 19 rfl rfl)
theorem dX6_numberOf_21 : decode cX6_numberOf 21 = .ok (.invokevirtual 104, 3) := dk_182 0 104 (dk_at dksX6_numberOf_0 21 rfl rfl)
theorem dX6_numberOf_24 : decode cX6_numberOf 24 = .ok (.iadd, 1) := dk_96 (dk_at dksX6_numberOf_1 0 rfl rfl)
theorem dX6_numberOf_25 : decode cX6_numberOf 25 = .ok (.bipush 48, 2) := dk_16 48 (dk_at dksX6_numberOf_1 1 rfl rfl)
theorem dX6_numberOf_27 : decode cX6_numberOf 27 = .ok (.isub, 1) := dk_100 (dk_at dksX6_numberOf_1 3 rfl rfl)
theorem dX6_numberOf_28 : decode cX6_numberOf 28 = .ok (.istore_n 3, 1) := dk_62 (dk_at dksX6_numberOf_1 4 rfl rfl)
theorem dX6_numberOf_29 : decode cX6_numberOf 29 = .ok (.iinc 4 1, 3) := dk_132 4 1 (dk_at dksX6_numberOf_1 5 rfl rfl)
theorem dX6_numberOf_32 : decode cX6_numberOf 32 = .ok (.goto (-27), 3) := dk_167 255 229 (dk_at dksX6_numberOf_1 8 rfl rfl)
theorem dX6_numberOf_35 : decode cX6_numberOf 35 = .ok (.iload_n 3, 1) := dk_29 (dk_at dksX6_numberOf_1 11 rfl rfl)
theorem dX6_numberOf_36 : decode cX6_numberOf 36 = .ok (.ireturn, 1) := dk_172 (dk_at dksX6_numberOf_1 12 rfl rfl)
abbrev cX6_codeOf : ByteArray := prog_12_method_10_code
def yX6_codeOf : MethodName := ⟨RX6, "codeOf", "(Ljava/lang/StringBuilder;)Ljava/lang/Object;"⟩
def dkwX6_codeOf_3 : List UInt8 := [96, 183, 0, 110, 176, 1, 176]
abbrev dktX6_codeOf_3 : List UInt8 := dkwX6_codeOf_3 ++ []
def dkwX6_codeOf_2 : List UInt8 := [153, 0, 29, 187, 0, 108, 89, 17, 3, 232, 16, 100, 28, 16, 112, 100, 104, 96, 42, 43, 4, 182, 0, 91]
abbrev dktX6_codeOf_2 : List UInt8 := dkwX6_codeOf_2 ++ dktX6_codeOf_3
def dkwX6_codeOf_1 : List UInt8 := [16, 97, 100, 104, 42, 43, 4, 182, 0, 91, 96, 183, 0, 110, 176, 28, 16, 112, 16, 116, 184, 0, 33]
abbrev dktX6_codeOf_1 : List UInt8 := dkwX6_codeOf_1 ++ dktX6_codeOf_2
def dkwX6_codeOf_0 : List UInt8 := [43, 3, 182, 0, 104, 61, 28, 16, 97, 16, 106, 184, 0, 33, 153, 0, 25, 187, 0, 108, 89, 16, 100, 28]
abbrev dktX6_codeOf_0 : List UInt8 := dkwX6_codeOf_0 ++ dktX6_codeOf_1
theorem dksX6_codeOf_0 : cX6_codeOf.data.toList.drop 0 = dktX6_codeOf_0 := by decide +kernel
theorem dksX6_codeOf_1 : cX6_codeOf.data.toList.drop 24 = dktX6_codeOf_1 := dk_seg dksX6_codeOf_0 24 rfl rfl
theorem dksX6_codeOf_2 : cX6_codeOf.data.toList.drop 47 = dktX6_codeOf_2 := dk_seg dksX6_codeOf_1 23 rfl rfl
theorem dksX6_codeOf_3 : cX6_codeOf.data.toList.drop 71 = dktX6_codeOf_3 := dk_seg dksX6_codeOf_2 24 rfl rfl
theorem dX6_codeOf_0 : decode cX6_codeOf 0 = .ok (.aload_n 1, 1) := dk_43 (dk_at dksX6_codeOf_0 0 rfl rfl)
theorem dX6_codeOf_1 : decode cX6_codeOf 1 = .ok (.iconst 0, 1) := dk_3 (dk_at dksX6_codeOf_0 1 rfl rfl)
theorem dX6_codeOf_2 : decode cX6_codeOf 2 = .ok (.invokevirtual 104, 3) := dk_182 0 104 (dk_at dksX6_codeOf_0 2 rfl rfl)
theorem dX6_codeOf_5 : decode cX6_codeOf 5 = .ok (.istore_n 2, 1) := dk_61 (dk_at dksX6_codeOf_0 5 rfl rfl)
theorem dX6_codeOf_6 : decode cX6_codeOf 6 = .ok (.iload_n 2, 1) := dk_28 (dk_at dksX6_codeOf_0 6 rfl rfl)
theorem dX6_codeOf_7 : decode cX6_codeOf 7 = .ok (.bipush 97, 2) := dk_16 97 (dk_at dksX6_codeOf_0 7 rfl rfl)
theorem dX6_codeOf_9 : decode cX6_codeOf 9 = .ok (.bipush 106, 2) := dk_16 106 (dk_at dksX6_codeOf_0 9 rfl rfl)
theorem dX6_codeOf_11 : decode cX6_codeOf 11 = .ok (.invokestatic 33, 3) := dk_184 0 33 (dk_at dksX6_codeOf_0 11 rfl rfl)
theorem dX6_codeOf_14 : decode cX6_codeOf 14 = .ok (.ifCond .eq 25, 3) := dk_153 0 25 (dk_at dksX6_codeOf_0 14 rfl rfl)
theorem dX6_codeOf_17 : decode cX6_codeOf 17 = .ok (.new 108, 3) := dk_187 0 108 (dk_at dksX6_codeOf_0 17 rfl rfl)
theorem dX6_codeOf_20 : decode cX6_codeOf 20 = .ok (.dup, 1) := dk_89 (dk_at dksX6_codeOf_0 20 rfl rfl)
theorem dX6_codeOf_21 : decode cX6_codeOf 21 = .ok (.bipush 100, 2) := dk_16 100 (dk_at dksX6_codeOf_0 21 rfl rfl)
theorem dX6_codeOf_23 : decode cX6_codeOf 23 = .ok (.iload_n 2, 1) := dk_28 (dk_at dksX6_codeOf_0 23 rfl rfl)
theorem dX6_codeOf_24 : decode cX6_codeOf 24 = .ok (.bipush 97, 2) := dk_16 97 (dk_at dksX6_codeOf_1 0 rfl rfl)
theorem dX6_codeOf_26 : decode cX6_codeOf 26 = .ok (.isub, 1) := dk_100 (dk_at dksX6_codeOf_1 2 rfl rfl)
theorem dX6_codeOf_27 : decode cX6_codeOf 27 = .ok (.imul, 1) := dk_104 (dk_at dksX6_codeOf_1 3 rfl rfl)
theorem dX6_codeOf_28 : decode cX6_codeOf 28 = .ok (.aload_n 0, 1) := dk_42 (dk_at dksX6_codeOf_1 4 rfl rfl)
theorem dX6_codeOf_29 : decode cX6_codeOf 29 = .ok (.aload_n 1, 1) := dk_43 (dk_at dksX6_codeOf_1 5 rfl rfl)
theorem dX6_codeOf_30 : decode cX6_codeOf 30 = .ok (.iconst 1, 1) := dk_4 (dk_at dksX6_codeOf_1 6 rfl rfl)
theorem dX6_codeOf_31 : decode cX6_codeOf 31 = .ok (.invokevirtual 91, 3) := dk_182 0 91 (dk_at dksX6_codeOf_1 7 rfl rfl)
theorem dX6_codeOf_34 : decode cX6_codeOf 34 = .ok (.iadd, 1) := dk_96 (dk_at dksX6_codeOf_1 10 rfl rfl)
theorem dX6_codeOf_35 : decode cX6_codeOf 35 = .ok (.invokespecial 110, 3) := dk_183 0 110 (dk_at dksX6_codeOf_1 11 rfl rfl)
theorem dX6_codeOf_38 : decode cX6_codeOf 38 = .ok (.areturn, 1) := dk_176 (dk_at dksX6_codeOf_1 14 rfl rfl)
theorem dX6_codeOf_39 : decode cX6_codeOf 39 = .ok (.iload_n 2, 1) := dk_28 (dk_at dksX6_codeOf_1 15 rfl rfl)
theorem dX6_codeOf_40 : decode cX6_codeOf 40 = .ok (.bipush 112, 2) := dk_16 112 (dk_at dksX6_codeOf_1 16 rfl rfl)
theorem dX6_codeOf_42 : decode cX6_codeOf 42 = .ok (.bipush 116, 2) := dk_16 116 (dk_at dksX6_codeOf_1 18 rfl rfl)
theorem dX6_codeOf_44 : decode cX6_codeOf 44 = .ok (.invokestatic 33, 3) := dk_184 0 33 (dk_at dksX6_codeOf_1 20 rfl rfl)
theorem dX6_codeOf_47 : decode cX6_codeOf 47 = .ok (.ifCond .eq 29, 3) := dk_153 0 29 (dk_at dksX6_codeOf_2 0 rfl rfl)
theorem dX6_codeOf_50 : decode cX6_codeOf 50 = .ok (.new 108, 3) := dk_187 0 108 (dk_at dksX6_codeOf_2 3 rfl rfl)
theorem dX6_codeOf_53 : decode cX6_codeOf 53 = .ok (.dup, 1) := dk_89 (dk_at dksX6_codeOf_2 6 rfl rfl)
theorem dX6_codeOf_54 : decode cX6_codeOf 54 = .ok (.sipush 1000, 3) := dk_17 3 232 (dk_at dksX6_codeOf_2 7 rfl rfl)
theorem dX6_codeOf_57 : decode cX6_codeOf 57 = .ok (.bipush 100, 2) := dk_16 100 (dk_at dksX6_codeOf_2 10 rfl rfl)
theorem dX6_codeOf_59 : decode cX6_codeOf 59 = .ok (.iload_n 2, 1) := dk_28 (dk_at dksX6_codeOf_2 12 rfl rfl)
theorem dX6_codeOf_60 : decode cX6_codeOf 60 = .ok (.bipush 112, 2) := dk_16 112 (dk_at dksX6_codeOf_2 13 rfl rfl)
theorem dX6_codeOf_62 : decode cX6_codeOf 62 = .ok (.isub, 1) := dk_100 (dk_at dksX6_codeOf_2 15 rfl rfl)
theorem dX6_codeOf_63 : decode cX6_codeOf 63 = .ok (.imul, 1) := dk_104 (dk_at dksX6_codeOf_2 16 rfl rfl)
theorem dX6_codeOf_64 : decode cX6_codeOf 64 = .ok (.iadd, 1) := dk_96 (dk_at dksX6_codeOf_2 17 rfl rfl)
theorem dX6_codeOf_65 : decode cX6_codeOf 65 = .ok (.aload_n 0, 1) := dk_42 (dk_at dksX6_codeOf_2 18 rfl rfl)
theorem dX6_codeOf_66 : decode cX6_codeOf 66 = .ok (.aload_n 1, 1) := dk_43 (dk_at dksX6_codeOf_2 19 rfl rfl)
theorem dX6_codeOf_67 : decode cX6_codeOf 67 = .ok (.iconst 1, 1) := dk_4 (dk_at dksX6_codeOf_2 20 rfl rfl)
theorem dX6_codeOf_68 : decode cX6_codeOf 68 = .ok (.invokevirtual 91, 3) := dk_182 0 91 (dk_at dksX6_codeOf_2 21 rfl rfl)
theorem dX6_codeOf_71 : decode cX6_codeOf 71 = .ok (.iadd, 1) := dk_96 (dk_at dksX6_codeOf_3 0 rfl rfl)
theorem dX6_codeOf_72 : decode cX6_codeOf 72 = .ok (.invokespecial 110, 3) := dk_183 0 110 (dk_at dksX6_codeOf_3 1 rfl rfl)
theorem dX6_codeOf_75 : decode cX6_codeOf 75 = .ok (.areturn, 1) := dk_176 (dk_at dksX6_codeOf_3 4 rfl rfl)
theorem dX6_codeOf_76 : decode cX6_codeOf 76 = .ok (.aconst_null, 1) := dk_1 (dk_at dksX6_codeOf_3 5 rfl rfl)
theorem dX6_codeOf_77 : decode cX6_codeOf 77 = .ok (.areturn, 1) := dk_176 (dk_at dksX6_codeOf_3 6 rfl rfl)
abbrev cX6_line : ByteArray := prog_12_method_21_code
def yX6_line : MethodName := ⟨RX6, "line", "()V"⟩
def dkwX6_line_8 : List UInt8 := [182, 0, 220, 167, 0, 9, 42, 4, 182, 0, 45, 191, 42, 16, 59, 182, 0, 222, 177]
abbrev dktX6_line_8 : List UInt8 := dkwX6_line_8 ++ []
def dkwX6_line_7 : List UInt8 := [42, 182, 0, 214, 167, 0, 30, 42, 182, 0, 216, 167, 0, 23, 42, 182, 0, 218, 167, 0, 16, 42]
abbrev dktX6_line_7 : List UInt8 := dkwX6_line_7 ++ dktX6_line_8
def dkwX6_line_6 : List UInt8 := [170, 0, 0, 0, 0, 58, 0, 0, 0, 0, 0, 0, 0, 3, 0, 0, 0, 30, 0, 0, 0, 37, 0, 0, 0, 44, 0, 0, 0, 51]
abbrev dktX6_line_6 : List UInt8 := dkwX6_line_6 ++ dktX6_line_7
def dkwX6_line_5 : List UInt8 := [153, 0, 5, 6, 61, 28]
abbrev dktX6_line_5 : List UInt8 := dkwX6_line_5 ++ dktX6_line_6
def dkwX6_line_4 : List UInt8 := [61, 167, 0, 28, 43, 18, 177, 182, 0, 115, 153, 0, 19, 5, 61, 167, 0, 14, 43, 18, 179, 182, 0, 115]
abbrev dktX6_line_4 : List UInt8 := dkwX6_line_4 ++ dktX6_line_5
def dkwX6_line_3 : List UInt8 := [43, 18, 173, 182, 0, 115, 153, 0, 47, 3, 61, 167, 0, 42, 43, 18, 175, 182, 0, 115, 153, 0, 33, 4]
abbrev dktX6_line_3 : List UInt8 := dkwX6_line_3 ++ dktX6_line_4
def dkwX6_line_2 : List UInt8 := [171, 0, 0, 0, 0, 95, 0, 0, 0, 4, 208, 188, 220, 200, 0, 0, 0, 70, 0, 53, 76, 44, 0, 0, 0, 56, 0, 54, 115, 158, 0, 0, 0, 84, 44, 12, 124, 77, 0, 0, 0, 42]
abbrev dktX6_line_2 : List UInt8 := dkwX6_line_2 ++ dktX6_line_3
def dkwX6_line_1 : List UInt8 := [182, 0, 170]
abbrev dktX6_line_1 : List UInt8 := dkwX6_line_1 ++ dktX6_line_2
def dkwX6_line_0 : List UInt8 := [42, 42, 180, 0, 57, 193, 0, 113, 4, 182, 0, 126, 42, 180, 0, 57, 192, 0, 113, 76, 2, 61, 43]
abbrev dktX6_line_0 : List UInt8 := dkwX6_line_0 ++ dktX6_line_1
theorem dksX6_line_0 : cX6_line.data.toList.drop 0 = dktX6_line_0 := by decide +kernel
theorem dksX6_line_1 : cX6_line.data.toList.drop 23 = dktX6_line_1 := dk_seg dksX6_line_0 23 rfl rfl
theorem dksX6_line_2 : cX6_line.data.toList.drop 26 = dktX6_line_2 := dk_seg dksX6_line_1 3 rfl rfl
theorem dksX6_line_3 : cX6_line.data.toList.drop 68 = dktX6_line_3 := dk_seg dksX6_line_2 42 rfl rfl
theorem dksX6_line_4 : cX6_line.data.toList.drop 92 = dktX6_line_4 := dk_seg dksX6_line_3 24 rfl rfl
theorem dksX6_line_5 : cX6_line.data.toList.drop 116 = dktX6_line_5 := dk_seg dksX6_line_4 24 rfl rfl
theorem dksX6_line_6 : cX6_line.data.toList.drop 122 = dktX6_line_6 := dk_seg dksX6_line_5 6 rfl rfl
theorem dksX6_line_7 : cX6_line.data.toList.drop 152 = dktX6_line_7 := dk_seg dksX6_line_6 30 rfl rfl
theorem dksX6_line_8 : cX6_line.data.toList.drop 174 = dktX6_line_8 := dk_seg dksX6_line_7 22 rfl rfl
theorem dX6_line_0 : decode cX6_line 0 = .ok (.aload_n 0, 1) := dk_42 (dk_at dksX6_line_0 0 rfl rfl)
theorem dX6_line_1 : decode cX6_line 1 = .ok (.aload_n 0, 1) := dk_42 (dk_at dksX6_line_0 1 rfl rfl)
theorem dX6_line_2 : decode cX6_line 2 = .ok (.getfield 57, 3) := dk_180 0 57 (dk_at dksX6_line_0 2 rfl rfl)
theorem dX6_line_5 : decode cX6_line 5 = .ok (.instanceof 113, 3) := dk_193 0 113 (dk_at dksX6_line_0 5 rfl rfl)
theorem dX6_line_8 : decode cX6_line 8 = .ok (.iconst 1, 1) := dk_4 (dk_at dksX6_line_0 8 rfl rfl)
theorem dX6_line_9 : decode cX6_line 9 = .ok (.invokevirtual 126, 3) := dk_182 0 126 (dk_at dksX6_line_0 9 rfl rfl)
theorem dX6_line_12 : decode cX6_line 12 = .ok (.aload_n 0, 1) := dk_42 (dk_at dksX6_line_0 12 rfl rfl)
theorem dX6_line_13 : decode cX6_line 13 = .ok (.getfield 57, 3) := dk_180 0 57 (dk_at dksX6_line_0 13 rfl rfl)
theorem dX6_line_16 : decode cX6_line 16 = .ok (.checkcast 113, 3) := dk_192 0 113 (dk_at dksX6_line_0 16 rfl rfl)
theorem dX6_line_19 : decode cX6_line 19 = .ok (.astore_n 1, 1) := dk_76 (dk_at dksX6_line_0 19 rfl rfl)
theorem dX6_line_20 : decode cX6_line 20 = .ok (.iconst (-1), 1) := dk_2 (dk_at dksX6_line_0 20 rfl rfl)
theorem dX6_line_21 : decode cX6_line 21 = .ok (.istore_n 2, 1) := dk_61 (dk_at dksX6_line_0 21 rfl rfl)
theorem dX6_line_22 : decode cX6_line 22 = .ok (.aload_n 1, 1) := dk_43 (dk_at dksX6_line_0 22 rfl rfl)
theorem dX6_line_23 : decode cX6_line 23 = .ok (.invokevirtual 170, 3) := dk_182 0 170 (dk_at dksX6_line_1 0 rfl rfl)
theorem dX6_line_26 : decode cX6_line 26 = .ok (.lookupswitch 95 #[(-792929080, 70), (3492908, 56), (3568542, 84), (739015757, 42)], 42) := by decide +kernel
theorem dX6_line_68 : decode cX6_line 68 = .ok (.aload_n 1, 1) := dk_43 (dk_at dksX6_line_3 0 rfl rfl)
theorem dX6_line_69 : decode cX6_line 69 = .ok (.ldc 173, 2) := dk_18 173 (dk_at dksX6_line_3 1 rfl rfl)
theorem dX6_line_71 : decode cX6_line 71 = .ok (.invokevirtual 115, 3) := dk_182 0 115 (dk_at dksX6_line_3 3 rfl rfl)
theorem dX6_line_74 : decode cX6_line 74 = .ok (.ifCond .eq 47, 3) := dk_153 0 47 (dk_at dksX6_line_3 6 rfl rfl)
theorem dX6_line_77 : decode cX6_line 77 = .ok (.iconst 0, 1) := dk_3 (dk_at dksX6_line_3 9 rfl rfl)
theorem dX6_line_78 : decode cX6_line 78 = .ok (.istore_n 2, 1) := dk_61 (dk_at dksX6_line_3 10 rfl rfl)
theorem dX6_line_79 : decode cX6_line 79 = .ok (.goto 42, 3) := dk_167 0 42 (dk_at dksX6_line_3 11 rfl rfl)
theorem dX6_line_82 : decode cX6_line 82 = .ok (.aload_n 1, 1) := dk_43 (dk_at dksX6_line_3 14 rfl rfl)
theorem dX6_line_83 : decode cX6_line 83 = .ok (.ldc 175, 2) := dk_18 175 (dk_at dksX6_line_3 15 rfl rfl)
theorem dX6_line_85 : decode cX6_line 85 = .ok (.invokevirtual 115, 3) := dk_182 0 115 (dk_at dksX6_line_3 17 rfl rfl)
theorem dX6_line_88 : decode cX6_line 88 = .ok (.ifCond .eq 33, 3) := dk_153 0 33 (dk_at dksX6_line_3 20 rfl rfl)
theorem dX6_line_91 : decode cX6_line 91 = .ok (.iconst 1, 1) := dk_4 (dk_at dksX6_line_3 23 rfl rfl)
theorem dX6_line_92 : decode cX6_line 92 = .ok (.istore_n 2, 1) := dk_61 (dk_at dksX6_line_4 0 rfl rfl)
theorem dX6_line_93 : decode cX6_line 93 = .ok (.goto 28, 3) := dk_167 0 28 (dk_at dksX6_line_4 1 rfl rfl)
theorem dX6_line_96 : decode cX6_line 96 = .ok (.aload_n 1, 1) := dk_43 (dk_at dksX6_line_4 4 rfl rfl)
theorem dX6_line_97 : decode cX6_line 97 = .ok (.ldc 177, 2) := dk_18 177 (dk_at dksX6_line_4 5 rfl rfl)
theorem dX6_line_99 : decode cX6_line 99 = .ok (.invokevirtual 115, 3) := dk_182 0 115 (dk_at dksX6_line_4 7 rfl rfl)
theorem dX6_line_102 : decode cX6_line 102 = .ok (.ifCond .eq 19, 3) := dk_153 0 19 (dk_at dksX6_line_4 10 rfl rfl)
theorem dX6_line_105 : decode cX6_line 105 = .ok (.iconst 2, 1) := dk_5 (dk_at dksX6_line_4 13 rfl rfl)
theorem dX6_line_106 : decode cX6_line 106 = .ok (.istore_n 2, 1) := dk_61 (dk_at dksX6_line_4 14 rfl rfl)
theorem dX6_line_107 : decode cX6_line 107 = .ok (.goto 14, 3) := dk_167 0 14 (dk_at dksX6_line_4 15 rfl rfl)
theorem dX6_line_110 : decode cX6_line 110 = .ok (.aload_n 1, 1) := dk_43 (dk_at dksX6_line_4 18 rfl rfl)
theorem dX6_line_111 : decode cX6_line 111 = .ok (.ldc 179, 2) := dk_18 179 (dk_at dksX6_line_4 19 rfl rfl)
theorem dX6_line_113 : decode cX6_line 113 = .ok (.invokevirtual 115, 3) := dk_182 0 115 (dk_at dksX6_line_4 21 rfl rfl)
theorem dX6_line_116 : decode cX6_line 116 = .ok (.ifCond .eq 5, 3) := dk_153 0 5 (dk_at dksX6_line_5 0 rfl rfl)
theorem dX6_line_119 : decode cX6_line 119 = .ok (.iconst 3, 1) := dk_6 (dk_at dksX6_line_5 3 rfl rfl)
theorem dX6_line_120 : decode cX6_line 120 = .ok (.istore_n 2, 1) := dk_61 (dk_at dksX6_line_5 4 rfl rfl)
theorem dX6_line_121 : decode cX6_line 121 = .ok (.iload_n 2, 1) := dk_28 (dk_at dksX6_line_5 5 rfl rfl)
theorem dX6_line_122 : decode cX6_line 122 = .ok (.tableswitch 58 0 3 #[30, 37, 44, 51], 30) := by decide +kernel
theorem dX6_line_152 : decode cX6_line 152 = .ok (.aload_n 0, 1) := dk_42 (dk_at dksX6_line_7 0 rfl rfl)
theorem dX6_line_153 : decode cX6_line 153 = .ok (.invokevirtual 214, 3) := dk_182 0 214 (dk_at dksX6_line_7 1 rfl rfl)
theorem dX6_line_156 : decode cX6_line 156 = .ok (.goto 30, 3) := dk_167 0 30 (dk_at dksX6_line_7 4 rfl rfl)
theorem dX6_line_159 : decode cX6_line 159 = .ok (.aload_n 0, 1) := dk_42 (dk_at dksX6_line_7 7 rfl rfl)
theorem dX6_line_160 : decode cX6_line 160 = .ok (.invokevirtual 216, 3) := dk_182 0 216 (dk_at dksX6_line_7 8 rfl rfl)
theorem dX6_line_163 : decode cX6_line 163 = .ok (.goto 23, 3) := dk_167 0 23 (dk_at dksX6_line_7 11 rfl rfl)
theorem dX6_line_166 : decode cX6_line 166 = .ok (.aload_n 0, 1) := dk_42 (dk_at dksX6_line_7 14 rfl rfl)
theorem dX6_line_167 : decode cX6_line 167 = .ok (.invokevirtual 218, 3) := dk_182 0 218 (dk_at dksX6_line_7 15 rfl rfl)
theorem dX6_line_170 : decode cX6_line 170 = .ok (.goto 16, 3) := dk_167 0 16 (dk_at dksX6_line_7 18 rfl rfl)
theorem dX6_line_173 : decode cX6_line 173 = .ok (.aload_n 0, 1) := dk_42 (dk_at dksX6_line_7 21 rfl rfl)
theorem dX6_line_174 : decode cX6_line 174 = .ok (.invokevirtual 220, 3) := dk_182 0 220 (dk_at dksX6_line_8 0 rfl rfl)
theorem dX6_line_177 : decode cX6_line 177 = .ok (.goto 9, 3) := dk_167 0 9 (dk_at dksX6_line_8 3 rfl rfl)
theorem dX6_line_180 : decode cX6_line 180 = .ok (.aload_n 0, 1) := dk_42 (dk_at dksX6_line_8 6 rfl rfl)
theorem dX6_line_181 : decode cX6_line 181 = .ok (.iconst 1, 1) := dk_4 (dk_at dksX6_line_8 7 rfl rfl)
theorem dX6_line_182 : decode cX6_line 182 = .ok (.invokevirtual 45, 3) := dk_182 0 45 (dk_at dksX6_line_8 8 rfl rfl)
theorem dX6_line_185 : decode cX6_line 185 = .ok (.athrow, 1) := dk_191 (dk_at dksX6_line_8 11 rfl rfl)
theorem dX6_line_186 : decode cX6_line 186 = .ok (.aload_n 0, 1) := dk_42 (dk_at dksX6_line_8 12 rfl rfl)
theorem dX6_line_187 : decode cX6_line 187 = .ok (.bipush 59, 2) := dk_16 59 (dk_at dksX6_line_8 13 rfl rfl)
theorem dX6_line_189 : decode cX6_line 189 = .ok (.invokevirtual 222, 3) := dk_182 0 222 (dk_at dksX6_line_8 15 rfl rfl)
theorem dX6_line_192 : decode cX6_line 192 = .ok (.return_, 1) := dk_177 (dk_at dksX6_line_8 18 rfl rfl)
abbrev cX6_must : ByteArray := prog_12_method_6_code
def yX6_must : MethodName := ⟨RX6, "must", "(ZI)V"⟩
def dkwX6_must_0 : List UInt8 := [27, 154, 0, 9, 42, 28, 182, 0, 45, 191, 177]
abbrev dktX6_must_0 : List UInt8 := dkwX6_must_0 ++ []
theorem dksX6_must_0 : cX6_must.data.toList.drop 0 = dktX6_must_0 := by decide +kernel
theorem dX6_must_0 : decode cX6_must 0 = .ok (.iload_n 1, 1) := dk_27 (dk_at dksX6_must_0 0 rfl rfl)
theorem dX6_must_1 : decode cX6_must 1 = .ok (.ifCond .ne 9, 3) := dk_154 0 9 (dk_at dksX6_must_0 1 rfl rfl)
theorem dX6_must_4 : decode cX6_must 4 = .ok (.aload_n 0, 1) := dk_42 (dk_at dksX6_must_0 4 rfl rfl)
theorem dX6_must_5 : decode cX6_must 5 = .ok (.iload_n 2, 1) := dk_28 (dk_at dksX6_must_0 5 rfl rfl)
theorem dX6_must_6 : decode cX6_must 6 = .ok (.invokevirtual 45, 3) := dk_182 0 45 (dk_at dksX6_must_0 6 rfl rfl)
theorem dX6_must_9 : decode cX6_must 9 = .ok (.athrow, 1) := dk_191 (dk_at dksX6_must_0 9 rfl rfl)
theorem dX6_must_10 : decode cX6_must 10 = .ok (.return_, 1) := dk_177 (dk_at dksX6_must_0 10 rfl rfl)
abbrev cX6_wrong : ByteArray := prog_12_method_5_code
def yX6_wrong : MethodName := ⟨RX6, "wrong", "(I)LCaseGrouper$Wrong;"⟩
def dkwX6_wrong_0 : List UInt8 := [187, 0, 37, 89, 42, 180, 0, 39, 27, 183, 0, 42, 176]
abbrev dktX6_wrong_0 : List UInt8 := dkwX6_wrong_0 ++ []
theorem dksX6_wrong_0 : cX6_wrong.data.toList.drop 0 = dktX6_wrong_0 := by decide +kernel
theorem dX6_wrong_0 : decode cX6_wrong 0 = .ok (.new 37, 3) := dk_187 0 37 (dk_at dksX6_wrong_0 0 rfl rfl)
theorem dX6_wrong_3 : decode cX6_wrong 3 = .ok (.dup, 1) := dk_89 (dk_at dksX6_wrong_0 3 rfl rfl)
theorem dX6_wrong_4 : decode cX6_wrong 4 = .ok (.aload_n 0, 1) := dk_42 (dk_at dksX6_wrong_0 4 rfl rfl)
theorem dX6_wrong_5 : decode cX6_wrong 5 = .ok (.getfield 39, 3) := dk_180 0 39 (dk_at dksX6_wrong_0 5 rfl rfl)
theorem dX6_wrong_8 : decode cX6_wrong 8 = .ok (.iload_n 1, 1) := dk_27 (dk_at dksX6_wrong_0 8 rfl rfl)
theorem dX6_wrong_9 : decode cX6_wrong 9 = .ok (.invokespecial 42, 3) := dk_183 0 42 (dk_at dksX6_wrong_0 9 rfl rfl)
theorem dX6_wrong_12 : decode cX6_wrong 12 = .ok (.areturn, 1) := dk_176 (dk_at dksX6_wrong_0 12 rfl rfl)
abbrev cX6_chapter : ByteArray := prog_12_method_22_code
def yX6_chapter : MethodName := ⟨RX6, "chapter", "()V"⟩
def dkwX6_chapter_3 : List UInt8 := [180, 0, 241, 182, 0, 244, 42, 180, 0, 18, 180, 0, 225, 44, 182, 0, 160, 87, 177]
abbrev dktX6_chapter_3 : List UInt8 := dkwX6_chapter_3 ++ []
def dkwX6_chapter_2 : List UInt8 := [4, 167, 0, 4, 3, 6, 182, 0, 126, 42, 182, 0, 130, 187, 0, 236, 89, 43, 183, 0, 238, 77, 42, 44]
abbrev dktX6_chapter_2 : List UInt8 := dkwX6_chapter_2 ++ dktX6_chapter_3
def dkwX6_chapter_1 : List UInt8 := [182, 0, 126, 42, 182, 0, 130, 42, 182, 0, 229, 76, 42, 42, 180, 0, 18, 43, 182, 0, 232, 199, 0, 7]
abbrev dktX6_chapter_1 : List UInt8 := dkwX6_chapter_1 ++ dktX6_chapter_2
def dkwX6_chapter_0 : List UInt8 := [42, 42, 180, 0, 18, 180, 0, 225, 182, 0, 165, 16, 6, 162, 0, 7, 4, 167, 0, 4, 3, 7]
abbrev dktX6_chapter_0 : List UInt8 := dkwX6_chapter_0 ++ dktX6_chapter_1
theorem dksX6_chapter_0 : cX6_chapter.data.toList.drop 0 = dktX6_chapter_0 := by decide +kernel
theorem dksX6_chapter_1 : cX6_chapter.data.toList.drop 22 = dktX6_chapter_1 := dk_seg dksX6_chapter_0 22 rfl rfl
theorem dksX6_chapter_2 : cX6_chapter.data.toList.drop 46 = dktX6_chapter_2 := dk_seg dksX6_chapter_1 24 rfl rfl
theorem dksX6_chapter_3 : cX6_chapter.data.toList.drop 70 = dktX6_chapter_3 := dk_seg dksX6_chapter_2 24 rfl rfl
theorem dX6_chapter_0 : decode cX6_chapter 0 = .ok (.aload_n 0, 1) := dk_42 (dk_at dksX6_chapter_0 0 rfl rfl)
theorem dX6_chapter_1 : decode cX6_chapter 1 = .ok (.aload_n 0, 1) := dk_42 (dk_at dksX6_chapter_0 1 rfl rfl)
theorem dX6_chapter_2 : decode cX6_chapter 2 = .ok (.getfield 18, 3) := dk_180 0 18 (dk_at dksX6_chapter_0 2 rfl rfl)
theorem dX6_chapter_5 : decode cX6_chapter 5 = .ok (.getfield 225, 3) := dk_180 0 225 (dk_at dksX6_chapter_0 5 rfl rfl)
theorem dX6_chapter_8 : decode cX6_chapter 8 = .ok (.invokevirtual 165, 3) := dk_182 0 165 (dk_at dksX6_chapter_0 8 rfl rfl)
theorem dX6_chapter_11 : decode cX6_chapter 11 = .ok (.bipush 6, 2) := dk_16 6 (dk_at dksX6_chapter_0 11 rfl rfl)
theorem dX6_chapter_13 : decode cX6_chapter 13 = .ok (.if_icmp .ge 7, 3) := dk_162 0 7 (dk_at dksX6_chapter_0 13 rfl rfl)
theorem dX6_chapter_16 : decode cX6_chapter 16 = .ok (.iconst 1, 1) := dk_4 (dk_at dksX6_chapter_0 16 rfl rfl)
theorem dX6_chapter_17 : decode cX6_chapter 17 = .ok (.goto 4, 3) := dk_167 0 4 (dk_at dksX6_chapter_0 17 rfl rfl)
theorem dX6_chapter_20 : decode cX6_chapter 20 = .ok (.iconst 0, 1) := dk_3 (dk_at dksX6_chapter_0 20 rfl rfl)
theorem dX6_chapter_21 : decode cX6_chapter 21 = .ok (.iconst 4, 1) := dk_7 (dk_at dksX6_chapter_0 21 rfl rfl)
theorem dX6_chapter_22 : decode cX6_chapter 22 = .ok (.invokevirtual 126, 3) := dk_182 0 126 (dk_at dksX6_chapter_1 0 rfl rfl)
theorem dX6_chapter_25 : decode cX6_chapter 25 = .ok (.aload_n 0, 1) := dk_42 (dk_at dksX6_chapter_1 3 rfl rfl)
theorem dX6_chapter_26 : decode cX6_chapter 26 = .ok (.invokevirtual 130, 3) := dk_182 0 130 (dk_at dksX6_chapter_1 4 rfl rfl)
theorem dX6_chapter_29 : decode cX6_chapter 29 = .ok (.aload_n 0, 1) := dk_42 (dk_at dksX6_chapter_1 7 rfl rfl)
theorem dX6_chapter_30 : decode cX6_chapter 30 = .ok (.invokevirtual 229, 3) := dk_182 0 229 (dk_at dksX6_chapter_1 8 rfl rfl)
theorem dX6_chapter_33 : decode cX6_chapter 33 = .ok (.astore_n 1, 1) := dk_76 (dk_at dksX6_chapter_1 11 rfl rfl)
theorem dX6_chapter_34 : decode cX6_chapter 34 = .ok (.aload_n 0, 1) := dk_42 (dk_at dksX6_chapter_1 12 rfl rfl)
theorem dX6_chapter_35 : decode cX6_chapter 35 = .ok (.aload_n 0, 1) := dk_42 (dk_at dksX6_chapter_1 13 rfl rfl)
theorem dX6_chapter_36 : decode cX6_chapter 36 = .ok (.getfield 18, 3) := dk_180 0 18 (dk_at dksX6_chapter_1 14 rfl rfl)
theorem dX6_chapter_39 : decode cX6_chapter 39 = .ok (.aload_n 1, 1) := dk_43 (dk_at dksX6_chapter_1 17 rfl rfl)
theorem dX6_chapter_40 : decode cX6_chapter 40 = .ok (.invokevirtual 232, 3) := dk_182 0 232 (dk_at dksX6_chapter_1 18 rfl rfl)
theorem dX6_chapter_43 : decode cX6_chapter 43 = .ok (.ifnonnull 7, 3) := dk_199 0 7 (dk_at dksX6_chapter_1 21 rfl rfl)
theorem dX6_chapter_46 : decode cX6_chapter 46 = .ok (.iconst 1, 1) := dk_4 (dk_at dksX6_chapter_2 0 rfl rfl)
theorem dX6_chapter_47 : decode cX6_chapter 47 = .ok (.goto 4, 3) := dk_167 0 4 (dk_at dksX6_chapter_2 1 rfl rfl)
theorem dX6_chapter_50 : decode cX6_chapter 50 = .ok (.iconst 0, 1) := dk_3 (dk_at dksX6_chapter_2 4 rfl rfl)
theorem dX6_chapter_51 : decode cX6_chapter 51 = .ok (.iconst 3, 1) := dk_6 (dk_at dksX6_chapter_2 5 rfl rfl)
theorem dX6_chapter_52 : decode cX6_chapter 52 = .ok (.invokevirtual 126, 3) := dk_182 0 126 (dk_at dksX6_chapter_2 6 rfl rfl)
theorem dX6_chapter_55 : decode cX6_chapter 55 = .ok (.aload_n 0, 1) := dk_42 (dk_at dksX6_chapter_2 9 rfl rfl)
theorem dX6_chapter_56 : decode cX6_chapter 56 = .ok (.invokevirtual 130, 3) := dk_182 0 130 (dk_at dksX6_chapter_2 10 rfl rfl)
theorem dX6_chapter_59 : decode cX6_chapter 59 = .ok (.new 236, 3) := dk_187 0 236 (dk_at dksX6_chapter_2 13 rfl rfl)
theorem dX6_chapter_62 : decode cX6_chapter 62 = .ok (.dup, 1) := dk_89 (dk_at dksX6_chapter_2 16 rfl rfl)
theorem dX6_chapter_63 : decode cX6_chapter 63 = .ok (.aload_n 1, 1) := dk_43 (dk_at dksX6_chapter_2 17 rfl rfl)
theorem dX6_chapter_64 : decode cX6_chapter 64 = .ok (.invokespecial 238, 3) := dk_183 0 238 (dk_at dksX6_chapter_2 18 rfl rfl)
theorem dX6_chapter_67 : decode cX6_chapter 67 = .ok (.astore_n 2, 1) := dk_77 (dk_at dksX6_chapter_2 21 rfl rfl)
theorem dX6_chapter_68 : decode cX6_chapter 68 = .ok (.aload_n 0, 1) := dk_42 (dk_at dksX6_chapter_2 22 rfl rfl)
theorem dX6_chapter_69 : decode cX6_chapter 69 = .ok (.aload_n 2, 1) := dk_44 (dk_at dksX6_chapter_2 23 rfl rfl)
theorem dX6_chapter_70 : decode cX6_chapter 70 = .ok (.getfield 241, 3) := dk_180 0 241 (dk_at dksX6_chapter_3 0 rfl rfl)
theorem dX6_chapter_73 : decode cX6_chapter 73 = .ok (.invokevirtual 244, 3) := dk_182 0 244 (dk_at dksX6_chapter_3 3 rfl rfl)
theorem dX6_chapter_76 : decode cX6_chapter 76 = .ok (.aload_n 0, 1) := dk_42 (dk_at dksX6_chapter_3 6 rfl rfl)
theorem dX6_chapter_77 : decode cX6_chapter 77 = .ok (.getfield 18, 3) := dk_180 0 18 (dk_at dksX6_chapter_3 7 rfl rfl)
theorem dX6_chapter_80 : decode cX6_chapter 80 = .ok (.getfield 225, 3) := dk_180 0 225 (dk_at dksX6_chapter_3 10 rfl rfl)
theorem dX6_chapter_83 : decode cX6_chapter 83 = .ok (.aload_n 2, 1) := dk_44 (dk_at dksX6_chapter_3 13 rfl rfl)
theorem dX6_chapter_84 : decode cX6_chapter 84 = .ok (.invokevirtual 160, 3) := dk_182 0 160 (dk_at dksX6_chapter_3 14 rfl rfl)
theorem dX6_chapter_87 : decode cX6_chapter 87 = .ok (.pop, 1) := dk_87 (dk_at dksX6_chapter_3 17 rfl rfl)
theorem dX6_chapter_88 : decode cX6_chapter 88 = .ok (.return_, 1) := dk_177 (dk_at dksX6_chapter_3 18 rfl rfl)
abbrev cX6_name : ByteArray := prog_12_method_20_code
def yX6_name : MethodName := ⟨RX6, "name", "()Ljava/lang/String;"⟩
def dkwX6_name_1 : List UInt8 := [154, 0, 7, 4, 167, 0, 4, 3, 4, 182, 0, 126, 42, 180, 0, 57, 192, 0, 113, 176]
abbrev dktX6_name_1 : List UInt8 := dkwX6_name_1 ++ []
def dkwX6_name_0 : List UInt8 := [42, 42, 180, 0, 57, 77, 44, 193, 0, 113, 153, 0, 20, 44, 192, 0, 113, 76, 42, 43, 182, 0, 211]
abbrev dktX6_name_0 : List UInt8 := dkwX6_name_0 ++ dktX6_name_1
theorem dksX6_name_0 : cX6_name.data.toList.drop 0 = dktX6_name_0 := by decide +kernel
theorem dksX6_name_1 : cX6_name.data.toList.drop 23 = dktX6_name_1 := dk_seg dksX6_name_0 23 rfl rfl
theorem dX6_name_0 : decode cX6_name 0 = .ok (.aload_n 0, 1) := dk_42 (dk_at dksX6_name_0 0 rfl rfl)
theorem dX6_name_1 : decode cX6_name 1 = .ok (.aload_n 0, 1) := dk_42 (dk_at dksX6_name_0 1 rfl rfl)
theorem dX6_name_2 : decode cX6_name 2 = .ok (.getfield 57, 3) := dk_180 0 57 (dk_at dksX6_name_0 2 rfl rfl)
theorem dX6_name_5 : decode cX6_name 5 = .ok (.astore_n 2, 1) := dk_77 (dk_at dksX6_name_0 5 rfl rfl)
theorem dX6_name_6 : decode cX6_name 6 = .ok (.aload_n 2, 1) := dk_44 (dk_at dksX6_name_0 6 rfl rfl)
theorem dX6_name_7 : decode cX6_name 7 = .ok (.instanceof 113, 3) := dk_193 0 113 (dk_at dksX6_name_0 7 rfl rfl)
theorem dX6_name_10 : decode cX6_name 10 = .ok (.ifCond .eq 20, 3) := dk_153 0 20 (dk_at dksX6_name_0 10 rfl rfl)
theorem dX6_name_13 : decode cX6_name 13 = .ok (.aload_n 2, 1) := dk_44 (dk_at dksX6_name_0 13 rfl rfl)
theorem dX6_name_14 : decode cX6_name 14 = .ok (.checkcast 113, 3) := dk_192 0 113 (dk_at dksX6_name_0 14 rfl rfl)
theorem dX6_name_17 : decode cX6_name 17 = .ok (.astore_n 1, 1) := dk_76 (dk_at dksX6_name_0 17 rfl rfl)
theorem dX6_name_18 : decode cX6_name 18 = .ok (.aload_n 0, 1) := dk_42 (dk_at dksX6_name_0 18 rfl rfl)
theorem dX6_name_19 : decode cX6_name 19 = .ok (.aload_n 1, 1) := dk_43 (dk_at dksX6_name_0 19 rfl rfl)
theorem dX6_name_20 : decode cX6_name 20 = .ok (.invokevirtual 211, 3) := dk_182 0 211 (dk_at dksX6_name_0 20 rfl rfl)
theorem dX6_name_23 : decode cX6_name 23 = .ok (.ifCond .ne 7, 3) := dk_154 0 7 (dk_at dksX6_name_1 0 rfl rfl)
theorem dX6_name_26 : decode cX6_name 26 = .ok (.iconst 1, 1) := dk_4 (dk_at dksX6_name_1 3 rfl rfl)
theorem dX6_name_27 : decode cX6_name 27 = .ok (.goto 4, 3) := dk_167 0 4 (dk_at dksX6_name_1 4 rfl rfl)
theorem dX6_name_30 : decode cX6_name 30 = .ok (.iconst 0, 1) := dk_3 (dk_at dksX6_name_1 7 rfl rfl)
theorem dX6_name_31 : decode cX6_name 31 = .ok (.iconst 1, 1) := dk_4 (dk_at dksX6_name_1 8 rfl rfl)
theorem dX6_name_32 : decode cX6_name 32 = .ok (.invokevirtual 126, 3) := dk_182 0 126 (dk_at dksX6_name_1 9 rfl rfl)
theorem dX6_name_35 : decode cX6_name 35 = .ok (.aload_n 0, 1) := dk_42 (dk_at dksX6_name_1 12 rfl rfl)
theorem dX6_name_36 : decode cX6_name 36 = .ok (.getfield 57, 3) := dk_180 0 57 (dk_at dksX6_name_1 13 rfl rfl)
theorem dX6_name_39 : decode cX6_name 39 = .ok (.checkcast 113, 3) := dk_192 0 113 (dk_at dksX6_name_1 16 rfl rfl)
theorem dX6_name_42 : decode cX6_name 42 = .ok (.areturn, 1) := dk_176 (dk_at dksX6_name_1 19 rfl rfl)
abbrev cX6_isTold : ByteArray := prog_12_method_19_code
def yX6_isTold : MethodName := ⟨RX6, "isTold", "(Ljava/lang/String;)Z"⟩
def dkwX6_isTold_16 : List UInt8 := [4, 172, 4, 172, 3, 172]
abbrev dktX6_isTold_16 : List UInt8 := dkwX6_isTold_16 ++ []
def dkwX6_isTold_15 : List UInt8 := [170, 0, 0, 0, 0, 0, 0, 100, 0, 0, 0, 0, 0, 0, 0, 19, 0, 0, 0, 96, 0, 0, 0, 96, 0, 0, 0, 96, 0, 0, 0, 96, 0, 0, 0, 96, 0, 0, 0, 96, 0, 0, 0, 96, 0, 0, 0, 96, 0, 0, 0, 96, 0, 0, 0, 96, 0, 0, 0, 98, 0, 0, 0, 98, 0, 0, 0, 98, 0, 0, 0, 98, 0, 0, 0, 98, 0, 0, 0, 98, 0, 0, 0, 98, 0, 0, 0, 98, 0, 0, 0, 98, 0, 0, 0, 98]
abbrev dktX6_isTold_15 : List UInt8 := dkwX6_isTold_15 ++ dktX6_isTold_16
def dkwX6_isTold_14 : List UInt8 := [153, 0, 6, 16, 19, 62, 29]
abbrev dktX6_isTold_14 : List UInt8 := dkwX6_isTold_14 ++ dktX6_isTold_15
def dkwX6_isTold_13 : List UInt8 := [167, 0, 30, 44, 18, 207, 182, 0, 115, 153, 0, 21, 16, 18, 62, 167, 0, 15, 44, 18, 209, 182, 0, 115]
abbrev dktX6_isTold_13 : List UInt8 := dkwX6_isTold_13 ++ dktX6_isTold_14
def dkwX6_isTold_12 : List UInt8 := [182, 0, 115, 153, 0, 51, 16, 16, 62, 167, 0, 45, 44, 18, 205, 182, 0, 115, 153, 0, 36, 16, 17, 62]
abbrev dktX6_isTold_12 : List UInt8 := dkwX6_isTold_12 ++ dktX6_isTold_13
def dkwX6_isTold_11 : List UInt8 := [16, 14, 62, 167, 0, 75, 44, 18, 201, 182, 0, 115, 153, 0, 66, 16, 15, 62, 167, 0, 60, 44, 18, 203]
abbrev dktX6_isTold_11 : List UInt8 := dkwX6_isTold_11 ++ dktX6_isTold_12
def dkwX6_isTold_10 : List UInt8 := [44, 18, 197, 182, 0, 115, 153, 0, 96, 16, 13, 62, 167, 0, 90, 44, 18, 199, 182, 0, 115, 153, 0, 81]
abbrev dktX6_isTold_10 : List UInt8 := dkwX6_isTold_10 ++ dktX6_isTold_11
def dkwX6_isTold_9 : List UInt8 := [153, 0, 126, 16, 11, 62, 167, 0, 120, 44, 18, 195, 182, 0, 115, 153, 0, 111, 16, 12, 62, 167, 0, 105]
abbrev dktX6_isTold_9 : List UInt8 := dkwX6_isTold_9 ++ dktX6_isTold_10
def dkwX6_isTold_8 : List UInt8 := [167, 0, 150, 44, 18, 191, 182, 0, 115, 153, 0, 141, 16, 10, 62, 167, 0, 135, 44, 18, 193, 182, 0, 115]
abbrev dktX6_isTold_8 : List UInt8 := dkwX6_isTold_8 ++ dktX6_isTold_9
def dkwX6_isTold_7 : List UInt8 := [182, 0, 115, 153, 0, 171, 16, 8, 62, 167, 0, 165, 44, 18, 189, 182, 0, 115, 153, 0, 156, 16, 9, 62]
abbrev dktX6_isTold_7 : List UInt8 := dkwX6_isTold_7 ++ dktX6_isTold_8
def dkwX6_isTold_6 : List UInt8 := [62, 167, 0, 195, 44, 18, 185, 182, 0, 115, 153, 0, 186, 16, 7, 62, 167, 0, 180, 44, 18, 187]
abbrev dktX6_isTold_6 : List UInt8 := dkwX6_isTold_6 ++ dktX6_isTold_7
def dkwX6_isTold_5 : List UInt8 := [18, 181, 182, 0, 115, 153, 0, 215, 8, 62, 167, 0, 210, 44, 18, 183, 182, 0, 115, 153, 0, 201, 16, 6]
abbrev dktX6_isTold_5 : List UInt8 := dkwX6_isTold_5 ++ dktX6_isTold_6
def dkwX6_isTold_4 : List UInt8 := [153, 0, 243, 6, 62, 167, 0, 238, 44, 18, 151, 182, 0, 115, 153, 0, 229, 7, 62, 167, 0, 224, 44]
abbrev dktX6_isTold_4 : List UInt8 := dkwX6_isTold_4 ++ dktX6_isTold_5
def dkwX6_isTold_3 : List UInt8 := [62, 167, 1, 10, 44, 18, 177, 182, 0, 115, 153, 1, 1, 5, 62, 167, 0, 252, 44, 18, 179, 182, 0, 115]
abbrev dktX6_isTold_3 : List UInt8 := dkwX6_isTold_3 ++ dktX6_isTold_4
def dkwX6_isTold_2 : List UInt8 := [44, 18, 173, 182, 0, 115, 153, 1, 29, 3, 62, 167, 1, 24, 44, 18, 175, 182, 0, 115, 153, 1, 15, 4]
abbrev dktX6_isTold_2 : List UInt8 := dkwX6_isTold_2 ++ dktX6_isTold_3
def dkwX6_isTold_1 : List UInt8 := [171, 0, 0, 0, 0, 0, 1, 207, 0, 0, 0, 20, 208, 188, 220, 200, 0, 0, 0, 200, 0, 0, 13, 29, 0, 0, 1, 15, 0, 0, 13, 227, 0, 0, 1, 60, 0, 0, 14, 123, 0, 0, 0, 228, 0, 1, 120, 255, 0, 0, 1, 150, 0, 1, 121, 215, 0, 0, 1, 75, 0, 1, 126, 129, 0, 0, 0, 242, 0, 1, 132, 127, 0, 0, 1, 135, 0, 1, 146, 154, 0, 0, 1, 105, 0, 1, 170, 211, 0, 0, 1, 90, 0, 1, 193, 85, 0, 0, 1, 195, 0, 46, 240, 87, 0, 0, 1, 165, 0, 47, 141, 57, 0, 0, 1, 45, 0, 51, 5, 185, 0, 0, 1, 120, 0, 53, 76, 44, 0, 0, 0, 186, 0, 54, 78, 29, 0, 0, 1, 30, 0, 54, 115, 158, 0, 0, 0, 214, 5, 165, 169, 120, 0, 0, 1, 0, 6, 33, 155, 132, 0, 0, 1, 180, 44, 12, 124, 77, 0, 0, 0, 172]
abbrev dktX6_isTold_1 : List UInt8 := dkwX6_isTold_1 ++ dktX6_isTold_2
def dkwX6_isTold_0 : List UInt8 := [43, 77, 2, 62, 44, 182, 0, 170]
abbrev dktX6_isTold_0 : List UInt8 := dkwX6_isTold_0 ++ dktX6_isTold_1
theorem dksX6_isTold_0 : cX6_isTold.data.toList.drop 0 = dktX6_isTold_0 := by decide +kernel
theorem dksX6_isTold_1 : cX6_isTold.data.toList.drop 8 = dktX6_isTold_1 := dk_seg dksX6_isTold_0 8 rfl rfl
theorem dksX6_isTold_2 : cX6_isTold.data.toList.drop 180 = dktX6_isTold_2 := dk_seg dksX6_isTold_1 172 rfl rfl
theorem dksX6_isTold_3 : cX6_isTold.data.toList.drop 204 = dktX6_isTold_3 := dk_seg dksX6_isTold_2 24 rfl rfl
theorem dksX6_isTold_4 : cX6_isTold.data.toList.drop 228 = dktX6_isTold_4 := dk_seg dksX6_isTold_3 24 rfl rfl
theorem dksX6_isTold_5 : cX6_isTold.data.toList.drop 251 = dktX6_isTold_5 := dk_seg dksX6_isTold_4 23 rfl rfl
theorem dksX6_isTold_6 : cX6_isTold.data.toList.drop 275 = dktX6_isTold_6 := dk_seg dksX6_isTold_5 24 rfl rfl
theorem dksX6_isTold_7 : cX6_isTold.data.toList.drop 297 = dktX6_isTold_7 := dk_seg dksX6_isTold_6 22 rfl rfl
theorem dksX6_isTold_8 : cX6_isTold.data.toList.drop 321 = dktX6_isTold_8 := dk_seg dksX6_isTold_7 24 rfl rfl
theorem dksX6_isTold_9 : cX6_isTold.data.toList.drop 345 = dktX6_isTold_9 := dk_seg dksX6_isTold_8 24 rfl rfl
theorem dksX6_isTold_10 : cX6_isTold.data.toList.drop 369 = dktX6_isTold_10 := dk_seg dksX6_isTold_9 24 rfl rfl
theorem dksX6_isTold_11 : cX6_isTold.data.toList.drop 393 = dktX6_isTold_11 := dk_seg dksX6_isTold_10 24 rfl rfl
theorem dksX6_isTold_12 : cX6_isTold.data.toList.drop 417 = dktX6_isTold_12 := dk_seg dksX6_isTold_11 24 rfl rfl
theorem dksX6_isTold_13 : cX6_isTold.data.toList.drop 441 = dktX6_isTold_13 := dk_seg dksX6_isTold_12 24 rfl rfl
theorem dksX6_isTold_14 : cX6_isTold.data.toList.drop 465 = dktX6_isTold_14 := dk_seg dksX6_isTold_13 24 rfl rfl
theorem dksX6_isTold_15 : cX6_isTold.data.toList.drop 472 = dktX6_isTold_15 := dk_seg dksX6_isTold_14 7 rfl rfl
theorem dksX6_isTold_16 : cX6_isTold.data.toList.drop 568 = dktX6_isTold_16 := dk_seg dksX6_isTold_15 96 rfl rfl
theorem dX6_isTold_0 : decode cX6_isTold 0 = .ok (.aload_n 1, 1) := dk_43 (dk_at dksX6_isTold_0 0 rfl rfl)
theorem dX6_isTold_1 : decode cX6_isTold 1 = .ok (.astore_n 2, 1) := dk_77 (dk_at dksX6_isTold_0 1 rfl rfl)
theorem dX6_isTold_2 : decode cX6_isTold 2 = .ok (.iconst (-1), 1) := dk_2 (dk_at dksX6_isTold_0 2 rfl rfl)
theorem dX6_isTold_3 : decode cX6_isTold 3 = .ok (.istore_n 3, 1) := dk_62 (dk_at dksX6_isTold_0 3 rfl rfl)
theorem dX6_isTold_4 : decode cX6_isTold 4 = .ok (.aload_n 2, 1) := dk_44 (dk_at dksX6_isTold_0 4 rfl rfl)
theorem dX6_isTold_5 : decode cX6_isTold 5 = .ok (.invokevirtual 170, 3) := dk_182 0 170 (dk_at dksX6_isTold_0 5 rfl rfl)
theorem dX6_isTold_8 : decode cX6_isTold 8 = .ok (.lookupswitch 463 #[(-792929080, 200), (3357, 271), (3555, 316), (3707, 228), (96511, 406), (96727, 331), (97921, 242), (99455, 391), (103066, 361), (109267, 346), (115029, 451), (3076183, 421), (3116345, 301), (3343801, 376), (3492908, 186), (3558941, 286), (3568542, 214), (94742904, 256), (102865796, 436), (739015757, 172)], 172) := by decide +kernel
theorem dX6_isTold_180 : decode cX6_isTold 180 = .ok (.aload_n 2, 1) := dk_44 (dk_at dksX6_isTold_2 0 rfl rfl)
theorem dX6_isTold_181 : decode cX6_isTold 181 = .ok (.ldc 173, 2) := dk_18 173 (dk_at dksX6_isTold_2 1 rfl rfl)
theorem dX6_isTold_183 : decode cX6_isTold 183 = .ok (.invokevirtual 115, 3) := dk_182 0 115 (dk_at dksX6_isTold_2 3 rfl rfl)
theorem dX6_isTold_186 : decode cX6_isTold 186 = .ok (.ifCond .eq 285, 3) := dk_153 1 29 (dk_at dksX6_isTold_2 6 rfl rfl)
theorem dX6_isTold_189 : decode cX6_isTold 189 = .ok (.iconst 0, 1) := dk_3 (dk_at dksX6_isTold_2 9 rfl rfl)
theorem dX6_isTold_190 : decode cX6_isTold 190 = .ok (.istore_n 3, 1) := dk_62 (dk_at dksX6_isTold_2 10 rfl rfl)
theorem dX6_isTold_191 : decode cX6_isTold 191 = .ok (.goto 280, 3) := dk_167 1 24 (dk_at dksX6_isTold_2 11 rfl rfl)
theorem dX6_isTold_194 : decode cX6_isTold 194 = .ok (.aload_n 2, 1) := dk_44 (dk_at dksX6_isTold_2 14 rfl rfl)
theorem dX6_isTold_195 : decode cX6_isTold 195 = .ok (.ldc 175, 2) := dk_18 175 (dk_at dksX6_isTold_2 15 rfl rfl)
theorem dX6_isTold_197 : decode cX6_isTold 197 = .ok (.invokevirtual 115, 3) := dk_182 0 115 (dk_at dksX6_isTold_2 17 rfl rfl)
theorem dX6_isTold_200 : decode cX6_isTold 200 = .ok (.ifCond .eq 271, 3) := dk_153 1 15 (dk_at dksX6_isTold_2 20 rfl rfl)
theorem dX6_isTold_203 : decode cX6_isTold 203 = .ok (.iconst 1, 1) := dk_4 (dk_at dksX6_isTold_2 23 rfl rfl)
theorem dX6_isTold_204 : decode cX6_isTold 204 = .ok (.istore_n 3, 1) := dk_62 (dk_at dksX6_isTold_3 0 rfl rfl)
theorem dX6_isTold_205 : decode cX6_isTold 205 = .ok (.goto 266, 3) := dk_167 1 10 (dk_at dksX6_isTold_3 1 rfl rfl)
theorem dX6_isTold_208 : decode cX6_isTold 208 = .ok (.aload_n 2, 1) := dk_44 (dk_at dksX6_isTold_3 4 rfl rfl)
theorem dX6_isTold_209 : decode cX6_isTold 209 = .ok (.ldc 177, 2) := dk_18 177 (dk_at dksX6_isTold_3 5 rfl rfl)
theorem dX6_isTold_211 : decode cX6_isTold 211 = .ok (.invokevirtual 115, 3) := dk_182 0 115 (dk_at dksX6_isTold_3 7 rfl rfl)
theorem dX6_isTold_214 : decode cX6_isTold 214 = .ok (.ifCond .eq 257, 3) := dk_153 1 1 (dk_at dksX6_isTold_3 10 rfl rfl)
theorem dX6_isTold_217 : decode cX6_isTold 217 = .ok (.iconst 2, 1) := dk_5 (dk_at dksX6_isTold_3 13 rfl rfl)
theorem dX6_isTold_218 : decode cX6_isTold 218 = .ok (.istore_n 3, 1) := dk_62 (dk_at dksX6_isTold_3 14 rfl rfl)
theorem dX6_isTold_219 : decode cX6_isTold 219 = .ok (.goto 252, 3) := dk_167 0 252 (dk_at dksX6_isTold_3 15 rfl rfl)
theorem dX6_isTold_222 : decode cX6_isTold 222 = .ok (.aload_n 2, 1) := dk_44 (dk_at dksX6_isTold_3 18 rfl rfl)
theorem dX6_isTold_223 : decode cX6_isTold 223 = .ok (.ldc 179, 2) := dk_18 179 (dk_at dksX6_isTold_3 19 rfl rfl)
theorem dX6_isTold_225 : decode cX6_isTold 225 = .ok (.invokevirtual 115, 3) := dk_182 0 115 (dk_at dksX6_isTold_3 21 rfl rfl)
theorem dX6_isTold_228 : decode cX6_isTold 228 = .ok (.ifCond .eq 243, 3) := dk_153 0 243 (dk_at dksX6_isTold_4 0 rfl rfl)
theorem dX6_isTold_231 : decode cX6_isTold 231 = .ok (.iconst 3, 1) := dk_6 (dk_at dksX6_isTold_4 3 rfl rfl)
theorem dX6_isTold_232 : decode cX6_isTold 232 = .ok (.istore_n 3, 1) := dk_62 (dk_at dksX6_isTold_4 4 rfl rfl)
theorem dX6_isTold_233 : decode cX6_isTold 233 = .ok (.goto 238, 3) := dk_167 0 238 (dk_at dksX6_isTold_4 5 rfl rfl)
theorem dX6_isTold_236 : decode cX6_isTold 236 = .ok (.aload_n 2, 1) := dk_44 (dk_at dksX6_isTold_4 8 rfl rfl)
theorem dX6_isTold_237 : decode cX6_isTold 237 = .ok (.ldc 151, 2) := dk_18 151 (dk_at dksX6_isTold_4 9 rfl rfl)
theorem dX6_isTold_239 : decode cX6_isTold 239 = .ok (.invokevirtual 115, 3) := dk_182 0 115 (dk_at dksX6_isTold_4 11 rfl rfl)
theorem dX6_isTold_242 : decode cX6_isTold 242 = .ok (.ifCond .eq 229, 3) := dk_153 0 229 (dk_at dksX6_isTold_4 14 rfl rfl)
theorem dX6_isTold_245 : decode cX6_isTold 245 = .ok (.iconst 4, 1) := dk_7 (dk_at dksX6_isTold_4 17 rfl rfl)
theorem dX6_isTold_246 : decode cX6_isTold 246 = .ok (.istore_n 3, 1) := dk_62 (dk_at dksX6_isTold_4 18 rfl rfl)
theorem dX6_isTold_247 : decode cX6_isTold 247 = .ok (.goto 224, 3) := dk_167 0 224 (dk_at dksX6_isTold_4 19 rfl rfl)
theorem dX6_isTold_250 : decode cX6_isTold 250 = .ok (.aload_n 2, 1) := dk_44 (dk_at dksX6_isTold_4 22 rfl rfl)
theorem dX6_isTold_251 : decode cX6_isTold 251 = .ok (.ldc 181, 2) := dk_18 181 (dk_at dksX6_isTold_5 0 rfl rfl)
theorem dX6_isTold_253 : decode cX6_isTold 253 = .ok (.invokevirtual 115, 3) := dk_182 0 115 (dk_at dksX6_isTold_5 2 rfl rfl)
theorem dX6_isTold_256 : decode cX6_isTold 256 = .ok (.ifCond .eq 215, 3) := dk_153 0 215 (dk_at dksX6_isTold_5 5 rfl rfl)
theorem dX6_isTold_259 : decode cX6_isTold 259 = .ok (.iconst 5, 1) := dk_8 (dk_at dksX6_isTold_5 8 rfl rfl)
theorem dX6_isTold_260 : decode cX6_isTold 260 = .ok (.istore_n 3, 1) := dk_62 (dk_at dksX6_isTold_5 9 rfl rfl)
theorem dX6_isTold_261 : decode cX6_isTold 261 = .ok (.goto 210, 3) := dk_167 0 210 (dk_at dksX6_isTold_5 10 rfl rfl)
theorem dX6_isTold_264 : decode cX6_isTold 264 = .ok (.aload_n 2, 1) := dk_44 (dk_at dksX6_isTold_5 13 rfl rfl)
theorem dX6_isTold_265 : decode cX6_isTold 265 = .ok (.ldc 183, 2) := dk_18 183 (dk_at dksX6_isTold_5 14 rfl rfl)
theorem dX6_isTold_267 : decode cX6_isTold 267 = .ok (.invokevirtual 115, 3) := dk_182 0 115 (dk_at dksX6_isTold_5 16 rfl rfl)
theorem dX6_isTold_270 : decode cX6_isTold 270 = .ok (.ifCond .eq 201, 3) := dk_153 0 201 (dk_at dksX6_isTold_5 19 rfl rfl)
theorem dX6_isTold_273 : decode cX6_isTold 273 = .ok (.bipush 6, 2) := dk_16 6 (dk_at dksX6_isTold_5 22 rfl rfl)
theorem dX6_isTold_275 : decode cX6_isTold 275 = .ok (.istore_n 3, 1) := dk_62 (dk_at dksX6_isTold_6 0 rfl rfl)
theorem dX6_isTold_276 : decode cX6_isTold 276 = .ok (.goto 195, 3) := dk_167 0 195 (dk_at dksX6_isTold_6 1 rfl rfl)
theorem dX6_isTold_279 : decode cX6_isTold 279 = .ok (.aload_n 2, 1) := dk_44 (dk_at dksX6_isTold_6 4 rfl rfl)
theorem dX6_isTold_280 : decode cX6_isTold 280 = .ok (.ldc 185, 2) := dk_18 185 (dk_at dksX6_isTold_6 5 rfl rfl)
theorem dX6_isTold_282 : decode cX6_isTold 282 = .ok (.invokevirtual 115, 3) := dk_182 0 115 (dk_at dksX6_isTold_6 7 rfl rfl)
theorem dX6_isTold_285 : decode cX6_isTold 285 = .ok (.ifCond .eq 186, 3) := dk_153 0 186 (dk_at dksX6_isTold_6 10 rfl rfl)
theorem dX6_isTold_288 : decode cX6_isTold 288 = .ok (.bipush 7, 2) := dk_16 7 (dk_at dksX6_isTold_6 13 rfl rfl)
theorem dX6_isTold_290 : decode cX6_isTold 290 = .ok (.istore_n 3, 1) := dk_62 (dk_at dksX6_isTold_6 15 rfl rfl)
theorem dX6_isTold_291 : decode cX6_isTold 291 = .ok (.goto 180, 3) := dk_167 0 180 (dk_at dksX6_isTold_6 16 rfl rfl)
theorem dX6_isTold_294 : decode cX6_isTold 294 = .ok (.aload_n 2, 1) := dk_44 (dk_at dksX6_isTold_6 19 rfl rfl)
theorem dX6_isTold_295 : decode cX6_isTold 295 = .ok (.ldc 187, 2) := dk_18 187 (dk_at dksX6_isTold_6 20 rfl rfl)
theorem dX6_isTold_297 : decode cX6_isTold 297 = .ok (.invokevirtual 115, 3) := dk_182 0 115 (dk_at dksX6_isTold_7 0 rfl rfl)
theorem dX6_isTold_300 : decode cX6_isTold 300 = .ok (.ifCond .eq 171, 3) := dk_153 0 171 (dk_at dksX6_isTold_7 3 rfl rfl)
theorem dX6_isTold_303 : decode cX6_isTold 303 = .ok (.bipush 8, 2) := dk_16 8 (dk_at dksX6_isTold_7 6 rfl rfl)
theorem dX6_isTold_305 : decode cX6_isTold 305 = .ok (.istore_n 3, 1) := dk_62 (dk_at dksX6_isTold_7 8 rfl rfl)
theorem dX6_isTold_306 : decode cX6_isTold 306 = .ok (.goto 165, 3) := dk_167 0 165 (dk_at dksX6_isTold_7 9 rfl rfl)
theorem dX6_isTold_309 : decode cX6_isTold 309 = .ok (.aload_n 2, 1) := dk_44 (dk_at dksX6_isTold_7 12 rfl rfl)
theorem dX6_isTold_310 : decode cX6_isTold 310 = .ok (.ldc 189, 2) := dk_18 189 (dk_at dksX6_isTold_7 13 rfl rfl)
theorem dX6_isTold_312 : decode cX6_isTold 312 = .ok (.invokevirtual 115, 3) := dk_182 0 115 (dk_at dksX6_isTold_7 15 rfl rfl)
theorem dX6_isTold_315 : decode cX6_isTold 315 = .ok (.ifCond .eq 156, 3) := dk_153 0 156 (dk_at dksX6_isTold_7 18 rfl rfl)
theorem dX6_isTold_318 : decode cX6_isTold 318 = .ok (.bipush 9, 2) := dk_16 9 (dk_at dksX6_isTold_7 21 rfl rfl)
theorem dX6_isTold_320 : decode cX6_isTold 320 = .ok (.istore_n 3, 1) := dk_62 (dk_at dksX6_isTold_7 23 rfl rfl)
theorem dX6_isTold_321 : decode cX6_isTold 321 = .ok (.goto 150, 3) := dk_167 0 150 (dk_at dksX6_isTold_8 0 rfl rfl)
theorem dX6_isTold_324 : decode cX6_isTold 324 = .ok (.aload_n 2, 1) := dk_44 (dk_at dksX6_isTold_8 3 rfl rfl)
theorem dX6_isTold_325 : decode cX6_isTold 325 = .ok (.ldc 191, 2) := dk_18 191 (dk_at dksX6_isTold_8 4 rfl rfl)
theorem dX6_isTold_327 : decode cX6_isTold 327 = .ok (.invokevirtual 115, 3) := dk_182 0 115 (dk_at dksX6_isTold_8 6 rfl rfl)
theorem dX6_isTold_330 : decode cX6_isTold 330 = .ok (.ifCond .eq 141, 3) := dk_153 0 141 (dk_at dksX6_isTold_8 9 rfl rfl)
theorem dX6_isTold_333 : decode cX6_isTold 333 = .ok (.bipush 10, 2) := dk_16 10 (dk_at dksX6_isTold_8 12 rfl rfl)
theorem dX6_isTold_335 : decode cX6_isTold 335 = .ok (.istore_n 3, 1) := dk_62 (dk_at dksX6_isTold_8 14 rfl rfl)
theorem dX6_isTold_336 : decode cX6_isTold 336 = .ok (.goto 135, 3) := dk_167 0 135 (dk_at dksX6_isTold_8 15 rfl rfl)
theorem dX6_isTold_339 : decode cX6_isTold 339 = .ok (.aload_n 2, 1) := dk_44 (dk_at dksX6_isTold_8 18 rfl rfl)
theorem dX6_isTold_340 : decode cX6_isTold 340 = .ok (.ldc 193, 2) := dk_18 193 (dk_at dksX6_isTold_8 19 rfl rfl)
theorem dX6_isTold_342 : decode cX6_isTold 342 = .ok (.invokevirtual 115, 3) := dk_182 0 115 (dk_at dksX6_isTold_8 21 rfl rfl)
theorem dX6_isTold_345 : decode cX6_isTold 345 = .ok (.ifCond .eq 126, 3) := dk_153 0 126 (dk_at dksX6_isTold_9 0 rfl rfl)
theorem dX6_isTold_348 : decode cX6_isTold 348 = .ok (.bipush 11, 2) := dk_16 11 (dk_at dksX6_isTold_9 3 rfl rfl)
theorem dX6_isTold_350 : decode cX6_isTold 350 = .ok (.istore_n 3, 1) := dk_62 (dk_at dksX6_isTold_9 5 rfl rfl)
theorem dX6_isTold_351 : decode cX6_isTold 351 = .ok (.goto 120, 3) := dk_167 0 120 (dk_at dksX6_isTold_9 6 rfl rfl)
theorem dX6_isTold_354 : decode cX6_isTold 354 = .ok (.aload_n 2, 1) := dk_44 (dk_at dksX6_isTold_9 9 rfl rfl)
theorem dX6_isTold_355 : decode cX6_isTold 355 = .ok (.ldc 195, 2) := dk_18 195 (dk_at dksX6_isTold_9 10 rfl rfl)
theorem dX6_isTold_357 : decode cX6_isTold 357 = .ok (.invokevirtual 115, 3) := dk_182 0 115 (dk_at dksX6_isTold_9 12 rfl rfl)
theorem dX6_isTold_360 : decode cX6_isTold 360 = .ok (.ifCond .eq 111, 3) := dk_153 0 111 (dk_at dksX6_isTold_9 15 rfl rfl)
theorem dX6_isTold_363 : decode cX6_isTold 363 = .ok (.bipush 12, 2) := dk_16 12 (dk_at dksX6_isTold_9 18 rfl rfl)
theorem dX6_isTold_365 : decode cX6_isTold 365 = .ok (.istore_n 3, 1) := dk_62 (dk_at dksX6_isTold_9 20 rfl rfl)
theorem dX6_isTold_366 : decode cX6_isTold 366 = .ok (.goto 105, 3) := dk_167 0 105 (dk_at dksX6_isTold_9 21 rfl rfl)
theorem dX6_isTold_369 : decode cX6_isTold 369 = .ok (.aload_n 2, 1) := dk_44 (dk_at dksX6_isTold_10 0 rfl rfl)
theorem dX6_isTold_370 : decode cX6_isTold 370 = .ok (.ldc 197, 2) := dk_18 197 (dk_at dksX6_isTold_10 1 rfl rfl)
theorem dX6_isTold_372 : decode cX6_isTold 372 = .ok (.invokevirtual 115, 3) := dk_182 0 115 (dk_at dksX6_isTold_10 3 rfl rfl)
theorem dX6_isTold_375 : decode cX6_isTold 375 = .ok (.ifCond .eq 96, 3) := dk_153 0 96 (dk_at dksX6_isTold_10 6 rfl rfl)
theorem dX6_isTold_378 : decode cX6_isTold 378 = .ok (.bipush 13, 2) := dk_16 13 (dk_at dksX6_isTold_10 9 rfl rfl)
theorem dX6_isTold_380 : decode cX6_isTold 380 = .ok (.istore_n 3, 1) := dk_62 (dk_at dksX6_isTold_10 11 rfl rfl)
theorem dX6_isTold_381 : decode cX6_isTold 381 = .ok (.goto 90, 3) := dk_167 0 90 (dk_at dksX6_isTold_10 12 rfl rfl)
theorem dX6_isTold_384 : decode cX6_isTold 384 = .ok (.aload_n 2, 1) := dk_44 (dk_at dksX6_isTold_10 15 rfl rfl)
theorem dX6_isTold_385 : decode cX6_isTold 385 = .ok (.ldc 199, 2) := dk_18 199 (dk_at dksX6_isTold_10 16 rfl rfl)
theorem dX6_isTold_387 : decode cX6_isTold 387 = .ok (.invokevirtual 115, 3) := dk_182 0 115 (dk_at dksX6_isTold_10 18 rfl rfl)
theorem dX6_isTold_390 : decode cX6_isTold 390 = .ok (.ifCond .eq 81, 3) := dk_153 0 81 (dk_at dksX6_isTold_10 21 rfl rfl)
theorem dX6_isTold_393 : decode cX6_isTold 393 = .ok (.bipush 14, 2) := dk_16 14 (dk_at dksX6_isTold_11 0 rfl rfl)
theorem dX6_isTold_395 : decode cX6_isTold 395 = .ok (.istore_n 3, 1) := dk_62 (dk_at dksX6_isTold_11 2 rfl rfl)
theorem dX6_isTold_396 : decode cX6_isTold 396 = .ok (.goto 75, 3) := dk_167 0 75 (dk_at dksX6_isTold_11 3 rfl rfl)
theorem dX6_isTold_399 : decode cX6_isTold 399 = .ok (.aload_n 2, 1) := dk_44 (dk_at dksX6_isTold_11 6 rfl rfl)
theorem dX6_isTold_400 : decode cX6_isTold 400 = .ok (.ldc 201, 2) := dk_18 201 (dk_at dksX6_isTold_11 7 rfl rfl)
theorem dX6_isTold_402 : decode cX6_isTold 402 = .ok (.invokevirtual 115, 3) := dk_182 0 115 (dk_at dksX6_isTold_11 9 rfl rfl)
theorem dX6_isTold_405 : decode cX6_isTold 405 = .ok (.ifCond .eq 66, 3) := dk_153 0 66 (dk_at dksX6_isTold_11 12 rfl rfl)
theorem dX6_isTold_408 : decode cX6_isTold 408 = .ok (.bipush 15, 2) := dk_16 15 (dk_at dksX6_isTold_11 15 rfl rfl)
theorem dX6_isTold_410 : decode cX6_isTold 410 = .ok (.istore_n 3, 1) := dk_62 (dk_at dksX6_isTold_11 17 rfl rfl)
theorem dX6_isTold_411 : decode cX6_isTold 411 = .ok (.goto 60, 3) := dk_167 0 60 (dk_at dksX6_isTold_11 18 rfl rfl)
theorem dX6_isTold_414 : decode cX6_isTold 414 = .ok (.aload_n 2, 1) := dk_44 (dk_at dksX6_isTold_11 21 rfl rfl)
theorem dX6_isTold_415 : decode cX6_isTold 415 = .ok (.ldc 203, 2) := dk_18 203 (dk_at dksX6_isTold_11 22 rfl rfl)
theorem dX6_isTold_417 : decode cX6_isTold 417 = .ok (.invokevirtual 115, 3) := dk_182 0 115 (dk_at dksX6_isTold_12 0 rfl rfl)
theorem dX6_isTold_420 : decode cX6_isTold 420 = .ok (.ifCond .eq 51, 3) := dk_153 0 51 (dk_at dksX6_isTold_12 3 rfl rfl)
theorem dX6_isTold_423 : decode cX6_isTold 423 = .ok (.bipush 16, 2) := dk_16 16 (dk_at dksX6_isTold_12 6 rfl rfl)
theorem dX6_isTold_425 : decode cX6_isTold 425 = .ok (.istore_n 3, 1) := dk_62 (dk_at dksX6_isTold_12 8 rfl rfl)
theorem dX6_isTold_426 : decode cX6_isTold 426 = .ok (.goto 45, 3) := dk_167 0 45 (dk_at dksX6_isTold_12 9 rfl rfl)
theorem dX6_isTold_429 : decode cX6_isTold 429 = .ok (.aload_n 2, 1) := dk_44 (dk_at dksX6_isTold_12 12 rfl rfl)
theorem dX6_isTold_430 : decode cX6_isTold 430 = .ok (.ldc 205, 2) := dk_18 205 (dk_at dksX6_isTold_12 13 rfl rfl)
theorem dX6_isTold_432 : decode cX6_isTold 432 = .ok (.invokevirtual 115, 3) := dk_182 0 115 (dk_at dksX6_isTold_12 15 rfl rfl)
theorem dX6_isTold_435 : decode cX6_isTold 435 = .ok (.ifCond .eq 36, 3) := dk_153 0 36 (dk_at dksX6_isTold_12 18 rfl rfl)
theorem dX6_isTold_438 : decode cX6_isTold 438 = .ok (.bipush 17, 2) := dk_16 17 (dk_at dksX6_isTold_12 21 rfl rfl)
theorem dX6_isTold_440 : decode cX6_isTold 440 = .ok (.istore_n 3, 1) := dk_62 (dk_at dksX6_isTold_12 23 rfl rfl)
theorem dX6_isTold_441 : decode cX6_isTold 441 = .ok (.goto 30, 3) := dk_167 0 30 (dk_at dksX6_isTold_13 0 rfl rfl)
theorem dX6_isTold_444 : decode cX6_isTold 444 = .ok (.aload_n 2, 1) := dk_44 (dk_at dksX6_isTold_13 3 rfl rfl)
theorem dX6_isTold_445 : decode cX6_isTold 445 = .ok (.ldc 207, 2) := dk_18 207 (dk_at dksX6_isTold_13 4 rfl rfl)
theorem dX6_isTold_447 : decode cX6_isTold 447 = .ok (.invokevirtual 115, 3) := dk_182 0 115 (dk_at dksX6_isTold_13 6 rfl rfl)
theorem dX6_isTold_450 : decode cX6_isTold 450 = .ok (.ifCond .eq 21, 3) := dk_153 0 21 (dk_at dksX6_isTold_13 9 rfl rfl)
theorem dX6_isTold_453 : decode cX6_isTold 453 = .ok (.bipush 18, 2) := dk_16 18 (dk_at dksX6_isTold_13 12 rfl rfl)
theorem dX6_isTold_455 : decode cX6_isTold 455 = .ok (.istore_n 3, 1) := dk_62 (dk_at dksX6_isTold_13 14 rfl rfl)
theorem dX6_isTold_456 : decode cX6_isTold 456 = .ok (.goto 15, 3) := dk_167 0 15 (dk_at dksX6_isTold_13 15 rfl rfl)
theorem dX6_isTold_459 : decode cX6_isTold 459 = .ok (.aload_n 2, 1) := dk_44 (dk_at dksX6_isTold_13 18 rfl rfl)
theorem dX6_isTold_460 : decode cX6_isTold 460 = .ok (.ldc 209, 2) := dk_18 209 (dk_at dksX6_isTold_13 19 rfl rfl)
theorem dX6_isTold_462 : decode cX6_isTold 462 = .ok (.invokevirtual 115, 3) := dk_182 0 115 (dk_at dksX6_isTold_13 21 rfl rfl)
theorem dX6_isTold_465 : decode cX6_isTold 465 = .ok (.ifCond .eq 6, 3) := dk_153 0 6 (dk_at dksX6_isTold_14 0 rfl rfl)
theorem dX6_isTold_468 : decode cX6_isTold 468 = .ok (.bipush 19, 2) := dk_16 19 (dk_at dksX6_isTold_14 3 rfl rfl)
theorem dX6_isTold_470 : decode cX6_isTold 470 = .ok (.istore_n 3, 1) := dk_62 (dk_at dksX6_isTold_14 5 rfl rfl)
theorem dX6_isTold_471 : decode cX6_isTold 471 = .ok (.iload_n 3, 1) := dk_29 (dk_at dksX6_isTold_14 6 rfl rfl)
theorem dX6_isTold_472 : decode cX6_isTold 472 = .ok (.tableswitch 100 0 19 #[96, 96, 96, 96, 96, 96, 96, 96, 96, 96, 98, 98, 98, 98, 98, 98, 98, 98, 98, 98], 96) := by decide +kernel
theorem dX6_isTold_568 : decode cX6_isTold 568 = .ok (.iconst 1, 1) := dk_4 (dk_at dksX6_isTold_16 0 rfl rfl)
theorem dX6_isTold_569 : decode cX6_isTold 569 = .ok (.ireturn, 1) := dk_172 (dk_at dksX6_isTold_16 1 rfl rfl)
theorem dX6_isTold_570 : decode cX6_isTold 570 = .ok (.iconst 1, 1) := dk_4 (dk_at dksX6_isTold_16 2 rfl rfl)
theorem dX6_isTold_571 : decode cX6_isTold 571 = .ok (.ireturn, 1) := dk_172 (dk_at dksX6_isTold_16 3 rfl rfl)
theorem dX6_isTold_572 : decode cX6_isTold 572 = .ok (.iconst 0, 1) := dk_3 (dk_at dksX6_isTold_16 4 rfl rfl)
theorem dX6_isTold_573 : decode cX6_isTold 573 = .ok (.ireturn, 1) := dk_172 (dk_at dksX6_isTold_16 5 rfl rfl)
abbrev cX6_spans : ByteArray := prog_12_method_18_code
def yX6_spans : MethodName := ⟨RX6, "spans", "(Ljava/util/ArrayList;)V"⟩
def dkwX6_spans_3 : List UInt8 := [182, 0, 160, 87, 167, 255, 192, 177]
abbrev dktX6_spans_3 : List UInt8 := dkwX6_spans_3 ++ []
def dkwX6_spans_2 : List UInt8 := [44, 180, 0, 144, 184, 0, 167, 153, 0, 9, 42, 7, 182, 0, 45, 191, 43, 42, 4, 182, 0, 156]
abbrev dktX6_spans_2 : List UInt8 := dkwX6_spans_2 ++ dktX6_spans_3
def dkwX6_spans_1 : List UInt8 := [182, 0, 165, 6, 160, 0, 36, 42, 180, 0, 57, 78, 45, 193, 0, 108, 153, 0, 24, 45, 192, 0, 108, 77]
abbrev dktX6_spans_1 : List UInt8 := dkwX6_spans_1 ++ dktX6_spans_2
def dkwX6_spans_0 : List UInt8 := [43, 42, 4, 182, 0, 156, 182, 0, 160, 87, 42, 16, 44, 182, 0, 123, 153, 0, 61, 42, 182, 0, 130, 43]
abbrev dktX6_spans_0 : List UInt8 := dkwX6_spans_0 ++ dktX6_spans_1
theorem dksX6_spans_0 : cX6_spans.data.toList.drop 0 = dktX6_spans_0 := by decide +kernel
theorem dksX6_spans_1 : cX6_spans.data.toList.drop 24 = dktX6_spans_1 := dk_seg dksX6_spans_0 24 rfl rfl
theorem dksX6_spans_2 : cX6_spans.data.toList.drop 48 = dktX6_spans_2 := dk_seg dksX6_spans_1 24 rfl rfl
theorem dksX6_spans_3 : cX6_spans.data.toList.drop 70 = dktX6_spans_3 := dk_seg dksX6_spans_2 22 rfl rfl
theorem dX6_spans_0 : decode cX6_spans 0 = .ok (.aload_n 1, 1) := dk_43 (dk_at dksX6_spans_0 0 rfl rfl)
theorem dX6_spans_1 : decode cX6_spans 1 = .ok (.aload_n 0, 1) := dk_42 (dk_at dksX6_spans_0 1 rfl rfl)
theorem dX6_spans_2 : decode cX6_spans 2 = .ok (.iconst 1, 1) := dk_4 (dk_at dksX6_spans_0 2 rfl rfl)
theorem dX6_spans_3 : decode cX6_spans 3 = .ok (.invokevirtual 156, 3) := dk_182 0 156 (dk_at dksX6_spans_0 3 rfl rfl)
theorem dX6_spans_6 : decode cX6_spans 6 = .ok (.invokevirtual 160, 3) := dk_182 0 160 (dk_at dksX6_spans_0 6 rfl rfl)
theorem dX6_spans_9 : decode cX6_spans 9 = .ok (.pop, 1) := dk_87 (dk_at dksX6_spans_0 9 rfl rfl)
theorem dX6_spans_10 : decode cX6_spans 10 = .ok (.aload_n 0, 1) := dk_42 (dk_at dksX6_spans_0 10 rfl rfl)
theorem dX6_spans_11 : decode cX6_spans 11 = .ok (.bipush 44, 2) := dk_16 44 (dk_at dksX6_spans_0 11 rfl rfl)
theorem dX6_spans_13 : decode cX6_spans 13 = .ok (.invokevirtual 123, 3) := dk_182 0 123 (dk_at dksX6_spans_0 13 rfl rfl)
theorem dX6_spans_16 : decode cX6_spans 16 = .ok (.ifCond .eq 61, 3) := dk_153 0 61 (dk_at dksX6_spans_0 16 rfl rfl)
theorem dX6_spans_19 : decode cX6_spans 19 = .ok (.aload_n 0, 1) := dk_42 (dk_at dksX6_spans_0 19 rfl rfl)
theorem dX6_spans_20 : decode cX6_spans 20 = .ok (.invokevirtual 130, 3) := dk_182 0 130 (dk_at dksX6_spans_0 20 rfl rfl)
theorem dX6_spans_23 : decode cX6_spans 23 = .ok (.aload_n 1, 1) := dk_43 (dk_at dksX6_spans_0 23 rfl rfl)
theorem dX6_spans_24 : decode cX6_spans 24 = .ok (.invokevirtual 165, 3) := dk_182 0 165 (dk_at dksX6_spans_1 0 rfl rfl)
theorem dX6_spans_27 : decode cX6_spans 27 = .ok (.iconst 3, 1) := dk_6 (dk_at dksX6_spans_1 3 rfl rfl)
theorem dX6_spans_28 : decode cX6_spans 28 = .ok (.if_icmp .ne 36, 3) := dk_160 0 36 (dk_at dksX6_spans_1 4 rfl rfl)
theorem dX6_spans_31 : decode cX6_spans 31 = .ok (.aload_n 0, 1) := dk_42 (dk_at dksX6_spans_1 7 rfl rfl)
theorem dX6_spans_32 : decode cX6_spans 32 = .ok (.getfield 57, 3) := dk_180 0 57 (dk_at dksX6_spans_1 8 rfl rfl)
theorem dX6_spans_35 : decode cX6_spans 35 = .ok (.astore_n 3, 1) := dk_78 (dk_at dksX6_spans_1 11 rfl rfl)
theorem dX6_spans_36 : decode cX6_spans 36 = .ok (.aload_n 3, 1) := dk_45 (dk_at dksX6_spans_1 12 rfl rfl)
theorem dX6_spans_37 : decode cX6_spans 37 = .ok (.instanceof 108, 3) := dk_193 0 108 (dk_at dksX6_spans_1 13 rfl rfl)
theorem dX6_spans_40 : decode cX6_spans 40 = .ok (.ifCond .eq 24, 3) := dk_153 0 24 (dk_at dksX6_spans_1 16 rfl rfl)
theorem dX6_spans_43 : decode cX6_spans 43 = .ok (.aload_n 3, 1) := dk_45 (dk_at dksX6_spans_1 19 rfl rfl)
theorem dX6_spans_44 : decode cX6_spans 44 = .ok (.checkcast 108, 3) := dk_192 0 108 (dk_at dksX6_spans_1 20 rfl rfl)
theorem dX6_spans_47 : decode cX6_spans 47 = .ok (.astore_n 2, 1) := dk_77 (dk_at dksX6_spans_1 23 rfl rfl)
theorem dX6_spans_48 : decode cX6_spans 48 = .ok (.aload_n 2, 1) := dk_44 (dk_at dksX6_spans_2 0 rfl rfl)
theorem dX6_spans_49 : decode cX6_spans 49 = .ok (.getfield 144, 3) := dk_180 0 144 (dk_at dksX6_spans_2 1 rfl rfl)
theorem dX6_spans_52 : decode cX6_spans 52 = .ok (.invokestatic 167, 3) := dk_184 0 167 (dk_at dksX6_spans_2 4 rfl rfl)
theorem dX6_spans_55 : decode cX6_spans 55 = .ok (.ifCond .eq 9, 3) := dk_153 0 9 (dk_at dksX6_spans_2 7 rfl rfl)
theorem dX6_spans_58 : decode cX6_spans 58 = .ok (.aload_n 0, 1) := dk_42 (dk_at dksX6_spans_2 10 rfl rfl)
theorem dX6_spans_59 : decode cX6_spans 59 = .ok (.iconst 4, 1) := dk_7 (dk_at dksX6_spans_2 11 rfl rfl)
theorem dX6_spans_60 : decode cX6_spans 60 = .ok (.invokevirtual 45, 3) := dk_182 0 45 (dk_at dksX6_spans_2 12 rfl rfl)
theorem dX6_spans_63 : decode cX6_spans 63 = .ok (.athrow, 1) := dk_191 (dk_at dksX6_spans_2 15 rfl rfl)
theorem dX6_spans_64 : decode cX6_spans 64 = .ok (.aload_n 1, 1) := dk_43 (dk_at dksX6_spans_2 16 rfl rfl)
theorem dX6_spans_65 : decode cX6_spans 65 = .ok (.aload_n 0, 1) := dk_42 (dk_at dksX6_spans_2 17 rfl rfl)
theorem dX6_spans_66 : decode cX6_spans 66 = .ok (.iconst 1, 1) := dk_4 (dk_at dksX6_spans_2 18 rfl rfl)
theorem dX6_spans_67 : decode cX6_spans 67 = .ok (.invokevirtual 156, 3) := dk_182 0 156 (dk_at dksX6_spans_2 19 rfl rfl)
theorem dX6_spans_70 : decode cX6_spans 70 = .ok (.invokevirtual 160, 3) := dk_182 0 160 (dk_at dksX6_spans_3 0 rfl rfl)
theorem dX6_spans_73 : decode cX6_spans 73 = .ok (.pop, 1) := dk_87 (dk_at dksX6_spans_3 3 rfl rfl)
theorem dX6_spans_74 : decode cX6_spans 74 = .ok (.goto (-64), 3) := dk_167 255 192 (dk_at dksX6_spans_3 4 rfl rfl)
theorem dX6_spans_77 : decode cX6_spans 77 = .ok (.return_, 1) := dk_177 (dk_at dksX6_spans_3 7 rfl rfl)
abbrev cX6_span : ByteArray := prog_12_method_17_code
def yX6_span : MethodName := ⟨RX6, "span", "(Z)LCaseGrouper$Span;"⟩
def dkwX6_span_3 : List UInt8 := [167, 0, 6, 17, 5, 219, 182, 0, 147, 183, 0, 155, 176]
abbrev dktX6_span_3 : List UInt8 := dkwX6_span_3 ++ []
def dkwX6_span_2 : List UInt8 := [183, 0, 155, 176, 42, 182, 0, 130, 187, 0, 153, 89, 28, 42, 28, 27, 153, 0, 9, 17, 3, 231]
abbrev dktX6_span_2 : List UInt8 := dkwX6_span_2 ++ dktX6_span_3
def dkwX6_span_1 : List UInt8 := [17, 5, 219, 182, 0, 147, 61, 42, 18, 151, 182, 0, 133, 154, 0, 13, 187, 0, 153, 89, 28, 28]
abbrev dktX6_span_1 : List UInt8 := dkwX6_span_1 ++ dktX6_span_2
def dkwX6_span_0 : List UInt8 := [42, 27, 153, 0, 7, 3, 167, 0, 6, 17, 3, 232, 27, 153, 0, 9, 17, 3, 231, 167, 0, 6]
abbrev dktX6_span_0 : List UInt8 := dkwX6_span_0 ++ dktX6_span_1
theorem dksX6_span_0 : cX6_span.data.toList.drop 0 = dktX6_span_0 := by decide +kernel
theorem dksX6_span_1 : cX6_span.data.toList.drop 22 = dktX6_span_1 := dk_seg dksX6_span_0 22 rfl rfl
theorem dksX6_span_2 : cX6_span.data.toList.drop 44 = dktX6_span_2 := dk_seg dksX6_span_1 22 rfl rfl
theorem dksX6_span_3 : cX6_span.data.toList.drop 66 = dktX6_span_3 := dk_seg dksX6_span_2 22 rfl rfl
theorem dX6_span_0 : decode cX6_span 0 = .ok (.aload_n 0, 1) := dk_42 (dk_at dksX6_span_0 0 rfl rfl)
theorem dX6_span_1 : decode cX6_span 1 = .ok (.iload_n 1, 1) := dk_27 (dk_at dksX6_span_0 1 rfl rfl)
theorem dX6_span_2 : decode cX6_span 2 = .ok (.ifCond .eq 7, 3) := dk_153 0 7 (dk_at dksX6_span_0 2 rfl rfl)
theorem dX6_span_5 : decode cX6_span 5 = .ok (.iconst 0, 1) := dk_3 (dk_at dksX6_span_0 5 rfl rfl)
theorem dX6_span_6 : decode cX6_span 6 = .ok (.goto 6, 3) := dk_167 0 6 (dk_at dksX6_span_0 6 rfl rfl)
theorem dX6_span_9 : decode cX6_span 9 = .ok (.sipush 1000, 3) := dk_17 3 232 (dk_at dksX6_span_0 9 rfl rfl)
theorem dX6_span_12 : decode cX6_span 12 = .ok (.iload_n 1, 1) := dk_27 (dk_at dksX6_span_0 12 rfl rfl)
theorem dX6_span_13 : decode cX6_span 13 = .ok (.ifCond .eq 9, 3) := dk_153 0 9 (dk_at dksX6_span_0 13 rfl rfl)
theorem dX6_span_16 : decode cX6_span 16 = .ok (.sipush 999, 3) := dk_17 3 231 (dk_at dksX6_span_0 16 rfl rfl)
theorem dX6_span_19 : decode cX6_span 19 = .ok (.goto 6, 3) := dk_167 0 6 (dk_at dksX6_span_0 19 rfl rfl)
theorem dX6_span_22 : decode cX6_span 22 = .ok (.sipush 1499, 3) := dk_17 5 219 (dk_at dksX6_span_1 0 rfl rfl)
theorem dX6_span_25 : decode cX6_span 25 = .ok (.invokevirtual 147, 3) := dk_182 0 147 (dk_at dksX6_span_1 3 rfl rfl)
theorem dX6_span_28 : decode cX6_span 28 = .ok (.istore_n 2, 1) := dk_61 (dk_at dksX6_span_1 6 rfl rfl)
theorem dX6_span_29 : decode cX6_span 29 = .ok (.aload_n 0, 1) := dk_42 (dk_at dksX6_span_1 7 rfl rfl)
theorem dX6_span_30 : decode cX6_span 30 = .ok (.ldc 151, 2) := dk_18 151 (dk_at dksX6_span_1 8 rfl rfl)
theorem dX6_span_32 : decode cX6_span 32 = .ok (.invokevirtual 133, 3) := dk_182 0 133 (dk_at dksX6_span_1 10 rfl rfl)
theorem dX6_span_35 : decode cX6_span 35 = .ok (.ifCond .ne 13, 3) := dk_154 0 13 (dk_at dksX6_span_1 13 rfl rfl)
theorem dX6_span_38 : decode cX6_span 38 = .ok (.new 153, 3) := dk_187 0 153 (dk_at dksX6_span_1 16 rfl rfl)
theorem dX6_span_41 : decode cX6_span 41 = .ok (.dup, 1) := dk_89 (dk_at dksX6_span_1 19 rfl rfl)
theorem dX6_span_42 : decode cX6_span 42 = .ok (.iload_n 2, 1) := dk_28 (dk_at dksX6_span_1 20 rfl rfl)
theorem dX6_span_43 : decode cX6_span 43 = .ok (.iload_n 2, 1) := dk_28 (dk_at dksX6_span_1 21 rfl rfl)
theorem dX6_span_44 : decode cX6_span 44 = .ok (.invokespecial 155, 3) := dk_183 0 155 (dk_at dksX6_span_2 0 rfl rfl)
theorem dX6_span_47 : decode cX6_span 47 = .ok (.areturn, 1) := dk_176 (dk_at dksX6_span_2 3 rfl rfl)
theorem dX6_span_48 : decode cX6_span 48 = .ok (.aload_n 0, 1) := dk_42 (dk_at dksX6_span_2 4 rfl rfl)
theorem dX6_span_49 : decode cX6_span 49 = .ok (.invokevirtual 130, 3) := dk_182 0 130 (dk_at dksX6_span_2 5 rfl rfl)
theorem dX6_span_52 : decode cX6_span 52 = .ok (.new 153, 3) := dk_187 0 153 (dk_at dksX6_span_2 8 rfl rfl)
theorem dX6_span_55 : decode cX6_span 55 = .ok (.dup, 1) := dk_89 (dk_at dksX6_span_2 11 rfl rfl)
theorem dX6_span_56 : decode cX6_span 56 = .ok (.iload_n 2, 1) := dk_28 (dk_at dksX6_span_2 12 rfl rfl)
theorem dX6_span_57 : decode cX6_span 57 = .ok (.aload_n 0, 1) := dk_42 (dk_at dksX6_span_2 13 rfl rfl)
theorem dX6_span_58 : decode cX6_span 58 = .ok (.iload_n 2, 1) := dk_28 (dk_at dksX6_span_2 14 rfl rfl)
theorem dX6_span_59 : decode cX6_span 59 = .ok (.iload_n 1, 1) := dk_27 (dk_at dksX6_span_2 15 rfl rfl)
theorem dX6_span_60 : decode cX6_span 60 = .ok (.ifCond .eq 9, 3) := dk_153 0 9 (dk_at dksX6_span_2 16 rfl rfl)
theorem dX6_span_63 : decode cX6_span 63 = .ok (.sipush 999, 3) := dk_17 3 231 (dk_at dksX6_span_2 19 rfl rfl)
theorem dX6_span_66 : decode cX6_span 66 = .ok (.goto 6, 3) := dk_167 0 6 (dk_at dksX6_span_3 0 rfl rfl)
theorem dX6_span_69 : decode cX6_span 69 = .ok (.sipush 1499, 3) := dk_17 5 219 (dk_at dksX6_span_3 3 rfl rfl)
theorem dX6_span_72 : decode cX6_span 72 = .ok (.invokevirtual 147, 3) := dk_182 0 147 (dk_at dksX6_span_3 6 rfl rfl)
theorem dX6_span_75 : decode cX6_span 75 = .ok (.invokespecial 155, 3) := dk_183 0 155 (dk_at dksX6_span_3 9 rfl rfl)
theorem dX6_span_78 : decode cX6_span 78 = .ok (.areturn, 1) := dk_176 (dk_at dksX6_span_3 12 rfl rfl)
abbrev cX6_code : ByteArray := prog_12_method_16_code
def yX6_code : MethodName := ⟨RX6, "code", "(II)I"⟩
def dkwX6_code_1 : List UInt8 := [182, 0, 130, 29, 172, 78, 42, 4, 182, 0, 45, 191]
abbrev dktX6_code_1 : List UInt8 := dkwX6_code_1 ++ []
def dkwX6_code_0 : List UInt8 := [42, 180, 0, 57, 192, 0, 108, 180, 0, 144, 62, 42, 29, 27, 28, 184, 0, 33, 5, 182, 0, 126, 42]
abbrev dktX6_code_0 : List UInt8 := dkwX6_code_0 ++ dktX6_code_1
theorem dksX6_code_0 : cX6_code.data.toList.drop 0 = dktX6_code_0 := by decide +kernel
theorem dksX6_code_1 : cX6_code.data.toList.drop 23 = dktX6_code_1 := dk_seg dksX6_code_0 23 rfl rfl
theorem dX6_code_0 : decode cX6_code 0 = .ok (.aload_n 0, 1) := dk_42 (dk_at dksX6_code_0 0 rfl rfl)
theorem dX6_code_1 : decode cX6_code 1 = .ok (.getfield 57, 3) := dk_180 0 57 (dk_at dksX6_code_0 1 rfl rfl)
theorem dX6_code_4 : decode cX6_code 4 = .ok (.checkcast 108, 3) := dk_192 0 108 (dk_at dksX6_code_0 4 rfl rfl)
theorem dX6_code_7 : decode cX6_code 7 = .ok (.getfield 144, 3) := dk_180 0 144 (dk_at dksX6_code_0 7 rfl rfl)
theorem dX6_code_10 : decode cX6_code 10 = .ok (.istore_n 3, 1) := dk_62 (dk_at dksX6_code_0 10 rfl rfl)
theorem dX6_code_11 : decode cX6_code 11 = .ok (.aload_n 0, 1) := dk_42 (dk_at dksX6_code_0 11 rfl rfl)
theorem dX6_code_12 : decode cX6_code 12 = .ok (.iload_n 3, 1) := dk_29 (dk_at dksX6_code_0 12 rfl rfl)
theorem dX6_code_13 : decode cX6_code 13 = .ok (.iload_n 1, 1) := dk_27 (dk_at dksX6_code_0 13 rfl rfl)
theorem dX6_code_14 : decode cX6_code 14 = .ok (.iload_n 2, 1) := dk_28 (dk_at dksX6_code_0 14 rfl rfl)
theorem dX6_code_15 : decode cX6_code 15 = .ok (.invokestatic 33, 3) := dk_184 0 33 (dk_at dksX6_code_0 15 rfl rfl)
theorem dX6_code_18 : decode cX6_code 18 = .ok (.iconst 2, 1) := dk_5 (dk_at dksX6_code_0 18 rfl rfl)
theorem dX6_code_19 : decode cX6_code 19 = .ok (.invokevirtual 126, 3) := dk_182 0 126 (dk_at dksX6_code_0 19 rfl rfl)
theorem dX6_code_22 : decode cX6_code 22 = .ok (.aload_n 0, 1) := dk_42 (dk_at dksX6_code_0 22 rfl rfl)
theorem dX6_code_23 : decode cX6_code 23 = .ok (.invokevirtual 130, 3) := dk_182 0 130 (dk_at dksX6_code_1 0 rfl rfl)
theorem dX6_code_26 : decode cX6_code 26 = .ok (.iload_n 3, 1) := dk_29 (dk_at dksX6_code_1 3 rfl rfl)
theorem dX6_code_27 : decode cX6_code 27 = .ok (.ireturn, 1) := dk_172 (dk_at dksX6_code_1 4 rfl rfl)
theorem dX6_code_28 : decode cX6_code 28 = .ok (.astore_n 3, 1) := dk_78 (dk_at dksX6_code_1 5 rfl rfl)
theorem dX6_code_29 : decode cX6_code 29 = .ok (.aload_n 0, 1) := dk_42 (dk_at dksX6_code_1 6 rfl rfl)
theorem dX6_code_30 : decode cX6_code 30 = .ok (.iconst 1, 1) := dk_4 (dk_at dksX6_code_1 7 rfl rfl)
theorem dX6_code_31 : decode cX6_code 31 = .ok (.invokevirtual 45, 3) := dk_182 0 45 (dk_at dksX6_code_1 8 rfl rfl)
theorem dX6_code_34 : decode cX6_code 34 = .ok (.athrow, 1) := dk_191 (dk_at dksX6_code_1 11 rfl rfl)
abbrev cX6_isWord : ByteArray := prog_12_method_11_code
def yX6_isWord : MethodName := ⟨RX6, "isWord", "(Ljava/lang/String;)Z"⟩
def dkwX6_isWord_1 : List UInt8 := [153, 0, 7, 4, 167, 0, 4, 3, 172]
abbrev dktX6_isWord_1 : List UInt8 := dkwX6_isWord_1 ++ []
def dkwX6_isWord_0 : List UInt8 := [42, 180, 0, 57, 78, 45, 193, 0, 113, 153, 0, 20, 45, 192, 0, 113, 77, 44, 43, 182, 0, 115]
abbrev dktX6_isWord_0 : List UInt8 := dkwX6_isWord_0 ++ dktX6_isWord_1
theorem dksX6_isWord_0 : cX6_isWord.data.toList.drop 0 = dktX6_isWord_0 := by decide +kernel
theorem dksX6_isWord_1 : cX6_isWord.data.toList.drop 22 = dktX6_isWord_1 := dk_seg dksX6_isWord_0 22 rfl rfl
theorem dX6_isWord_0 : decode cX6_isWord 0 = .ok (.aload_n 0, 1) := dk_42 (dk_at dksX6_isWord_0 0 rfl rfl)
theorem dX6_isWord_1 : decode cX6_isWord 1 = .ok (.getfield 57, 3) := dk_180 0 57 (dk_at dksX6_isWord_0 1 rfl rfl)
theorem dX6_isWord_4 : decode cX6_isWord 4 = .ok (.astore_n 3, 1) := dk_78 (dk_at dksX6_isWord_0 4 rfl rfl)
theorem dX6_isWord_5 : decode cX6_isWord 5 = .ok (.aload_n 3, 1) := dk_45 (dk_at dksX6_isWord_0 5 rfl rfl)
theorem dX6_isWord_6 : decode cX6_isWord 6 = .ok (.instanceof 113, 3) := dk_193 0 113 (dk_at dksX6_isWord_0 6 rfl rfl)
theorem dX6_isWord_9 : decode cX6_isWord 9 = .ok (.ifCond .eq 20, 3) := dk_153 0 20 (dk_at dksX6_isWord_0 9 rfl rfl)
theorem dX6_isWord_12 : decode cX6_isWord 12 = .ok (.aload_n 3, 1) := dk_45 (dk_at dksX6_isWord_0 12 rfl rfl)
theorem dX6_isWord_13 : decode cX6_isWord 13 = .ok (.checkcast 113, 3) := dk_192 0 113 (dk_at dksX6_isWord_0 13 rfl rfl)
theorem dX6_isWord_16 : decode cX6_isWord 16 = .ok (.astore_n 2, 1) := dk_77 (dk_at dksX6_isWord_0 16 rfl rfl)
theorem dX6_isWord_17 : decode cX6_isWord 17 = .ok (.aload_n 2, 1) := dk_44 (dk_at dksX6_isWord_0 17 rfl rfl)
theorem dX6_isWord_18 : decode cX6_isWord 18 = .ok (.aload_n 1, 1) := dk_43 (dk_at dksX6_isWord_0 18 rfl rfl)
theorem dX6_isWord_19 : decode cX6_isWord 19 = .ok (.invokevirtual 115, 3) := dk_182 0 115 (dk_at dksX6_isWord_0 19 rfl rfl)
theorem dX6_isWord_22 : decode cX6_isWord 22 = .ok (.ifCond .eq 7, 3) := dk_153 0 7 (dk_at dksX6_isWord_1 0 rfl rfl)
theorem dX6_isWord_25 : decode cX6_isWord 25 = .ok (.iconst 1, 1) := dk_4 (dk_at dksX6_isWord_1 3 rfl rfl)
theorem dX6_isWord_26 : decode cX6_isWord 26 = .ok (.goto 4, 3) := dk_167 0 4 (dk_at dksX6_isWord_1 4 rfl rfl)
theorem dX6_isWord_29 : decode cX6_isWord 29 = .ok (.iconst 0, 1) := dk_3 (dk_at dksX6_isWord_1 7 rfl rfl)
theorem dX6_isWord_30 : decode cX6_isWord 30 = .ok (.ireturn, 1) := dk_172 (dk_at dksX6_isWord_1 8 rfl rfl)
abbrev cX6_isSign : ByteArray := prog_12_method_12_code
def yX6_isSign : MethodName := ⟨RX6, "isSign", "(I)Z"⟩
def dkwX6_isSign_1 : List UInt8 := [160, 0, 7, 4, 167, 0, 4, 3, 172]
abbrev dktX6_isSign_1 : List UInt8 := dkwX6_isSign_1 ++ []
def dkwX6_isSign_0 : List UInt8 := [42, 180, 0, 57, 78, 45, 193, 0, 72, 153, 0, 20, 45, 192, 0, 72, 77, 44, 182, 0, 119, 27]
abbrev dktX6_isSign_0 : List UInt8 := dkwX6_isSign_0 ++ dktX6_isSign_1
theorem dksX6_isSign_0 : cX6_isSign.data.toList.drop 0 = dktX6_isSign_0 := by decide +kernel
theorem dksX6_isSign_1 : cX6_isSign.data.toList.drop 22 = dktX6_isSign_1 := dk_seg dksX6_isSign_0 22 rfl rfl
theorem dX6_isSign_0 : decode cX6_isSign 0 = .ok (.aload_n 0, 1) := dk_42 (dk_at dksX6_isSign_0 0 rfl rfl)
theorem dX6_isSign_1 : decode cX6_isSign 1 = .ok (.getfield 57, 3) := dk_180 0 57 (dk_at dksX6_isSign_0 1 rfl rfl)
theorem dX6_isSign_4 : decode cX6_isSign 4 = .ok (.astore_n 3, 1) := dk_78 (dk_at dksX6_isSign_0 4 rfl rfl)
theorem dX6_isSign_5 : decode cX6_isSign 5 = .ok (.aload_n 3, 1) := dk_45 (dk_at dksX6_isSign_0 5 rfl rfl)
theorem dX6_isSign_6 : decode cX6_isSign 6 = .ok (.instanceof 72, 3) := dk_193 0 72 (dk_at dksX6_isSign_0 6 rfl rfl)
theorem dX6_isSign_9 : decode cX6_isSign 9 = .ok (.ifCond .eq 20, 3) := dk_153 0 20 (dk_at dksX6_isSign_0 9 rfl rfl)
theorem dX6_isSign_12 : decode cX6_isSign 12 = .ok (.aload_n 3, 1) := dk_45 (dk_at dksX6_isSign_0 12 rfl rfl)
theorem dX6_isSign_13 : decode cX6_isSign 13 = .ok (.checkcast 72, 3) := dk_192 0 72 (dk_at dksX6_isSign_0 13 rfl rfl)
theorem dX6_isSign_16 : decode cX6_isSign 16 = .ok (.astore_n 2, 1) := dk_77 (dk_at dksX6_isSign_0 16 rfl rfl)
theorem dX6_isSign_17 : decode cX6_isSign 17 = .ok (.aload_n 2, 1) := dk_44 (dk_at dksX6_isSign_0 17 rfl rfl)
theorem dX6_isSign_18 : decode cX6_isSign 18 = .ok (.invokevirtual 119, 3) := dk_182 0 119 (dk_at dksX6_isSign_0 18 rfl rfl)
theorem dX6_isSign_21 : decode cX6_isSign 21 = .ok (.iload_n 1, 1) := dk_27 (dk_at dksX6_isSign_0 21 rfl rfl)
theorem dX6_isSign_22 : decode cX6_isSign 22 = .ok (.if_icmp .ne 7, 3) := dk_160 0 7 (dk_at dksX6_isSign_1 0 rfl rfl)
theorem dX6_isSign_25 : decode cX6_isSign 25 = .ok (.iconst 1, 1) := dk_4 (dk_at dksX6_isSign_1 3 rfl rfl)
theorem dX6_isSign_26 : decode cX6_isSign 26 = .ok (.goto 4, 3) := dk_167 0 4 (dk_at dksX6_isSign_1 4 rfl rfl)
theorem dX6_isSign_29 : decode cX6_isSign 29 = .ok (.iconst 0, 1) := dk_3 (dk_at dksX6_isSign_1 7 rfl rfl)
theorem dX6_isSign_30 : decode cX6_isSign 30 = .ok (.ireturn, 1) := dk_172 (dk_at dksX6_isSign_1 8 rfl rfl)
abbrev cX6_rank : ByteArray := prog_12_method_23_code
def yX6_rank : MethodName := ⟨RX6, "rank", "()V"⟩
def dkwX6_rank_2 : List UInt8 := [43, 42, 4, 16, 9, 182, 0, 252, 183, 0, 254, 182, 0, 160, 87, 177]
abbrev dktX6_rank_2 : List UInt8 := dkwX6_rank_2 ++ []
def dkwX6_rank_1 : List UInt8 := [182, 0, 126, 42, 182, 0, 130, 42, 3, 182, 0, 156, 76, 42, 180, 0, 18, 180, 0, 247, 187, 0, 250, 89]
abbrev dktX6_rank_1 : List UInt8 := dkwX6_rank_1 ++ dktX6_rank_2
def dkwX6_rank_0 : List UInt8 := [42, 42, 180, 0, 18, 180, 0, 247, 182, 0, 165, 16, 10, 162, 0, 7, 4, 167, 0, 4, 3, 7]
abbrev dktX6_rank_0 : List UInt8 := dkwX6_rank_0 ++ dktX6_rank_1
theorem dksX6_rank_0 : cX6_rank.data.toList.drop 0 = dktX6_rank_0 := by decide +kernel
theorem dksX6_rank_1 : cX6_rank.data.toList.drop 22 = dktX6_rank_1 := dk_seg dksX6_rank_0 22 rfl rfl
theorem dksX6_rank_2 : cX6_rank.data.toList.drop 46 = dktX6_rank_2 := dk_seg dksX6_rank_1 24 rfl rfl
theorem dX6_rank_0 : decode cX6_rank 0 = .ok (.aload_n 0, 1) := dk_42 (dk_at dksX6_rank_0 0 rfl rfl)
theorem dX6_rank_1 : decode cX6_rank 1 = .ok (.aload_n 0, 1) := dk_42 (dk_at dksX6_rank_0 1 rfl rfl)
theorem dX6_rank_2 : decode cX6_rank 2 = .ok (.getfield 18, 3) := dk_180 0 18 (dk_at dksX6_rank_0 2 rfl rfl)
theorem dX6_rank_5 : decode cX6_rank 5 = .ok (.getfield 247, 3) := dk_180 0 247 (dk_at dksX6_rank_0 5 rfl rfl)
theorem dX6_rank_8 : decode cX6_rank 8 = .ok (.invokevirtual 165, 3) := dk_182 0 165 (dk_at dksX6_rank_0 8 rfl rfl)
theorem dX6_rank_11 : decode cX6_rank 11 = .ok (.bipush 10, 2) := dk_16 10 (dk_at dksX6_rank_0 11 rfl rfl)
theorem dX6_rank_13 : decode cX6_rank 13 = .ok (.if_icmp .ge 7, 3) := dk_162 0 7 (dk_at dksX6_rank_0 13 rfl rfl)
theorem dX6_rank_16 : decode cX6_rank 16 = .ok (.iconst 1, 1) := dk_4 (dk_at dksX6_rank_0 16 rfl rfl)
theorem dX6_rank_17 : decode cX6_rank 17 = .ok (.goto 4, 3) := dk_167 0 4 (dk_at dksX6_rank_0 17 rfl rfl)
theorem dX6_rank_20 : decode cX6_rank 20 = .ok (.iconst 0, 1) := dk_3 (dk_at dksX6_rank_0 20 rfl rfl)
theorem dX6_rank_21 : decode cX6_rank 21 = .ok (.iconst 4, 1) := dk_7 (dk_at dksX6_rank_0 21 rfl rfl)
theorem dX6_rank_22 : decode cX6_rank 22 = .ok (.invokevirtual 126, 3) := dk_182 0 126 (dk_at dksX6_rank_1 0 rfl rfl)
theorem dX6_rank_25 : decode cX6_rank 25 = .ok (.aload_n 0, 1) := dk_42 (dk_at dksX6_rank_1 3 rfl rfl)
theorem dX6_rank_26 : decode cX6_rank 26 = .ok (.invokevirtual 130, 3) := dk_182 0 130 (dk_at dksX6_rank_1 4 rfl rfl)
theorem dX6_rank_29 : decode cX6_rank 29 = .ok (.aload_n 0, 1) := dk_42 (dk_at dksX6_rank_1 7 rfl rfl)
theorem dX6_rank_30 : decode cX6_rank 30 = .ok (.iconst 0, 1) := dk_3 (dk_at dksX6_rank_1 8 rfl rfl)
theorem dX6_rank_31 : decode cX6_rank 31 = .ok (.invokevirtual 156, 3) := dk_182 0 156 (dk_at dksX6_rank_1 9 rfl rfl)
theorem dX6_rank_34 : decode cX6_rank 34 = .ok (.astore_n 1, 1) := dk_76 (dk_at dksX6_rank_1 12 rfl rfl)
theorem dX6_rank_35 : decode cX6_rank 35 = .ok (.aload_n 0, 1) := dk_42 (dk_at dksX6_rank_1 13 rfl rfl)
theorem dX6_rank_36 : decode cX6_rank 36 = .ok (.getfield 18, 3) := dk_180 0 18 (dk_at dksX6_rank_1 14 rfl rfl)
theorem dX6_rank_39 : decode cX6_rank 39 = .ok (.getfield 247, 3) := dk_180 0 247 (dk_at dksX6_rank_1 17 rfl rfl)
theorem dX6_rank_42 : decode cX6_rank 42 = .ok (.new 250, 3) := dk_187 0 250 (dk_at dksX6_rank_1 20 rfl rfl)
theorem dX6_rank_45 : decode cX6_rank 45 = .ok (.dup, 1) := dk_89 (dk_at dksX6_rank_1 23 rfl rfl)
theorem dX6_rank_46 : decode cX6_rank 46 = .ok (.aload_n 1, 1) := dk_43 (dk_at dksX6_rank_2 0 rfl rfl)
theorem dX6_rank_47 : decode cX6_rank 47 = .ok (.aload_n 0, 1) := dk_42 (dk_at dksX6_rank_2 1 rfl rfl)
theorem dX6_rank_48 : decode cX6_rank 48 = .ok (.iconst 1, 1) := dk_4 (dk_at dksX6_rank_2 2 rfl rfl)
theorem dX6_rank_49 : decode cX6_rank 49 = .ok (.bipush 9, 2) := dk_16 9 (dk_at dksX6_rank_2 3 rfl rfl)
theorem dX6_rank_51 : decode cX6_rank 51 = .ok (.invokevirtual 252, 3) := dk_182 0 252 (dk_at dksX6_rank_2 5 rfl rfl)
theorem dX6_rank_54 : decode cX6_rank 54 = .ok (.invokespecial 254, 3) := dk_183 0 254 (dk_at dksX6_rank_2 8 rfl rfl)
theorem dX6_rank_57 : decode cX6_rank 57 = .ok (.invokevirtual 160, 3) := dk_182 0 160 (dk_at dksX6_rank_2 11 rfl rfl)
theorem dX6_rank_60 : decode cX6_rank 60 = .ok (.pop, 1) := dk_87 (dk_at dksX6_rank_2 14 rfl rfl)
theorem dX6_rank_61 : decode cX6_rank 61 = .ok (.return_, 1) := dk_177 (dk_at dksX6_rank_2 15 rfl rfl)
abbrev cX6_number : ByteArray := prog_12_method_15_code
def yX6_number : MethodName := ⟨RX6, "number", "(II)I"⟩
def dkwX6_number_1 : List UInt8 := [182, 0, 130, 29, 172, 78, 42, 4, 182, 0, 45, 191]
abbrev dktX6_number_1 : List UInt8 := dkwX6_number_1 ++ []
def dkwX6_number_0 : List UInt8 := [42, 180, 0, 57, 192, 0, 96, 182, 0, 137, 62, 42, 29, 27, 28, 184, 0, 33, 5, 182, 0, 126, 42]
abbrev dktX6_number_0 : List UInt8 := dkwX6_number_0 ++ dktX6_number_1
theorem dksX6_number_0 : cX6_number.data.toList.drop 0 = dktX6_number_0 := by decide +kernel
theorem dksX6_number_1 : cX6_number.data.toList.drop 23 = dktX6_number_1 := dk_seg dksX6_number_0 23 rfl rfl
theorem dX6_number_0 : decode cX6_number 0 = .ok (.aload_n 0, 1) := dk_42 (dk_at dksX6_number_0 0 rfl rfl)
theorem dX6_number_1 : decode cX6_number 1 = .ok (.getfield 57, 3) := dk_180 0 57 (dk_at dksX6_number_0 1 rfl rfl)
theorem dX6_number_4 : decode cX6_number 4 = .ok (.checkcast 96, 3) := dk_192 0 96 (dk_at dksX6_number_0 4 rfl rfl)
theorem dX6_number_7 : decode cX6_number 7 = .ok (.invokevirtual 137, 3) := dk_182 0 137 (dk_at dksX6_number_0 7 rfl rfl)
theorem dX6_number_10 : decode cX6_number 10 = .ok (.istore_n 3, 1) := dk_62 (dk_at dksX6_number_0 10 rfl rfl)
theorem dX6_number_11 : decode cX6_number 11 = .ok (.aload_n 0, 1) := dk_42 (dk_at dksX6_number_0 11 rfl rfl)
theorem dX6_number_12 : decode cX6_number 12 = .ok (.iload_n 3, 1) := dk_29 (dk_at dksX6_number_0 12 rfl rfl)
theorem dX6_number_13 : decode cX6_number 13 = .ok (.iload_n 1, 1) := dk_27 (dk_at dksX6_number_0 13 rfl rfl)
theorem dX6_number_14 : decode cX6_number 14 = .ok (.iload_n 2, 1) := dk_28 (dk_at dksX6_number_0 14 rfl rfl)
theorem dX6_number_15 : decode cX6_number 15 = .ok (.invokestatic 33, 3) := dk_184 0 33 (dk_at dksX6_number_0 15 rfl rfl)
theorem dX6_number_18 : decode cX6_number 18 = .ok (.iconst 2, 1) := dk_5 (dk_at dksX6_number_0 18 rfl rfl)
theorem dX6_number_19 : decode cX6_number 19 = .ok (.invokevirtual 126, 3) := dk_182 0 126 (dk_at dksX6_number_0 19 rfl rfl)
theorem dX6_number_22 : decode cX6_number 22 = .ok (.aload_n 0, 1) := dk_42 (dk_at dksX6_number_0 22 rfl rfl)
theorem dX6_number_23 : decode cX6_number 23 = .ok (.invokevirtual 130, 3) := dk_182 0 130 (dk_at dksX6_number_1 0 rfl rfl)
theorem dX6_number_26 : decode cX6_number 26 = .ok (.iload_n 3, 1) := dk_29 (dk_at dksX6_number_1 3 rfl rfl)
theorem dX6_number_27 : decode cX6_number 27 = .ok (.ireturn, 1) := dk_172 (dk_at dksX6_number_1 4 rfl rfl)
theorem dX6_number_28 : decode cX6_number 28 = .ok (.astore_n 3, 1) := dk_78 (dk_at dksX6_number_1 5 rfl rfl)
theorem dX6_number_29 : decode cX6_number 29 = .ok (.aload_n 0, 1) := dk_42 (dk_at dksX6_number_1 6 rfl rfl)
theorem dX6_number_30 : decode cX6_number 30 = .ok (.iconst 1, 1) := dk_4 (dk_at dksX6_number_1 7 rfl rfl)
theorem dX6_number_31 : decode cX6_number 31 = .ok (.invokevirtual 45, 3) := dk_182 0 45 (dk_at dksX6_number_1 8 rfl rfl)
theorem dX6_number_34 : decode cX6_number 34 = .ok (.athrow, 1) := dk_191 (dk_at dksX6_number_1 11 rfl rfl)
abbrev cX6_partner : ByteArray := prog_12_method_24_code
def yX6_partner : MethodName := ⟨RX6, "partner", "()V"⟩
def dkwX6_partner_3 : List UInt8 := [182, 0, 244, 42, 180, 0, 18, 180, 1, 1, 44, 182, 0, 160, 87, 177]
abbrev dktX6_partner_3 : List UInt8 := dkwX6_partner_3 ++ []
def dkwX6_partner_2 : List UInt8 := [183, 1, 6, 77, 42, 18, 181, 182, 0, 133, 153, 0, 15, 42, 182, 0, 130, 42, 44, 180, 1, 7]
abbrev dktX6_partner_2 : List UInt8 := dkwX6_partner_2 ++ dktX6_partner_3
def dkwX6_partner_1 : List UInt8 := [182, 0, 126, 42, 182, 0, 130, 42, 4, 182, 0, 156, 76, 187, 1, 4, 89, 43, 42, 4, 6, 182, 0, 252]
abbrev dktX6_partner_1 : List UInt8 := dkwX6_partner_1 ++ dktX6_partner_2
def dkwX6_partner_0 : List UInt8 := [42, 42, 180, 0, 18, 180, 1, 1, 182, 0, 165, 16, 10, 162, 0, 7, 4, 167, 0, 4, 3, 7]
abbrev dktX6_partner_0 : List UInt8 := dkwX6_partner_0 ++ dktX6_partner_1
theorem dksX6_partner_0 : cX6_partner.data.toList.drop 0 = dktX6_partner_0 := by decide +kernel
theorem dksX6_partner_1 : cX6_partner.data.toList.drop 22 = dktX6_partner_1 := dk_seg dksX6_partner_0 22 rfl rfl
theorem dksX6_partner_2 : cX6_partner.data.toList.drop 46 = dktX6_partner_2 := dk_seg dksX6_partner_1 24 rfl rfl
theorem dksX6_partner_3 : cX6_partner.data.toList.drop 68 = dktX6_partner_3 := dk_seg dksX6_partner_2 22 rfl rfl
theorem dX6_partner_0 : decode cX6_partner 0 = .ok (.aload_n 0, 1) := dk_42 (dk_at dksX6_partner_0 0 rfl rfl)
theorem dX6_partner_1 : decode cX6_partner 1 = .ok (.aload_n 0, 1) := dk_42 (dk_at dksX6_partner_0 1 rfl rfl)
theorem dX6_partner_2 : decode cX6_partner 2 = .ok (.getfield 18, 3) := dk_180 0 18 (dk_at dksX6_partner_0 2 rfl rfl)
theorem dX6_partner_5 : decode cX6_partner 5 = .ok (.getfield 257, 3) := dk_180 1 1 (dk_at dksX6_partner_0 5 rfl rfl)
theorem dX6_partner_8 : decode cX6_partner 8 = .ok (.invokevirtual 165, 3) := dk_182 0 165 (dk_at dksX6_partner_0 8 rfl rfl)
theorem dX6_partner_11 : decode cX6_partner 11 = .ok (.bipush 10, 2) := dk_16 10 (dk_at dksX6_partner_0 11 rfl rfl)
theorem dX6_partner_13 : decode cX6_partner 13 = .ok (.if_icmp .ge 7, 3) := dk_162 0 7 (dk_at dksX6_partner_0 13 rfl rfl)
theorem dX6_partner_16 : decode cX6_partner 16 = .ok (.iconst 1, 1) := dk_4 (dk_at dksX6_partner_0 16 rfl rfl)
theorem dX6_partner_17 : decode cX6_partner 17 = .ok (.goto 4, 3) := dk_167 0 4 (dk_at dksX6_partner_0 17 rfl rfl)
theorem dX6_partner_20 : decode cX6_partner 20 = .ok (.iconst 0, 1) := dk_3 (dk_at dksX6_partner_0 20 rfl rfl)
theorem dX6_partner_21 : decode cX6_partner 21 = .ok (.iconst 4, 1) := dk_7 (dk_at dksX6_partner_0 21 rfl rfl)
theorem dX6_partner_22 : decode cX6_partner 22 = .ok (.invokevirtual 126, 3) := dk_182 0 126 (dk_at dksX6_partner_1 0 rfl rfl)
theorem dX6_partner_25 : decode cX6_partner 25 = .ok (.aload_n 0, 1) := dk_42 (dk_at dksX6_partner_1 3 rfl rfl)
theorem dX6_partner_26 : decode cX6_partner 26 = .ok (.invokevirtual 130, 3) := dk_182 0 130 (dk_at dksX6_partner_1 4 rfl rfl)
theorem dX6_partner_29 : decode cX6_partner 29 = .ok (.aload_n 0, 1) := dk_42 (dk_at dksX6_partner_1 7 rfl rfl)
theorem dX6_partner_30 : decode cX6_partner 30 = .ok (.iconst 1, 1) := dk_4 (dk_at dksX6_partner_1 8 rfl rfl)
theorem dX6_partner_31 : decode cX6_partner 31 = .ok (.invokevirtual 156, 3) := dk_182 0 156 (dk_at dksX6_partner_1 9 rfl rfl)
theorem dX6_partner_34 : decode cX6_partner 34 = .ok (.astore_n 1, 1) := dk_76 (dk_at dksX6_partner_1 12 rfl rfl)
theorem dX6_partner_35 : decode cX6_partner 35 = .ok (.new 260, 3) := dk_187 1 4 (dk_at dksX6_partner_1 13 rfl rfl)
theorem dX6_partner_38 : decode cX6_partner 38 = .ok (.dup, 1) := dk_89 (dk_at dksX6_partner_1 16 rfl rfl)
theorem dX6_partner_39 : decode cX6_partner 39 = .ok (.aload_n 1, 1) := dk_43 (dk_at dksX6_partner_1 17 rfl rfl)
theorem dX6_partner_40 : decode cX6_partner 40 = .ok (.aload_n 0, 1) := dk_42 (dk_at dksX6_partner_1 18 rfl rfl)
theorem dX6_partner_41 : decode cX6_partner 41 = .ok (.iconst 1, 1) := dk_4 (dk_at dksX6_partner_1 19 rfl rfl)
theorem dX6_partner_42 : decode cX6_partner 42 = .ok (.iconst 3, 1) := dk_6 (dk_at dksX6_partner_1 20 rfl rfl)
theorem dX6_partner_43 : decode cX6_partner 43 = .ok (.invokevirtual 252, 3) := dk_182 0 252 (dk_at dksX6_partner_1 21 rfl rfl)
theorem dX6_partner_46 : decode cX6_partner 46 = .ok (.invokespecial 262, 3) := dk_183 1 6 (dk_at dksX6_partner_2 0 rfl rfl)
theorem dX6_partner_49 : decode cX6_partner 49 = .ok (.astore_n 2, 1) := dk_77 (dk_at dksX6_partner_2 3 rfl rfl)
theorem dX6_partner_50 : decode cX6_partner 50 = .ok (.aload_n 0, 1) := dk_42 (dk_at dksX6_partner_2 4 rfl rfl)
theorem dX6_partner_51 : decode cX6_partner 51 = .ok (.ldc 181, 2) := dk_18 181 (dk_at dksX6_partner_2 5 rfl rfl)
theorem dX6_partner_53 : decode cX6_partner 53 = .ok (.invokevirtual 133, 3) := dk_182 0 133 (dk_at dksX6_partner_2 7 rfl rfl)
theorem dX6_partner_56 : decode cX6_partner 56 = .ok (.ifCond .eq 15, 3) := dk_153 0 15 (dk_at dksX6_partner_2 10 rfl rfl)
theorem dX6_partner_59 : decode cX6_partner 59 = .ok (.aload_n 0, 1) := dk_42 (dk_at dksX6_partner_2 13 rfl rfl)
theorem dX6_partner_60 : decode cX6_partner 60 = .ok (.invokevirtual 130, 3) := dk_182 0 130 (dk_at dksX6_partner_2 14 rfl rfl)
theorem dX6_partner_63 : decode cX6_partner 63 = .ok (.aload_n 0, 1) := dk_42 (dk_at dksX6_partner_2 17 rfl rfl)
theorem dX6_partner_64 : decode cX6_partner 64 = .ok (.aload_n 2, 1) := dk_44 (dk_at dksX6_partner_2 18 rfl rfl)
theorem dX6_partner_65 : decode cX6_partner 65 = .ok (.getfield 263, 3) := dk_180 1 7 (dk_at dksX6_partner_2 19 rfl rfl)
theorem dX6_partner_68 : decode cX6_partner 68 = .ok (.invokevirtual 244, 3) := dk_182 0 244 (dk_at dksX6_partner_3 0 rfl rfl)
theorem dX6_partner_71 : decode cX6_partner 71 = .ok (.aload_n 0, 1) := dk_42 (dk_at dksX6_partner_3 3 rfl rfl)
theorem dX6_partner_72 : decode cX6_partner 72 = .ok (.getfield 18, 3) := dk_180 0 18 (dk_at dksX6_partner_3 4 rfl rfl)
theorem dX6_partner_75 : decode cX6_partner 75 = .ok (.getfield 257, 3) := dk_180 1 1 (dk_at dksX6_partner_3 7 rfl rfl)
theorem dX6_partner_78 : decode cX6_partner 78 = .ok (.aload_n 2, 1) := dk_44 (dk_at dksX6_partner_3 10 rfl rfl)
theorem dX6_partner_79 : decode cX6_partner 79 = .ok (.invokevirtual 160, 3) := dk_182 0 160 (dk_at dksX6_partner_3 11 rfl rfl)
theorem dX6_partner_82 : decode cX6_partner 82 = .ok (.pop, 1) := dk_87 (dk_at dksX6_partner_3 14 rfl rfl)
theorem dX6_partner_83 : decode cX6_partner 83 = .ok (.return_, 1) := dk_177 (dk_at dksX6_partner_3 15 rfl rfl)
abbrev cX6_tree : ByteArray := prog_12_method_25_code
def yX6_tree : MethodName := ⟨RX6, "tree", "()V"⟩
def dkwX6_tree_2 : List UInt8 := [182, 0, 130, 42, 3, 181, 1, 14, 42, 180, 1, 9, 42, 182, 1, 17, 181, 1, 12, 177]
abbrev dktX6_tree_2 : List UInt8 := dkwX6_tree_2 ++ []
def dkwX6_tree_1 : List UInt8 := [198, 0, 17, 42, 180, 1, 9, 180, 1, 12, 199, 0, 7, 4, 167, 0, 4, 3, 6, 182, 0, 126, 42]
abbrev dktX6_tree_1 : List UInt8 := dkwX6_tree_1 ++ dktX6_tree_2
def dkwX6_tree_0 : List UInt8 := [42, 182, 0, 130, 42, 42, 180, 0, 18, 42, 182, 0, 229, 182, 0, 232, 181, 1, 9, 42, 42, 180, 1, 9]
abbrev dktX6_tree_0 : List UInt8 := dkwX6_tree_0 ++ dktX6_tree_1
theorem dksX6_tree_0 : cX6_tree.data.toList.drop 0 = dktX6_tree_0 := by decide +kernel
theorem dksX6_tree_1 : cX6_tree.data.toList.drop 24 = dktX6_tree_1 := dk_seg dksX6_tree_0 24 rfl rfl
theorem dksX6_tree_2 : cX6_tree.data.toList.drop 47 = dktX6_tree_2 := dk_seg dksX6_tree_1 23 rfl rfl
theorem dX6_tree_0 : decode cX6_tree 0 = .ok (.aload_n 0, 1) := dk_42 (dk_at dksX6_tree_0 0 rfl rfl)
theorem dX6_tree_1 : decode cX6_tree 1 = .ok (.invokevirtual 130, 3) := dk_182 0 130 (dk_at dksX6_tree_0 1 rfl rfl)
theorem dX6_tree_4 : decode cX6_tree 4 = .ok (.aload_n 0, 1) := dk_42 (dk_at dksX6_tree_0 4 rfl rfl)
theorem dX6_tree_5 : decode cX6_tree 5 = .ok (.aload_n 0, 1) := dk_42 (dk_at dksX6_tree_0 5 rfl rfl)
theorem dX6_tree_6 : decode cX6_tree 6 = .ok (.getfield 18, 3) := dk_180 0 18 (dk_at dksX6_tree_0 6 rfl rfl)
theorem dX6_tree_9 : decode cX6_tree 9 = .ok (.aload_n 0, 1) := dk_42 (dk_at dksX6_tree_0 9 rfl rfl)
theorem dX6_tree_10 : decode cX6_tree 10 = .ok (.invokevirtual 229, 3) := dk_182 0 229 (dk_at dksX6_tree_0 10 rfl rfl)
theorem dX6_tree_13 : decode cX6_tree 13 = .ok (.invokevirtual 232, 3) := dk_182 0 232 (dk_at dksX6_tree_0 13 rfl rfl)
theorem dX6_tree_16 : decode cX6_tree 16 = .ok (.putfield 265, 3) := dk_181 1 9 (dk_at dksX6_tree_0 16 rfl rfl)
theorem dX6_tree_19 : decode cX6_tree 19 = .ok (.aload_n 0, 1) := dk_42 (dk_at dksX6_tree_0 19 rfl rfl)
theorem dX6_tree_20 : decode cX6_tree 20 = .ok (.aload_n 0, 1) := dk_42 (dk_at dksX6_tree_0 20 rfl rfl)
theorem dX6_tree_21 : decode cX6_tree 21 = .ok (.getfield 265, 3) := dk_180 1 9 (dk_at dksX6_tree_0 21 rfl rfl)
theorem dX6_tree_24 : decode cX6_tree 24 = .ok (.ifnull 17, 3) := dk_198 0 17 (dk_at dksX6_tree_1 0 rfl rfl)
theorem dX6_tree_27 : decode cX6_tree 27 = .ok (.aload_n 0, 1) := dk_42 (dk_at dksX6_tree_1 3 rfl rfl)
theorem dX6_tree_28 : decode cX6_tree 28 = .ok (.getfield 265, 3) := dk_180 1 9 (dk_at dksX6_tree_1 4 rfl rfl)
theorem dX6_tree_31 : decode cX6_tree 31 = .ok (.getfield 268, 3) := dk_180 1 12 (dk_at dksX6_tree_1 7 rfl rfl)
theorem dX6_tree_34 : decode cX6_tree 34 = .ok (.ifnonnull 7, 3) := dk_199 0 7 (dk_at dksX6_tree_1 10 rfl rfl)
theorem dX6_tree_37 : decode cX6_tree 37 = .ok (.iconst 1, 1) := dk_4 (dk_at dksX6_tree_1 13 rfl rfl)
theorem dX6_tree_38 : decode cX6_tree 38 = .ok (.goto 4, 3) := dk_167 0 4 (dk_at dksX6_tree_1 14 rfl rfl)
theorem dX6_tree_41 : decode cX6_tree 41 = .ok (.iconst 0, 1) := dk_3 (dk_at dksX6_tree_1 17 rfl rfl)
theorem dX6_tree_42 : decode cX6_tree 42 = .ok (.iconst 3, 1) := dk_6 (dk_at dksX6_tree_1 18 rfl rfl)
theorem dX6_tree_43 : decode cX6_tree 43 = .ok (.invokevirtual 126, 3) := dk_182 0 126 (dk_at dksX6_tree_1 19 rfl rfl)
theorem dX6_tree_46 : decode cX6_tree 46 = .ok (.aload_n 0, 1) := dk_42 (dk_at dksX6_tree_1 22 rfl rfl)
theorem dX6_tree_47 : decode cX6_tree 47 = .ok (.invokevirtual 130, 3) := dk_182 0 130 (dk_at dksX6_tree_2 0 rfl rfl)
theorem dX6_tree_50 : decode cX6_tree 50 = .ok (.aload_n 0, 1) := dk_42 (dk_at dksX6_tree_2 3 rfl rfl)
theorem dX6_tree_51 : decode cX6_tree 51 = .ok (.iconst 0, 1) := dk_3 (dk_at dksX6_tree_2 4 rfl rfl)
theorem dX6_tree_52 : decode cX6_tree 52 = .ok (.putfield 270, 3) := dk_181 1 14 (dk_at dksX6_tree_2 5 rfl rfl)
theorem dX6_tree_55 : decode cX6_tree 55 = .ok (.aload_n 0, 1) := dk_42 (dk_at dksX6_tree_2 8 rfl rfl)
theorem dX6_tree_56 : decode cX6_tree 56 = .ok (.getfield 265, 3) := dk_180 1 9 (dk_at dksX6_tree_2 9 rfl rfl)
theorem dX6_tree_59 : decode cX6_tree 59 = .ok (.aload_n 0, 1) := dk_42 (dk_at dksX6_tree_2 12 rfl rfl)
theorem dX6_tree_60 : decode cX6_tree 60 = .ok (.invokevirtual 273, 3) := dk_182 1 17 (dk_at dksX6_tree_2 13 rfl rfl)
theorem dX6_tree_63 : decode cX6_tree 63 = .ok (.putfield 268, 3) := dk_181 1 12 (dk_at dksX6_tree_2 16 rfl rfl)
theorem dX6_tree_66 : decode cX6_tree 66 = .ok (.return_, 1) := dk_177 (dk_at dksX6_tree_2 19 rfl rfl)
abbrev cX6_node : ByteArray := prog_12_method_27_code
def yX6_node : MethodName := ⟨RX6, "node", "()Ljava/lang/Object;"⟩
def dkwX6_node_7 : List UInt8 := [83, 183, 1, 39, 58, 4, 42, 89, 180, 1, 14, 4, 100, 181, 1, 14, 25, 4, 176]
abbrev dktX6_node_7 : List UInt8 := dkwX6_node_7 ++ []
def dkwX6_node_6 : List UInt8 := [18, 189, 182, 1, 34, 187, 1, 37, 89, 44, 5, 189, 0, 10, 89, 3, 45, 83, 89, 4, 42, 182, 1, 17]
abbrev dktX6_node_6 : List UInt8 := dkwX6_node_6 ++ dktX6_node_7
def dkwX6_node_5 : List UInt8 := [181, 1, 24, 42, 182, 0, 130, 42, 182, 1, 31, 77, 42, 18, 187, 182, 1, 34, 42, 182, 1, 17, 78, 42]
abbrev dktX6_node_5 : List UInt8 := dkwX6_node_5 ++ dktX6_node_6
def dkwX6_node_4 : List UInt8 := [153, 0, 8, 42, 182, 1, 27, 176, 42, 182, 1, 21, 42, 180, 0, 18, 89, 180, 1, 24, 4, 96]
abbrev dktX6_node_4 : List UInt8 := dkwX6_node_4 ++ dktX6_node_5
def dkwX6_node_3 : List UInt8 := [42, 180, 0, 18, 180, 1, 24, 16, 40, 162, 0, 7, 4, 167, 0, 4, 3, 7, 182, 0, 126, 27]
abbrev dktX6_node_3 : List UInt8 := dkwX6_node_3 ++ dktX6_node_4
def dkwX6_node_2 : List UInt8 := [42, 27, 154, 0, 12, 42, 18, 185, 182, 0, 133, 153, 0, 7, 4, 167, 0, 4, 3, 4, 182, 0, 126, 42]
abbrev dktX6_node_2 : List UInt8 := dkwX6_node_2 ++ dktX6_node_3
def dkwX6_node_1 : List UInt8 := [16, 41, 182, 0, 222, 42, 89, 180, 1, 14, 4, 100, 181, 1, 14, 43, 176, 42, 18, 183, 182, 0, 133, 60]
abbrev dktX6_node_1 : List UInt8 := dkwX6_node_1 ++ dktX6_node_2
def dkwX6_node_0 : List UInt8 := [42, 16, 40, 182, 0, 123, 153, 0, 34, 42, 182, 1, 21, 42, 182, 0, 130, 42, 182, 1, 17, 76, 42]
abbrev dktX6_node_0 : List UInt8 := dkwX6_node_0 ++ dktX6_node_1
theorem dksX6_node_0 : cX6_node.data.toList.drop 0 = dktX6_node_0 := by decide +kernel
theorem dksX6_node_1 : cX6_node.data.toList.drop 23 = dktX6_node_1 := dk_seg dksX6_node_0 23 rfl rfl
theorem dksX6_node_2 : cX6_node.data.toList.drop 47 = dktX6_node_2 := dk_seg dksX6_node_1 24 rfl rfl
theorem dksX6_node_3 : cX6_node.data.toList.drop 71 = dktX6_node_3 := dk_seg dksX6_node_2 24 rfl rfl
theorem dksX6_node_4 : cX6_node.data.toList.drop 93 = dktX6_node_4 := dk_seg dksX6_node_3 22 rfl rfl
theorem dksX6_node_5 : cX6_node.data.toList.drop 115 = dktX6_node_5 := dk_seg dksX6_node_4 22 rfl rfl
theorem dksX6_node_6 : cX6_node.data.toList.drop 139 = dktX6_node_6 := dk_seg dksX6_node_5 24 rfl rfl
theorem dksX6_node_7 : cX6_node.data.toList.drop 163 = dktX6_node_7 := dk_seg dksX6_node_6 24 rfl rfl
theorem dX6_node_0 : decode cX6_node 0 = .ok (.aload_n 0, 1) := dk_42 (dk_at dksX6_node_0 0 rfl rfl)
theorem dX6_node_1 : decode cX6_node 1 = .ok (.bipush 40, 2) := dk_16 40 (dk_at dksX6_node_0 1 rfl rfl)
theorem dX6_node_3 : decode cX6_node 3 = .ok (.invokevirtual 123, 3) := dk_182 0 123 (dk_at dksX6_node_0 3 rfl rfl)
theorem dX6_node_6 : decode cX6_node 6 = .ok (.ifCond .eq 34, 3) := dk_153 0 34 (dk_at dksX6_node_0 6 rfl rfl)
theorem dX6_node_9 : decode cX6_node 9 = .ok (.aload_n 0, 1) := dk_42 (dk_at dksX6_node_0 9 rfl rfl)
theorem dX6_node_10 : decode cX6_node 10 = .ok (.invokevirtual 277, 3) := dk_182 1 21 (dk_at dksX6_node_0 10 rfl rfl)
theorem dX6_node_13 : decode cX6_node 13 = .ok (.aload_n 0, 1) := dk_42 (dk_at dksX6_node_0 13 rfl rfl)
theorem dX6_node_14 : decode cX6_node 14 = .ok (.invokevirtual 130, 3) := dk_182 0 130 (dk_at dksX6_node_0 14 rfl rfl)
theorem dX6_node_17 : decode cX6_node 17 = .ok (.aload_n 0, 1) := dk_42 (dk_at dksX6_node_0 17 rfl rfl)
theorem dX6_node_18 : decode cX6_node 18 = .ok (.invokevirtual 273, 3) := dk_182 1 17 (dk_at dksX6_node_0 18 rfl rfl)
theorem dX6_node_21 : decode cX6_node 21 = .ok (.astore_n 1, 1) := dk_76 (dk_at dksX6_node_0 21 rfl rfl)
theorem dX6_node_22 : decode cX6_node 22 = .ok (.aload_n 0, 1) := dk_42 (dk_at dksX6_node_0 22 rfl rfl)
theorem dX6_node_23 : decode cX6_node 23 = .ok (.bipush 41, 2) := dk_16 41 (dk_at dksX6_node_1 0 rfl rfl)
theorem dX6_node_25 : decode cX6_node 25 = .ok (.invokevirtual 222, 3) := dk_182 0 222 (dk_at dksX6_node_1 2 rfl rfl)
theorem dX6_node_28 : decode cX6_node 28 = .ok (.aload_n 0, 1) := dk_42 (dk_at dksX6_node_1 5 rfl rfl)
theorem dX6_node_29 : decode cX6_node 29 = .ok (.dup, 1) := dk_89 (dk_at dksX6_node_1 6 rfl rfl)
theorem dX6_node_30 : decode cX6_node 30 = .ok (.getfield 270, 3) := dk_180 1 14 (dk_at dksX6_node_1 7 rfl rfl)
theorem dX6_node_33 : decode cX6_node 33 = .ok (.iconst 1, 1) := dk_4 (dk_at dksX6_node_1 10 rfl rfl)
theorem dX6_node_34 : decode cX6_node 34 = .ok (.isub, 1) := dk_100 (dk_at dksX6_node_1 11 rfl rfl)
theorem dX6_node_35 : decode cX6_node 35 = .ok (.putfield 270, 3) := dk_181 1 14 (dk_at dksX6_node_1 12 rfl rfl)
theorem dX6_node_38 : decode cX6_node 38 = .ok (.aload_n 1, 1) := dk_43 (dk_at dksX6_node_1 15 rfl rfl)
theorem dX6_node_39 : decode cX6_node 39 = .ok (.areturn, 1) := dk_176 (dk_at dksX6_node_1 16 rfl rfl)
theorem dX6_node_40 : decode cX6_node 40 = .ok (.aload_n 0, 1) := dk_42 (dk_at dksX6_node_1 17 rfl rfl)
theorem dX6_node_41 : decode cX6_node 41 = .ok (.ldc 183, 2) := dk_18 183 (dk_at dksX6_node_1 18 rfl rfl)
theorem dX6_node_43 : decode cX6_node 43 = .ok (.invokevirtual 133, 3) := dk_182 0 133 (dk_at dksX6_node_1 20 rfl rfl)
theorem dX6_node_46 : decode cX6_node 46 = .ok (.istore_n 1, 1) := dk_60 (dk_at dksX6_node_1 23 rfl rfl)
theorem dX6_node_47 : decode cX6_node 47 = .ok (.aload_n 0, 1) := dk_42 (dk_at dksX6_node_2 0 rfl rfl)
theorem dX6_node_48 : decode cX6_node 48 = .ok (.iload_n 1, 1) := dk_27 (dk_at dksX6_node_2 1 rfl rfl)
theorem dX6_node_49 : decode cX6_node 49 = .ok (.ifCond .ne 12, 3) := dk_154 0 12 (dk_at dksX6_node_2 2 rfl rfl)
theorem dX6_node_52 : decode cX6_node 52 = .ok (.aload_n 0, 1) := dk_42 (dk_at dksX6_node_2 5 rfl rfl)
theorem dX6_node_53 : decode cX6_node 53 = .ok (.ldc 185, 2) := dk_18 185 (dk_at dksX6_node_2 6 rfl rfl)
theorem dX6_node_55 : decode cX6_node 55 = .ok (.invokevirtual 133, 3) := dk_182 0 133 (dk_at dksX6_node_2 8 rfl rfl)
theorem dX6_node_58 : decode cX6_node 58 = .ok (.ifCond .eq 7, 3) := dk_153 0 7 (dk_at dksX6_node_2 11 rfl rfl)
theorem dX6_node_61 : decode cX6_node 61 = .ok (.iconst 1, 1) := dk_4 (dk_at dksX6_node_2 14 rfl rfl)
theorem dX6_node_62 : decode cX6_node 62 = .ok (.goto 4, 3) := dk_167 0 4 (dk_at dksX6_node_2 15 rfl rfl)
theorem dX6_node_65 : decode cX6_node 65 = .ok (.iconst 0, 1) := dk_3 (dk_at dksX6_node_2 18 rfl rfl)
theorem dX6_node_66 : decode cX6_node 66 = .ok (.iconst 1, 1) := dk_4 (dk_at dksX6_node_2 19 rfl rfl)
theorem dX6_node_67 : decode cX6_node 67 = .ok (.invokevirtual 126, 3) := dk_182 0 126 (dk_at dksX6_node_2 20 rfl rfl)
theorem dX6_node_70 : decode cX6_node 70 = .ok (.aload_n 0, 1) := dk_42 (dk_at dksX6_node_2 23 rfl rfl)
theorem dX6_node_71 : decode cX6_node 71 = .ok (.aload_n 0, 1) := dk_42 (dk_at dksX6_node_3 0 rfl rfl)
theorem dX6_node_72 : decode cX6_node 72 = .ok (.getfield 18, 3) := dk_180 0 18 (dk_at dksX6_node_3 1 rfl rfl)
theorem dX6_node_75 : decode cX6_node 75 = .ok (.getfield 280, 3) := dk_180 1 24 (dk_at dksX6_node_3 4 rfl rfl)
theorem dX6_node_78 : decode cX6_node 78 = .ok (.bipush 40, 2) := dk_16 40 (dk_at dksX6_node_3 7 rfl rfl)
theorem dX6_node_80 : decode cX6_node 80 = .ok (.if_icmp .ge 7, 3) := dk_162 0 7 (dk_at dksX6_node_3 9 rfl rfl)
theorem dX6_node_83 : decode cX6_node 83 = .ok (.iconst 1, 1) := dk_4 (dk_at dksX6_node_3 12 rfl rfl)
theorem dX6_node_84 : decode cX6_node 84 = .ok (.goto 4, 3) := dk_167 0 4 (dk_at dksX6_node_3 13 rfl rfl)
theorem dX6_node_87 : decode cX6_node 87 = .ok (.iconst 0, 1) := dk_3 (dk_at dksX6_node_3 16 rfl rfl)
theorem dX6_node_88 : decode cX6_node 88 = .ok (.iconst 4, 1) := dk_7 (dk_at dksX6_node_3 17 rfl rfl)
theorem dX6_node_89 : decode cX6_node 89 = .ok (.invokevirtual 126, 3) := dk_182 0 126 (dk_at dksX6_node_3 18 rfl rfl)
theorem dX6_node_92 : decode cX6_node 92 = .ok (.iload_n 1, 1) := dk_27 (dk_at dksX6_node_3 21 rfl rfl)
theorem dX6_node_93 : decode cX6_node 93 = .ok (.ifCond .eq 8, 3) := dk_153 0 8 (dk_at dksX6_node_4 0 rfl rfl)
theorem dX6_node_96 : decode cX6_node 96 = .ok (.aload_n 0, 1) := dk_42 (dk_at dksX6_node_4 3 rfl rfl)
theorem dX6_node_97 : decode cX6_node 97 = .ok (.invokevirtual 283, 3) := dk_182 1 27 (dk_at dksX6_node_4 4 rfl rfl)
theorem dX6_node_100 : decode cX6_node 100 = .ok (.areturn, 1) := dk_176 (dk_at dksX6_node_4 7 rfl rfl)
theorem dX6_node_101 : decode cX6_node 101 = .ok (.aload_n 0, 1) := dk_42 (dk_at dksX6_node_4 8 rfl rfl)
theorem dX6_node_102 : decode cX6_node 102 = .ok (.invokevirtual 277, 3) := dk_182 1 21 (dk_at dksX6_node_4 9 rfl rfl)
theorem dX6_node_105 : decode cX6_node 105 = .ok (.aload_n 0, 1) := dk_42 (dk_at dksX6_node_4 12 rfl rfl)
theorem dX6_node_106 : decode cX6_node 106 = .ok (.getfield 18, 3) := dk_180 0 18 (dk_at dksX6_node_4 13 rfl rfl)
theorem dX6_node_109 : decode cX6_node 109 = .ok (.dup, 1) := dk_89 (dk_at dksX6_node_4 16 rfl rfl)
theorem dX6_node_110 : decode cX6_node 110 = .ok (.getfield 280, 3) := dk_180 1 24 (dk_at dksX6_node_4 17 rfl rfl)
theorem dX6_node_113 : decode cX6_node 113 = .ok (.iconst 1, 1) := dk_4 (dk_at dksX6_node_4 20 rfl rfl)
theorem dX6_node_114 : decode cX6_node 114 = .ok (.iadd, 1) := dk_96 (dk_at dksX6_node_4 21 rfl rfl)
theorem dX6_node_115 : decode cX6_node 115 = .ok (.putfield 280, 3) := dk_181 1 24 (dk_at dksX6_node_5 0 rfl rfl)
theorem dX6_node_118 : decode cX6_node 118 = .ok (.aload_n 0, 1) := dk_42 (dk_at dksX6_node_5 3 rfl rfl)
theorem dX6_node_119 : decode cX6_node 119 = .ok (.invokevirtual 130, 3) := dk_182 0 130 (dk_at dksX6_node_5 4 rfl rfl)
theorem dX6_node_122 : decode cX6_node 122 = .ok (.aload_n 0, 1) := dk_42 (dk_at dksX6_node_5 7 rfl rfl)
theorem dX6_node_123 : decode cX6_node 123 = .ok (.invokevirtual 287, 3) := dk_182 1 31 (dk_at dksX6_node_5 8 rfl rfl)
theorem dX6_node_126 : decode cX6_node 126 = .ok (.astore_n 2, 1) := dk_77 (dk_at dksX6_node_5 11 rfl rfl)
theorem dX6_node_127 : decode cX6_node 127 = .ok (.aload_n 0, 1) := dk_42 (dk_at dksX6_node_5 12 rfl rfl)
theorem dX6_node_128 : decode cX6_node 128 = .ok (.ldc 187, 2) := dk_18 187 (dk_at dksX6_node_5 13 rfl rfl)
theorem dX6_node_130 : decode cX6_node 130 = .ok (.invokevirtual 290, 3) := dk_182 1 34 (dk_at dksX6_node_5 15 rfl rfl)
theorem dX6_node_133 : decode cX6_node 133 = .ok (.aload_n 0, 1) := dk_42 (dk_at dksX6_node_5 18 rfl rfl)
theorem dX6_node_134 : decode cX6_node 134 = .ok (.invokevirtual 273, 3) := dk_182 1 17 (dk_at dksX6_node_5 19 rfl rfl)
theorem dX6_node_137 : decode cX6_node 137 = .ok (.astore_n 3, 1) := dk_78 (dk_at dksX6_node_5 22 rfl rfl)
theorem dX6_node_138 : decode cX6_node 138 = .ok (.aload_n 0, 1) := dk_42 (dk_at dksX6_node_5 23 rfl rfl)
theorem dX6_node_139 : decode cX6_node 139 = .ok (.ldc 189, 2) := dk_18 189 (dk_at dksX6_node_6 0 rfl rfl)
theorem dX6_node_141 : decode cX6_node 141 = .ok (.invokevirtual 290, 3) := dk_182 1 34 (dk_at dksX6_node_6 2 rfl rfl)
theorem dX6_node_144 : decode cX6_node 144 = .ok (.new 293, 3) := dk_187 1 37 (dk_at dksX6_node_6 5 rfl rfl)
theorem dX6_node_147 : decode cX6_node 147 = .ok (.dup, 1) := dk_89 (dk_at dksX6_node_6 8 rfl rfl)
theorem dX6_node_148 : decode cX6_node 148 = .ok (.aload_n 2, 1) := dk_44 (dk_at dksX6_node_6 9 rfl rfl)
theorem dX6_node_149 : decode cX6_node 149 = .ok (.iconst 2, 1) := dk_5 (dk_at dksX6_node_6 10 rfl rfl)
theorem dX6_node_150 : decode cX6_node 150 = .ok (.anewarray 10, 3) := dk_189 0 10 (dk_at dksX6_node_6 11 rfl rfl)
theorem dX6_node_153 : decode cX6_node 153 = .ok (.dup, 1) := dk_89 (dk_at dksX6_node_6 14 rfl rfl)
theorem dX6_node_154 : decode cX6_node 154 = .ok (.iconst 0, 1) := dk_3 (dk_at dksX6_node_6 15 rfl rfl)
theorem dX6_node_155 : decode cX6_node 155 = .ok (.aload_n 3, 1) := dk_45 (dk_at dksX6_node_6 16 rfl rfl)
theorem dX6_node_156 : decode cX6_node 156 = .ok (.aastore, 1) := dk_83 (dk_at dksX6_node_6 17 rfl rfl)
theorem dX6_node_157 : decode cX6_node 157 = .ok (.dup, 1) := dk_89 (dk_at dksX6_node_6 18 rfl rfl)
theorem dX6_node_158 : decode cX6_node 158 = .ok (.iconst 1, 1) := dk_4 (dk_at dksX6_node_6 19 rfl rfl)
theorem dX6_node_159 : decode cX6_node 159 = .ok (.aload_n 0, 1) := dk_42 (dk_at dksX6_node_6 20 rfl rfl)
theorem dX6_node_160 : decode cX6_node 160 = .ok (.invokevirtual 273, 3) := dk_182 1 17 (dk_at dksX6_node_6 21 rfl rfl)
theorem dX6_node_163 : decode cX6_node 163 = .ok (.aastore, 1) := dk_83 (dk_at dksX6_node_7 0 rfl rfl)
theorem dX6_node_164 : decode cX6_node 164 = .ok (.invokespecial 295, 3) := dk_183 1 39 (dk_at dksX6_node_7 1 rfl rfl)
theorem dX6_node_167 : decode cX6_node 167 = .ok (.astore 4, 2) := dk_58 4 (dk_at dksX6_node_7 4 rfl rfl)
theorem dX6_node_169 : decode cX6_node 169 = .ok (.aload_n 0, 1) := dk_42 (dk_at dksX6_node_7 6 rfl rfl)
theorem dX6_node_170 : decode cX6_node 170 = .ok (.dup, 1) := dk_89 (dk_at dksX6_node_7 7 rfl rfl)
theorem dX6_node_171 : decode cX6_node 171 = .ok (.getfield 270, 3) := dk_180 1 14 (dk_at dksX6_node_7 8 rfl rfl)
theorem dX6_node_174 : decode cX6_node 174 = .ok (.iconst 1, 1) := dk_4 (dk_at dksX6_node_7 11 rfl rfl)
theorem dX6_node_175 : decode cX6_node 175 = .ok (.isub, 1) := dk_100 (dk_at dksX6_node_7 12 rfl rfl)
theorem dX6_node_176 : decode cX6_node 176 = .ok (.putfield 270, 3) := dk_181 1 14 (dk_at dksX6_node_7 13 rfl rfl)
theorem dX6_node_179 : decode cX6_node 179 = .ok (.aload 4, 2) := dk_25 4 (dk_at dksX6_node_7 16 rfl rfl)
theorem dX6_node_181 : decode cX6_node 181 = .ok (.areturn, 1) := dk_176 (dk_at dksX6_node_7 18 rfl rfl)
abbrev cX6_opens : ByteArray := prog_12_method_26_code
def yX6_opens : MethodName := ⟨RX6, "opens", "()V"⟩
def dkwX6_opens_1 : List UInt8 := [4, 96, 181, 1, 14, 177]
abbrev dktX6_opens_1 : List UInt8 := dkwX6_opens_1 ++ []
def dkwX6_opens_0 : List UInt8 := [42, 42, 180, 1, 14, 16, 9, 162, 0, 7, 4, 167, 0, 4, 3, 7, 182, 0, 126, 42, 89, 180, 1, 14]
abbrev dktX6_opens_0 : List UInt8 := dkwX6_opens_0 ++ dktX6_opens_1
theorem dksX6_opens_0 : cX6_opens.data.toList.drop 0 = dktX6_opens_0 := by decide +kernel
theorem dksX6_opens_1 : cX6_opens.data.toList.drop 24 = dktX6_opens_1 := dk_seg dksX6_opens_0 24 rfl rfl
theorem dX6_opens_0 : decode cX6_opens 0 = .ok (.aload_n 0, 1) := dk_42 (dk_at dksX6_opens_0 0 rfl rfl)
theorem dX6_opens_1 : decode cX6_opens 1 = .ok (.aload_n 0, 1) := dk_42 (dk_at dksX6_opens_0 1 rfl rfl)
theorem dX6_opens_2 : decode cX6_opens 2 = .ok (.getfield 270, 3) := dk_180 1 14 (dk_at dksX6_opens_0 2 rfl rfl)
theorem dX6_opens_5 : decode cX6_opens 5 = .ok (.bipush 9, 2) := dk_16 9 (dk_at dksX6_opens_0 5 rfl rfl)
theorem dX6_opens_7 : decode cX6_opens 7 = .ok (.if_icmp .ge 7, 3) := dk_162 0 7 (dk_at dksX6_opens_0 7 rfl rfl)
theorem dX6_opens_10 : decode cX6_opens 10 = .ok (.iconst 1, 1) := dk_4 (dk_at dksX6_opens_0 10 rfl rfl)
theorem dX6_opens_11 : decode cX6_opens 11 = .ok (.goto 4, 3) := dk_167 0 4 (dk_at dksX6_opens_0 11 rfl rfl)
theorem dX6_opens_14 : decode cX6_opens 14 = .ok (.iconst 0, 1) := dk_3 (dk_at dksX6_opens_0 14 rfl rfl)
theorem dX6_opens_15 : decode cX6_opens 15 = .ok (.iconst 4, 1) := dk_7 (dk_at dksX6_opens_0 15 rfl rfl)
theorem dX6_opens_16 : decode cX6_opens 16 = .ok (.invokevirtual 126, 3) := dk_182 0 126 (dk_at dksX6_opens_0 16 rfl rfl)
theorem dX6_opens_19 : decode cX6_opens 19 = .ok (.aload_n 0, 1) := dk_42 (dk_at dksX6_opens_0 19 rfl rfl)
theorem dX6_opens_20 : decode cX6_opens 20 = .ok (.dup, 1) := dk_89 (dk_at dksX6_opens_0 20 rfl rfl)
theorem dX6_opens_21 : decode cX6_opens 21 = .ok (.getfield 270, 3) := dk_180 1 14 (dk_at dksX6_opens_0 21 rfl rfl)
theorem dX6_opens_24 : decode cX6_opens 24 = .ok (.iconst 1, 1) := dk_4 (dk_at dksX6_opens_1 0 rfl rfl)
theorem dX6_opens_25 : decode cX6_opens 25 = .ok (.iadd, 1) := dk_96 (dk_at dksX6_opens_1 1 rfl rfl)
theorem dX6_opens_26 : decode cX6_opens 26 = .ok (.putfield 270, 3) := dk_181 1 14 (dk_at dksX6_opens_1 2 rfl rfl)
theorem dX6_opens_29 : decode cX6_opens 29 = .ok (.return_, 1) := dk_177 (dk_at dksX6_opens_1 5 rfl rfl)
abbrev cX6_sign : ByteArray := prog_12_method_13_code
def yX6_sign : MethodName := ⟨RX6, "sign", "(I)V"⟩
def dkwX6_sign_0 : List UInt8 := [42, 42, 27, 182, 0, 123, 4, 182, 0, 126, 42, 182, 0, 130, 177]
abbrev dktX6_sign_0 : List UInt8 := dkwX6_sign_0 ++ []
theorem dksX6_sign_0 : cX6_sign.data.toList.drop 0 = dktX6_sign_0 := by decide +kernel
theorem dX6_sign_0 : decode cX6_sign 0 = .ok (.aload_n 0, 1) := dk_42 (dk_at dksX6_sign_0 0 rfl rfl)
theorem dX6_sign_1 : decode cX6_sign 1 = .ok (.aload_n 0, 1) := dk_42 (dk_at dksX6_sign_0 1 rfl rfl)
theorem dX6_sign_2 : decode cX6_sign 2 = .ok (.iload_n 1, 1) := dk_27 (dk_at dksX6_sign_0 2 rfl rfl)
theorem dX6_sign_3 : decode cX6_sign 3 = .ok (.invokevirtual 123, 3) := dk_182 0 123 (dk_at dksX6_sign_0 3 rfl rfl)
theorem dX6_sign_6 : decode cX6_sign 6 = .ok (.iconst 1, 1) := dk_4 (dk_at dksX6_sign_0 6 rfl rfl)
theorem dX6_sign_7 : decode cX6_sign 7 = .ok (.invokevirtual 126, 3) := dk_182 0 126 (dk_at dksX6_sign_0 7 rfl rfl)
theorem dX6_sign_10 : decode cX6_sign 10 = .ok (.aload_n 0, 1) := dk_42 (dk_at dksX6_sign_0 10 rfl rfl)
theorem dX6_sign_11 : decode cX6_sign 11 = .ok (.invokevirtual 130, 3) := dk_182 0 130 (dk_at dksX6_sign_0 11 rfl rfl)
theorem dX6_sign_14 : decode cX6_sign 14 = .ok (.return_, 1) := dk_177 (dk_at dksX6_sign_0 14 rfl rfl)
abbrev cX6_leaf : ByteArray := prog_12_method_28_code
def yX6_leaf : MethodName := ⟨RX6, "leaf", "()LCaseGrouper$Leaf;"⟩
def dkwX6_leaf_7 : List UInt8 := [180, 1, 9, 180, 1, 60, 25, 4, 182, 0, 160, 87, 25, 4, 176]
abbrev dktX6_leaf_7 : List UInt8 := dkwX6_leaf_7 ++ []
def dkwX6_leaf_6 : List UInt8 := [155, 0, 7, 28, 167, 0, 12, 42, 180, 0, 18, 43, 29, 182, 1, 55, 183, 1, 59, 58, 4, 42]
abbrev dktX6_leaf_6 : List UInt8 := dkwX6_leaf_6 ++ dktX6_leaf_7
def dkwX6_leaf_5 : List UInt8 := [167, 0, 4, 3, 6, 182, 0, 126, 42, 4, 17, 3, 231, 182, 0, 252, 62, 187, 1, 53, 89, 28]
abbrev dktX6_leaf_5 : List UInt8 := dkwX6_leaf_5 ++ dktX6_leaf_6
def dkwX6_leaf_4 : List UInt8 := [184, 0, 33, 153, 0, 29, 42, 45, 182, 0, 137, 42, 180, 0, 18, 180, 1, 49, 28, 53, 160, 0, 7, 4]
abbrev dktX6_leaf_4 : List UInt8 := dkwX6_leaf_4 ++ dktX6_leaf_5
def dkwX6_leaf_3 : List UInt8 := [58, 4, 25, 4, 193, 0, 96, 153, 0, 49, 25, 4, 192, 0, 96, 78, 45, 182, 0, 137, 4, 17, 3, 231]
abbrev dktX6_leaf_3 : List UInt8 := dkwX6_leaf_3 ++ dktX6_leaf_4
def dkwX6_leaf_2 : List UInt8 := [162, 0, 7, 4, 167, 0, 4, 3, 7, 182, 0, 126, 42, 182, 0, 130, 28, 155, 0, 63, 42, 180, 0, 57]
abbrev dktX6_leaf_2 : List UInt8 := dkwX6_leaf_2 ++ dktX6_leaf_3
def dkwX6_leaf_1 : List UInt8 := [180, 0, 18, 43, 182, 1, 42, 61, 42, 28, 156, 0, 15, 42, 180, 0, 18, 180, 1, 46, 16, 16]
abbrev dktX6_leaf_1 : List UInt8 := dkwX6_leaf_1 ++ dktX6_leaf_2
def dkwX6_leaf_0 : List UInt8 := [42, 180, 0, 18, 89, 180, 1, 24, 4, 96, 181, 1, 24, 42, 182, 0, 130, 42, 182, 0, 229, 76, 42]
abbrev dktX6_leaf_0 : List UInt8 := dkwX6_leaf_0 ++ dktX6_leaf_1
theorem dksX6_leaf_0 : cX6_leaf.data.toList.drop 0 = dktX6_leaf_0 := by decide +kernel
theorem dksX6_leaf_1 : cX6_leaf.data.toList.drop 23 = dktX6_leaf_1 := dk_seg dksX6_leaf_0 23 rfl rfl
theorem dksX6_leaf_2 : cX6_leaf.data.toList.drop 45 = dktX6_leaf_2 := dk_seg dksX6_leaf_1 22 rfl rfl
theorem dksX6_leaf_3 : cX6_leaf.data.toList.drop 69 = dktX6_leaf_3 := dk_seg dksX6_leaf_2 24 rfl rfl
theorem dksX6_leaf_4 : cX6_leaf.data.toList.drop 93 = dktX6_leaf_4 := dk_seg dksX6_leaf_3 24 rfl rfl
theorem dksX6_leaf_5 : cX6_leaf.data.toList.drop 117 = dktX6_leaf_5 := dk_seg dksX6_leaf_4 24 rfl rfl
theorem dksX6_leaf_6 : cX6_leaf.data.toList.drop 139 = dktX6_leaf_6 := dk_seg dksX6_leaf_5 22 rfl rfl
theorem dksX6_leaf_7 : cX6_leaf.data.toList.drop 161 = dktX6_leaf_7 := dk_seg dksX6_leaf_6 22 rfl rfl
theorem dX6_leaf_0 : decode cX6_leaf 0 = .ok (.aload_n 0, 1) := dk_42 (dk_at dksX6_leaf_0 0 rfl rfl)
theorem dX6_leaf_1 : decode cX6_leaf 1 = .ok (.getfield 18, 3) := dk_180 0 18 (dk_at dksX6_leaf_0 1 rfl rfl)
theorem dX6_leaf_4 : decode cX6_leaf 4 = .ok (.dup, 1) := dk_89 (dk_at dksX6_leaf_0 4 rfl rfl)
theorem dX6_leaf_5 : decode cX6_leaf 5 = .ok (.getfield 280, 3) := dk_180 1 24 (dk_at dksX6_leaf_0 5 rfl rfl)
theorem dX6_leaf_8 : decode cX6_leaf 8 = .ok (.iconst 1, 1) := dk_4 (dk_at dksX6_leaf_0 8 rfl rfl)
theorem dX6_leaf_9 : decode cX6_leaf 9 = .ok (.iadd, 1) := dk_96 (dk_at dksX6_leaf_0 9 rfl rfl)
theorem dX6_leaf_10 : decode cX6_leaf 10 = .ok (.putfield 280, 3) := dk_181 1 24 (dk_at dksX6_leaf_0 10 rfl rfl)
theorem dX6_leaf_13 : decode cX6_leaf 13 = .ok (.aload_n 0, 1) := dk_42 (dk_at dksX6_leaf_0 13 rfl rfl)
theorem dX6_leaf_14 : decode cX6_leaf 14 = .ok (.invokevirtual 130, 3) := dk_182 0 130 (dk_at dksX6_leaf_0 14 rfl rfl)
theorem dX6_leaf_17 : decode cX6_leaf 17 = .ok (.aload_n 0, 1) := dk_42 (dk_at dksX6_leaf_0 17 rfl rfl)
theorem dX6_leaf_18 : decode cX6_leaf 18 = .ok (.invokevirtual 229, 3) := dk_182 0 229 (dk_at dksX6_leaf_0 18 rfl rfl)
theorem dX6_leaf_21 : decode cX6_leaf 21 = .ok (.astore_n 1, 1) := dk_76 (dk_at dksX6_leaf_0 21 rfl rfl)
theorem dX6_leaf_22 : decode cX6_leaf 22 = .ok (.aload_n 0, 1) := dk_42 (dk_at dksX6_leaf_0 22 rfl rfl)
theorem dX6_leaf_23 : decode cX6_leaf 23 = .ok (.getfield 18, 3) := dk_180 0 18 (dk_at dksX6_leaf_1 0 rfl rfl)
theorem dX6_leaf_26 : decode cX6_leaf 26 = .ok (.aload_n 1, 1) := dk_43 (dk_at dksX6_leaf_1 3 rfl rfl)
theorem dX6_leaf_27 : decode cX6_leaf 27 = .ok (.invokevirtual 298, 3) := dk_182 1 42 (dk_at dksX6_leaf_1 4 rfl rfl)
theorem dX6_leaf_30 : decode cX6_leaf 30 = .ok (.istore_n 2, 1) := dk_61 (dk_at dksX6_leaf_1 7 rfl rfl)
theorem dX6_leaf_31 : decode cX6_leaf 31 = .ok (.aload_n 0, 1) := dk_42 (dk_at dksX6_leaf_1 8 rfl rfl)
theorem dX6_leaf_32 : decode cX6_leaf 32 = .ok (.iload_n 2, 1) := dk_28 (dk_at dksX6_leaf_1 9 rfl rfl)
theorem dX6_leaf_33 : decode cX6_leaf 33 = .ok (.ifCond .ge 15, 3) := dk_156 0 15 (dk_at dksX6_leaf_1 10 rfl rfl)
theorem dX6_leaf_36 : decode cX6_leaf 36 = .ok (.aload_n 0, 1) := dk_42 (dk_at dksX6_leaf_1 13 rfl rfl)
theorem dX6_leaf_37 : decode cX6_leaf 37 = .ok (.getfield 18, 3) := dk_180 0 18 (dk_at dksX6_leaf_1 14 rfl rfl)
theorem dX6_leaf_40 : decode cX6_leaf 40 = .ok (.getfield 302, 3) := dk_180 1 46 (dk_at dksX6_leaf_1 17 rfl rfl)
theorem dX6_leaf_43 : decode cX6_leaf 43 = .ok (.bipush 16, 2) := dk_16 16 (dk_at dksX6_leaf_1 20 rfl rfl)
theorem dX6_leaf_45 : decode cX6_leaf 45 = .ok (.if_icmp .ge 7, 3) := dk_162 0 7 (dk_at dksX6_leaf_2 0 rfl rfl)
theorem dX6_leaf_48 : decode cX6_leaf 48 = .ok (.iconst 1, 1) := dk_4 (dk_at dksX6_leaf_2 3 rfl rfl)
theorem dX6_leaf_49 : decode cX6_leaf 49 = .ok (.goto 4, 3) := dk_167 0 4 (dk_at dksX6_leaf_2 4 rfl rfl)
theorem dX6_leaf_52 : decode cX6_leaf 52 = .ok (.iconst 0, 1) := dk_3 (dk_at dksX6_leaf_2 7 rfl rfl)
theorem dX6_leaf_53 : decode cX6_leaf 53 = .ok (.iconst 4, 1) := dk_7 (dk_at dksX6_leaf_2 8 rfl rfl)
theorem dX6_leaf_54 : decode cX6_leaf 54 = .ok (.invokevirtual 126, 3) := dk_182 0 126 (dk_at dksX6_leaf_2 9 rfl rfl)
theorem dX6_leaf_57 : decode cX6_leaf 57 = .ok (.aload_n 0, 1) := dk_42 (dk_at dksX6_leaf_2 12 rfl rfl)
theorem dX6_leaf_58 : decode cX6_leaf 58 = .ok (.invokevirtual 130, 3) := dk_182 0 130 (dk_at dksX6_leaf_2 13 rfl rfl)
theorem dX6_leaf_61 : decode cX6_leaf 61 = .ok (.iload_n 2, 1) := dk_28 (dk_at dksX6_leaf_2 16 rfl rfl)
theorem dX6_leaf_62 : decode cX6_leaf 62 = .ok (.ifCond .lt 63, 3) := dk_155 0 63 (dk_at dksX6_leaf_2 17 rfl rfl)
theorem dX6_leaf_65 : decode cX6_leaf 65 = .ok (.aload_n 0, 1) := dk_42 (dk_at dksX6_leaf_2 20 rfl rfl)
theorem dX6_leaf_66 : decode cX6_leaf 66 = .ok (.getfield 57, 3) := dk_180 0 57 (dk_at dksX6_leaf_2 21 rfl rfl)
theorem dX6_leaf_69 : decode cX6_leaf 69 = .ok (.astore 4, 2) := dk_58 4 (dk_at dksX6_leaf_3 0 rfl rfl)
theorem dX6_leaf_71 : decode cX6_leaf 71 = .ok (.aload 4, 2) := dk_25 4 (dk_at dksX6_leaf_3 2 rfl rfl)
theorem dX6_leaf_73 : decode cX6_leaf 73 = .ok (.instanceof 96, 3) := dk_193 0 96 (dk_at dksX6_leaf_3 4 rfl rfl)
theorem dX6_leaf_76 : decode cX6_leaf 76 = .ok (.ifCond .eq 49, 3) := dk_153 0 49 (dk_at dksX6_leaf_3 7 rfl rfl)
theorem dX6_leaf_79 : decode cX6_leaf 79 = .ok (.aload 4, 2) := dk_25 4 (dk_at dksX6_leaf_3 10 rfl rfl)
theorem dX6_leaf_81 : decode cX6_leaf 81 = .ok (.checkcast 96, 3) := dk_192 0 96 (dk_at dksX6_leaf_3 12 rfl rfl)
theorem dX6_leaf_84 : decode cX6_leaf 84 = .ok (.astore_n 3, 1) := dk_78 (dk_at dksX6_leaf_3 15 rfl rfl)
theorem dX6_leaf_85 : decode cX6_leaf 85 = .ok (.aload_n 3, 1) := dk_45 (dk_at dksX6_leaf_3 16 rfl rfl)
theorem dX6_leaf_86 : decode cX6_leaf 86 = .ok (.invokevirtual 137, 3) := dk_182 0 137 (dk_at dksX6_leaf_3 17 rfl rfl)
theorem dX6_leaf_89 : decode cX6_leaf 89 = .ok (.iconst 1, 1) := dk_4 (dk_at dksX6_leaf_3 20 rfl rfl)
theorem dX6_leaf_90 : decode cX6_leaf 90 = .ok (.sipush 999, 3) := dk_17 3 231 (dk_at dksX6_leaf_3 21 rfl rfl)
theorem dX6_leaf_93 : decode cX6_leaf 93 = .ok (.invokestatic 33, 3) := dk_184 0 33 (dk_at dksX6_leaf_4 0 rfl rfl)
theorem dX6_leaf_96 : decode cX6_leaf 96 = .ok (.ifCond .eq 29, 3) := dk_153 0 29 (dk_at dksX6_leaf_4 3 rfl rfl)
theorem dX6_leaf_99 : decode cX6_leaf 99 = .ok (.aload_n 0, 1) := dk_42 (dk_at dksX6_leaf_4 6 rfl rfl)
theorem dX6_leaf_100 : decode cX6_leaf 100 = .ok (.aload_n 3, 1) := dk_45 (dk_at dksX6_leaf_4 7 rfl rfl)
theorem dX6_leaf_101 : decode cX6_leaf 101 = .ok (.invokevirtual 137, 3) := dk_182 0 137 (dk_at dksX6_leaf_4 8 rfl rfl)
theorem dX6_leaf_104 : decode cX6_leaf 104 = .ok (.aload_n 0, 1) := dk_42 (dk_at dksX6_leaf_4 11 rfl rfl)
theorem dX6_leaf_105 : decode cX6_leaf 105 = .ok (.getfield 18, 3) := dk_180 0 18 (dk_at dksX6_leaf_4 12 rfl rfl)
theorem dX6_leaf_108 : decode cX6_leaf 108 = .ok (.getfield 305, 3) := dk_180 1 49 (dk_at dksX6_leaf_4 15 rfl rfl)
theorem dX6_leaf_111 : decode cX6_leaf 111 = .ok (.iload_n 2, 1) := dk_28 (dk_at dksX6_leaf_4 18 rfl rfl)
theorem dX6_leaf_112 : decode cX6_leaf 112 = .ok (.saload, 1) := dk_53 (dk_at dksX6_leaf_4 19 rfl rfl)
theorem dX6_leaf_113 : decode cX6_leaf 113 = .ok (.if_icmp .ne 7, 3) := dk_160 0 7 (dk_at dksX6_leaf_4 20 rfl rfl)
theorem dX6_leaf_116 : decode cX6_leaf 116 = .ok (.iconst 1, 1) := dk_4 (dk_at dksX6_leaf_4 23 rfl rfl)
theorem dX6_leaf_117 : decode cX6_leaf 117 = .ok (.goto 4, 3) := dk_167 0 4 (dk_at dksX6_leaf_5 0 rfl rfl)
theorem dX6_leaf_120 : decode cX6_leaf 120 = .ok (.iconst 0, 1) := dk_3 (dk_at dksX6_leaf_5 3 rfl rfl)
theorem dX6_leaf_121 : decode cX6_leaf 121 = .ok (.iconst 3, 1) := dk_6 (dk_at dksX6_leaf_5 4 rfl rfl)
theorem dX6_leaf_122 : decode cX6_leaf 122 = .ok (.invokevirtual 126, 3) := dk_182 0 126 (dk_at dksX6_leaf_5 5 rfl rfl)
theorem dX6_leaf_125 : decode cX6_leaf 125 = .ok (.aload_n 0, 1) := dk_42 (dk_at dksX6_leaf_5 8 rfl rfl)
theorem dX6_leaf_126 : decode cX6_leaf 126 = .ok (.iconst 1, 1) := dk_4 (dk_at dksX6_leaf_5 9 rfl rfl)
theorem dX6_leaf_127 : decode cX6_leaf 127 = .ok (.sipush 999, 3) := dk_17 3 231 (dk_at dksX6_leaf_5 10 rfl rfl)
theorem dX6_leaf_130 : decode cX6_leaf 130 = .ok (.invokevirtual 252, 3) := dk_182 0 252 (dk_at dksX6_leaf_5 13 rfl rfl)
theorem dX6_leaf_133 : decode cX6_leaf 133 = .ok (.istore_n 3, 1) := dk_62 (dk_at dksX6_leaf_5 16 rfl rfl)
theorem dX6_leaf_134 : decode cX6_leaf 134 = .ok (.new 309, 3) := dk_187 1 53 (dk_at dksX6_leaf_5 17 rfl rfl)
theorem dX6_leaf_137 : decode cX6_leaf 137 = .ok (.dup, 1) := dk_89 (dk_at dksX6_leaf_5 20 rfl rfl)
theorem dX6_leaf_138 : decode cX6_leaf 138 = .ok (.iload_n 2, 1) := dk_28 (dk_at dksX6_leaf_5 21 rfl rfl)
theorem dX6_leaf_139 : decode cX6_leaf 139 = .ok (.ifCond .lt 7, 3) := dk_155 0 7 (dk_at dksX6_leaf_6 0 rfl rfl)
theorem dX6_leaf_142 : decode cX6_leaf 142 = .ok (.iload_n 2, 1) := dk_28 (dk_at dksX6_leaf_6 3 rfl rfl)
theorem dX6_leaf_143 : decode cX6_leaf 143 = .ok (.goto 12, 3) := dk_167 0 12 (dk_at dksX6_leaf_6 4 rfl rfl)
theorem dX6_leaf_146 : decode cX6_leaf 146 = .ok (.aload_n 0, 1) := dk_42 (dk_at dksX6_leaf_6 7 rfl rfl)
theorem dX6_leaf_147 : decode cX6_leaf 147 = .ok (.getfield 18, 3) := dk_180 0 18 (dk_at dksX6_leaf_6 8 rfl rfl)
theorem dX6_leaf_150 : decode cX6_leaf 150 = .ok (.aload_n 1, 1) := dk_43 (dk_at dksX6_leaf_6 11 rfl rfl)
theorem dX6_leaf_151 : decode cX6_leaf 151 = .ok (.iload_n 3, 1) := dk_29 (dk_at dksX6_leaf_6 12 rfl rfl)
theorem dX6_leaf_152 : decode cX6_leaf 152 = .ok (.invokevirtual 311, 3) := dk_182 1 55 (dk_at dksX6_leaf_6 13 rfl rfl)
theorem dX6_leaf_155 : decode cX6_leaf 155 = .ok (.invokespecial 315, 3) := dk_183 1 59 (dk_at dksX6_leaf_6 16 rfl rfl)
theorem dX6_leaf_158 : decode cX6_leaf 158 = .ok (.astore 4, 2) := dk_58 4 (dk_at dksX6_leaf_6 19 rfl rfl)
theorem dX6_leaf_160 : decode cX6_leaf 160 = .ok (.aload_n 0, 1) := dk_42 (dk_at dksX6_leaf_6 21 rfl rfl)
theorem dX6_leaf_161 : decode cX6_leaf 161 = .ok (.getfield 265, 3) := dk_180 1 9 (dk_at dksX6_leaf_7 0 rfl rfl)
theorem dX6_leaf_164 : decode cX6_leaf 164 = .ok (.getfield 316, 3) := dk_180 1 60 (dk_at dksX6_leaf_7 3 rfl rfl)
theorem dX6_leaf_167 : decode cX6_leaf 167 = .ok (.aload 4, 2) := dk_25 4 (dk_at dksX6_leaf_7 6 rfl rfl)
theorem dX6_leaf_169 : decode cX6_leaf 169 = .ok (.invokevirtual 160, 3) := dk_182 0 160 (dk_at dksX6_leaf_7 8 rfl rfl)
theorem dX6_leaf_172 : decode cX6_leaf 172 = .ok (.pop, 1) := dk_87 (dk_at dksX6_leaf_7 11 rfl rfl)
theorem dX6_leaf_173 : decode cX6_leaf 173 = .ok (.aload 4, 2) := dk_25 4 (dk_at dksX6_leaf_7 12 rfl rfl)
theorem dX6_leaf_175 : decode cX6_leaf 175 = .ok (.areturn, 1) := dk_176 (dk_at dksX6_leaf_7 14 rfl rfl)
abbrev cX6_cond : ByteArray := prog_12_method_29_code
def yX6_cond : MethodName := ⟨RX6, "cond", "()Ljava/lang/Object;"⟩
def dkwX6_cond_0 : List UInt8 := [42, 18, 191, 182, 1, 63, 176]
abbrev dktX6_cond_0 : List UInt8 := dkwX6_cond_0 ++ []
theorem dksX6_cond_0 : cX6_cond.data.toList.drop 0 = dktX6_cond_0 := by decide +kernel
theorem dX6_cond_0 : decode cX6_cond 0 = .ok (.aload_n 0, 1) := dk_42 (dk_at dksX6_cond_0 0 rfl rfl)
theorem dX6_cond_1 : decode cX6_cond 1 = .ok (.ldc 191, 2) := dk_18 191 (dk_at dksX6_cond_0 1 rfl rfl)
theorem dX6_cond_3 : decode cX6_cond 3 = .ok (.invokevirtual 319, 3) := dk_182 1 63 (dk_at dksX6_cond_0 3 rfl rfl)
theorem dX6_cond_6 : decode cX6_cond 6 = .ok (.areturn, 1) := dk_176 (dk_at dksX6_cond_0 6 rfl rfl)
abbrev cX6_joined : ByteArray := prog_12_method_30_code
def yX6_joined : MethodName := ⟨RX6, "joined", "(Ljava/lang/String;)Ljava/lang/Object;"⟩
def dkwX6_joined_3 : List UInt8 := [182, 1, 63, 167, 0, 7, 42, 182, 1, 67, 182, 0, 160, 87, 167, 255, 218, 25, 4, 176]
abbrev dktX6_joined_3 : List UInt8 := dkwX6_joined_3 ++ []
def dkwX6_joined_2 : List UInt8 := [182, 0, 133, 153, 0, 36, 42, 182, 0, 130, 25, 4, 180, 1, 75, 28, 153, 0, 12, 42, 18, 193]
abbrev dktX6_joined_2 : List UInt8 := dkwX6_joined_2 ++ dktX6_joined_3
def dkwX6_joined_1 : List UInt8 := [78, 42, 43, 182, 0, 133, 154, 0, 5, 45, 176, 187, 1, 70, 89, 43, 45, 183, 1, 72, 58, 4, 42, 43]
abbrev dktX6_joined_1 : List UInt8 := dkwX6_joined_1 ++ dktX6_joined_2
def dkwX6_joined_0 : List UInt8 := [43, 18, 191, 182, 0, 115, 61, 28, 153, 0, 12, 42, 18, 193, 182, 1, 63, 167, 0, 7, 42, 182, 1, 67]
abbrev dktX6_joined_0 : List UInt8 := dkwX6_joined_0 ++ dktX6_joined_1
theorem dksX6_joined_0 : cX6_joined.data.toList.drop 0 = dktX6_joined_0 := by decide +kernel
theorem dksX6_joined_1 : cX6_joined.data.toList.drop 24 = dktX6_joined_1 := dk_seg dksX6_joined_0 24 rfl rfl
theorem dksX6_joined_2 : cX6_joined.data.toList.drop 48 = dktX6_joined_2 := dk_seg dksX6_joined_1 24 rfl rfl
theorem dksX6_joined_3 : cX6_joined.data.toList.drop 70 = dktX6_joined_3 := dk_seg dksX6_joined_2 22 rfl rfl
theorem dX6_joined_0 : decode cX6_joined 0 = .ok (.aload_n 1, 1) := dk_43 (dk_at dksX6_joined_0 0 rfl rfl)
theorem dX6_joined_1 : decode cX6_joined 1 = .ok (.ldc 191, 2) := dk_18 191 (dk_at dksX6_joined_0 1 rfl rfl)
theorem dX6_joined_3 : decode cX6_joined 3 = .ok (.invokevirtual 115, 3) := dk_182 0 115 (dk_at dksX6_joined_0 3 rfl rfl)
theorem dX6_joined_6 : decode cX6_joined 6 = .ok (.istore_n 2, 1) := dk_61 (dk_at dksX6_joined_0 6 rfl rfl)
theorem dX6_joined_7 : decode cX6_joined 7 = .ok (.iload_n 2, 1) := dk_28 (dk_at dksX6_joined_0 7 rfl rfl)
theorem dX6_joined_8 : decode cX6_joined 8 = .ok (.ifCond .eq 12, 3) := dk_153 0 12 (dk_at dksX6_joined_0 8 rfl rfl)
theorem dX6_joined_11 : decode cX6_joined 11 = .ok (.aload_n 0, 1) := dk_42 (dk_at dksX6_joined_0 11 rfl rfl)
theorem dX6_joined_12 : decode cX6_joined 12 = .ok (.ldc 193, 2) := dk_18 193 (dk_at dksX6_joined_0 12 rfl rfl)
theorem dX6_joined_14 : decode cX6_joined 14 = .ok (.invokevirtual 319, 3) := dk_182 1 63 (dk_at dksX6_joined_0 14 rfl rfl)
theorem dX6_joined_17 : decode cX6_joined 17 = .ok (.goto 7, 3) := dk_167 0 7 (dk_at dksX6_joined_0 17 rfl rfl)
theorem dX6_joined_20 : decode cX6_joined 20 = .ok (.aload_n 0, 1) := dk_42 (dk_at dksX6_joined_0 20 rfl rfl)
theorem dX6_joined_21 : decode cX6_joined 21 = .ok (.invokevirtual 323, 3) := dk_182 1 67 (dk_at dksX6_joined_0 21 rfl rfl)
theorem dX6_joined_24 : decode cX6_joined 24 = .ok (.astore_n 3, 1) := dk_78 (dk_at dksX6_joined_1 0 rfl rfl)
theorem dX6_joined_25 : decode cX6_joined 25 = .ok (.aload_n 0, 1) := dk_42 (dk_at dksX6_joined_1 1 rfl rfl)
theorem dX6_joined_26 : decode cX6_joined 26 = .ok (.aload_n 1, 1) := dk_43 (dk_at dksX6_joined_1 2 rfl rfl)
theorem dX6_joined_27 : decode cX6_joined 27 = .ok (.invokevirtual 133, 3) := dk_182 0 133 (dk_at dksX6_joined_1 3 rfl rfl)
theorem dX6_joined_30 : decode cX6_joined 30 = .ok (.ifCond .ne 5, 3) := dk_154 0 5 (dk_at dksX6_joined_1 6 rfl rfl)
theorem dX6_joined_33 : decode cX6_joined 33 = .ok (.aload_n 3, 1) := dk_45 (dk_at dksX6_joined_1 9 rfl rfl)
theorem dX6_joined_34 : decode cX6_joined 34 = .ok (.areturn, 1) := dk_176 (dk_at dksX6_joined_1 10 rfl rfl)
theorem dX6_joined_35 : decode cX6_joined 35 = .ok (.new 326, 3) := dk_187 1 70 (dk_at dksX6_joined_1 11 rfl rfl)
theorem dX6_joined_38 : decode cX6_joined 38 = .ok (.dup, 1) := dk_89 (dk_at dksX6_joined_1 14 rfl rfl)
theorem dX6_joined_39 : decode cX6_joined 39 = .ok (.aload_n 1, 1) := dk_43 (dk_at dksX6_joined_1 15 rfl rfl)
theorem dX6_joined_40 : decode cX6_joined 40 = .ok (.aload_n 3, 1) := dk_45 (dk_at dksX6_joined_1 16 rfl rfl)
theorem dX6_joined_41 : decode cX6_joined 41 = .ok (.invokespecial 328, 3) := dk_183 1 72 (dk_at dksX6_joined_1 17 rfl rfl)
theorem dX6_joined_44 : decode cX6_joined 44 = .ok (.astore 4, 2) := dk_58 4 (dk_at dksX6_joined_1 20 rfl rfl)
theorem dX6_joined_46 : decode cX6_joined 46 = .ok (.aload_n 0, 1) := dk_42 (dk_at dksX6_joined_1 22 rfl rfl)
theorem dX6_joined_47 : decode cX6_joined 47 = .ok (.aload_n 1, 1) := dk_43 (dk_at dksX6_joined_1 23 rfl rfl)
theorem dX6_joined_48 : decode cX6_joined 48 = .ok (.invokevirtual 133, 3) := dk_182 0 133 (dk_at dksX6_joined_2 0 rfl rfl)
theorem dX6_joined_51 : decode cX6_joined 51 = .ok (.ifCond .eq 36, 3) := dk_153 0 36 (dk_at dksX6_joined_2 3 rfl rfl)
theorem dX6_joined_54 : decode cX6_joined 54 = .ok (.aload_n 0, 1) := dk_42 (dk_at dksX6_joined_2 6 rfl rfl)
theorem dX6_joined_55 : decode cX6_joined 55 = .ok (.invokevirtual 130, 3) := dk_182 0 130 (dk_at dksX6_joined_2 7 rfl rfl)
theorem dX6_joined_58 : decode cX6_joined 58 = .ok (.aload 4, 2) := dk_25 4 (dk_at dksX6_joined_2 10 rfl rfl)
theorem dX6_joined_60 : decode cX6_joined 60 = .ok (.getfield 331, 3) := dk_180 1 75 (dk_at dksX6_joined_2 12 rfl rfl)
theorem dX6_joined_63 : decode cX6_joined 63 = .ok (.iload_n 2, 1) := dk_28 (dk_at dksX6_joined_2 15 rfl rfl)
theorem dX6_joined_64 : decode cX6_joined 64 = .ok (.ifCond .eq 12, 3) := dk_153 0 12 (dk_at dksX6_joined_2 16 rfl rfl)
theorem dX6_joined_67 : decode cX6_joined 67 = .ok (.aload_n 0, 1) := dk_42 (dk_at dksX6_joined_2 19 rfl rfl)
theorem dX6_joined_68 : decode cX6_joined 68 = .ok (.ldc 193, 2) := dk_18 193 (dk_at dksX6_joined_2 20 rfl rfl)
theorem dX6_joined_70 : decode cX6_joined 70 = .ok (.invokevirtual 319, 3) := dk_182 1 63 (dk_at dksX6_joined_3 0 rfl rfl)
theorem dX6_joined_73 : decode cX6_joined 73 = .ok (.goto 7, 3) := dk_167 0 7 (dk_at dksX6_joined_3 3 rfl rfl)
theorem dX6_joined_76 : decode cX6_joined 76 = .ok (.aload_n 0, 1) := dk_42 (dk_at dksX6_joined_3 6 rfl rfl)
theorem dX6_joined_77 : decode cX6_joined 77 = .ok (.invokevirtual 323, 3) := dk_182 1 67 (dk_at dksX6_joined_3 7 rfl rfl)
theorem dX6_joined_80 : decode cX6_joined 80 = .ok (.invokevirtual 160, 3) := dk_182 0 160 (dk_at dksX6_joined_3 10 rfl rfl)
theorem dX6_joined_83 : decode cX6_joined 83 = .ok (.pop, 1) := dk_87 (dk_at dksX6_joined_3 13 rfl rfl)
theorem dX6_joined_84 : decode cX6_joined 84 = .ok (.goto (-38), 3) := dk_167 255 218 (dk_at dksX6_joined_3 14 rfl rfl)
theorem dX6_joined_87 : decode cX6_joined 87 = .ok (.aload 4, 2) := dk_25 4 (dk_at dksX6_joined_3 17 rfl rfl)
theorem dX6_joined_89 : decode cX6_joined 89 = .ok (.areturn, 1) := dk_176 (dk_at dksX6_joined_3 19 rfl rfl)
abbrev cX6_one : ByteArray := prog_12_method_31_code
def yX6_one : MethodName := ⟨RX6, "one", "()Ljava/lang/Object;"⟩
def dkwX6_one_10 : List UInt8 := [42, 182, 1, 78, 176, 42, 43, 182, 1, 80, 176, 42, 43, 182, 1, 84, 176, 42, 4, 182, 0, 45, 191]
abbrev dktX6_one_10 : List UInt8 := dkwX6_one_10 ++ []
def dkwX6_one_9 : List UInt8 := [170, 0, 0, 0, 0, 0, 0, 65, 0, 0, 0, 0, 0, 0, 0, 7, 0, 0, 0, 48, 0, 0, 0, 53, 0, 0, 0, 53, 0, 0, 0, 53, 0, 0, 0, 59, 0, 0, 0, 59, 0, 0, 0, 59, 0, 0, 0, 59]
abbrev dktX6_one_9 : List UInt8 := dkwX6_one_9 ++ dktX6_one_10
def dkwX6_one_8 : List UInt8 := [62, 167, 0, 15, 44, 18, 209, 182, 0, 115, 153, 0, 6, 16, 7, 62, 29]
abbrev dktX6_one_8 : List UInt8 := dkwX6_one_8 ++ dktX6_one_9
def dkwX6_one_7 : List UInt8 := [18, 205, 182, 0, 115, 153, 0, 35, 8, 62, 167, 0, 30, 44, 18, 207, 182, 0, 115, 153, 0, 21, 16, 6]
abbrev dktX6_one_7 : List UInt8 := dkwX6_one_7 ++ dktX6_one_8
def dkwX6_one_6 : List UInt8 := [153, 0, 63, 6, 62, 167, 0, 58, 44, 18, 203, 182, 0, 115, 153, 0, 49, 7, 62, 167, 0, 44, 44]
abbrev dktX6_one_6 : List UInt8 := dkwX6_one_6 ++ dktX6_one_7
def dkwX6_one_5 : List UInt8 := [62, 167, 0, 86, 44, 18, 199, 182, 0, 115, 153, 0, 77, 5, 62, 167, 0, 72, 44, 18, 201, 182, 0, 115]
abbrev dktX6_one_5 : List UInt8 := dkwX6_one_5 ++ dktX6_one_6
def dkwX6_one_4 : List UInt8 := [44, 18, 195, 182, 0, 115, 153, 0, 105, 3, 62, 167, 0, 100, 44, 18, 197, 182, 0, 115, 153, 0, 91, 4]
abbrev dktX6_one_4 : List UInt8 := dkwX6_one_4 ++ dktX6_one_5
def dkwX6_one_3 : List UInt8 := [171, 0, 0, 0, 0, 0, 0, 187, 0, 0, 0, 8, 0, 1, 120, 255, 0, 0, 0, 132, 0, 1, 132, 127, 0, 0, 0, 118, 0, 1, 146, 154, 0, 0, 0, 90, 0, 1, 170, 211, 0, 0, 0, 76, 0, 1, 193, 85, 0, 0, 0, 175, 0, 46, 240, 87, 0, 0, 0, 146, 0, 51, 5, 185, 0, 0, 0, 104, 6, 33, 155, 132, 0, 0, 0, 160]
abbrev dktX6_one_3 : List UInt8 := dkwX6_one_3 ++ dktX6_one_4
def dkwX6_one_2 : List UInt8 := [193, 0, 113, 4, 182, 0, 126, 42, 180, 0, 57, 192, 0, 113, 76, 43, 77, 2, 62, 44, 182, 0, 170]
abbrev dktX6_one_2 : List UInt8 := dkwX6_one_2 ++ dktX6_one_3
def dkwX6_one_1 : List UInt8 := [16, 41, 182, 0, 222, 42, 89, 180, 1, 14, 4, 100, 181, 1, 14, 43, 176, 42, 42, 180, 0, 57]
abbrev dktX6_one_1 : List UInt8 := dkwX6_one_1 ++ dktX6_one_2
def dkwX6_one_0 : List UInt8 := [42, 16, 40, 182, 0, 123, 153, 0, 34, 42, 182, 1, 21, 42, 182, 0, 130, 42, 182, 1, 31, 76, 42]
abbrev dktX6_one_0 : List UInt8 := dkwX6_one_0 ++ dktX6_one_1
theorem dksX6_one_0 : cX6_one.data.toList.drop 0 = dktX6_one_0 := by decide +kernel
theorem dksX6_one_1 : cX6_one.data.toList.drop 23 = dktX6_one_1 := dk_seg dksX6_one_0 23 rfl rfl
theorem dksX6_one_2 : cX6_one.data.toList.drop 45 = dktX6_one_2 := dk_seg dksX6_one_1 22 rfl rfl
theorem dksX6_one_3 : cX6_one.data.toList.drop 68 = dktX6_one_3 := dk_seg dksX6_one_2 23 rfl rfl
theorem dksX6_one_4 : cX6_one.data.toList.drop 144 = dktX6_one_4 := dk_seg dksX6_one_3 76 rfl rfl
theorem dksX6_one_5 : cX6_one.data.toList.drop 168 = dktX6_one_5 := dk_seg dksX6_one_4 24 rfl rfl
theorem dksX6_one_6 : cX6_one.data.toList.drop 192 = dktX6_one_6 := dk_seg dksX6_one_5 24 rfl rfl
theorem dksX6_one_7 : cX6_one.data.toList.drop 215 = dktX6_one_7 := dk_seg dksX6_one_6 23 rfl rfl
theorem dksX6_one_8 : cX6_one.data.toList.drop 239 = dktX6_one_8 := dk_seg dksX6_one_7 24 rfl rfl
theorem dksX6_one_9 : cX6_one.data.toList.drop 256 = dktX6_one_9 := dk_seg dksX6_one_8 17 rfl rfl
theorem dksX6_one_10 : cX6_one.data.toList.drop 304 = dktX6_one_10 := dk_seg dksX6_one_9 48 rfl rfl
theorem dX6_one_0 : decode cX6_one 0 = .ok (.aload_n 0, 1) := dk_42 (dk_at dksX6_one_0 0 rfl rfl)
theorem dX6_one_1 : decode cX6_one 1 = .ok (.bipush 40, 2) := dk_16 40 (dk_at dksX6_one_0 1 rfl rfl)
theorem dX6_one_3 : decode cX6_one 3 = .ok (.invokevirtual 123, 3) := dk_182 0 123 (dk_at dksX6_one_0 3 rfl rfl)
theorem dX6_one_6 : decode cX6_one 6 = .ok (.ifCond .eq 34, 3) := dk_153 0 34 (dk_at dksX6_one_0 6 rfl rfl)
theorem dX6_one_9 : decode cX6_one 9 = .ok (.aload_n 0, 1) := dk_42 (dk_at dksX6_one_0 9 rfl rfl)
theorem dX6_one_10 : decode cX6_one 10 = .ok (.invokevirtual 277, 3) := dk_182 1 21 (dk_at dksX6_one_0 10 rfl rfl)
theorem dX6_one_13 : decode cX6_one 13 = .ok (.aload_n 0, 1) := dk_42 (dk_at dksX6_one_0 13 rfl rfl)
theorem dX6_one_14 : decode cX6_one 14 = .ok (.invokevirtual 130, 3) := dk_182 0 130 (dk_at dksX6_one_0 14 rfl rfl)
theorem dX6_one_17 : decode cX6_one 17 = .ok (.aload_n 0, 1) := dk_42 (dk_at dksX6_one_0 17 rfl rfl)
theorem dX6_one_18 : decode cX6_one 18 = .ok (.invokevirtual 287, 3) := dk_182 1 31 (dk_at dksX6_one_0 18 rfl rfl)
theorem dX6_one_21 : decode cX6_one 21 = .ok (.astore_n 1, 1) := dk_76 (dk_at dksX6_one_0 21 rfl rfl)
theorem dX6_one_22 : decode cX6_one 22 = .ok (.aload_n 0, 1) := dk_42 (dk_at dksX6_one_0 22 rfl rfl)
theorem dX6_one_23 : decode cX6_one 23 = .ok (.bipush 41, 2) := dk_16 41 (dk_at dksX6_one_1 0 rfl rfl)
theorem dX6_one_25 : decode cX6_one 25 = .ok (.invokevirtual 222, 3) := dk_182 0 222 (dk_at dksX6_one_1 2 rfl rfl)
theorem dX6_one_28 : decode cX6_one 28 = .ok (.aload_n 0, 1) := dk_42 (dk_at dksX6_one_1 5 rfl rfl)
theorem dX6_one_29 : decode cX6_one 29 = .ok (.dup, 1) := dk_89 (dk_at dksX6_one_1 6 rfl rfl)
theorem dX6_one_30 : decode cX6_one 30 = .ok (.getfield 270, 3) := dk_180 1 14 (dk_at dksX6_one_1 7 rfl rfl)
theorem dX6_one_33 : decode cX6_one 33 = .ok (.iconst 1, 1) := dk_4 (dk_at dksX6_one_1 10 rfl rfl)
theorem dX6_one_34 : decode cX6_one 34 = .ok (.isub, 1) := dk_100 (dk_at dksX6_one_1 11 rfl rfl)
theorem dX6_one_35 : decode cX6_one 35 = .ok (.putfield 270, 3) := dk_181 1 14 (dk_at dksX6_one_1 12 rfl rfl)
theorem dX6_one_38 : decode cX6_one 38 = .ok (.aload_n 1, 1) := dk_43 (dk_at dksX6_one_1 15 rfl rfl)
theorem dX6_one_39 : decode cX6_one 39 = .ok (.areturn, 1) := dk_176 (dk_at dksX6_one_1 16 rfl rfl)
theorem dX6_one_40 : decode cX6_one 40 = .ok (.aload_n 0, 1) := dk_42 (dk_at dksX6_one_1 17 rfl rfl)
theorem dX6_one_41 : decode cX6_one 41 = .ok (.aload_n 0, 1) := dk_42 (dk_at dksX6_one_1 18 rfl rfl)
theorem dX6_one_42 : decode cX6_one 42 = .ok (.getfield 57, 3) := dk_180 0 57 (dk_at dksX6_one_1 19 rfl rfl)
theorem dX6_one_45 : decode cX6_one 45 = .ok (.instanceof 113, 3) := dk_193 0 113 (dk_at dksX6_one_2 0 rfl rfl)
theorem dX6_one_48 : decode cX6_one 48 = .ok (.iconst 1, 1) := dk_4 (dk_at dksX6_one_2 3 rfl rfl)
theorem dX6_one_49 : decode cX6_one 49 = .ok (.invokevirtual 126, 3) := dk_182 0 126 (dk_at dksX6_one_2 4 rfl rfl)
theorem dX6_one_52 : decode cX6_one 52 = .ok (.aload_n 0, 1) := dk_42 (dk_at dksX6_one_2 7 rfl rfl)
theorem dX6_one_53 : decode cX6_one 53 = .ok (.getfield 57, 3) := dk_180 0 57 (dk_at dksX6_one_2 8 rfl rfl)
theorem dX6_one_56 : decode cX6_one 56 = .ok (.checkcast 113, 3) := dk_192 0 113 (dk_at dksX6_one_2 11 rfl rfl)
theorem dX6_one_59 : decode cX6_one 59 = .ok (.astore_n 1, 1) := dk_76 (dk_at dksX6_one_2 14 rfl rfl)
theorem dX6_one_60 : decode cX6_one 60 = .ok (.aload_n 1, 1) := dk_43 (dk_at dksX6_one_2 15 rfl rfl)
theorem dX6_one_61 : decode cX6_one 61 = .ok (.astore_n 2, 1) := dk_77 (dk_at dksX6_one_2 16 rfl rfl)
theorem dX6_one_62 : decode cX6_one 62 = .ok (.iconst (-1), 1) := dk_2 (dk_at dksX6_one_2 17 rfl rfl)
theorem dX6_one_63 : decode cX6_one 63 = .ok (.istore_n 3, 1) := dk_62 (dk_at dksX6_one_2 18 rfl rfl)
theorem dX6_one_64 : decode cX6_one 64 = .ok (.aload_n 2, 1) := dk_44 (dk_at dksX6_one_2 19 rfl rfl)
theorem dX6_one_65 : decode cX6_one 65 = .ok (.invokevirtual 170, 3) := dk_182 0 170 (dk_at dksX6_one_2 20 rfl rfl)
theorem dX6_one_68 : decode cX6_one 68 = .ok (.lookupswitch 187 #[(96511, 132), (99455, 118), (103066, 90), (109267, 76), (115029, 175), (3076183, 146), (3343801, 104), (102865796, 160)], 76) := by decide +kernel
theorem dX6_one_144 : decode cX6_one 144 = .ok (.aload_n 2, 1) := dk_44 (dk_at dksX6_one_4 0 rfl rfl)
theorem dX6_one_145 : decode cX6_one 145 = .ok (.ldc 195, 2) := dk_18 195 (dk_at dksX6_one_4 1 rfl rfl)
theorem dX6_one_147 : decode cX6_one 147 = .ok (.invokevirtual 115, 3) := dk_182 0 115 (dk_at dksX6_one_4 3 rfl rfl)
theorem dX6_one_150 : decode cX6_one 150 = .ok (.ifCond .eq 105, 3) := dk_153 0 105 (dk_at dksX6_one_4 6 rfl rfl)
theorem dX6_one_153 : decode cX6_one 153 = .ok (.iconst 0, 1) := dk_3 (dk_at dksX6_one_4 9 rfl rfl)
theorem dX6_one_154 : decode cX6_one 154 = .ok (.istore_n 3, 1) := dk_62 (dk_at dksX6_one_4 10 rfl rfl)
theorem dX6_one_155 : decode cX6_one 155 = .ok (.goto 100, 3) := dk_167 0 100 (dk_at dksX6_one_4 11 rfl rfl)
theorem dX6_one_158 : decode cX6_one 158 = .ok (.aload_n 2, 1) := dk_44 (dk_at dksX6_one_4 14 rfl rfl)
theorem dX6_one_159 : decode cX6_one 159 = .ok (.ldc 197, 2) := dk_18 197 (dk_at dksX6_one_4 15 rfl rfl)
theorem dX6_one_161 : decode cX6_one 161 = .ok (.invokevirtual 115, 3) := dk_182 0 115 (dk_at dksX6_one_4 17 rfl rfl)
theorem dX6_one_164 : decode cX6_one 164 = .ok (.ifCond .eq 91, 3) := dk_153 0 91 (dk_at dksX6_one_4 20 rfl rfl)
theorem dX6_one_167 : decode cX6_one 167 = .ok (.iconst 1, 1) := dk_4 (dk_at dksX6_one_4 23 rfl rfl)
theorem dX6_one_168 : decode cX6_one 168 = .ok (.istore_n 3, 1) := dk_62 (dk_at dksX6_one_5 0 rfl rfl)
theorem dX6_one_169 : decode cX6_one 169 = .ok (.goto 86, 3) := dk_167 0 86 (dk_at dksX6_one_5 1 rfl rfl)
theorem dX6_one_172 : decode cX6_one 172 = .ok (.aload_n 2, 1) := dk_44 (dk_at dksX6_one_5 4 rfl rfl)
theorem dX6_one_173 : decode cX6_one 173 = .ok (.ldc 199, 2) := dk_18 199 (dk_at dksX6_one_5 5 rfl rfl)
theorem dX6_one_175 : decode cX6_one 175 = .ok (.invokevirtual 115, 3) := dk_182 0 115 (dk_at dksX6_one_5 7 rfl rfl)
theorem dX6_one_178 : decode cX6_one 178 = .ok (.ifCond .eq 77, 3) := dk_153 0 77 (dk_at dksX6_one_5 10 rfl rfl)
theorem dX6_one_181 : decode cX6_one 181 = .ok (.iconst 2, 1) := dk_5 (dk_at dksX6_one_5 13 rfl rfl)
theorem dX6_one_182 : decode cX6_one 182 = .ok (.istore_n 3, 1) := dk_62 (dk_at dksX6_one_5 14 rfl rfl)
theorem dX6_one_183 : decode cX6_one 183 = .ok (.goto 72, 3) := dk_167 0 72 (dk_at dksX6_one_5 15 rfl rfl)
theorem dX6_one_186 : decode cX6_one 186 = .ok (.aload_n 2, 1) := dk_44 (dk_at dksX6_one_5 18 rfl rfl)
theorem dX6_one_187 : decode cX6_one 187 = .ok (.ldc 201, 2) := dk_18 201 (dk_at dksX6_one_5 19 rfl rfl)
theorem dX6_one_189 : decode cX6_one 189 = .ok (.invokevirtual 115, 3) := dk_182 0 115 (dk_at dksX6_one_5 21 rfl rfl)
theorem dX6_one_192 : decode cX6_one 192 = .ok (.ifCond .eq 63, 3) := dk_153 0 63 (dk_at dksX6_one_6 0 rfl rfl)
theorem dX6_one_195 : decode cX6_one 195 = .ok (.iconst 3, 1) := dk_6 (dk_at dksX6_one_6 3 rfl rfl)
theorem dX6_one_196 : decode cX6_one 196 = .ok (.istore_n 3, 1) := dk_62 (dk_at dksX6_one_6 4 rfl rfl)
theorem dX6_one_197 : decode cX6_one 197 = .ok (.goto 58, 3) := dk_167 0 58 (dk_at dksX6_one_6 5 rfl rfl)
theorem dX6_one_200 : decode cX6_one 200 = .ok (.aload_n 2, 1) := dk_44 (dk_at dksX6_one_6 8 rfl rfl)
theorem dX6_one_201 : decode cX6_one 201 = .ok (.ldc 203, 2) := dk_18 203 (dk_at dksX6_one_6 9 rfl rfl)
theorem dX6_one_203 : decode cX6_one 203 = .ok (.invokevirtual 115, 3) := dk_182 0 115 (dk_at dksX6_one_6 11 rfl rfl)
theorem dX6_one_206 : decode cX6_one 206 = .ok (.ifCond .eq 49, 3) := dk_153 0 49 (dk_at dksX6_one_6 14 rfl rfl)
theorem dX6_one_209 : decode cX6_one 209 = .ok (.iconst 4, 1) := dk_7 (dk_at dksX6_one_6 17 rfl rfl)
theorem dX6_one_210 : decode cX6_one 210 = .ok (.istore_n 3, 1) := dk_62 (dk_at dksX6_one_6 18 rfl rfl)
theorem dX6_one_211 : decode cX6_one 211 = .ok (.goto 44, 3) := dk_167 0 44 (dk_at dksX6_one_6 19 rfl rfl)
theorem dX6_one_214 : decode cX6_one 214 = .ok (.aload_n 2, 1) := dk_44 (dk_at dksX6_one_6 22 rfl rfl)
theorem dX6_one_215 : decode cX6_one 215 = .ok (.ldc 205, 2) := dk_18 205 (dk_at dksX6_one_7 0 rfl rfl)
theorem dX6_one_217 : decode cX6_one 217 = .ok (.invokevirtual 115, 3) := dk_182 0 115 (dk_at dksX6_one_7 2 rfl rfl)
theorem dX6_one_220 : decode cX6_one 220 = .ok (.ifCond .eq 35, 3) := dk_153 0 35 (dk_at dksX6_one_7 5 rfl rfl)
theorem dX6_one_223 : decode cX6_one 223 = .ok (.iconst 5, 1) := dk_8 (dk_at dksX6_one_7 8 rfl rfl)
theorem dX6_one_224 : decode cX6_one 224 = .ok (.istore_n 3, 1) := dk_62 (dk_at dksX6_one_7 9 rfl rfl)
theorem dX6_one_225 : decode cX6_one 225 = .ok (.goto 30, 3) := dk_167 0 30 (dk_at dksX6_one_7 10 rfl rfl)
theorem dX6_one_228 : decode cX6_one 228 = .ok (.aload_n 2, 1) := dk_44 (dk_at dksX6_one_7 13 rfl rfl)
theorem dX6_one_229 : decode cX6_one 229 = .ok (.ldc 207, 2) := dk_18 207 (dk_at dksX6_one_7 14 rfl rfl)
theorem dX6_one_231 : decode cX6_one 231 = .ok (.invokevirtual 115, 3) := dk_182 0 115 (dk_at dksX6_one_7 16 rfl rfl)
theorem dX6_one_234 : decode cX6_one 234 = .ok (.ifCond .eq 21, 3) := dk_153 0 21 (dk_at dksX6_one_7 19 rfl rfl)
theorem dX6_one_237 : decode cX6_one 237 = .ok (.bipush 6, 2) := dk_16 6 (dk_at dksX6_one_7 22 rfl rfl)
theorem dX6_one_239 : decode cX6_one 239 = .ok (.istore_n 3, 1) := dk_62 (dk_at dksX6_one_8 0 rfl rfl)
theorem dX6_one_240 : decode cX6_one 240 = .ok (.goto 15, 3) := dk_167 0 15 (dk_at dksX6_one_8 1 rfl rfl)
theorem dX6_one_243 : decode cX6_one 243 = .ok (.aload_n 2, 1) := dk_44 (dk_at dksX6_one_8 4 rfl rfl)
theorem dX6_one_244 : decode cX6_one 244 = .ok (.ldc 209, 2) := dk_18 209 (dk_at dksX6_one_8 5 rfl rfl)
theorem dX6_one_246 : decode cX6_one 246 = .ok (.invokevirtual 115, 3) := dk_182 0 115 (dk_at dksX6_one_8 7 rfl rfl)
theorem dX6_one_249 : decode cX6_one 249 = .ok (.ifCond .eq 6, 3) := dk_153 0 6 (dk_at dksX6_one_8 10 rfl rfl)
theorem dX6_one_252 : decode cX6_one 252 = .ok (.bipush 7, 2) := dk_16 7 (dk_at dksX6_one_8 13 rfl rfl)
theorem dX6_one_254 : decode cX6_one 254 = .ok (.istore_n 3, 1) := dk_62 (dk_at dksX6_one_8 15 rfl rfl)
theorem dX6_one_255 : decode cX6_one 255 = .ok (.iload_n 3, 1) := dk_29 (dk_at dksX6_one_8 16 rfl rfl)
theorem dX6_one_256 : decode cX6_one 256 = .ok (.tableswitch 65 0 7 #[48, 53, 53, 53, 59, 59, 59, 59], 48) := by decide +kernel
theorem dX6_one_304 : decode cX6_one 304 = .ok (.aload_n 0, 1) := dk_42 (dk_at dksX6_one_10 0 rfl rfl)
theorem dX6_one_305 : decode cX6_one 305 = .ok (.invokevirtual 334, 3) := dk_182 1 78 (dk_at dksX6_one_10 1 rfl rfl)
theorem dX6_one_308 : decode cX6_one 308 = .ok (.areturn, 1) := dk_176 (dk_at dksX6_one_10 4 rfl rfl)
theorem dX6_one_309 : decode cX6_one 309 = .ok (.aload_n 0, 1) := dk_42 (dk_at dksX6_one_10 5 rfl rfl)
theorem dX6_one_310 : decode cX6_one 310 = .ok (.aload_n 1, 1) := dk_43 (dk_at dksX6_one_10 6 rfl rfl)
theorem dX6_one_311 : decode cX6_one 311 = .ok (.invokevirtual 336, 3) := dk_182 1 80 (dk_at dksX6_one_10 7 rfl rfl)
theorem dX6_one_314 : decode cX6_one 314 = .ok (.areturn, 1) := dk_176 (dk_at dksX6_one_10 10 rfl rfl)
theorem dX6_one_315 : decode cX6_one 315 = .ok (.aload_n 0, 1) := dk_42 (dk_at dksX6_one_10 11 rfl rfl)
theorem dX6_one_316 : decode cX6_one 316 = .ok (.aload_n 1, 1) := dk_43 (dk_at dksX6_one_10 12 rfl rfl)
theorem dX6_one_317 : decode cX6_one 317 = .ok (.invokevirtual 340, 3) := dk_182 1 84 (dk_at dksX6_one_10 13 rfl rfl)
theorem dX6_one_320 : decode cX6_one 320 = .ok (.areturn, 1) := dk_176 (dk_at dksX6_one_10 16 rfl rfl)
theorem dX6_one_321 : decode cX6_one 321 = .ok (.aload_n 0, 1) := dk_42 (dk_at dksX6_one_10 17 rfl rfl)
theorem dX6_one_322 : decode cX6_one 322 = .ok (.iconst 1, 1) := dk_4 (dk_at dksX6_one_10 18 rfl rfl)
theorem dX6_one_323 : decode cX6_one 323 = .ok (.invokevirtual 45, 3) := dk_182 0 45 (dk_at dksX6_one_10 19 rfl rfl)
theorem dX6_one_326 : decode cX6_one 326 = .ok (.athrow, 1) := dk_191 (dk_at dksX6_one_10 22 rfl rfl)
abbrev cX6_not : ByteArray := prog_12_method_32_code
def yX6_not : MethodName := ⟨RX6, "not", "()Ljava/lang/Object;"⟩
def dkwX6_not_1 : List UInt8 := [180, 1, 14, 4, 100, 181, 1, 14, 43, 176]
abbrev dktX6_not_1 : List UInt8 := dkwX6_not_1 ++ []
def dkwX6_not_0 : List UInt8 := [42, 182, 1, 21, 42, 182, 0, 130, 187, 1, 70, 89, 18, 195, 42, 182, 1, 67, 183, 1, 72, 76, 42, 89]
abbrev dktX6_not_0 : List UInt8 := dkwX6_not_0 ++ dktX6_not_1
theorem dksX6_not_0 : cX6_not.data.toList.drop 0 = dktX6_not_0 := by decide +kernel
theorem dksX6_not_1 : cX6_not.data.toList.drop 24 = dktX6_not_1 := dk_seg dksX6_not_0 24 rfl rfl
theorem dX6_not_0 : decode cX6_not 0 = .ok (.aload_n 0, 1) := dk_42 (dk_at dksX6_not_0 0 rfl rfl)
theorem dX6_not_1 : decode cX6_not 1 = .ok (.invokevirtual 277, 3) := dk_182 1 21 (dk_at dksX6_not_0 1 rfl rfl)
theorem dX6_not_4 : decode cX6_not 4 = .ok (.aload_n 0, 1) := dk_42 (dk_at dksX6_not_0 4 rfl rfl)
theorem dX6_not_5 : decode cX6_not 5 = .ok (.invokevirtual 130, 3) := dk_182 0 130 (dk_at dksX6_not_0 5 rfl rfl)
theorem dX6_not_8 : decode cX6_not 8 = .ok (.new 326, 3) := dk_187 1 70 (dk_at dksX6_not_0 8 rfl rfl)
theorem dX6_not_11 : decode cX6_not 11 = .ok (.dup, 1) := dk_89 (dk_at dksX6_not_0 11 rfl rfl)
theorem dX6_not_12 : decode cX6_not 12 = .ok (.ldc 195, 2) := dk_18 195 (dk_at dksX6_not_0 12 rfl rfl)
theorem dX6_not_14 : decode cX6_not 14 = .ok (.aload_n 0, 1) := dk_42 (dk_at dksX6_not_0 14 rfl rfl)
theorem dX6_not_15 : decode cX6_not 15 = .ok (.invokevirtual 323, 3) := dk_182 1 67 (dk_at dksX6_not_0 15 rfl rfl)
theorem dX6_not_18 : decode cX6_not 18 = .ok (.invokespecial 328, 3) := dk_183 1 72 (dk_at dksX6_not_0 18 rfl rfl)
theorem dX6_not_21 : decode cX6_not 21 = .ok (.astore_n 1, 1) := dk_76 (dk_at dksX6_not_0 21 rfl rfl)
theorem dX6_not_22 : decode cX6_not 22 = .ok (.aload_n 0, 1) := dk_42 (dk_at dksX6_not_0 22 rfl rfl)
theorem dX6_not_23 : decode cX6_not 23 = .ok (.dup, 1) := dk_89 (dk_at dksX6_not_0 23 rfl rfl)
theorem dX6_not_24 : decode cX6_not 24 = .ok (.getfield 270, 3) := dk_180 1 14 (dk_at dksX6_not_1 0 rfl rfl)
theorem dX6_not_27 : decode cX6_not 27 = .ok (.iconst 1, 1) := dk_4 (dk_at dksX6_not_1 3 rfl rfl)
theorem dX6_not_28 : decode cX6_not 28 = .ok (.isub, 1) := dk_100 (dk_at dksX6_not_1 4 rfl rfl)
theorem dX6_not_29 : decode cX6_not 29 = .ok (.putfield 270, 3) := dk_181 1 14 (dk_at dksX6_not_1 5 rfl rfl)
theorem dX6_not_32 : decode cX6_not 32 = .ok (.aload_n 1, 1) := dk_43 (dk_at dksX6_not_1 8 rfl rfl)
theorem dX6_not_33 : decode cX6_not 33 = .ok (.areturn, 1) := dk_176 (dk_at dksX6_not_1 9 rfl rfl)
abbrev cX6_ofCodes : ByteArray := prog_12_method_33_code
def yX6_ofCodes : MethodName := ⟨RX6, "ofCodes", "(Ljava/lang/String;)LCaseGrouper$Atom;"⟩
def dkwX6_ofCodes_2 : List UInt8 := [182, 1, 96, 176]
abbrev dktX6_ofCodes_2 : List UInt8 := dkwX6_ofCodes_2 ++ []
def dkwX6_ofCodes_1 : List UInt8 := [154, 0, 7, 4, 167, 0, 4, 3, 182, 0, 156, 3, 3, 42, 4, 182, 1, 89, 183, 1, 93, 28]
abbrev dktX6_ofCodes_1 : List UInt8 := dkwX6_ofCodes_1 ++ dktX6_ofCodes_2
def dkwX6_ofCodes_0 : List UInt8 := [42, 182, 0, 130, 42, 180, 0, 39, 61, 42, 187, 1, 87, 89, 43, 42, 43, 18, 201, 182, 0, 115]
abbrev dktX6_ofCodes_0 : List UInt8 := dkwX6_ofCodes_0 ++ dktX6_ofCodes_1
theorem dksX6_ofCodes_0 : cX6_ofCodes.data.toList.drop 0 = dktX6_ofCodes_0 := by decide +kernel
theorem dksX6_ofCodes_1 : cX6_ofCodes.data.toList.drop 22 = dktX6_ofCodes_1 := dk_seg dksX6_ofCodes_0 22 rfl rfl
theorem dksX6_ofCodes_2 : cX6_ofCodes.data.toList.drop 44 = dktX6_ofCodes_2 := dk_seg dksX6_ofCodes_1 22 rfl rfl
theorem dX6_ofCodes_0 : decode cX6_ofCodes 0 = .ok (.aload_n 0, 1) := dk_42 (dk_at dksX6_ofCodes_0 0 rfl rfl)
theorem dX6_ofCodes_1 : decode cX6_ofCodes 1 = .ok (.invokevirtual 130, 3) := dk_182 0 130 (dk_at dksX6_ofCodes_0 1 rfl rfl)
theorem dX6_ofCodes_4 : decode cX6_ofCodes 4 = .ok (.aload_n 0, 1) := dk_42 (dk_at dksX6_ofCodes_0 4 rfl rfl)
theorem dX6_ofCodes_5 : decode cX6_ofCodes 5 = .ok (.getfield 39, 3) := dk_180 0 39 (dk_at dksX6_ofCodes_0 5 rfl rfl)
theorem dX6_ofCodes_8 : decode cX6_ofCodes 8 = .ok (.istore_n 2, 1) := dk_61 (dk_at dksX6_ofCodes_0 8 rfl rfl)
theorem dX6_ofCodes_9 : decode cX6_ofCodes 9 = .ok (.aload_n 0, 1) := dk_42 (dk_at dksX6_ofCodes_0 9 rfl rfl)
theorem dX6_ofCodes_10 : decode cX6_ofCodes 10 = .ok (.new 343, 3) := dk_187 1 87 (dk_at dksX6_ofCodes_0 10 rfl rfl)
theorem dX6_ofCodes_13 : decode cX6_ofCodes 13 = .ok (.dup, 1) := dk_89 (dk_at dksX6_ofCodes_0 13 rfl rfl)
theorem dX6_ofCodes_14 : decode cX6_ofCodes 14 = .ok (.aload_n 1, 1) := dk_43 (dk_at dksX6_ofCodes_0 14 rfl rfl)
theorem dX6_ofCodes_15 : decode cX6_ofCodes 15 = .ok (.aload_n 0, 1) := dk_42 (dk_at dksX6_ofCodes_0 15 rfl rfl)
theorem dX6_ofCodes_16 : decode cX6_ofCodes 16 = .ok (.aload_n 1, 1) := dk_43 (dk_at dksX6_ofCodes_0 16 rfl rfl)
theorem dX6_ofCodes_17 : decode cX6_ofCodes 17 = .ok (.ldc 201, 2) := dk_18 201 (dk_at dksX6_ofCodes_0 17 rfl rfl)
theorem dX6_ofCodes_19 : decode cX6_ofCodes 19 = .ok (.invokevirtual 115, 3) := dk_182 0 115 (dk_at dksX6_ofCodes_0 19 rfl rfl)
theorem dX6_ofCodes_22 : decode cX6_ofCodes 22 = .ok (.ifCond .ne 7, 3) := dk_154 0 7 (dk_at dksX6_ofCodes_1 0 rfl rfl)
theorem dX6_ofCodes_25 : decode cX6_ofCodes 25 = .ok (.iconst 1, 1) := dk_4 (dk_at dksX6_ofCodes_1 3 rfl rfl)
theorem dX6_ofCodes_26 : decode cX6_ofCodes 26 = .ok (.goto 4, 3) := dk_167 0 4 (dk_at dksX6_ofCodes_1 4 rfl rfl)
theorem dX6_ofCodes_29 : decode cX6_ofCodes 29 = .ok (.iconst 0, 1) := dk_3 (dk_at dksX6_ofCodes_1 7 rfl rfl)
theorem dX6_ofCodes_30 : decode cX6_ofCodes 30 = .ok (.invokevirtual 156, 3) := dk_182 0 156 (dk_at dksX6_ofCodes_1 8 rfl rfl)
theorem dX6_ofCodes_33 : decode cX6_ofCodes 33 = .ok (.iconst 0, 1) := dk_3 (dk_at dksX6_ofCodes_1 11 rfl rfl)
theorem dX6_ofCodes_34 : decode cX6_ofCodes 34 = .ok (.iconst 0, 1) := dk_3 (dk_at dksX6_ofCodes_1 12 rfl rfl)
theorem dX6_ofCodes_35 : decode cX6_ofCodes 35 = .ok (.aload_n 0, 1) := dk_42 (dk_at dksX6_ofCodes_1 13 rfl rfl)
theorem dX6_ofCodes_36 : decode cX6_ofCodes 36 = .ok (.iconst 1, 1) := dk_4 (dk_at dksX6_ofCodes_1 14 rfl rfl)
theorem dX6_ofCodes_37 : decode cX6_ofCodes 37 = .ok (.invokevirtual 345, 3) := dk_182 1 89 (dk_at dksX6_ofCodes_1 15 rfl rfl)
theorem dX6_ofCodes_40 : decode cX6_ofCodes 40 = .ok (.invokespecial 349, 3) := dk_183 1 93 (dk_at dksX6_ofCodes_1 18 rfl rfl)
theorem dX6_ofCodes_43 : decode cX6_ofCodes 43 = .ok (.iload_n 2, 1) := dk_28 (dk_at dksX6_ofCodes_1 21 rfl rfl)
theorem dX6_ofCodes_44 : decode cX6_ofCodes 44 = .ok (.invokevirtual 352, 3) := dk_182 1 96 (dk_at dksX6_ofCodes_2 0 rfl rfl)
theorem dX6_ofCodes_47 : decode cX6_ofCodes 47 = .ok (.areturn, 1) := dk_176 (dk_at dksX6_ofCodes_2 3 rfl rfl)
abbrev cX6_manyOf : ByteArray := prog_12_method_35_code
def yX6_manyOf : MethodName := ⟨RX6, "manyOf", "(Z)I"⟩
def dkwX6_manyOf_2 : List UInt8 := [132, 3, 1, 167, 255, 210, 28, 172]
abbrev dktX6_manyOf_2 : List UInt8 := dkwX6_manyOf_2 ++ []
def dkwX6_manyOf_1 : List UInt8 := [180, 1, 100, 29, 182, 1, 103, 192, 1, 87, 182, 1, 107, 27, 160, 0, 7, 4, 167, 0, 4, 3, 96, 61]
abbrev dktX6_manyOf_1 : List UInt8 := dkwX6_manyOf_1 ++ dktX6_manyOf_2
def dkwX6_manyOf_0 : List UInt8 := [3, 61, 3, 62, 29, 42, 180, 1, 9, 180, 1, 100, 182, 0, 165, 162, 0, 38, 28, 42, 180, 1, 9]
abbrev dktX6_manyOf_0 : List UInt8 := dkwX6_manyOf_0 ++ dktX6_manyOf_1
theorem dksX6_manyOf_0 : cX6_manyOf.data.toList.drop 0 = dktX6_manyOf_0 := by decide +kernel
theorem dksX6_manyOf_1 : cX6_manyOf.data.toList.drop 23 = dktX6_manyOf_1 := dk_seg dksX6_manyOf_0 23 rfl rfl
theorem dksX6_manyOf_2 : cX6_manyOf.data.toList.drop 47 = dktX6_manyOf_2 := dk_seg dksX6_manyOf_1 24 rfl rfl
theorem dX6_manyOf_0 : decode cX6_manyOf 0 = .ok (.iconst 0, 1) := dk_3 (dk_at dksX6_manyOf_0 0 rfl rfl)
theorem dX6_manyOf_1 : decode cX6_manyOf 1 = .ok (.istore_n 2, 1) := dk_61 (dk_at dksX6_manyOf_0 1 rfl rfl)
theorem dX6_manyOf_2 : decode cX6_manyOf 2 = .ok (.iconst 0, 1) := dk_3 (dk_at dksX6_manyOf_0 2 rfl rfl)
theorem dX6_manyOf_3 : decode cX6_manyOf 3 = .ok (.istore_n 3, 1) := dk_62 (dk_at dksX6_manyOf_0 3 rfl rfl)
theorem dX6_manyOf_4 : decode cX6_manyOf 4 = .ok (.iload_n 3, 1) := dk_29 (dk_at dksX6_manyOf_0 4 rfl rfl)
theorem dX6_manyOf_5 : decode cX6_manyOf 5 = .ok (.aload_n 0, 1) := dk_42 (dk_at dksX6_manyOf_0 5 rfl rfl)
theorem dX6_manyOf_6 : decode cX6_manyOf 6 = .ok (.getfield 265, 3) := dk_180 1 9 (dk_at dksX6_manyOf_0 6 rfl rfl)
theorem dX6_manyOf_9 : decode cX6_manyOf 9 = .ok (.getfield 356, 3) := dk_180 1 100 (dk_at dksX6_manyOf_0 9 rfl rfl)
theorem dX6_manyOf_12 : decode cX6_manyOf 12 = .ok (.invokevirtual 165, 3) := dk_182 0 165 (dk_at dksX6_manyOf_0 12 rfl rfl)
theorem dX6_manyOf_15 : decode cX6_manyOf 15 = .ok (.if_icmp .ge 38, 3) := dk_162 0 38 (dk_at dksX6_manyOf_0 15 rfl rfl)
theorem dX6_manyOf_18 : decode cX6_manyOf 18 = .ok (.iload_n 2, 1) := dk_28 (dk_at dksX6_manyOf_0 18 rfl rfl)
theorem dX6_manyOf_19 : decode cX6_manyOf 19 = .ok (.aload_n 0, 1) := dk_42 (dk_at dksX6_manyOf_0 19 rfl rfl)
theorem dX6_manyOf_20 : decode cX6_manyOf 20 = .ok (.getfield 265, 3) := dk_180 1 9 (dk_at dksX6_manyOf_0 20 rfl rfl)
theorem dX6_manyOf_23 : decode cX6_manyOf 23 = .ok (.getfield 356, 3) := dk_180 1 100 (dk_at dksX6_manyOf_1 0 rfl rfl)
theorem dX6_manyOf_26 : decode cX6_manyOf 26 = .ok (.iload_n 3, 1) := dk_29 (dk_at dksX6_manyOf_1 3 rfl rfl)
theorem dX6_manyOf_27 : decode cX6_manyOf 27 = .ok (.invokevirtual 359, 3) := dk_182 1 103 (dk_at dksX6_manyOf_1 4 rfl rfl)
theorem dX6_manyOf_30 : decode cX6_manyOf 30 = .ok (.checkcast 343, 3) := dk_192 1 87 (dk_at dksX6_manyOf_1 7 rfl rfl)
theorem dX6_manyOf_33 : decode cX6_manyOf 33 = .ok (.invokevirtual 363, 3) := dk_182 1 107 (dk_at dksX6_manyOf_1 10 rfl rfl)
theorem dX6_manyOf_36 : decode cX6_manyOf 36 = .ok (.iload_n 1, 1) := dk_27 (dk_at dksX6_manyOf_1 13 rfl rfl)
theorem dX6_manyOf_37 : decode cX6_manyOf 37 = .ok (.if_icmp .ne 7, 3) := dk_160 0 7 (dk_at dksX6_manyOf_1 14 rfl rfl)
theorem dX6_manyOf_40 : decode cX6_manyOf 40 = .ok (.iconst 1, 1) := dk_4 (dk_at dksX6_manyOf_1 17 rfl rfl)
theorem dX6_manyOf_41 : decode cX6_manyOf 41 = .ok (.goto 4, 3) := dk_167 0 4 (dk_at dksX6_manyOf_1 18 rfl rfl)
theorem dX6_manyOf_44 : decode cX6_manyOf 44 = .ok (.iconst 0, 1) := dk_3 (dk_at dksX6_manyOf_1 21 rfl rfl)
theorem dX6_manyOf_45 : decode cX6_manyOf 45 = .ok (.iadd, 1) := dk_96 (dk_at dksX6_manyOf_1 22 rfl rfl)
theorem dX6_manyOf_46 : decode cX6_manyOf 46 = .ok (.istore_n 2, 1) := dk_61 (dk_at dksX6_manyOf_1 23 rfl rfl)
theorem dX6_manyOf_47 : decode cX6_manyOf 47 = .ok (.iinc 3 1, 3) := dk_132 3 1 (dk_at dksX6_manyOf_2 0 rfl rfl)
theorem dX6_manyOf_50 : decode cX6_manyOf 50 = .ok (.goto (-46), 3) := dk_167 255 210 (dk_at dksX6_manyOf_2 3 rfl rfl)
theorem dX6_manyOf_53 : decode cX6_manyOf 53 = .ok (.iload_n 2, 1) := dk_28 (dk_at dksX6_manyOf_2 6 rfl rfl)
theorem dX6_manyOf_54 : decode cX6_manyOf 54 = .ok (.ireturn, 1) := dk_172 (dk_at dksX6_manyOf_2 7 rfl rfl)
abbrev cX6_known : ByteArray := prog_12_method_36_code
def yX6_known : MethodName := ⟨RX6, "known", "(LCaseGrouper$Atom;I)LCaseGrouper$Atom;"⟩
def dkwX6_known_3 : List UInt8 := [7, 183, 0, 42, 191, 42, 180, 1, 9, 180, 1, 100, 43, 182, 0, 160, 87, 43, 176]
abbrev dktX6_known_3 : List UInt8 := dkwX6_known_3 ++ []
def dkwX6_known_2 : List UInt8 := [192, 1, 87, 176, 132, 3, 1, 167, 255, 203, 43, 180, 1, 115, 16, 6, 160, 0, 13, 187, 0, 37, 89, 28]
abbrev dktX6_known_2 : List UInt8 := dkwX6_known_2 ++ dktX6_known_3
def dkwX6_known_1 : List UInt8 := [182, 1, 103, 192, 1, 87, 43, 182, 1, 111, 153, 0, 18, 42, 180, 1, 9, 180, 1, 100, 29, 182, 1, 103]
abbrev dktX6_known_1 : List UInt8 := dkwX6_known_1 ++ dktX6_known_2
def dkwX6_known_0 : List UInt8 := [3, 62, 29, 42, 180, 1, 9, 180, 1, 100, 182, 0, 165, 162, 0, 45, 42, 180, 1, 9, 180, 1, 100, 29]
abbrev dktX6_known_0 : List UInt8 := dkwX6_known_0 ++ dktX6_known_1
theorem dksX6_known_0 : cX6_known.data.toList.drop 0 = dktX6_known_0 := by decide +kernel
theorem dksX6_known_1 : cX6_known.data.toList.drop 24 = dktX6_known_1 := dk_seg dksX6_known_0 24 rfl rfl
theorem dksX6_known_2 : cX6_known.data.toList.drop 48 = dktX6_known_2 := dk_seg dksX6_known_1 24 rfl rfl
theorem dksX6_known_3 : cX6_known.data.toList.drop 72 = dktX6_known_3 := dk_seg dksX6_known_2 24 rfl rfl
theorem dX6_known_0 : decode cX6_known 0 = .ok (.iconst 0, 1) := dk_3 (dk_at dksX6_known_0 0 rfl rfl)
theorem dX6_known_1 : decode cX6_known 1 = .ok (.istore_n 3, 1) := dk_62 (dk_at dksX6_known_0 1 rfl rfl)
theorem dX6_known_2 : decode cX6_known 2 = .ok (.iload_n 3, 1) := dk_29 (dk_at dksX6_known_0 2 rfl rfl)
theorem dX6_known_3 : decode cX6_known 3 = .ok (.aload_n 0, 1) := dk_42 (dk_at dksX6_known_0 3 rfl rfl)
theorem dX6_known_4 : decode cX6_known 4 = .ok (.getfield 265, 3) := dk_180 1 9 (dk_at dksX6_known_0 4 rfl rfl)
theorem dX6_known_7 : decode cX6_known 7 = .ok (.getfield 356, 3) := dk_180 1 100 (dk_at dksX6_known_0 7 rfl rfl)
theorem dX6_known_10 : decode cX6_known 10 = .ok (.invokevirtual 165, 3) := dk_182 0 165 (dk_at dksX6_known_0 10 rfl rfl)
theorem dX6_known_13 : decode cX6_known 13 = .ok (.if_icmp .ge 45, 3) := dk_162 0 45 (dk_at dksX6_known_0 13 rfl rfl)
theorem dX6_known_16 : decode cX6_known 16 = .ok (.aload_n 0, 1) := dk_42 (dk_at dksX6_known_0 16 rfl rfl)
theorem dX6_known_17 : decode cX6_known 17 = .ok (.getfield 265, 3) := dk_180 1 9 (dk_at dksX6_known_0 17 rfl rfl)
theorem dX6_known_20 : decode cX6_known 20 = .ok (.getfield 356, 3) := dk_180 1 100 (dk_at dksX6_known_0 20 rfl rfl)
theorem dX6_known_23 : decode cX6_known 23 = .ok (.iload_n 3, 1) := dk_29 (dk_at dksX6_known_0 23 rfl rfl)
theorem dX6_known_24 : decode cX6_known 24 = .ok (.invokevirtual 359, 3) := dk_182 1 103 (dk_at dksX6_known_1 0 rfl rfl)
theorem dX6_known_27 : decode cX6_known 27 = .ok (.checkcast 343, 3) := dk_192 1 87 (dk_at dksX6_known_1 3 rfl rfl)
theorem dX6_known_30 : decode cX6_known 30 = .ok (.aload_n 1, 1) := dk_43 (dk_at dksX6_known_1 6 rfl rfl)
theorem dX6_known_31 : decode cX6_known 31 = .ok (.invokevirtual 367, 3) := dk_182 1 111 (dk_at dksX6_known_1 7 rfl rfl)
theorem dX6_known_34 : decode cX6_known 34 = .ok (.ifCond .eq 18, 3) := dk_153 0 18 (dk_at dksX6_known_1 10 rfl rfl)
theorem dX6_known_37 : decode cX6_known 37 = .ok (.aload_n 0, 1) := dk_42 (dk_at dksX6_known_1 13 rfl rfl)
theorem dX6_known_38 : decode cX6_known 38 = .ok (.getfield 265, 3) := dk_180 1 9 (dk_at dksX6_known_1 14 rfl rfl)
theorem dX6_known_41 : decode cX6_known 41 = .ok (.getfield 356, 3) := dk_180 1 100 (dk_at dksX6_known_1 17 rfl rfl)
theorem dX6_known_44 : decode cX6_known 44 = .ok (.iload_n 3, 1) := dk_29 (dk_at dksX6_known_1 20 rfl rfl)
theorem dX6_known_45 : decode cX6_known 45 = .ok (.invokevirtual 359, 3) := dk_182 1 103 (dk_at dksX6_known_1 21 rfl rfl)
theorem dX6_known_48 : decode cX6_known 48 = .ok (.checkcast 343, 3) := dk_192 1 87 (dk_at dksX6_known_2 0 rfl rfl)
theorem dX6_known_51 : decode cX6_known 51 = .ok (.areturn, 1) := dk_176 (dk_at dksX6_known_2 3 rfl rfl)
theorem dX6_known_52 : decode cX6_known 52 = .ok (.iinc 3 1, 3) := dk_132 3 1 (dk_at dksX6_known_2 4 rfl rfl)
theorem dX6_known_55 : decode cX6_known 55 = .ok (.goto (-53), 3) := dk_167 255 203 (dk_at dksX6_known_2 7 rfl rfl)
theorem dX6_known_58 : decode cX6_known 58 = .ok (.aload_n 1, 1) := dk_43 (dk_at dksX6_known_2 10 rfl rfl)
theorem dX6_known_59 : decode cX6_known 59 = .ok (.getfield 371, 3) := dk_180 1 115 (dk_at dksX6_known_2 11 rfl rfl)
theorem dX6_known_62 : decode cX6_known 62 = .ok (.bipush 6, 2) := dk_16 6 (dk_at dksX6_known_2 14 rfl rfl)
theorem dX6_known_64 : decode cX6_known 64 = .ok (.if_icmp .ne 13, 3) := dk_160 0 13 (dk_at dksX6_known_2 16 rfl rfl)
theorem dX6_known_67 : decode cX6_known 67 = .ok (.new 37, 3) := dk_187 0 37 (dk_at dksX6_known_2 19 rfl rfl)
theorem dX6_known_70 : decode cX6_known 70 = .ok (.dup, 1) := dk_89 (dk_at dksX6_known_2 22 rfl rfl)
theorem dX6_known_71 : decode cX6_known 71 = .ok (.iload_n 2, 1) := dk_28 (dk_at dksX6_known_2 23 rfl rfl)
theorem dX6_known_72 : decode cX6_known 72 = .ok (.iconst 4, 1) := dk_7 (dk_at dksX6_known_3 0 rfl rfl)
theorem dX6_known_73 : decode cX6_known 73 = .ok (.invokespecial 42, 3) := dk_183 0 42 (dk_at dksX6_known_3 1 rfl rfl)
theorem dX6_known_76 : decode cX6_known 76 = .ok (.athrow, 1) := dk_191 (dk_at dksX6_known_3 4 rfl rfl)
theorem dX6_known_77 : decode cX6_known 77 = .ok (.aload_n 0, 1) := dk_42 (dk_at dksX6_known_3 5 rfl rfl)
theorem dX6_known_78 : decode cX6_known 78 = .ok (.getfield 265, 3) := dk_180 1 9 (dk_at dksX6_known_3 6 rfl rfl)
theorem dX6_known_81 : decode cX6_known 81 = .ok (.getfield 356, 3) := dk_180 1 100 (dk_at dksX6_known_3 9 rfl rfl)
theorem dX6_known_84 : decode cX6_known 84 = .ok (.aload_n 1, 1) := dk_43 (dk_at dksX6_known_3 12 rfl rfl)
theorem dX6_known_85 : decode cX6_known 85 = .ok (.invokevirtual 160, 3) := dk_182 0 160 (dk_at dksX6_known_3 13 rfl rfl)
theorem dX6_known_88 : decode cX6_known 88 = .ok (.pop, 1) := dk_87 (dk_at dksX6_known_3 16 rfl rfl)
theorem dX6_known_89 : decode cX6_known 89 = .ok (.aload_n 1, 1) := dk_43 (dk_at dksX6_known_3 17 rfl rfl)
theorem dX6_known_90 : decode cX6_known 90 = .ok (.areturn, 1) := dk_176 (dk_at dksX6_known_3 18 rfl rfl)
abbrev cX6_compared : ByteArray := prog_12_method_34_code
def yX6_compared : MethodName := ⟨RX6, "compared", "(Ljava/lang/String;)LCaseGrouper$Atom;"⟩
def dkwX6_compared_3 : List UInt8 := [42, 3, 182, 1, 89, 183, 1, 93, 28, 182, 1, 96, 176]
abbrev dktX6_compared_3 : List UInt8 := dkwX6_compared_3 ++ []
def dkwX6_compared_2 : List UInt8 := [182, 0, 119, 62, 42, 182, 0, 130, 42, 187, 1, 87, 89, 43, 1, 29, 42, 3, 17, 3, 231, 182, 0, 252]
abbrev dktX6_compared_2 : List UInt8 := dkwX6_compared_2 ++ dktX6_compared_3
def dkwX6_compared_1 : List UInt8 := [182, 0, 123, 153, 0, 7, 4, 167, 0, 4, 3, 4, 182, 0, 126, 42, 180, 0, 57, 192, 0, 72]
abbrev dktX6_compared_1 : List UInt8 := dkwX6_compared_1 ++ dktX6_compared_2
def dkwX6_compared_0 : List UInt8 := [42, 180, 0, 39, 61, 42, 182, 0, 130, 42, 42, 16, 60, 182, 0, 123, 154, 0, 12, 42, 16, 62]
abbrev dktX6_compared_0 : List UInt8 := dkwX6_compared_0 ++ dktX6_compared_1
theorem dksX6_compared_0 : cX6_compared.data.toList.drop 0 = dktX6_compared_0 := by decide +kernel
theorem dksX6_compared_1 : cX6_compared.data.toList.drop 22 = dktX6_compared_1 := dk_seg dksX6_compared_0 22 rfl rfl
theorem dksX6_compared_2 : cX6_compared.data.toList.drop 44 = dktX6_compared_2 := dk_seg dksX6_compared_1 22 rfl rfl
theorem dksX6_compared_3 : cX6_compared.data.toList.drop 68 = dktX6_compared_3 := dk_seg dksX6_compared_2 24 rfl rfl
theorem dX6_compared_0 : decode cX6_compared 0 = .ok (.aload_n 0, 1) := dk_42 (dk_at dksX6_compared_0 0 rfl rfl)
theorem dX6_compared_1 : decode cX6_compared 1 = .ok (.getfield 39, 3) := dk_180 0 39 (dk_at dksX6_compared_0 1 rfl rfl)
theorem dX6_compared_4 : decode cX6_compared 4 = .ok (.istore_n 2, 1) := dk_61 (dk_at dksX6_compared_0 4 rfl rfl)
theorem dX6_compared_5 : decode cX6_compared 5 = .ok (.aload_n 0, 1) := dk_42 (dk_at dksX6_compared_0 5 rfl rfl)
theorem dX6_compared_6 : decode cX6_compared 6 = .ok (.invokevirtual 130, 3) := dk_182 0 130 (dk_at dksX6_compared_0 6 rfl rfl)
theorem dX6_compared_9 : decode cX6_compared 9 = .ok (.aload_n 0, 1) := dk_42 (dk_at dksX6_compared_0 9 rfl rfl)
theorem dX6_compared_10 : decode cX6_compared 10 = .ok (.aload_n 0, 1) := dk_42 (dk_at dksX6_compared_0 10 rfl rfl)
theorem dX6_compared_11 : decode cX6_compared 11 = .ok (.bipush 60, 2) := dk_16 60 (dk_at dksX6_compared_0 11 rfl rfl)
theorem dX6_compared_13 : decode cX6_compared 13 = .ok (.invokevirtual 123, 3) := dk_182 0 123 (dk_at dksX6_compared_0 13 rfl rfl)
theorem dX6_compared_16 : decode cX6_compared 16 = .ok (.ifCond .ne 12, 3) := dk_154 0 12 (dk_at dksX6_compared_0 16 rfl rfl)
theorem dX6_compared_19 : decode cX6_compared 19 = .ok (.aload_n 0, 1) := dk_42 (dk_at dksX6_compared_0 19 rfl rfl)
theorem dX6_compared_20 : decode cX6_compared 20 = .ok (.bipush 62, 2) := dk_16 62 (dk_at dksX6_compared_0 20 rfl rfl)
theorem dX6_compared_22 : decode cX6_compared 22 = .ok (.invokevirtual 123, 3) := dk_182 0 123 (dk_at dksX6_compared_1 0 rfl rfl)
theorem dX6_compared_25 : decode cX6_compared 25 = .ok (.ifCond .eq 7, 3) := dk_153 0 7 (dk_at dksX6_compared_1 3 rfl rfl)
theorem dX6_compared_28 : decode cX6_compared 28 = .ok (.iconst 1, 1) := dk_4 (dk_at dksX6_compared_1 6 rfl rfl)
theorem dX6_compared_29 : decode cX6_compared 29 = .ok (.goto 4, 3) := dk_167 0 4 (dk_at dksX6_compared_1 7 rfl rfl)
theorem dX6_compared_32 : decode cX6_compared 32 = .ok (.iconst 0, 1) := dk_3 (dk_at dksX6_compared_1 10 rfl rfl)
theorem dX6_compared_33 : decode cX6_compared 33 = .ok (.iconst 1, 1) := dk_4 (dk_at dksX6_compared_1 11 rfl rfl)
theorem dX6_compared_34 : decode cX6_compared 34 = .ok (.invokevirtual 126, 3) := dk_182 0 126 (dk_at dksX6_compared_1 12 rfl rfl)
theorem dX6_compared_37 : decode cX6_compared 37 = .ok (.aload_n 0, 1) := dk_42 (dk_at dksX6_compared_1 15 rfl rfl)
theorem dX6_compared_38 : decode cX6_compared 38 = .ok (.getfield 57, 3) := dk_180 0 57 (dk_at dksX6_compared_1 16 rfl rfl)
theorem dX6_compared_41 : decode cX6_compared 41 = .ok (.checkcast 72, 3) := dk_192 0 72 (dk_at dksX6_compared_1 19 rfl rfl)
theorem dX6_compared_44 : decode cX6_compared 44 = .ok (.invokevirtual 119, 3) := dk_182 0 119 (dk_at dksX6_compared_2 0 rfl rfl)
theorem dX6_compared_47 : decode cX6_compared 47 = .ok (.istore_n 3, 1) := dk_62 (dk_at dksX6_compared_2 3 rfl rfl)
theorem dX6_compared_48 : decode cX6_compared 48 = .ok (.aload_n 0, 1) := dk_42 (dk_at dksX6_compared_2 4 rfl rfl)
theorem dX6_compared_49 : decode cX6_compared 49 = .ok (.invokevirtual 130, 3) := dk_182 0 130 (dk_at dksX6_compared_2 5 rfl rfl)
theorem dX6_compared_52 : decode cX6_compared 52 = .ok (.aload_n 0, 1) := dk_42 (dk_at dksX6_compared_2 8 rfl rfl)
theorem dX6_compared_53 : decode cX6_compared 53 = .ok (.new 343, 3) := dk_187 1 87 (dk_at dksX6_compared_2 9 rfl rfl)
theorem dX6_compared_56 : decode cX6_compared 56 = .ok (.dup, 1) := dk_89 (dk_at dksX6_compared_2 12 rfl rfl)
theorem dX6_compared_57 : decode cX6_compared 57 = .ok (.aload_n 1, 1) := dk_43 (dk_at dksX6_compared_2 13 rfl rfl)
theorem dX6_compared_58 : decode cX6_compared 58 = .ok (.aconst_null, 1) := dk_1 (dk_at dksX6_compared_2 14 rfl rfl)
theorem dX6_compared_59 : decode cX6_compared 59 = .ok (.iload_n 3, 1) := dk_29 (dk_at dksX6_compared_2 15 rfl rfl)
theorem dX6_compared_60 : decode cX6_compared 60 = .ok (.aload_n 0, 1) := dk_42 (dk_at dksX6_compared_2 16 rfl rfl)
theorem dX6_compared_61 : decode cX6_compared 61 = .ok (.iconst 0, 1) := dk_3 (dk_at dksX6_compared_2 17 rfl rfl)
theorem dX6_compared_62 : decode cX6_compared 62 = .ok (.sipush 999, 3) := dk_17 3 231 (dk_at dksX6_compared_2 18 rfl rfl)
theorem dX6_compared_65 : decode cX6_compared 65 = .ok (.invokevirtual 252, 3) := dk_182 0 252 (dk_at dksX6_compared_2 21 rfl rfl)
theorem dX6_compared_68 : decode cX6_compared 68 = .ok (.aload_n 0, 1) := dk_42 (dk_at dksX6_compared_3 0 rfl rfl)
theorem dX6_compared_69 : decode cX6_compared 69 = .ok (.iconst 0, 1) := dk_3 (dk_at dksX6_compared_3 1 rfl rfl)
theorem dX6_compared_70 : decode cX6_compared 70 = .ok (.invokevirtual 345, 3) := dk_182 1 89 (dk_at dksX6_compared_3 2 rfl rfl)
theorem dX6_compared_73 : decode cX6_compared 73 = .ok (.invokespecial 349, 3) := dk_183 1 93 (dk_at dksX6_compared_3 5 rfl rfl)
theorem dX6_compared_76 : decode cX6_compared 76 = .ok (.iload_n 2, 1) := dk_28 (dk_at dksX6_compared_3 8 rfl rfl)
theorem dX6_compared_77 : decode cX6_compared 77 = .ok (.invokevirtual 352, 3) := dk_182 1 96 (dk_at dksX6_compared_3 9 rfl rfl)
theorem dX6_compared_80 : decode cX6_compared 80 = .ok (.areturn, 1) := dk_176 (dk_at dksX6_compared_3 12 rfl rfl)
abbrev cX6_word : ByteArray := prog_12_method_14_code
def yX6_word : MethodName := ⟨RX6, "word", "(Ljava/lang/String;)V"⟩
def dkwX6_word_0 : List UInt8 := [42, 42, 43, 182, 0, 133, 4, 182, 0, 126, 42, 182, 0, 130, 177]
abbrev dktX6_word_0 : List UInt8 := dkwX6_word_0 ++ []
theorem dksX6_word_0 : cX6_word.data.toList.drop 0 = dktX6_word_0 := by decide +kernel
theorem dX6_word_0 : decode cX6_word 0 = .ok (.aload_n 0, 1) := dk_42 (dk_at dksX6_word_0 0 rfl rfl)
theorem dX6_word_1 : decode cX6_word 1 = .ok (.aload_n 0, 1) := dk_42 (dk_at dksX6_word_0 1 rfl rfl)
theorem dX6_word_2 : decode cX6_word 2 = .ok (.aload_n 1, 1) := dk_43 (dk_at dksX6_word_0 2 rfl rfl)
theorem dX6_word_3 : decode cX6_word 3 = .ok (.invokevirtual 133, 3) := dk_182 0 133 (dk_at dksX6_word_0 3 rfl rfl)
theorem dX6_word_6 : decode cX6_word 6 = .ok (.iconst 1, 1) := dk_4 (dk_at dksX6_word_0 6 rfl rfl)
theorem dX6_word_7 : decode cX6_word 7 = .ok (.invokevirtual 126, 3) := dk_182 0 126 (dk_at dksX6_word_0 7 rfl rfl)
theorem dX6_word_10 : decode cX6_word 10 = .ok (.aload_n 0, 1) := dk_42 (dk_at dksX6_word_0 10 rfl rfl)
theorem dX6_word_11 : decode cX6_word 11 = .ok (.invokevirtual 130, 3) := dk_182 0 130 (dk_at dksX6_word_0 11 rfl rfl)
theorem dX6_word_14 : decode cX6_word 14 = .ok (.return_, 1) := dk_177 (dk_at dksX6_word_0 14 rfl rfl)
theorem q129 : (Jvm.Cond.initialized "CaseGrouper$Reader") ∈ lw_all := lw_g (lw_at lw_m1 9 rfl) rfl
theorem q189 : (Jvm.Cond.instantiable "CaseGrouper$Reader" (10 : Nat)) ∈ lw_all := lw_g (lw_at lw_m1 69 rfl) rfl
theorem q191 : (Jvm.Cond.instanceMethod ({ cls := "CaseGrouper$Reader", name := "<init>", desc := "(LCaseGrouper;I)V" } : Jvm.MethodName)) ∈ lw_all := lw_g (lw_at lw_m1 71 rfl) rfl
theorem q192 : (Jvm.Cond.code ({ cls := "CaseGrouper$Reader", name := "<init>", desc := "(LCaseGrouper;I)V" } : Jvm.MethodName) prog_12_method_1_code (3 : Nat) (Option.none : Option Jvm.ClassFile.FieldType)) ∈ lw_all := lw_g (lw_at lw_m1 72 rfl) rfl
theorem q193 : (Jvm.Cond.methodLink "CaseGrouper$Reader" (9 : Nat) ({ cls := "java/lang/Object", name := "<init>", desc := "()V" } : Jvm.MethodName)) ∈ lw_all := lw_g (lw_at lw_m1 73 rfl) rfl
theorem q196 : (Jvm.Cond.classLink "CaseGrouper$Reader" (15 : Nat) "CaseGrouper$Edition") ∈ lw_all := lw_g (lw_at lw_m1 76 rfl) rfl
theorem q198 : (Jvm.Cond.methodLinkNest "CaseGrouper$Reader" (17 : Nat) ({ cls := "CaseGrouper$Edition", name := "<init>", desc := "()V" } : Jvm.MethodName) "CaseGrouper") ∈ lw_tbl := lw_at lw_m1 78 rfl
theorem q232 : (Jvm.Cond.fieldLinkNest "CaseGrouper$Reader" (225 : Nat) "CaseGrouper$Edition" "chapters" "Ljava/util/ArrayList;" "CaseGrouper") ∈ lw_tbl := lw_at lw_m1 112 rfl
theorem q236 : (Jvm.Cond.fieldLinkNest "CaseGrouper$Reader" (247 : Nat) "CaseGrouper$Edition" "ranks" "Ljava/util/ArrayList;" "CaseGrouper") ∈ lw_tbl := lw_at lw_m1 116 rfl
theorem q240 : (Jvm.Cond.fieldLinkNest "CaseGrouper$Reader" (257 : Nat) "CaseGrouper$Edition" "partners" "Ljava/util/ArrayList;" "CaseGrouper") ∈ lw_tbl := lw_at lw_m1 120 rfl
theorem q250 : (Jvm.Cond.fieldLinkNest "CaseGrouper$Reader" (305 : Nat) "CaseGrouper$Edition" "weights" "[S" "CaseGrouper") ∈ lw_tbl := lw_at lw_m1 130 rfl
theorem q253 : (Jvm.Cond.fieldLinkNest "CaseGrouper$Reader" (302 : Nat) "CaseGrouper$Edition" "classes" "I" "CaseGrouper") ∈ lw_tbl := lw_at lw_m1 133 rfl
theorem q255 : (Jvm.Cond.fieldLinkNest "CaseGrouper$Reader" (280 : Nat) "CaseGrouper$Edition" "nodes" "I" "CaseGrouper") ∈ lw_tbl := lw_at lw_m1 135 rfl
theorem q277 : (Jvm.Cond.fieldLink "CaseGrouper$Reader" (22 : Nat) "CaseGrouper$Reader" "size" "I") ∈ lw_all := lw_g (lw_at lw_m1 157 rfl) rfl
theorem q278 : (Jvm.Cond.fieldLink "CaseGrouper$Reader" (18 : Nat) "CaseGrouper$Reader" "e" "LCaseGrouper$Edition;") ∈ lw_all := lw_g (lw_at lw_m1 158 rfl) rfl
theorem q279 : (Jvm.Cond.fieldLink "CaseGrouper$Reader" (26 : Nat) "CaseGrouper$Reader" "p" "I") ∈ lw_all := lw_g (lw_at lw_m1 159 rfl) rfl
theorem q280 : (Jvm.Cond.fieldLink "CaseGrouper$Reader" (39 : Nat) "CaseGrouper$Reader" "at" "I") ∈ lw_all := lw_g (lw_at lw_m1 160 rfl) rfl
theorem q281 : (Jvm.Cond.fieldLink "CaseGrouper$Reader" (57 : Nat) "CaseGrouper$Reader" "token" "Ljava/lang/Object;") ∈ lw_all := lw_g (lw_at lw_m1 161 rfl) rfl
theorem q282 : (Jvm.Cond.fieldLink "CaseGrouper$Reader" (53 : Nat) "CaseGrouper$Reader" "ended" "Z") ∈ lw_all := lw_g (lw_at lw_m1 162 rfl) rfl
theorem q283 : (Jvm.Cond.fieldLink "CaseGrouper$Reader" (270 : Nat) "CaseGrouper$Reader" "open" "I") ∈ lw_all := lw_g (lw_at lw_m1 163 rfl) rfl
theorem q285 : (Jvm.Cond.fieldLink "CaseGrouper$Reader" (377 : Nat) "CaseGrouper$Reader" "lines" "I") ∈ lw_all := lw_g (lw_at lw_m1 165 rfl) rfl
theorem q286 : (Jvm.Cond.fieldLink "CaseGrouper$Reader" (265 : Nat) "CaseGrouper$Reader" "chapter" "LCaseGrouper$Chapter;") ∈ lw_all := lw_g (lw_at lw_m1 166 rfl) rfl
theorem q287 : (Jvm.Cond.fieldLink "CaseGrouper$Reader" (3 : Nat) "CaseGrouper$Reader" "this$0" "LCaseGrouper;") ∈ lw_all := lw_g (lw_at lw_m1 167 rfl) rfl
theorem q288 : (Jvm.Cond.laysFinal "CaseGrouper$Reader" "CaseGrouper$Reader" "size" "I") ∈ lw_all := lw_g (lw_at lw_m1 168 rfl) rfl
theorem q289 : (Jvm.Cond.soleField "CaseGrouper$Reader" "size") ∈ lw_all := lw_g (lw_at lw_m1 169 rfl) rfl
theorem q290 : (Jvm.Cond.laysFinal "CaseGrouper$Reader" "CaseGrouper$Reader" "e" "LCaseGrouper$Edition;") ∈ lw_all := lw_g (lw_at lw_m1 170 rfl) rfl
theorem q291 : (Jvm.Cond.soleField "CaseGrouper$Reader" "e") ∈ lw_all := lw_g (lw_at lw_m1 171 rfl) rfl
theorem q292 : (Jvm.Cond.lays "CaseGrouper$Reader" "CaseGrouper$Reader" "p" "I") ∈ lw_all := lw_g (lw_at lw_m1 172 rfl) rfl
theorem q293 : (Jvm.Cond.soleField "CaseGrouper$Reader" "p") ∈ lw_all := lw_g (lw_at lw_m1 173 rfl) rfl
theorem q294 : (Jvm.Cond.lays "CaseGrouper$Reader" "CaseGrouper$Reader" "at" "I") ∈ lw_all := lw_g (lw_at lw_m1 174 rfl) rfl
theorem q295 : (Jvm.Cond.soleField "CaseGrouper$Reader" "at") ∈ lw_all := lw_g (lw_at lw_m1 175 rfl) rfl
theorem q296 : (Jvm.Cond.lays "CaseGrouper$Reader" "CaseGrouper$Reader" "token" "Ljava/lang/Object;") ∈ lw_all := lw_g (lw_at lw_m1 176 rfl) rfl
theorem q297 : (Jvm.Cond.soleField "CaseGrouper$Reader" "token") ∈ lw_all := lw_g (lw_at lw_m1 177 rfl) rfl
theorem q298 : (Jvm.Cond.lays "CaseGrouper$Reader" "CaseGrouper$Reader" "ended" "Z") ∈ lw_all := lw_g (lw_at lw_m1 178 rfl) rfl
theorem q299 : (Jvm.Cond.soleField "CaseGrouper$Reader" "ended") ∈ lw_all := lw_g (lw_at lw_m1 179 rfl) rfl
theorem q300 : (Jvm.Cond.lays "CaseGrouper$Reader" "CaseGrouper$Reader" "open" "I") ∈ lw_all := lw_g (lw_at lw_m1 180 rfl) rfl
theorem q301 : (Jvm.Cond.soleField "CaseGrouper$Reader" "open") ∈ lw_all := lw_g (lw_at lw_m1 181 rfl) rfl
theorem q302 : (Jvm.Cond.lays "CaseGrouper$Reader" "CaseGrouper$Reader" "lines" "I") ∈ lw_all := lw_g (lw_at lw_m1 182 rfl) rfl
theorem q303 : (Jvm.Cond.soleField "CaseGrouper$Reader" "lines") ∈ lw_all := lw_g (lw_at lw_m1 183 rfl) rfl
theorem q304 : (Jvm.Cond.lays "CaseGrouper$Reader" "CaseGrouper$Reader" "chapter" "LCaseGrouper$Chapter;") ∈ lw_all := lw_g (lw_at lw_m1 184 rfl) rfl
theorem q305 : (Jvm.Cond.soleField "CaseGrouper$Reader" "chapter") ∈ lw_all := lw_g (lw_at lw_m1 185 rfl) rfl
theorem q306 : (Jvm.Cond.laysFinal "CaseGrouper$Reader" "CaseGrouper$Reader" "this$0" "LCaseGrouper;") ∈ lw_all := lw_g (lw_at lw_m1 186 rfl) rfl
theorem q307 : (Jvm.Cond.soleField "CaseGrouper$Reader" "this$0") ∈ lw_all := lw_g (lw_at lw_m1 187 rfl) rfl
theorem q308 : (Jvm.Cond.superclass "CaseGrouper$Reader" "java/lang/Object") ∈ lw_all := lw_g (lw_at lw_m1 188 rfl) rfl
theorem q310 : (Jvm.Cond.instanceMethod ({ cls := "CaseGrouper$Reader", name := "whole", desc := "()LCaseGrouper$Edition;" } : Jvm.MethodName)) ∈ lw_all := lw_g (lw_at lw_m1 190 rfl) rfl
theorem q311 : (Jvm.Cond.selects "CaseGrouper$Reader" ({ cls := "CaseGrouper$Reader", name := "whole", desc := "()LCaseGrouper$Edition;" } : Jvm.MethodName) ({ cls := "CaseGrouper$Reader", name := "whole", desc := "()LCaseGrouper$Edition;" } : Jvm.MethodName)) ∈ lw_all := lw_g (lw_at lw_m1 191 rfl) rfl
theorem q312 : (Jvm.Cond.codeWith ({ cls := "CaseGrouper$Reader", name := "whole", desc := "()LCaseGrouper$Edition;" } : Jvm.MethodName) prog_12_method_37_code (2 : Nat) (Option.some (Jvm.ClassFile.FieldType.object "CaseGrouper$Edition")) [((0 : Nat), (80 : Nat), (83 : Nat), (37 : Nat))]) ∈ lw_all := lw_g (lw_at lw_m1 192 rfl) rfl
theorem q313 : (Jvm.Cond.classLink "CaseGrouper$Reader" (37 : Nat) "CaseGrouper$Wrong") ∈ lw_all := lw_g (lw_at lw_m1 193 rfl) rfl
theorem q314 : (Jvm.Cond.methodLink "CaseGrouper$Reader" (130 : Nat) ({ cls := "CaseGrouper$Reader", name := "next", desc := "()V" } : Jvm.MethodName)) ∈ lw_all := lw_g (lw_at lw_m1 194 rfl) rfl
theorem q315 : (Jvm.Cond.privateMethod ({ cls := "CaseGrouper$Reader", name := "next", desc := "()V" } : Jvm.MethodName)) ∈ lw_tbl := lw_at lw_m1 195 rfl
theorem q316 : (Jvm.Cond.instanceMethod ({ cls := "CaseGrouper$Reader", name := "next", desc := "()V" } : Jvm.MethodName)) ∈ lw_all := lw_g (lw_at lw_m1 196 rfl) rfl
theorem q317 : (Jvm.Cond.code ({ cls := "CaseGrouper$Reader", name := "next", desc := "()V" } : Jvm.MethodName) prog_12_method_7_code (2 : Nat) (Option.none : Option Jvm.ClassFile.FieldType)) ∈ lw_all := lw_g (lw_at lw_m1 197 rfl) rfl
theorem q318 : (Jvm.Cond.methodLink "CaseGrouper$Reader" (49 : Nat) ({ cls := "CaseGrouper$Reader", name := "here", desc := "()I" } : Jvm.MethodName)) ∈ lw_all := lw_g (lw_at lw_m1 198 rfl) rfl
theorem q319 : (Jvm.Cond.privateMethod ({ cls := "CaseGrouper$Reader", name := "here", desc := "()I" } : Jvm.MethodName)) ∈ lw_tbl := lw_at lw_m1 199 rfl
theorem q320 : (Jvm.Cond.instanceMethod ({ cls := "CaseGrouper$Reader", name := "here", desc := "()I" } : Jvm.MethodName)) ∈ lw_all := lw_g (lw_at lw_m1 200 rfl) rfl
theorem q321 : (Jvm.Cond.code ({ cls := "CaseGrouper$Reader", name := "here", desc := "()I" } : Jvm.MethodName) prog_12_method_2_code (1 : Nat) (Option.some Jvm.ClassFile.FieldType.int)) ∈ lw_all := lw_g (lw_at lw_m1 201 rfl) rfl
theorem q322 : (Jvm.Cond.methodLink "CaseGrouper$Reader" (61 : Nat) ({ cls := "CaseGrouper$Reader", name := "isLetter", desc := "(I)Z" } : Jvm.MethodName)) ∈ lw_all := lw_g (lw_at lw_m1 202 rfl) rfl
theorem q323 : (Jvm.Cond.privateMethod ({ cls := "CaseGrouper$Reader", name := "isLetter", desc := "(I)Z" } : Jvm.MethodName)) ∈ lw_tbl := lw_at lw_m1 203 rfl
theorem q324 : (Jvm.Cond.instanceMethod ({ cls := "CaseGrouper$Reader", name := "isLetter", desc := "(I)Z" } : Jvm.MethodName)) ∈ lw_all := lw_g (lw_at lw_m1 204 rfl) rfl
theorem q325 : (Jvm.Cond.code ({ cls := "CaseGrouper$Reader", name := "isLetter", desc := "(I)Z" } : Jvm.MethodName) prog_12_method_3_code (2 : Nat) (Option.some Jvm.ClassFile.FieldType.boolean)) ∈ lw_all := lw_g (lw_at lw_m1 205 rfl) rfl
theorem q326 : (Jvm.Cond.methodLinkNest "CaseGrouper$Reader" (33 : Nat) ({ cls := "CaseGrouper", name := "within", desc := "(III)Z" } : Jvm.MethodName) "CaseGrouper") ∈ lw_tbl := lw_at lw_m1 206 rfl
theorem q327 : (Jvm.Cond.methodLink "CaseGrouper$Reader" (65 : Nat) ({ cls := "CaseGrouper$Reader", name := "isDigit", desc := "(I)Z" } : Jvm.MethodName)) ∈ lw_all := lw_g (lw_at lw_m1 207 rfl) rfl
theorem q328 : (Jvm.Cond.privateMethod ({ cls := "CaseGrouper$Reader", name := "isDigit", desc := "(I)Z" } : Jvm.MethodName)) ∈ lw_tbl := lw_at lw_m1 208 rfl
theorem q329 : (Jvm.Cond.instanceMethod ({ cls := "CaseGrouper$Reader", name := "isDigit", desc := "(I)Z" } : Jvm.MethodName)) ∈ lw_all := lw_g (lw_at lw_m1 209 rfl) rfl
theorem q330 : (Jvm.Cond.code ({ cls := "CaseGrouper$Reader", name := "isDigit", desc := "(I)Z" } : Jvm.MethodName) prog_12_method_4_code (2 : Nat) (Option.some Jvm.ClassFile.FieldType.boolean)) ∈ lw_all := lw_g (lw_at lw_m1 210 rfl) rfl
theorem q331 : (Jvm.Cond.methodLink "CaseGrouper$Reader" (68 : Nat) ({ cls := "CaseGrouper$Reader", name := "runs", desc := "()V" } : Jvm.MethodName)) ∈ lw_all := lw_g (lw_at lw_m1 211 rfl) rfl
theorem q332 : (Jvm.Cond.privateMethod ({ cls := "CaseGrouper$Reader", name := "runs", desc := "()V" } : Jvm.MethodName)) ∈ lw_tbl := lw_at lw_m1 212 rfl
theorem q333 : (Jvm.Cond.instanceMethod ({ cls := "CaseGrouper$Reader", name := "runs", desc := "()V" } : Jvm.MethodName)) ∈ lw_all := lw_g (lw_at lw_m1 213 rfl) rfl
theorem q334 : (Jvm.Cond.code ({ cls := "CaseGrouper$Reader", name := "runs", desc := "()V" } : Jvm.MethodName) prog_12_method_8_code (4 : Nat) (Option.none : Option Jvm.ClassFile.FieldType)) ∈ lw_all := lw_g (lw_at lw_m1 214 rfl) rfl
theorem q335 : (Jvm.Cond.classLink "CaseGrouper$Reader" (77 : Nat) "java/lang/StringBuilder") ∈ lw_all := lw_g (lw_at lw_m1 215 rfl) rfl
theorem q337 : (Jvm.Cond.methodLink "CaseGrouper$Reader" (79 : Nat) ({ cls := "java/lang/StringBuilder", name := "<init>", desc := "()V" } : Jvm.MethodName)) ∈ lw_all := lw_g (lw_at lw_m1 217 rfl) rfl
theorem q367 : (Jvm.Cond.methodLink "CaseGrouper$Reader" (80 : Nat) ({ cls := "java/lang/StringBuilder", name := "length", desc := "()I" } : Jvm.MethodName)) ∈ lw_all := lw_g (lw_at lw_m2 7 rfl) rfl
theorem q374 : (Jvm.Cond.methodLink "CaseGrouper$Reader" (83 : Nat) ({ cls := "java/lang/StringBuilder", name := "append", desc := "(C)Ljava/lang/StringBuilder;" } : Jvm.MethodName)) ∈ lw_all := lw_g (lw_at lw_m2 14 rfl) rfl
theorem q469 : (Jvm.Cond.methodLink "CaseGrouper$Reader" (87 : Nat) ({ cls := "java/lang/StringBuilder", name := "toString", desc := "()Ljava/lang/String;" } : Jvm.MethodName)) ∈ lw_all := lw_g (lw_at lw_m2 109 rfl) rfl
theorem q525 : (Jvm.Cond.methodLink "CaseGrouper$Reader" (91 : Nat) ({ cls := "CaseGrouper$Reader", name := "numberOf", desc := "(Ljava/lang/StringBuilder;I)I" } : Jvm.MethodName)) ∈ lw_all := lw_g (lw_at lw_m2 165 rfl) rfl
theorem q526 : (Jvm.Cond.privateMethod ({ cls := "CaseGrouper$Reader", name := "numberOf", desc := "(Ljava/lang/StringBuilder;I)I" } : Jvm.MethodName)) ∈ lw_tbl := lw_at lw_m2 166 rfl
theorem q527 : (Jvm.Cond.instanceMethod ({ cls := "CaseGrouper$Reader", name := "numberOf", desc := "(Ljava/lang/StringBuilder;I)I" } : Jvm.MethodName)) ∈ lw_all := lw_g (lw_at lw_m2 167 rfl) rfl
theorem q528 : (Jvm.Cond.code ({ cls := "CaseGrouper$Reader", name := "numberOf", desc := "(Ljava/lang/StringBuilder;I)I" } : Jvm.MethodName) prog_12_method_9_code (5 : Nat) (Option.some Jvm.ClassFile.FieldType.int)) ∈ lw_all := lw_g (lw_at lw_m2 168 rfl) rfl
theorem q529 : (Jvm.Cond.methodLink "CaseGrouper$Reader" (104 : Nat) ({ cls := "java/lang/StringBuilder", name := "charAt", desc := "(I)C" } : Jvm.MethodName)) ∈ lw_all := lw_g (lw_at lw_m2 169 rfl) rfl
theorem q539 : (Jvm.Cond.methodLink "CaseGrouper$Reader" (95 : Nat) ({ cls := "java/lang/Integer", name := "valueOf", desc := "(I)Ljava/lang/Integer;" } : Jvm.MethodName)) ∈ lw_all := lw_g (lw_at lw_m2 179 rfl) rfl
theorem q559 : (Jvm.Cond.methodLink "CaseGrouper$Reader" (100 : Nat) ({ cls := "CaseGrouper$Reader", name := "codeOf", desc := "(Ljava/lang/StringBuilder;)Ljava/lang/Object;" } : Jvm.MethodName)) ∈ lw_all := lw_g (lw_at lw_m2 199 rfl) rfl
theorem q560 : (Jvm.Cond.privateMethod ({ cls := "CaseGrouper$Reader", name := "codeOf", desc := "(Ljava/lang/StringBuilder;)Ljava/lang/Object;" } : Jvm.MethodName)) ∈ lw_tbl := lw_at lw_m2 200 rfl
theorem q561 : (Jvm.Cond.instanceMethod ({ cls := "CaseGrouper$Reader", name := "codeOf", desc := "(Ljava/lang/StringBuilder;)Ljava/lang/Object;" } : Jvm.MethodName)) ∈ lw_all := lw_g (lw_at lw_m2 201 rfl) rfl
theorem q562 : (Jvm.Cond.code ({ cls := "CaseGrouper$Reader", name := "codeOf", desc := "(Ljava/lang/StringBuilder;)Ljava/lang/Object;" } : Jvm.MethodName) prog_12_method_10_code (3 : Nat) (Option.some (Jvm.ClassFile.FieldType.object "java/lang/Object"))) ∈ lw_all := lw_g (lw_at lw_m2 202 rfl) rfl
theorem q563 : (Jvm.Cond.classLink "CaseGrouper$Reader" (108 : Nat) "CaseGrouper$Code") ∈ lw_all := lw_g (lw_at lw_m2 203 rfl) rfl
theorem q565 : (Jvm.Cond.methodLink "CaseGrouper$Reader" (110 : Nat) ({ cls := "CaseGrouper$Code", name := "<init>", desc := "(I)V" } : Jvm.MethodName)) ∈ lw_all := lw_g (lw_at lw_m2 205 rfl) rfl
theorem q570 : (Jvm.Cond.fieldLinkNest "CaseGrouper$Reader" (144 : Nat) "CaseGrouper$Code" "number" "I" "CaseGrouper") ∈ lw_tbl := lw_at lw_m2 210 rfl
theorem q574 : (Jvm.Cond.methodLink "CaseGrouper$Reader" (71 : Nat) ({ cls := "java/lang/Character", name := "valueOf", desc := "(C)Ljava/lang/Character;" } : Jvm.MethodName)) ∈ lw_all := lw_g (lw_at lw_m2 214 rfl) rfl
theorem q589 : (Jvm.Cond.methodLink "CaseGrouper$Reader" (374 : Nat) ({ cls := "CaseGrouper$Reader", name := "line", desc := "()V" } : Jvm.MethodName)) ∈ lw_all := lw_g (lw_at lw_m2 229 rfl) rfl
theorem q590 : (Jvm.Cond.privateMethod ({ cls := "CaseGrouper$Reader", name := "line", desc := "()V" } : Jvm.MethodName)) ∈ lw_tbl := lw_at lw_m2 230 rfl
theorem q591 : (Jvm.Cond.instanceMethod ({ cls := "CaseGrouper$Reader", name := "line", desc := "()V" } : Jvm.MethodName)) ∈ lw_all := lw_g (lw_at lw_m2 231 rfl) rfl
theorem q592 : (Jvm.Cond.code ({ cls := "CaseGrouper$Reader", name := "line", desc := "()V" } : Jvm.MethodName) prog_12_method_21_code (3 : Nat) (Option.none : Option Jvm.ClassFile.FieldType)) ∈ lw_all := lw_g (lw_at lw_m2 232 rfl) rfl
theorem q593 : (Jvm.Cond.classLink "CaseGrouper$Reader" (113 : Nat) "java/lang/String") ∈ lw_all := lw_g (lw_at lw_m2 233 rfl) rfl
theorem q594 : (Jvm.Cond.methodLink "CaseGrouper$Reader" (126 : Nat) ({ cls := "CaseGrouper$Reader", name := "must", desc := "(ZI)V" } : Jvm.MethodName)) ∈ lw_all := lw_g (lw_at lw_m2 234 rfl) rfl
theorem q595 : (Jvm.Cond.privateMethod ({ cls := "CaseGrouper$Reader", name := "must", desc := "(ZI)V" } : Jvm.MethodName)) ∈ lw_tbl := lw_at lw_m2 235 rfl
theorem q596 : (Jvm.Cond.instanceMethod ({ cls := "CaseGrouper$Reader", name := "must", desc := "(ZI)V" } : Jvm.MethodName)) ∈ lw_all := lw_g (lw_at lw_m2 236 rfl) rfl
theorem q597 : (Jvm.Cond.code ({ cls := "CaseGrouper$Reader", name := "must", desc := "(ZI)V" } : Jvm.MethodName) prog_12_method_6_code (3 : Nat) (Option.none : Option Jvm.ClassFile.FieldType)) ∈ lw_all := lw_g (lw_at lw_m2 237 rfl) rfl
theorem q598 : (Jvm.Cond.methodLink "CaseGrouper$Reader" (45 : Nat) ({ cls := "CaseGrouper$Reader", name := "wrong", desc := "(I)LCaseGrouper$Wrong;" } : Jvm.MethodName)) ∈ lw_all := lw_g (lw_at lw_m2 238 rfl) rfl
theorem q599 : (Jvm.Cond.privateMethod ({ cls := "CaseGrouper$Reader", name := "wrong", desc := "(I)LCaseGrouper$Wrong;" } : Jvm.MethodName)) ∈ lw_tbl := lw_at lw_m2 239 rfl
theorem q600 : (Jvm.Cond.instanceMethod ({ cls := "CaseGrouper$Reader", name := "wrong", desc := "(I)LCaseGrouper$Wrong;" } : Jvm.MethodName)) ∈ lw_all := lw_g (lw_at lw_m3 0 rfl) rfl
theorem q601 : (Jvm.Cond.code ({ cls := "CaseGrouper$Reader", name := "wrong", desc := "(I)LCaseGrouper$Wrong;" } : Jvm.MethodName) prog_12_method_5_code (2 : Nat) (Option.some (Jvm.ClassFile.FieldType.object "CaseGrouper$Wrong"))) ∈ lw_all := lw_g (lw_at lw_m3 1 rfl) rfl
theorem q656 : (Jvm.Cond.methodLink "CaseGrouper$Reader" (42 : Nat) ({ cls := "CaseGrouper$Wrong", name := "<init>", desc := "(II)V" } : Jvm.MethodName)) ∈ lw_all := lw_g (lw_at lw_m3 56 rfl) rfl
theorem q682 : (Jvm.Cond.methodLink "CaseGrouper$Reader" (170 : Nat) ({ cls := "java/lang/String", name := "hashCode", desc := "()I" } : Jvm.MethodName)) ∈ lw_all := lw_g (lw_at lw_m3 82 rfl) rfl
theorem q735 : (Jvm.Cond.stringRef "CaseGrouper$Reader" (173 : Nat) "chapter") ∈ lw_tbl := lw_at lw_m3 135 rfl
theorem q736 : (Jvm.Cond.methodLink "CaseGrouper$Reader" (115 : Nat) ({ cls := "java/lang/String", name := "equals", desc := "(Ljava/lang/Object;)Z" } : Jvm.MethodName)) ∈ lw_all := lw_g (lw_at lw_m3 136 rfl) rfl
theorem q744 : (Jvm.Cond.stringRef "CaseGrouper$Reader" (175 : Nat) "rank") ∈ lw_tbl := lw_at lw_m3 144 rfl
theorem q745 : (Jvm.Cond.stringRef "CaseGrouper$Reader" (177 : Nat) "partner") ∈ lw_tbl := lw_at lw_m3 145 rfl
theorem q746 : (Jvm.Cond.stringRef "CaseGrouper$Reader" (179 : Nat) "tree") ∈ lw_tbl := lw_at lw_m3 146 rfl
theorem q747 : (Jvm.Cond.methodLink "CaseGrouper$Reader" (214 : Nat) ({ cls := "CaseGrouper$Reader", name := "chapter", desc := "()V" } : Jvm.MethodName)) ∈ lw_all := lw_g (lw_at lw_m3 147 rfl) rfl
theorem q748 : (Jvm.Cond.privateMethod ({ cls := "CaseGrouper$Reader", name := "chapter", desc := "()V" } : Jvm.MethodName)) ∈ lw_tbl := lw_at lw_m3 148 rfl
theorem q749 : (Jvm.Cond.instanceMethod ({ cls := "CaseGrouper$Reader", name := "chapter", desc := "()V" } : Jvm.MethodName)) ∈ lw_all := lw_g (lw_at lw_m3 149 rfl) rfl
theorem q750 : (Jvm.Cond.code ({ cls := "CaseGrouper$Reader", name := "chapter", desc := "()V" } : Jvm.MethodName) prog_12_method_22_code (3 : Nat) (Option.none : Option Jvm.ClassFile.FieldType)) ∈ lw_all := lw_g (lw_at lw_m3 150 rfl) rfl
theorem q751 : (Jvm.Cond.methodLink "CaseGrouper$Reader" (165 : Nat) ({ cls := "java/util/ArrayList", name := "size", desc := "()I" } : Jvm.MethodName)) ∈ lw_all := lw_g (lw_at lw_m3 151 rfl) rfl
theorem q755 : (Jvm.Cond.methodLink "CaseGrouper$Reader" (229 : Nat) ({ cls := "CaseGrouper$Reader", name := "name", desc := "()Ljava/lang/String;" } : Jvm.MethodName)) ∈ lw_all := lw_g (lw_at lw_m3 155 rfl) rfl
theorem q756 : (Jvm.Cond.privateMethod ({ cls := "CaseGrouper$Reader", name := "name", desc := "()Ljava/lang/String;" } : Jvm.MethodName)) ∈ lw_tbl := lw_at lw_m3 156 rfl
theorem q757 : (Jvm.Cond.instanceMethod ({ cls := "CaseGrouper$Reader", name := "name", desc := "()Ljava/lang/String;" } : Jvm.MethodName)) ∈ lw_all := lw_g (lw_at lw_m3 157 rfl) rfl
theorem q758 : (Jvm.Cond.code ({ cls := "CaseGrouper$Reader", name := "name", desc := "()Ljava/lang/String;" } : Jvm.MethodName) prog_12_method_20_code (3 : Nat) (Option.some (Jvm.ClassFile.FieldType.object "java/lang/String"))) ∈ lw_all := lw_g (lw_at lw_m3 158 rfl) rfl
theorem q759 : (Jvm.Cond.methodLink "CaseGrouper$Reader" (211 : Nat) ({ cls := "CaseGrouper$Reader", name := "isTold", desc := "(Ljava/lang/String;)Z" } : Jvm.MethodName)) ∈ lw_all := lw_g (lw_at lw_m3 159 rfl) rfl
theorem q760 : (Jvm.Cond.privateMethod ({ cls := "CaseGrouper$Reader", name := "isTold", desc := "(Ljava/lang/String;)Z" } : Jvm.MethodName)) ∈ lw_tbl := lw_at lw_m3 160 rfl
theorem q761 : (Jvm.Cond.instanceMethod ({ cls := "CaseGrouper$Reader", name := "isTold", desc := "(Ljava/lang/String;)Z" } : Jvm.MethodName)) ∈ lw_all := lw_g (lw_at lw_m3 161 rfl) rfl
theorem q762 : (Jvm.Cond.code ({ cls := "CaseGrouper$Reader", name := "isTold", desc := "(Ljava/lang/String;)Z" } : Jvm.MethodName) prog_12_method_19_code (4 : Nat) (Option.some Jvm.ClassFile.FieldType.boolean)) ∈ lw_all := lw_g (lw_at lw_m3 162 rfl) rfl
theorem q763 : (Jvm.Cond.stringRef "CaseGrouper$Reader" (151 : Nat) "to") ∈ lw_tbl := lw_at lw_m3 163 rfl
theorem q764 : (Jvm.Cond.stringRef "CaseGrouper$Reader" (181 : Nat) "but") ∈ lw_tbl := lw_at lw_m3 164 rfl
theorem q765 : (Jvm.Cond.stringRef "CaseGrouper$Reader" (183 : Nat) "class") ∈ lw_tbl := lw_at lw_m3 165 rfl
theorem q766 : (Jvm.Cond.stringRef "CaseGrouper$Reader" (185 : Nat) "if") ∈ lw_tbl := lw_at lw_m3 166 rfl
theorem q767 : (Jvm.Cond.stringRef "CaseGrouper$Reader" (187 : Nat) "then") ∈ lw_tbl := lw_at lw_m3 167 rfl
theorem q768 : (Jvm.Cond.stringRef "CaseGrouper$Reader" (189 : Nat) "else") ∈ lw_tbl := lw_at lw_m3 168 rfl
theorem q769 : (Jvm.Cond.stringRef "CaseGrouper$Reader" (191 : Nat) "or") ∈ lw_tbl := lw_at lw_m3 169 rfl
theorem q770 : (Jvm.Cond.stringRef "CaseGrouper$Reader" (193 : Nat) "and") ∈ lw_tbl := lw_at lw_m3 170 rfl
theorem q771 : (Jvm.Cond.stringRef "CaseGrouper$Reader" (195 : Nat) "not") ∈ lw_tbl := lw_at lw_m3 171 rfl
theorem q772 : (Jvm.Cond.stringRef "CaseGrouper$Reader" (197 : Nat) "has") ∈ lw_tbl := lw_at lw_m3 172 rfl
theorem q773 : (Jvm.Cond.stringRef "CaseGrouper$Reader" (199 : Nat) "main") ∈ lw_tbl := lw_at lw_m3 173 rfl
theorem q774 : (Jvm.Cond.stringRef "CaseGrouper$Reader" (201 : Nat) "did") ∈ lw_tbl := lw_at lw_m3 174 rfl
theorem q775 : (Jvm.Cond.stringRef "CaseGrouper$Reader" (203 : Nat) "age") ∈ lw_tbl := lw_at lw_m3 175 rfl
theorem q776 : (Jvm.Cond.stringRef "CaseGrouper$Reader" (205 : Nat) "days") ∈ lw_tbl := lw_at lw_m3 176 rfl
theorem q777 : (Jvm.Cond.stringRef "CaseGrouper$Reader" (207 : Nat) "level") ∈ lw_tbl := lw_at lw_m3 177 rfl
theorem q778 : (Jvm.Cond.stringRef "CaseGrouper$Reader" (209 : Nat) "top") ∈ lw_tbl := lw_at lw_m3 178 rfl
theorem q779 : (Jvm.Cond.methodLink "CaseGrouper$Reader" (232 : Nat) ({ cls := "CaseGrouper$Edition", name := "find", desc := "(Ljava/lang/String;)LCaseGrouper$Chapter;" } : Jvm.MethodName)) ∈ lw_all := lw_g (lw_at lw_m3 179 rfl) rfl
theorem q798 : (Jvm.Cond.classLink "CaseGrouper$Reader" (236 : Nat) "CaseGrouper$Chapter") ∈ lw_all := lw_g (lw_at lw_m3 198 rfl) rfl
theorem q800 : (Jvm.Cond.methodLink "CaseGrouper$Reader" (238 : Nat) ({ cls := "CaseGrouper$Chapter", name := "<init>", desc := "(Ljava/lang/String;)V" } : Jvm.MethodName)) ∈ lw_all := lw_g (lw_at lw_m3 200 rfl) rfl
theorem q810 : (Jvm.Cond.fieldLinkNest "CaseGrouper$Reader" (241 : Nat) "CaseGrouper$Chapter" "spans" "Ljava/util/ArrayList;" "CaseGrouper") ∈ lw_tbl := lw_at lw_m3 210 rfl
theorem q813 : (Jvm.Cond.fieldLinkNest "CaseGrouper$Reader" (268 : Nat) "CaseGrouper$Chapter" "tree" "Ljava/lang/Object;" "CaseGrouper") ∈ lw_tbl := lw_at lw_m3 213 rfl
theorem q816 : (Jvm.Cond.fieldLinkNest "CaseGrouper$Reader" (356 : Nat) "CaseGrouper$Chapter" "atoms" "Ljava/util/ArrayList;" "CaseGrouper") ∈ lw_tbl := lw_at lw_m3 216 rfl
theorem q819 : (Jvm.Cond.fieldLinkNest "CaseGrouper$Reader" (316 : Nat) "CaseGrouper$Chapter" "leaves" "Ljava/util/ArrayList;" "CaseGrouper") ∈ lw_tbl := lw_at lw_m3 219 rfl
theorem q831 : (Jvm.Cond.methodLink "CaseGrouper$Reader" (244 : Nat) ({ cls := "CaseGrouper$Reader", name := "spans", desc := "(Ljava/util/ArrayList;)V" } : Jvm.MethodName)) ∈ lw_all := lw_g (lw_at lw_m3 231 rfl) rfl
theorem q832 : (Jvm.Cond.privateMethod ({ cls := "CaseGrouper$Reader", name := "spans", desc := "(Ljava/util/ArrayList;)V" } : Jvm.MethodName)) ∈ lw_tbl := lw_at lw_m3 232 rfl
theorem q833 : (Jvm.Cond.instanceMethod ({ cls := "CaseGrouper$Reader", name := "spans", desc := "(Ljava/util/ArrayList;)V" } : Jvm.MethodName)) ∈ lw_all := lw_g (lw_at lw_m3 233 rfl) rfl
theorem q834 : (Jvm.Cond.code ({ cls := "CaseGrouper$Reader", name := "spans", desc := "(Ljava/util/ArrayList;)V" } : Jvm.MethodName) prog_12_method_18_code (4 : Nat) (Option.none : Option Jvm.ClassFile.FieldType)) ∈ lw_all := lw_g (lw_at lw_m3 234 rfl) rfl
theorem q835 : (Jvm.Cond.methodLink "CaseGrouper$Reader" (156 : Nat) ({ cls := "CaseGrouper$Reader", name := "span", desc := "(Z)LCaseGrouper$Span;" } : Jvm.MethodName)) ∈ lw_all := lw_g (lw_at lw_m3 235 rfl) rfl
theorem q836 : (Jvm.Cond.privateMethod ({ cls := "CaseGrouper$Reader", name := "span", desc := "(Z)LCaseGrouper$Span;" } : Jvm.MethodName)) ∈ lw_tbl := lw_at lw_m3 236 rfl
theorem q837 : (Jvm.Cond.instanceMethod ({ cls := "CaseGrouper$Reader", name := "span", desc := "(Z)LCaseGrouper$Span;" } : Jvm.MethodName)) ∈ lw_all := lw_g (lw_at lw_m3 237 rfl) rfl
theorem q838 : (Jvm.Cond.code ({ cls := "CaseGrouper$Reader", name := "span", desc := "(Z)LCaseGrouper$Span;" } : Jvm.MethodName) prog_12_method_17_code (3 : Nat) (Option.some (Jvm.ClassFile.FieldType.object "CaseGrouper$Span"))) ∈ lw_all := lw_g (lw_at lw_m3 238 rfl) rfl
theorem q839 : (Jvm.Cond.methodLink "CaseGrouper$Reader" (147 : Nat) ({ cls := "CaseGrouper$Reader", name := "code", desc := "(II)I" } : Jvm.MethodName)) ∈ lw_all := lw_g (lw_at lw_m3 239 rfl) rfl
theorem q840 : (Jvm.Cond.privateMethod ({ cls := "CaseGrouper$Reader", name := "code", desc := "(II)I" } : Jvm.MethodName)) ∈ lw_tbl := lw_at lw_m4 0 rfl
theorem q841 : (Jvm.Cond.instanceMethod ({ cls := "CaseGrouper$Reader", name := "code", desc := "(II)I" } : Jvm.MethodName)) ∈ lw_all := lw_g (lw_at lw_m4 1 rfl) rfl
theorem q842 : (Jvm.Cond.codeWith ({ cls := "CaseGrouper$Reader", name := "code", desc := "(II)I" } : Jvm.MethodName) prog_12_method_16_code (4 : Nat) (Option.some Jvm.ClassFile.FieldType.int) [((0 : Nat), (27 : Nat), (28 : Nat), (140 : Nat)), ((0 : Nat), (27 : Nat), (28 : Nat), (142 : Nat))]) ∈ lw_all := lw_g (lw_at lw_m4 2 rfl) rfl
theorem q843 : (Jvm.Cond.classLink "CaseGrouper$Reader" (140 : Nat) "java/lang/ClassCastException") ∈ lw_all := lw_g (lw_at lw_m4 3 rfl) rfl
theorem q867 : (Jvm.Cond.classLink "CaseGrouper$Reader" (142 : Nat) "java/lang/NullPointerException") ∈ lw_all := lw_g (lw_at lw_m4 27 rfl) rfl
theorem q892 : (Jvm.Cond.methodLink "CaseGrouper$Reader" (133 : Nat) ({ cls := "CaseGrouper$Reader", name := "isWord", desc := "(Ljava/lang/String;)Z" } : Jvm.MethodName)) ∈ lw_all := lw_g (lw_at lw_m4 52 rfl) rfl
theorem q893 : (Jvm.Cond.privateMethod ({ cls := "CaseGrouper$Reader", name := "isWord", desc := "(Ljava/lang/String;)Z" } : Jvm.MethodName)) ∈ lw_tbl := lw_at lw_m4 53 rfl
theorem q894 : (Jvm.Cond.instanceMethod ({ cls := "CaseGrouper$Reader", name := "isWord", desc := "(Ljava/lang/String;)Z" } : Jvm.MethodName)) ∈ lw_all := lw_g (lw_at lw_m4 54 rfl) rfl
theorem q895 : (Jvm.Cond.code ({ cls := "CaseGrouper$Reader", name := "isWord", desc := "(Ljava/lang/String;)Z" } : Jvm.MethodName) prog_12_method_11_code (4 : Nat) (Option.some Jvm.ClassFile.FieldType.boolean)) ∈ lw_all := lw_g (lw_at lw_m4 55 rfl) rfl
theorem q896 : (Jvm.Cond.classLink "CaseGrouper$Reader" (153 : Nat) "CaseGrouper$Span") ∈ lw_all := lw_g (lw_at lw_m4 56 rfl) rfl
theorem q898 : (Jvm.Cond.methodLink "CaseGrouper$Reader" (155 : Nat) ({ cls := "CaseGrouper$Span", name := "<init>", desc := "(II)V" } : Jvm.MethodName)) ∈ lw_all := lw_g (lw_at lw_m4 58 rfl) rfl
theorem q909 : (Jvm.Cond.methodLink "CaseGrouper$Reader" (160 : Nat) ({ cls := "java/util/ArrayList", name := "add", desc := "(Ljava/lang/Object;)Z" } : Jvm.MethodName)) ∈ lw_all := lw_g (lw_at lw_m4 69 rfl) rfl
theorem q942 : (Jvm.Cond.selects "CaseGrouper$Reader" ({ cls := "java/lang/Object", name := "getClass", desc := "()Ljava/lang/Class;" } : Jvm.MethodName) ({ cls := "java/lang/Object", name := "getClass", desc := "()Ljava/lang/Class;" } : Jvm.MethodName)) ∈ lw_all := lw_g (lw_at lw_m4 102 rfl) rfl
theorem q969 : (Jvm.Cond.methodLink "CaseGrouper$Reader" (123 : Nat) ({ cls := "CaseGrouper$Reader", name := "isSign", desc := "(I)Z" } : Jvm.MethodName)) ∈ lw_all := lw_g (lw_at lw_m4 129 rfl) rfl
theorem q970 : (Jvm.Cond.privateMethod ({ cls := "CaseGrouper$Reader", name := "isSign", desc := "(I)Z" } : Jvm.MethodName)) ∈ lw_tbl := lw_at lw_m4 130 rfl
theorem q971 : (Jvm.Cond.instanceMethod ({ cls := "CaseGrouper$Reader", name := "isSign", desc := "(I)Z" } : Jvm.MethodName)) ∈ lw_all := lw_g (lw_at lw_m4 131 rfl) rfl
theorem q972 : (Jvm.Cond.code ({ cls := "CaseGrouper$Reader", name := "isSign", desc := "(I)Z" } : Jvm.MethodName) prog_12_method_12_code (4 : Nat) (Option.some Jvm.ClassFile.FieldType.boolean)) ∈ lw_all := lw_g (lw_at lw_m4 132 rfl) rfl
theorem q973 : (Jvm.Cond.classLink "CaseGrouper$Reader" (72 : Nat) "java/lang/Character") ∈ lw_all := lw_g (lw_at lw_m4 133 rfl) rfl
theorem q974 : (Jvm.Cond.methodLink "CaseGrouper$Reader" (119 : Nat) ({ cls := "java/lang/Character", name := "charValue", desc := "()C" } : Jvm.MethodName)) ∈ lw_all := lw_g (lw_at lw_m4 134 rfl) rfl
theorem q978 : (Jvm.Cond.methodLinkNest "CaseGrouper$Reader" (167 : Nat) ({ cls := "CaseGrouper", name := "isDiagnosis", desc := "(I)Z" } : Jvm.MethodName) "CaseGrouper") ∈ lw_tbl := lw_at lw_m4 138 rfl
theorem q981 : (Jvm.Cond.methodLink "CaseGrouper$Reader" (216 : Nat) ({ cls := "CaseGrouper$Reader", name := "rank", desc := "()V" } : Jvm.MethodName)) ∈ lw_all := lw_g (lw_at lw_m4 141 rfl) rfl
theorem q982 : (Jvm.Cond.privateMethod ({ cls := "CaseGrouper$Reader", name := "rank", desc := "()V" } : Jvm.MethodName)) ∈ lw_tbl := lw_at lw_m4 142 rfl
theorem q983 : (Jvm.Cond.instanceMethod ({ cls := "CaseGrouper$Reader", name := "rank", desc := "()V" } : Jvm.MethodName)) ∈ lw_all := lw_g (lw_at lw_m4 143 rfl) rfl
theorem q984 : (Jvm.Cond.code ({ cls := "CaseGrouper$Reader", name := "rank", desc := "()V" } : Jvm.MethodName) prog_12_method_23_code (2 : Nat) (Option.none : Option Jvm.ClassFile.FieldType)) ∈ lw_all := lw_g (lw_at lw_m4 144 rfl) rfl
theorem q985 : (Jvm.Cond.classLink "CaseGrouper$Reader" (250 : Nat) "CaseGrouper$Rank") ∈ lw_all := lw_g (lw_at lw_m4 145 rfl) rfl
theorem q987 : (Jvm.Cond.methodLink "CaseGrouper$Reader" (252 : Nat) ({ cls := "CaseGrouper$Reader", name := "number", desc := "(II)I" } : Jvm.MethodName)) ∈ lw_all := lw_g (lw_at lw_m4 147 rfl) rfl
theorem q988 : (Jvm.Cond.privateMethod ({ cls := "CaseGrouper$Reader", name := "number", desc := "(II)I" } : Jvm.MethodName)) ∈ lw_tbl := lw_at lw_m4 148 rfl
theorem q989 : (Jvm.Cond.instanceMethod ({ cls := "CaseGrouper$Reader", name := "number", desc := "(II)I" } : Jvm.MethodName)) ∈ lw_all := lw_g (lw_at lw_m4 149 rfl) rfl
theorem q990 : (Jvm.Cond.codeWith ({ cls := "CaseGrouper$Reader", name := "number", desc := "(II)I" } : Jvm.MethodName) prog_12_method_15_code (4 : Nat) (Option.some Jvm.ClassFile.FieldType.int) [((0 : Nat), (27 : Nat), (28 : Nat), (140 : Nat)), ((0 : Nat), (27 : Nat), (28 : Nat), (142 : Nat))]) ∈ lw_all := lw_g (lw_at lw_m4 150 rfl) rfl
theorem q991 : (Jvm.Cond.classLink "CaseGrouper$Reader" (96 : Nat) "java/lang/Integer") ∈ lw_all := lw_g (lw_at lw_m4 151 rfl) rfl
theorem q992 : (Jvm.Cond.methodLink "CaseGrouper$Reader" (137 : Nat) ({ cls := "java/lang/Integer", name := "intValue", desc := "()I" } : Jvm.MethodName)) ∈ lw_all := lw_g (lw_at lw_m4 152 rfl) rfl
theorem q996 : (Jvm.Cond.methodLink "CaseGrouper$Reader" (254 : Nat) ({ cls := "CaseGrouper$Rank", name := "<init>", desc := "(LCaseGrouper$Span;I)V" } : Jvm.MethodName)) ∈ lw_all := lw_g (lw_at lw_m4 156 rfl) rfl
theorem q1009 : (Jvm.Cond.methodLink "CaseGrouper$Reader" (218 : Nat) ({ cls := "CaseGrouper$Reader", name := "partner", desc := "()V" } : Jvm.MethodName)) ∈ lw_all := lw_g (lw_at lw_m4 169 rfl) rfl
theorem q1010 : (Jvm.Cond.privateMethod ({ cls := "CaseGrouper$Reader", name := "partner", desc := "()V" } : Jvm.MethodName)) ∈ lw_tbl := lw_at lw_m4 170 rfl
theorem q1011 : (Jvm.Cond.instanceMethod ({ cls := "CaseGrouper$Reader", name := "partner", desc := "()V" } : Jvm.MethodName)) ∈ lw_all := lw_g (lw_at lw_m4 171 rfl) rfl
theorem q1012 : (Jvm.Cond.code ({ cls := "CaseGrouper$Reader", name := "partner", desc := "()V" } : Jvm.MethodName) prog_12_method_24_code (3 : Nat) (Option.none : Option Jvm.ClassFile.FieldType)) ∈ lw_all := lw_g (lw_at lw_m4 172 rfl) rfl
theorem q1013 : (Jvm.Cond.classLink "CaseGrouper$Reader" (260 : Nat) "CaseGrouper$Partner") ∈ lw_all := lw_g (lw_at lw_m4 173 rfl) rfl
theorem q1015 : (Jvm.Cond.methodLink "CaseGrouper$Reader" (262 : Nat) ({ cls := "CaseGrouper$Partner", name := "<init>", desc := "(LCaseGrouper$Span;I)V" } : Jvm.MethodName)) ∈ lw_all := lw_g (lw_at lw_m4 175 rfl) rfl
theorem q1027 : (Jvm.Cond.fieldLinkNest "CaseGrouper$Reader" (263 : Nat) "CaseGrouper$Partner" "but" "Ljava/util/ArrayList;" "CaseGrouper") ∈ lw_tbl := lw_at lw_m4 187 rfl
theorem q1035 : (Jvm.Cond.methodLink "CaseGrouper$Reader" (220 : Nat) ({ cls := "CaseGrouper$Reader", name := "tree", desc := "()V" } : Jvm.MethodName)) ∈ lw_all := lw_g (lw_at lw_m4 195 rfl) rfl
theorem q1036 : (Jvm.Cond.privateMethod ({ cls := "CaseGrouper$Reader", name := "tree", desc := "()V" } : Jvm.MethodName)) ∈ lw_tbl := lw_at lw_m4 196 rfl
theorem q1037 : (Jvm.Cond.instanceMethod ({ cls := "CaseGrouper$Reader", name := "tree", desc := "()V" } : Jvm.MethodName)) ∈ lw_all := lw_g (lw_at lw_m4 197 rfl) rfl
theorem q1038 : (Jvm.Cond.code ({ cls := "CaseGrouper$Reader", name := "tree", desc := "()V" } : Jvm.MethodName) prog_12_method_25_code (1 : Nat) (Option.none : Option Jvm.ClassFile.FieldType)) ∈ lw_all := lw_g (lw_at lw_m4 198 rfl) rfl
theorem q1039 : (Jvm.Cond.methodLink "CaseGrouper$Reader" (273 : Nat) ({ cls := "CaseGrouper$Reader", name := "node", desc := "()Ljava/lang/Object;" } : Jvm.MethodName)) ∈ lw_all := lw_g (lw_at lw_m4 199 rfl) rfl
theorem q1040 : (Jvm.Cond.privateMethod ({ cls := "CaseGrouper$Reader", name := "node", desc := "()Ljava/lang/Object;" } : Jvm.MethodName)) ∈ lw_tbl := lw_at lw_m4 200 rfl
theorem q1041 : (Jvm.Cond.instanceMethod ({ cls := "CaseGrouper$Reader", name := "node", desc := "()Ljava/lang/Object;" } : Jvm.MethodName)) ∈ lw_all := lw_g (lw_at lw_m4 201 rfl) rfl
theorem q1042 : (Jvm.Cond.code ({ cls := "CaseGrouper$Reader", name := "node", desc := "()Ljava/lang/Object;" } : Jvm.MethodName) prog_12_method_27_code (5 : Nat) (Option.some (Jvm.ClassFile.FieldType.object "java/lang/Object"))) ∈ lw_all := lw_g (lw_at lw_m4 202 rfl) rfl
theorem q1043 : (Jvm.Cond.methodLink "CaseGrouper$Reader" (277 : Nat) ({ cls := "CaseGrouper$Reader", name := "opens", desc := "()V" } : Jvm.MethodName)) ∈ lw_all := lw_g (lw_at lw_m4 203 rfl) rfl
theorem q1044 : (Jvm.Cond.privateMethod ({ cls := "CaseGrouper$Reader", name := "opens", desc := "()V" } : Jvm.MethodName)) ∈ lw_tbl := lw_at lw_m4 204 rfl
theorem q1045 : (Jvm.Cond.instanceMethod ({ cls := "CaseGrouper$Reader", name := "opens", desc := "()V" } : Jvm.MethodName)) ∈ lw_all := lw_g (lw_at lw_m4 205 rfl) rfl
theorem q1046 : (Jvm.Cond.code ({ cls := "CaseGrouper$Reader", name := "opens", desc := "()V" } : Jvm.MethodName) prog_12_method_26_code (1 : Nat) (Option.none : Option Jvm.ClassFile.FieldType)) ∈ lw_all := lw_g (lw_at lw_m4 206 rfl) rfl
theorem q1047 : (Jvm.Cond.methodLink "CaseGrouper$Reader" (222 : Nat) ({ cls := "CaseGrouper$Reader", name := "sign", desc := "(I)V" } : Jvm.MethodName)) ∈ lw_all := lw_g (lw_at lw_m4 207 rfl) rfl
theorem q1048 : (Jvm.Cond.privateMethod ({ cls := "CaseGrouper$Reader", name := "sign", desc := "(I)V" } : Jvm.MethodName)) ∈ lw_tbl := lw_at lw_m4 208 rfl
theorem q1049 : (Jvm.Cond.instanceMethod ({ cls := "CaseGrouper$Reader", name := "sign", desc := "(I)V" } : Jvm.MethodName)) ∈ lw_all := lw_g (lw_at lw_m4 209 rfl) rfl
theorem q1050 : (Jvm.Cond.code ({ cls := "CaseGrouper$Reader", name := "sign", desc := "(I)V" } : Jvm.MethodName) prog_12_method_13_code (2 : Nat) (Option.none : Option Jvm.ClassFile.FieldType)) ∈ lw_all := lw_g (lw_at lw_m4 210 rfl) rfl
theorem q1051 : (Jvm.Cond.methodLink "CaseGrouper$Reader" (283 : Nat) ({ cls := "CaseGrouper$Reader", name := "leaf", desc := "()LCaseGrouper$Leaf;" } : Jvm.MethodName)) ∈ lw_all := lw_g (lw_at lw_m4 211 rfl) rfl
theorem q1052 : (Jvm.Cond.privateMethod ({ cls := "CaseGrouper$Reader", name := "leaf", desc := "()LCaseGrouper$Leaf;" } : Jvm.MethodName)) ∈ lw_tbl := lw_at lw_m4 212 rfl
theorem q1053 : (Jvm.Cond.instanceMethod ({ cls := "CaseGrouper$Reader", name := "leaf", desc := "()LCaseGrouper$Leaf;" } : Jvm.MethodName)) ∈ lw_all := lw_g (lw_at lw_m4 213 rfl) rfl
theorem q1054 : (Jvm.Cond.code ({ cls := "CaseGrouper$Reader", name := "leaf", desc := "()LCaseGrouper$Leaf;" } : Jvm.MethodName) prog_12_method_28_code (5 : Nat) (Option.some (Jvm.ClassFile.FieldType.object "CaseGrouper$Leaf"))) ∈ lw_all := lw_g (lw_at lw_m4 214 rfl) rfl
theorem q1055 : (Jvm.Cond.methodLink "CaseGrouper$Reader" (298 : Nat) ({ cls := "CaseGrouper$Edition", name := "classOf", desc := "(Ljava/lang/String;)I" } : Jvm.MethodName)) ∈ lw_all := lw_g (lw_at lw_m4 215 rfl) rfl
theorem q1079 : (Jvm.Cond.classLink "CaseGrouper$Reader" (309 : Nat) "CaseGrouper$Leaf") ∈ lw_all := lw_g (lw_at lw_m4 239 rfl) rfl
theorem q1081 : (Jvm.Cond.methodLink "CaseGrouper$Reader" (311 : Nat) ({ cls := "CaseGrouper$Edition", name := "adds", desc := "(Ljava/lang/String;I)I" } : Jvm.MethodName)) ∈ lw_all := lw_g (lw_at lw_m5 1 rfl) rfl
theorem q1085 : (Jvm.Cond.methodLink "CaseGrouper$Reader" (315 : Nat) ({ cls := "CaseGrouper$Leaf", name := "<init>", desc := "(I)V" } : Jvm.MethodName)) ∈ lw_all := lw_g (lw_at lw_m5 5 rfl) rfl
theorem q1100 : (Jvm.Cond.methodLink "CaseGrouper$Reader" (287 : Nat) ({ cls := "CaseGrouper$Reader", name := "cond", desc := "()Ljava/lang/Object;" } : Jvm.MethodName)) ∈ lw_all := lw_g (lw_at lw_m5 20 rfl) rfl
theorem q1101 : (Jvm.Cond.privateMethod ({ cls := "CaseGrouper$Reader", name := "cond", desc := "()Ljava/lang/Object;" } : Jvm.MethodName)) ∈ lw_tbl := lw_at lw_m5 21 rfl
theorem q1102 : (Jvm.Cond.instanceMethod ({ cls := "CaseGrouper$Reader", name := "cond", desc := "()Ljava/lang/Object;" } : Jvm.MethodName)) ∈ lw_all := lw_g (lw_at lw_m5 22 rfl) rfl
theorem q1103 : (Jvm.Cond.code ({ cls := "CaseGrouper$Reader", name := "cond", desc := "()Ljava/lang/Object;" } : Jvm.MethodName) prog_12_method_29_code (1 : Nat) (Option.some (Jvm.ClassFile.FieldType.object "java/lang/Object"))) ∈ lw_all := lw_g (lw_at lw_m5 23 rfl) rfl
theorem q1104 : (Jvm.Cond.methodLink "CaseGrouper$Reader" (319 : Nat) ({ cls := "CaseGrouper$Reader", name := "joined", desc := "(Ljava/lang/String;)Ljava/lang/Object;" } : Jvm.MethodName)) ∈ lw_all := lw_g (lw_at lw_m5 24 rfl) rfl
theorem q1105 : (Jvm.Cond.privateMethod ({ cls := "CaseGrouper$Reader", name := "joined", desc := "(Ljava/lang/String;)Ljava/lang/Object;" } : Jvm.MethodName)) ∈ lw_tbl := lw_at lw_m5 25 rfl
theorem q1106 : (Jvm.Cond.instanceMethod ({ cls := "CaseGrouper$Reader", name := "joined", desc := "(Ljava/lang/String;)Ljava/lang/Object;" } : Jvm.MethodName)) ∈ lw_all := lw_g (lw_at lw_m5 26 rfl) rfl
theorem q1107 : (Jvm.Cond.code ({ cls := "CaseGrouper$Reader", name := "joined", desc := "(Ljava/lang/String;)Ljava/lang/Object;" } : Jvm.MethodName) prog_12_method_30_code (5 : Nat) (Option.some (Jvm.ClassFile.FieldType.object "java/lang/Object"))) ∈ lw_all := lw_g (lw_at lw_m5 27 rfl) rfl
theorem q1108 : (Jvm.Cond.methodLink "CaseGrouper$Reader" (323 : Nat) ({ cls := "CaseGrouper$Reader", name := "one", desc := "()Ljava/lang/Object;" } : Jvm.MethodName)) ∈ lw_all := lw_g (lw_at lw_m5 28 rfl) rfl
theorem q1109 : (Jvm.Cond.privateMethod ({ cls := "CaseGrouper$Reader", name := "one", desc := "()Ljava/lang/Object;" } : Jvm.MethodName)) ∈ lw_tbl := lw_at lw_m5 29 rfl
theorem q1110 : (Jvm.Cond.instanceMethod ({ cls := "CaseGrouper$Reader", name := "one", desc := "()Ljava/lang/Object;" } : Jvm.MethodName)) ∈ lw_all := lw_g (lw_at lw_m5 30 rfl) rfl
theorem q1111 : (Jvm.Cond.code ({ cls := "CaseGrouper$Reader", name := "one", desc := "()Ljava/lang/Object;" } : Jvm.MethodName) prog_12_method_31_code (4 : Nat) (Option.some (Jvm.ClassFile.FieldType.object "java/lang/Object"))) ∈ lw_all := lw_g (lw_at lw_m5 31 rfl) rfl
theorem q1112 : (Jvm.Cond.methodLink "CaseGrouper$Reader" (334 : Nat) ({ cls := "CaseGrouper$Reader", name := "not", desc := "()Ljava/lang/Object;" } : Jvm.MethodName)) ∈ lw_all := lw_g (lw_at lw_m5 32 rfl) rfl
theorem q1113 : (Jvm.Cond.privateMethod ({ cls := "CaseGrouper$Reader", name := "not", desc := "()Ljava/lang/Object;" } : Jvm.MethodName)) ∈ lw_tbl := lw_at lw_m5 33 rfl
theorem q1114 : (Jvm.Cond.instanceMethod ({ cls := "CaseGrouper$Reader", name := "not", desc := "()Ljava/lang/Object;" } : Jvm.MethodName)) ∈ lw_all := lw_g (lw_at lw_m5 34 rfl) rfl
theorem q1115 : (Jvm.Cond.code ({ cls := "CaseGrouper$Reader", name := "not", desc := "()Ljava/lang/Object;" } : Jvm.MethodName) prog_12_method_32_code (2 : Nat) (Option.some (Jvm.ClassFile.FieldType.object "java/lang/Object"))) ∈ lw_all := lw_g (lw_at lw_m5 35 rfl) rfl
theorem q1116 : (Jvm.Cond.classLink "CaseGrouper$Reader" (326 : Nat) "CaseGrouper$Joined") ∈ lw_all := lw_g (lw_at lw_m5 36 rfl) rfl
theorem q1118 : (Jvm.Cond.methodLink "CaseGrouper$Reader" (328 : Nat) ({ cls := "CaseGrouper$Joined", name := "<init>", desc := "(Ljava/lang/String;Ljava/lang/Object;)V" } : Jvm.MethodName)) ∈ lw_all := lw_g (lw_at lw_m5 38 rfl) rfl
theorem q1129 : (Jvm.Cond.fieldLinkNest "CaseGrouper$Reader" (331 : Nat) "CaseGrouper$Joined" "parts" "Ljava/util/ArrayList;" "CaseGrouper") ∈ lw_tbl := lw_at lw_m5 49 rfl
theorem q1135 : (Jvm.Cond.methodLink "CaseGrouper$Reader" (336 : Nat) ({ cls := "CaseGrouper$Reader", name := "ofCodes", desc := "(Ljava/lang/String;)LCaseGrouper$Atom;" } : Jvm.MethodName)) ∈ lw_all := lw_g (lw_at lw_m5 55 rfl) rfl
theorem q1136 : (Jvm.Cond.privateMethod ({ cls := "CaseGrouper$Reader", name := "ofCodes", desc := "(Ljava/lang/String;)LCaseGrouper$Atom;" } : Jvm.MethodName)) ∈ lw_tbl := lw_at lw_m5 56 rfl
theorem q1137 : (Jvm.Cond.instanceMethod ({ cls := "CaseGrouper$Reader", name := "ofCodes", desc := "(Ljava/lang/String;)LCaseGrouper$Atom;" } : Jvm.MethodName)) ∈ lw_all := lw_g (lw_at lw_m5 57 rfl) rfl
theorem q1138 : (Jvm.Cond.code ({ cls := "CaseGrouper$Reader", name := "ofCodes", desc := "(Ljava/lang/String;)LCaseGrouper$Atom;" } : Jvm.MethodName) prog_12_method_33_code (3 : Nat) (Option.some (Jvm.ClassFile.FieldType.object "CaseGrouper$Atom"))) ∈ lw_all := lw_g (lw_at lw_m5 58 rfl) rfl
theorem q1139 : (Jvm.Cond.classLink "CaseGrouper$Reader" (343 : Nat) "CaseGrouper$Atom") ∈ lw_all := lw_g (lw_at lw_m5 59 rfl) rfl
theorem q1141 : (Jvm.Cond.methodLink "CaseGrouper$Reader" (345 : Nat) ({ cls := "CaseGrouper$Reader", name := "manyOf", desc := "(Z)I" } : Jvm.MethodName)) ∈ lw_all := lw_g (lw_at lw_m5 61 rfl) rfl
theorem q1142 : (Jvm.Cond.privateMethod ({ cls := "CaseGrouper$Reader", name := "manyOf", desc := "(Z)I" } : Jvm.MethodName)) ∈ lw_tbl := lw_at lw_m5 62 rfl
theorem q1143 : (Jvm.Cond.instanceMethod ({ cls := "CaseGrouper$Reader", name := "manyOf", desc := "(Z)I" } : Jvm.MethodName)) ∈ lw_all := lw_g (lw_at lw_m5 63 rfl) rfl
theorem q1144 : (Jvm.Cond.code ({ cls := "CaseGrouper$Reader", name := "manyOf", desc := "(Z)I" } : Jvm.MethodName) prog_12_method_35_code (4 : Nat) (Option.some Jvm.ClassFile.FieldType.int)) ∈ lw_all := lw_g (lw_at lw_m5 64 rfl) rfl
theorem q1145 : (Jvm.Cond.methodLink "CaseGrouper$Reader" (359 : Nat) ({ cls := "java/util/ArrayList", name := "get", desc := "(I)Ljava/lang/Object;" } : Jvm.MethodName)) ∈ lw_all := lw_g (lw_at lw_m5 65 rfl) rfl
theorem q1146 : (Jvm.Cond.methodLink "CaseGrouper$Reader" (363 : Nat) ({ cls := "CaseGrouper$Atom", name := "isOfCodes", desc := "()Z" } : Jvm.MethodName)) ∈ lw_all := lw_g (lw_at lw_m5 66 rfl) rfl
theorem q1150 : (Jvm.Cond.methodLink "CaseGrouper$Reader" (349 : Nat) ({ cls := "CaseGrouper$Atom", name := "<init>", desc := "(Ljava/lang/String;LCaseGrouper$Span;III)V" } : Jvm.MethodName)) ∈ lw_all := lw_g (lw_at lw_m5 70 rfl) rfl
theorem q1168 : (Jvm.Cond.fieldLinkNest "CaseGrouper$Reader" (371 : Nat) "CaseGrouper$Atom" "place" "I" "CaseGrouper") ∈ lw_tbl := lw_at lw_m5 88 rfl
theorem q1180 : (Jvm.Cond.methodLink "CaseGrouper$Reader" (352 : Nat) ({ cls := "CaseGrouper$Reader", name := "known", desc := "(LCaseGrouper$Atom;I)LCaseGrouper$Atom;" } : Jvm.MethodName)) ∈ lw_all := lw_g (lw_at lw_m5 100 rfl) rfl
theorem q1181 : (Jvm.Cond.privateMethod ({ cls := "CaseGrouper$Reader", name := "known", desc := "(LCaseGrouper$Atom;I)LCaseGrouper$Atom;" } : Jvm.MethodName)) ∈ lw_tbl := lw_at lw_m5 101 rfl
theorem q1182 : (Jvm.Cond.instanceMethod ({ cls := "CaseGrouper$Reader", name := "known", desc := "(LCaseGrouper$Atom;I)LCaseGrouper$Atom;" } : Jvm.MethodName)) ∈ lw_all := lw_g (lw_at lw_m5 102 rfl) rfl
theorem q1183 : (Jvm.Cond.code ({ cls := "CaseGrouper$Reader", name := "known", desc := "(LCaseGrouper$Atom;I)LCaseGrouper$Atom;" } : Jvm.MethodName) prog_12_method_36_code (4 : Nat) (Option.some (Jvm.ClassFile.FieldType.object "CaseGrouper$Atom"))) ∈ lw_all := lw_g (lw_at lw_m5 103 rfl) rfl
theorem q1184 : (Jvm.Cond.methodLink "CaseGrouper$Reader" (367 : Nat) ({ cls := "CaseGrouper$Atom", name := "isLike", desc := "(LCaseGrouper$Atom;)Z" } : Jvm.MethodName)) ∈ lw_all := lw_g (lw_at lw_m5 104 rfl) rfl
theorem q1194 : (Jvm.Cond.methodLink "CaseGrouper$Reader" (340 : Nat) ({ cls := "CaseGrouper$Reader", name := "compared", desc := "(Ljava/lang/String;)LCaseGrouper$Atom;" } : Jvm.MethodName)) ∈ lw_all := lw_g (lw_at lw_m5 114 rfl) rfl
theorem q1195 : (Jvm.Cond.privateMethod ({ cls := "CaseGrouper$Reader", name := "compared", desc := "(Ljava/lang/String;)LCaseGrouper$Atom;" } : Jvm.MethodName)) ∈ lw_tbl := lw_at lw_m5 115 rfl
theorem q1196 : (Jvm.Cond.instanceMethod ({ cls := "CaseGrouper$Reader", name := "compared", desc := "(Ljava/lang/String;)LCaseGrouper$Atom;" } : Jvm.MethodName)) ∈ lw_all := lw_g (lw_at lw_m5 116 rfl) rfl
theorem q1197 : (Jvm.Cond.code ({ cls := "CaseGrouper$Reader", name := "compared", desc := "(Ljava/lang/String;)LCaseGrouper$Atom;" } : Jvm.MethodName) prog_12_method_34_code (4 : Nat) (Option.some (Jvm.ClassFile.FieldType.object "CaseGrouper$Atom"))) ∈ lw_all := lw_g (lw_at lw_m5 117 rfl) rfl
theorem q1198 : (Jvm.Cond.methodLink "CaseGrouper$Reader" (290 : Nat) ({ cls := "CaseGrouper$Reader", name := "word", desc := "(Ljava/lang/String;)V" } : Jvm.MethodName)) ∈ lw_all := lw_g (lw_at lw_m5 118 rfl) rfl
theorem q1199 : (Jvm.Cond.privateMethod ({ cls := "CaseGrouper$Reader", name := "word", desc := "(Ljava/lang/String;)V" } : Jvm.MethodName)) ∈ lw_tbl := lw_at lw_m5 119 rfl
theorem q1200 : (Jvm.Cond.instanceMethod ({ cls := "CaseGrouper$Reader", name := "word", desc := "(Ljava/lang/String;)V" } : Jvm.MethodName)) ∈ lw_all := lw_g (lw_at lw_m5 120 rfl) rfl
theorem q1201 : (Jvm.Cond.code ({ cls := "CaseGrouper$Reader", name := "word", desc := "(Ljava/lang/String;)V" } : Jvm.MethodName) prog_12_method_14_code (2 : Nat) (Option.none : Option Jvm.ClassFile.FieldType)) ∈ lw_all := lw_g (lw_at lw_m5 121 rfl) rfl
theorem q1202 : (Jvm.Cond.classLink "CaseGrouper$Reader" (293 : Nat) "CaseGrouper$Choice") ∈ lw_all := lw_g (lw_at lw_m5 122 rfl) rfl
theorem q1204 : (Jvm.Cond.classLink "CaseGrouper$Reader" (10 : Nat) "java/lang/Object") ∈ lw_all := lw_g (lw_at lw_m5 124 rfl) rfl
theorem q1205 : (Jvm.Cond.methodLink "CaseGrouper$Reader" (295 : Nat) ({ cls := "CaseGrouper$Choice", name := "<init>", desc := "(Ljava/lang/Object;[Ljava/lang/Object;)V" } : Jvm.MethodName)) ∈ lw_all := lw_g (lw_at lw_m5 125 rfl) rfl
theorem q1218 : (Jvm.Cond.classLink "CaseGrouper$Reader" (380 : Nat) "CaseGrouper$Refused") ∈ lw_all := lw_g (lw_at lw_m5 138 rfl) rfl
theorem q1227 : (Jvm.Cond.methodLink "CaseGrouper$Reader" (382 : Nat) ({ cls := "CaseGrouper$Refused", name := "<init>", desc := "(ILCaseGrouper$Wrong;)V" } : Jvm.MethodName)) ∈ lw_all := lw_g (lw_at lw_m5 147 rfl) rfl
theorem q1237 : (Jvm.Cond.methodLink "CaseGrouper$Reader" (385 : Nat) ({ cls := "CaseGrouper$Edition", name := "ends", desc := "()V" } : Jvm.MethodName)) ∈ lw_all := lw_g (lw_at lw_m5 157 rfl) rfl
theorem q1419 : (Jvm.Cond.fieldLinkNest "CaseGrouper$Reader" (29 : Nat) "CaseGrouper" "tape" "[B" "CaseGrouper") ∈ lw_tbl := lw_at lw_m6 99 rfl
theorem q1535 : (Jvm.Cond.selects "CaseGrouper$Reader" ({ cls := "java/lang/Object", name := "equals", desc := "(Ljava/lang/Object;)Z" } : Jvm.MethodName) ({ cls := "java/lang/Object", name := "equals", desc := "(Ljava/lang/Object;)Z" } : Jvm.MethodName)) ∈ lw_all := lw_g (lw_at lw_m6 215 rfl) rfl
theorem q2469 : (Jvm.Cond.castable "CaseGrouper$Reader" "java/lang/Object") ∈ lw_tbl := lw_at lw_m10 189 rfl
theorem in_X6 : ∀ w ∈ wsX60, w ∈ lw_all := lw_in wsX60 [288, 290, 292, 294, 296, 298, 300, 302, 304, 306] (by decide +kernel) (by decide +kernel)
/-! CaseGrouper$Code -/
set_option maxRecDepth 100000
def RX7 : String := "CaseGrouper$Code"
def TX7 : u_T := fun k => match k with
  | _ => ("CaseGrouper$Code", "number", "I", true)
def tyX7 : Nat → FieldType := fun k => match k with
  | _ => .int
abbrev wsX70 : List Cond := u_ws RX7 TX7 1
theorem nmX7 : ∀ a, a < 1 → ∀ b, b < 1 → a ≠ b → (TX7 a).2.1 ≠ (TX7 b).2.1 := by decide +kernel
theorem tyX7_ok : ∀ k, k < 1 → parseFieldDescriptor (TX7 k).2.2.1 = some (tyX7 k) := by decide +kernel
abbrev cX7_init : ByteArray := prog_5_method_1_code
def yX7_init : MethodName := ⟨RX7, "<init>", "(I)V"⟩
def dkwX7_init_0 : List UInt8 := [42, 183, 0, 1, 42, 27, 181, 0, 7, 177]
abbrev dktX7_init_0 : List UInt8 := dkwX7_init_0 ++ []
theorem dksX7_init_0 : cX7_init.data.toList.drop 0 = dktX7_init_0 := by decide +kernel
theorem dX7_init_0 : decode cX7_init 0 = .ok (.aload_n 0, 1) := dk_42 (dk_at dksX7_init_0 0 rfl rfl)
theorem dX7_init_1 : decode cX7_init 1 = .ok (.invokespecial 1, 3) := dk_183 0 1 (dk_at dksX7_init_0 1 rfl rfl)
theorem dX7_init_4 : decode cX7_init 4 = .ok (.aload_n 0, 1) := dk_42 (dk_at dksX7_init_0 4 rfl rfl)
theorem dX7_init_5 : decode cX7_init 5 = .ok (.iload_n 1, 1) := dk_27 (dk_at dksX7_init_0 5 rfl rfl)
theorem dX7_init_6 : decode cX7_init 6 = .ok (.putfield 7, 3) := dk_181 0 7 (dk_at dksX7_init_0 6 rfl rfl)
theorem dX7_init_9 : decode cX7_init 9 = .ok (.return_, 1) := dk_177 (dk_at dksX7_init_0 9 rfl rfl)
theorem q143 : (Jvm.Cond.initialized "CaseGrouper$Code") ∈ lw_all := lw_g (lw_at lw_m1 23 rfl) rfl
theorem q564 : (Jvm.Cond.instantiable "CaseGrouper$Code" (1 : Nat)) ∈ lw_all := lw_g (lw_at lw_m2 204 rfl) rfl
theorem q566 : (Jvm.Cond.instanceMethod ({ cls := "CaseGrouper$Code", name := "<init>", desc := "(I)V" } : Jvm.MethodName)) ∈ lw_all := lw_g (lw_at lw_m2 206 rfl) rfl
theorem q567 : (Jvm.Cond.code ({ cls := "CaseGrouper$Code", name := "<init>", desc := "(I)V" } : Jvm.MethodName) prog_5_method_1_code (2 : Nat) (Option.none : Option Jvm.ClassFile.FieldType)) ∈ lw_all := lw_g (lw_at lw_m2 207 rfl) rfl
theorem q568 : (Jvm.Cond.methodLink "CaseGrouper$Code" (1 : Nat) ({ cls := "java/lang/Object", name := "<init>", desc := "()V" } : Jvm.MethodName)) ∈ lw_all := lw_g (lw_at lw_m2 208 rfl) rfl
theorem q569 : (Jvm.Cond.fieldLink "CaseGrouper$Code" (7 : Nat) "CaseGrouper$Code" "number" "I") ∈ lw_all := lw_g (lw_at lw_m2 209 rfl) rfl
theorem q571 : (Jvm.Cond.laysFinal "CaseGrouper$Code" "CaseGrouper$Code" "number" "I") ∈ lw_all := lw_g (lw_at lw_m2 211 rfl) rfl
theorem q572 : (Jvm.Cond.soleField "CaseGrouper$Code" "number") ∈ lw_all := lw_g (lw_at lw_m2 212 rfl) rfl
theorem q573 : (Jvm.Cond.superclass "CaseGrouper$Code" "java/lang/Object") ∈ lw_all := lw_g (lw_at lw_m2 213 rfl) rfl
theorem q936 : (Jvm.Cond.selects "CaseGrouper$Code" ({ cls := "java/lang/Object", name := "getClass", desc := "()Ljava/lang/Class;" } : Jvm.MethodName) ({ cls := "java/lang/Object", name := "getClass", desc := "()Ljava/lang/Class;" } : Jvm.MethodName)) ∈ lw_all := lw_g (lw_at lw_m4 96 rfl) rfl
theorem q1529 : (Jvm.Cond.selects "CaseGrouper$Code" ({ cls := "java/lang/Object", name := "equals", desc := "(Ljava/lang/Object;)Z" } : Jvm.MethodName) ({ cls := "java/lang/Object", name := "equals", desc := "(Ljava/lang/Object;)Z" } : Jvm.MethodName)) ∈ lw_all := lw_g (lw_at lw_m6 209 rfl) rfl
theorem q2473 : (Jvm.Cond.castable "CaseGrouper$Code" "java/lang/Object") ∈ lw_tbl := lw_at lw_m10 193 rfl
theorem in_X7 : ∀ w ∈ wsX70, w ∈ lw_all := lw_in wsX70 [571] (by decide +kernel) (by decide +kernel)
/-! CaseGrouper$Wrong -/
set_option maxRecDepth 100000
def RX8 : String := "CaseGrouper$Wrong"
def TX8 : u_T := fun k => match k with
  | 0 => ("java/lang/Throwable", "cause", "Ljava/lang/Throwable;", false)
  | 1 => ("java/lang/Throwable", "stackTrace", "[Ljava/lang/StackTraceElement;", false)
  | 2 => ("java/lang/Throwable", "suppressedExceptions", "Ljava/util/List;", false)
  | 3 => ("java/lang/Throwable", "detailMessage", "Ljava/lang/String;", false)
  | 4 => ("java/lang/Throwable", "backtrace", "Ljava/lang/Object;", false)
  | 5 => ("java/lang/Throwable", "depth", "I", false)
  | _ => ("CaseGrouper$Wrong", "number", "I", true)
def tyX8 : Nat → FieldType := fun k => match k with
  | 0 => .object "java/lang/Throwable"
  | 1 => .array (.object "java/lang/StackTraceElement")
  | 2 => .object "java/util/List"
  | 3 => .object "java/lang/String"
  | 4 => .object "java/lang/Object"
  | 5 => .int
  | _ => .int
abbrev wsX80 : List Cond := u_ws RX8 TX8 7
theorem nmX8 : ∀ a, a < 7 → ∀ b, b < 7 → a ≠ b → (TX8 a).2.1 ≠ (TX8 b).2.1 := by decide +kernel
theorem tyX8_ok : ∀ k, k < 7 → parseFieldDescriptor (TX8 k).2.2.1 = some (tyX8 k) := by decide +kernel
abbrev cX8_init : ByteArray := prog_18_method_1_code
def yX8_init : MethodName := ⟨RX8, "<init>", "(II)V"⟩
def dkwX8_init_0 : List UInt8 := [42, 1, 1, 3, 3, 183, 0, 1, 42, 16, 8, 27, 104, 28, 96, 181, 0, 7, 177]
abbrev dktX8_init_0 : List UInt8 := dkwX8_init_0 ++ []
theorem dksX8_init_0 : cX8_init.data.toList.drop 0 = dktX8_init_0 := by decide +kernel
theorem dX8_init_0 : decode cX8_init 0 = .ok (.aload_n 0, 1) := dk_42 (dk_at dksX8_init_0 0 rfl rfl)
theorem dX8_init_1 : decode cX8_init 1 = .ok (.aconst_null, 1) := dk_1 (dk_at dksX8_init_0 1 rfl rfl)
theorem dX8_init_2 : decode cX8_init 2 = .ok (.aconst_null, 1) := dk_1 (dk_at dksX8_init_0 2 rfl rfl)
theorem dX8_init_3 : decode cX8_init 3 = .ok (.iconst 0, 1) := dk_3 (dk_at dksX8_init_0 3 rfl rfl)
theorem dX8_init_4 : decode cX8_init 4 = .ok (.iconst 0, 1) := dk_3 (dk_at dksX8_init_0 4 rfl rfl)
theorem dX8_init_5 : decode cX8_init 5 = .ok (.invokespecial 1, 3) := dk_183 0 1 (dk_at dksX8_init_0 5 rfl rfl)
theorem dX8_init_8 : decode cX8_init 8 = .ok (.aload_n 0, 1) := dk_42 (dk_at dksX8_init_0 8 rfl rfl)
theorem dX8_init_9 : decode cX8_init 9 = .ok (.bipush 8, 2) := dk_16 8 (dk_at dksX8_init_0 9 rfl rfl)
theorem dX8_init_11 : decode cX8_init 11 = .ok (.iload_n 1, 1) := dk_27 (dk_at dksX8_init_0 11 rfl rfl)
theorem dX8_init_12 : decode cX8_init 12 = .ok (.imul, 1) := dk_104 (dk_at dksX8_init_0 12 rfl rfl)
theorem dX8_init_13 : decode cX8_init 13 = .ok (.iload_n 2, 1) := dk_28 (dk_at dksX8_init_0 13 rfl rfl)
theorem dX8_init_14 : decode cX8_init 14 = .ok (.iadd, 1) := dk_96 (dk_at dksX8_init_0 14 rfl rfl)
theorem dX8_init_15 : decode cX8_init 15 = .ok (.putfield 7, 3) := dk_181 0 7 (dk_at dksX8_init_0 15 rfl rfl)
theorem dX8_init_18 : decode cX8_init 18 = .ok (.return_, 1) := dk_177 (dk_at dksX8_init_0 18 rfl rfl)
theorem q148 : (Jvm.Cond.initialized "CaseGrouper$Wrong") ∈ lw_all := lw_g (lw_at lw_m1 28 rfl) rfl
theorem q602 : (Jvm.Cond.instantiable "CaseGrouper$Wrong" (7 : Nat)) ∈ lw_all := lw_g (lw_at lw_m3 2 rfl) rfl
theorem q603 : (Jvm.Cond.castable "CaseGrouper$Wrong" "CaseGrouper$Wrong") ∈ lw_tbl := lw_at lw_m3 3 rfl
theorem q608 : (Jvm.Cond.selects "CaseGrouper$Wrong" ({ cls := "java/lang/Throwable", name := "fillInStackTrace", desc := "(I)Ljava/lang/Throwable;" } : Jvm.MethodName) ({ cls := "java/lang/Throwable", name := "fillInStackTrace", desc := "(I)Ljava/lang/Throwable;" } : Jvm.MethodName)) ∈ lw_all := lw_g (lw_at lw_m3 8 rfl) rfl
theorem q609 : (Jvm.Cond.selects "CaseGrouper$Wrong" ({ cls := "java/lang/Throwable", name := "fillInStackTrace", desc := "()Ljava/lang/Throwable;" } : Jvm.MethodName) ({ cls := "java/lang/Throwable", name := "fillInStackTrace", desc := "()Ljava/lang/Throwable;" } : Jvm.MethodName)) ∈ lw_all := lw_g (lw_at lw_m3 9 rfl) rfl
theorem q610 : (Jvm.Cond.lays "CaseGrouper$Wrong" "java/lang/Throwable" "cause" "Ljava/lang/Throwable;") ∈ lw_all := lw_g (lw_at lw_m3 10 rfl) rfl
theorem q612 : (Jvm.Cond.lays "CaseGrouper$Wrong" "java/lang/Throwable" "stackTrace" "[Ljava/lang/StackTraceElement;") ∈ lw_all := lw_g (lw_at lw_m3 12 rfl) rfl
theorem q614 : (Jvm.Cond.lays "CaseGrouper$Wrong" "java/lang/Throwable" "suppressedExceptions" "Ljava/util/List;") ∈ lw_all := lw_g (lw_at lw_m3 14 rfl) rfl
theorem q616 : (Jvm.Cond.lays "CaseGrouper$Wrong" "java/lang/Throwable" "detailMessage" "Ljava/lang/String;") ∈ lw_all := lw_g (lw_at lw_m3 16 rfl) rfl
theorem q618 : (Jvm.Cond.lays "CaseGrouper$Wrong" "java/lang/Throwable" "backtrace" "Ljava/lang/Object;") ∈ lw_all := lw_g (lw_at lw_m3 18 rfl) rfl
theorem q657 : (Jvm.Cond.instanceMethod ({ cls := "CaseGrouper$Wrong", name := "<init>", desc := "(II)V" } : Jvm.MethodName)) ∈ lw_all := lw_g (lw_at lw_m3 57 rfl) rfl
theorem q658 : (Jvm.Cond.code ({ cls := "CaseGrouper$Wrong", name := "<init>", desc := "(II)V" } : Jvm.MethodName) prog_18_method_1_code (3 : Nat) (Option.none : Option Jvm.ClassFile.FieldType)) ∈ lw_all := lw_g (lw_at lw_m3 58 rfl) rfl
theorem q659 : (Jvm.Cond.methodLink "CaseGrouper$Wrong" (1 : Nat) ({ cls := "java/lang/Exception", name := "<init>", desc := "(Ljava/lang/String;Ljava/lang/Throwable;ZZ)V" } : Jvm.MethodName)) ∈ lw_all := lw_g (lw_at lw_m3 59 rfl) rfl
theorem q665 : (Jvm.Cond.fieldLink "CaseGrouper$Wrong" (7 : Nat) "CaseGrouper$Wrong" "number" "I") ∈ lw_all := lw_g (lw_at lw_m3 65 rfl) rfl
theorem q672 : (Jvm.Cond.laysFinal "CaseGrouper$Wrong" "CaseGrouper$Wrong" "number" "I") ∈ lw_all := lw_g (lw_at lw_m3 72 rfl) rfl
theorem q673 : (Jvm.Cond.soleField "CaseGrouper$Wrong" "number") ∈ lw_all := lw_g (lw_at lw_m3 73 rfl) rfl
theorem q678 : (Jvm.Cond.lays "CaseGrouper$Wrong" "java/lang/Throwable" "depth" "I") ∈ lw_all := lw_g (lw_at lw_m3 78 rfl) rfl
theorem q681 : (Jvm.Cond.superclass "CaseGrouper$Wrong" "java/lang/Exception") ∈ lw_all := lw_g (lw_at lw_m3 81 rfl) rfl
theorem q948 : (Jvm.Cond.selects "CaseGrouper$Wrong" ({ cls := "java/lang/Object", name := "getClass", desc := "()Ljava/lang/Class;" } : Jvm.MethodName) ({ cls := "java/lang/Object", name := "getClass", desc := "()Ljava/lang/Class;" } : Jvm.MethodName)) ∈ lw_all := lw_g (lw_at lw_m4 108 rfl) rfl
theorem q1541 : (Jvm.Cond.selects "CaseGrouper$Wrong" ({ cls := "java/lang/Object", name := "equals", desc := "(Ljava/lang/Object;)Z" } : Jvm.MethodName) ({ cls := "java/lang/Object", name := "equals", desc := "(Ljava/lang/Object;)Z" } : Jvm.MethodName)) ∈ lw_all := lw_g (lw_at lw_m6 221 rfl) rfl
theorem q2475 : (Jvm.Cond.castable "CaseGrouper$Wrong" "java/lang/Object") ∈ lw_tbl := lw_at lw_m10 195 rfl
theorem in_X8 : ∀ w ∈ wsX80, w ∈ lw_all := lw_in wsX80 [610, 612, 614, 616, 618, 678, 672] (by decide +kernel) (by decide +kernel)
/-! CaseGrouper$Chapter -/
set_option maxRecDepth 100000
def RX9 : String := "CaseGrouper$Chapter"
def TX9 : u_T := fun k => match k with
  | 0 => ("CaseGrouper$Chapter", "name", "Ljava/lang/String;", true)
  | 1 => ("CaseGrouper$Chapter", "spans", "Ljava/util/ArrayList;", true)
  | 2 => ("CaseGrouper$Chapter", "tree", "Ljava/lang/Object;", false)
  | 3 => ("CaseGrouper$Chapter", "atoms", "Ljava/util/ArrayList;", true)
  | _ => ("CaseGrouper$Chapter", "leaves", "Ljava/util/ArrayList;", true)
def tyX9 : Nat → FieldType := fun k => match k with
  | 0 => .object "java/lang/String"
  | 1 => .object "java/util/ArrayList"
  | 2 => .object "java/lang/Object"
  | 3 => .object "java/util/ArrayList"
  | _ => .object "java/util/ArrayList"
abbrev wsX90 : List Cond := u_ws RX9 TX9 5
theorem nmX9 : ∀ a, a < 5 → ∀ b, b < 5 → a ≠ b → (TX9 a).2.1 ≠ (TX9 b).2.1 := by decide +kernel
theorem tyX9_ok : ∀ k, k < 5 → parseFieldDescriptor (TX9 k).2.2.1 = some (tyX9 k) := by decide +kernel
abbrev cX9_init : ByteArray := prog_3_method_1_code
def yX9_init : MethodName := ⟨RX9, "<init>", "(Ljava/lang/String;)V"⟩
def dkwX9_init_1 : List UInt8 := [181, 0, 16, 42, 187, 0, 7, 89, 183, 0, 9, 181, 0, 19, 42, 43, 181, 0, 22, 177]
abbrev dktX9_init_1 : List UInt8 := dkwX9_init_1 ++ []
def dkwX9_init_0 : List UInt8 := [42, 183, 0, 1, 42, 187, 0, 7, 89, 183, 0, 9, 181, 0, 10, 42, 187, 0, 7, 89, 183, 0, 9]
abbrev dktX9_init_0 : List UInt8 := dkwX9_init_0 ++ dktX9_init_1
theorem dksX9_init_0 : cX9_init.data.toList.drop 0 = dktX9_init_0 := by decide +kernel
theorem dksX9_init_1 : cX9_init.data.toList.drop 23 = dktX9_init_1 := dk_seg dksX9_init_0 23 rfl rfl
theorem dX9_init_0 : decode cX9_init 0 = .ok (.aload_n 0, 1) := dk_42 (dk_at dksX9_init_0 0 rfl rfl)
theorem dX9_init_1 : decode cX9_init 1 = .ok (.invokespecial 1, 3) := dk_183 0 1 (dk_at dksX9_init_0 1 rfl rfl)
theorem dX9_init_4 : decode cX9_init 4 = .ok (.aload_n 0, 1) := dk_42 (dk_at dksX9_init_0 4 rfl rfl)
theorem dX9_init_5 : decode cX9_init 5 = .ok (.new 7, 3) := dk_187 0 7 (dk_at dksX9_init_0 5 rfl rfl)
theorem dX9_init_8 : decode cX9_init 8 = .ok (.dup, 1) := dk_89 (dk_at dksX9_init_0 8 rfl rfl)
theorem dX9_init_9 : decode cX9_init 9 = .ok (.invokespecial 9, 3) := dk_183 0 9 (dk_at dksX9_init_0 9 rfl rfl)
theorem dX9_init_12 : decode cX9_init 12 = .ok (.putfield 10, 3) := dk_181 0 10 (dk_at dksX9_init_0 12 rfl rfl)
theorem dX9_init_15 : decode cX9_init 15 = .ok (.aload_n 0, 1) := dk_42 (dk_at dksX9_init_0 15 rfl rfl)
theorem dX9_init_16 : decode cX9_init 16 = .ok (.new 7, 3) := dk_187 0 7 (dk_at dksX9_init_0 16 rfl rfl)
theorem dX9_init_19 : decode cX9_init 19 = .ok (.dup, 1) := dk_89 (dk_at dksX9_init_0 19 rfl rfl)
theorem dX9_init_20 : decode cX9_init 20 = .ok (.invokespecial 9, 3) := dk_183 0 9 (dk_at dksX9_init_0 20 rfl rfl)
theorem dX9_init_23 : decode cX9_init 23 = .ok (.putfield 16, 3) := dk_181 0 16 (dk_at dksX9_init_1 0 rfl rfl)
theorem dX9_init_26 : decode cX9_init 26 = .ok (.aload_n 0, 1) := dk_42 (dk_at dksX9_init_1 3 rfl rfl)
theorem dX9_init_27 : decode cX9_init 27 = .ok (.new 7, 3) := dk_187 0 7 (dk_at dksX9_init_1 4 rfl rfl)
theorem dX9_init_30 : decode cX9_init 30 = .ok (.dup, 1) := dk_89 (dk_at dksX9_init_1 7 rfl rfl)
theorem dX9_init_31 : decode cX9_init 31 = .ok (.invokespecial 9, 3) := dk_183 0 9 (dk_at dksX9_init_1 8 rfl rfl)
theorem dX9_init_34 : decode cX9_init 34 = .ok (.putfield 19, 3) := dk_181 0 19 (dk_at dksX9_init_1 11 rfl rfl)
theorem dX9_init_37 : decode cX9_init 37 = .ok (.aload_n 0, 1) := dk_42 (dk_at dksX9_init_1 14 rfl rfl)
theorem dX9_init_38 : decode cX9_init 38 = .ok (.aload_n 1, 1) := dk_43 (dk_at dksX9_init_1 15 rfl rfl)
theorem dX9_init_39 : decode cX9_init 39 = .ok (.putfield 22, 3) := dk_181 0 22 (dk_at dksX9_init_1 16 rfl rfl)
theorem dX9_init_42 : decode cX9_init 42 = .ok (.return_, 1) := dk_177 (dk_at dksX9_init_1 19 rfl rfl)
theorem q150 : (Jvm.Cond.initialized "CaseGrouper$Chapter") ∈ lw_all := lw_g (lw_at lw_m1 30 rfl) rfl
theorem q799 : (Jvm.Cond.instantiable "CaseGrouper$Chapter" (5 : Nat)) ∈ lw_all := lw_g (lw_at lw_m3 199 rfl) rfl
theorem q801 : (Jvm.Cond.instanceMethod ({ cls := "CaseGrouper$Chapter", name := "<init>", desc := "(Ljava/lang/String;)V" } : Jvm.MethodName)) ∈ lw_all := lw_g (lw_at lw_m3 201 rfl) rfl
theorem q802 : (Jvm.Cond.code ({ cls := "CaseGrouper$Chapter", name := "<init>", desc := "(Ljava/lang/String;)V" } : Jvm.MethodName) prog_3_method_1_code (2 : Nat) (Option.none : Option Jvm.ClassFile.FieldType)) ∈ lw_all := lw_g (lw_at lw_m3 202 rfl) rfl
theorem q803 : (Jvm.Cond.methodLink "CaseGrouper$Chapter" (1 : Nat) ({ cls := "java/lang/Object", name := "<init>", desc := "()V" } : Jvm.MethodName)) ∈ lw_all := lw_g (lw_at lw_m3 203 rfl) rfl
theorem q804 : (Jvm.Cond.classLink "CaseGrouper$Chapter" (7 : Nat) "java/util/ArrayList") ∈ lw_all := lw_g (lw_at lw_m3 204 rfl) rfl
theorem q805 : (Jvm.Cond.methodLink "CaseGrouper$Chapter" (9 : Nat) ({ cls := "java/util/ArrayList", name := "<init>", desc := "()V" } : Jvm.MethodName)) ∈ lw_all := lw_g (lw_at lw_m3 205 rfl) rfl
theorem q806 : (Jvm.Cond.fieldLink "CaseGrouper$Chapter" (22 : Nat) "CaseGrouper$Chapter" "name" "Ljava/lang/String;") ∈ lw_all := lw_g (lw_at lw_m3 206 rfl) rfl
theorem q808 : (Jvm.Cond.fieldLink "CaseGrouper$Chapter" (10 : Nat) "CaseGrouper$Chapter" "spans" "Ljava/util/ArrayList;") ∈ lw_all := lw_g (lw_at lw_m3 208 rfl) rfl
theorem q814 : (Jvm.Cond.fieldLink "CaseGrouper$Chapter" (16 : Nat) "CaseGrouper$Chapter" "atoms" "Ljava/util/ArrayList;") ∈ lw_all := lw_g (lw_at lw_m3 214 rfl) rfl
theorem q817 : (Jvm.Cond.fieldLink "CaseGrouper$Chapter" (19 : Nat) "CaseGrouper$Chapter" "leaves" "Ljava/util/ArrayList;") ∈ lw_all := lw_g (lw_at lw_m3 217 rfl) rfl
theorem q820 : (Jvm.Cond.laysFinal "CaseGrouper$Chapter" "CaseGrouper$Chapter" "name" "Ljava/lang/String;") ∈ lw_all := lw_g (lw_at lw_m3 220 rfl) rfl
theorem q821 : (Jvm.Cond.soleField "CaseGrouper$Chapter" "name") ∈ lw_all := lw_g (lw_at lw_m3 221 rfl) rfl
theorem q822 : (Jvm.Cond.laysFinal "CaseGrouper$Chapter" "CaseGrouper$Chapter" "spans" "Ljava/util/ArrayList;") ∈ lw_all := lw_g (lw_at lw_m3 222 rfl) rfl
theorem q823 : (Jvm.Cond.soleField "CaseGrouper$Chapter" "spans") ∈ lw_all := lw_g (lw_at lw_m3 223 rfl) rfl
theorem q824 : (Jvm.Cond.lays "CaseGrouper$Chapter" "CaseGrouper$Chapter" "tree" "Ljava/lang/Object;") ∈ lw_all := lw_g (lw_at lw_m3 224 rfl) rfl
theorem q825 : (Jvm.Cond.soleField "CaseGrouper$Chapter" "tree") ∈ lw_all := lw_g (lw_at lw_m3 225 rfl) rfl
theorem q826 : (Jvm.Cond.laysFinal "CaseGrouper$Chapter" "CaseGrouper$Chapter" "atoms" "Ljava/util/ArrayList;") ∈ lw_all := lw_g (lw_at lw_m3 226 rfl) rfl
theorem q827 : (Jvm.Cond.soleField "CaseGrouper$Chapter" "atoms") ∈ lw_all := lw_g (lw_at lw_m3 227 rfl) rfl
theorem q828 : (Jvm.Cond.laysFinal "CaseGrouper$Chapter" "CaseGrouper$Chapter" "leaves" "Ljava/util/ArrayList;") ∈ lw_all := lw_g (lw_at lw_m3 228 rfl) rfl
theorem q829 : (Jvm.Cond.soleField "CaseGrouper$Chapter" "leaves") ∈ lw_all := lw_g (lw_at lw_m3 229 rfl) rfl
theorem q830 : (Jvm.Cond.superclass "CaseGrouper$Chapter" "java/lang/Object") ∈ lw_all := lw_g (lw_at lw_m3 230 rfl) rfl
theorem q934 : (Jvm.Cond.selects "CaseGrouper$Chapter" ({ cls := "java/lang/Object", name := "getClass", desc := "()Ljava/lang/Class;" } : Jvm.MethodName) ({ cls := "java/lang/Object", name := "getClass", desc := "()Ljava/lang/Class;" } : Jvm.MethodName)) ∈ lw_all := lw_g (lw_at lw_m4 94 rfl) rfl
theorem q1527 : (Jvm.Cond.selects "CaseGrouper$Chapter" ({ cls := "java/lang/Object", name := "equals", desc := "(Ljava/lang/Object;)Z" } : Jvm.MethodName) ({ cls := "java/lang/Object", name := "equals", desc := "(Ljava/lang/Object;)Z" } : Jvm.MethodName)) ∈ lw_all := lw_g (lw_at lw_m6 207 rfl) rfl
theorem q2477 : (Jvm.Cond.castable "CaseGrouper$Chapter" "java/lang/Object") ∈ lw_tbl := lw_at lw_m10 197 rfl
theorem in_X9 : ∀ w ∈ wsX90, w ∈ lw_all := lw_in wsX90 [820, 822, 824, 826, 828] (by decide +kernel) (by decide +kernel)
