/-! CaseGrouperModel -/
set_option maxRecDepth 100000
def RX5 : String := "CaseGrouperModel"
def TX5 : u_T := fun k => match k with
  | 0 => ("CaseGrouperModel", "tape", "[I", true)
  | 1 => ("CaseGrouperModel", "taped", "I", false)
  | 2 => ("CaseGrouperModel", "thrown", "I", false)
  | 3 => ("CaseGrouperModel", "many", "[I", true)
  | 4 => ("CaseGrouperModel", "chapterName", "[J", true)
  | 5 => ("CaseGrouperModel", "chapterSpans", "[I", true)
  | 6 => ("CaseGrouperModel", "chapterFrom", "[I", true)
  | 7 => ("CaseGrouperModel", "chapterTo", "[I", true)
  | 8 => ("CaseGrouperModel", "chapterTree", "[I", true)
  | 9 => ("CaseGrouperModel", "rankFrom", "[I", true)
  | 10 => ("CaseGrouperModel", "rankTo", "[I", true)
  | 11 => ("CaseGrouperModel", "rankOf", "[I", true)
  | 12 => ("CaseGrouperModel", "partnerFrom", "[I", true)
  | 13 => ("CaseGrouperModel", "partnerTo", "[I", true)
  | 14 => ("CaseGrouperModel", "partnerLevel", "[I", true)
  | 15 => ("CaseGrouperModel", "buts", "[I", true)
  | 16 => ("CaseGrouperModel", "butFrom", "[I", true)
  | 17 => ("CaseGrouperModel", "butTo", "[I", true)
  | 18 => ("CaseGrouperModel", "className", "[J", true)
  | 19 => ("CaseGrouperModel", "classWeight", "[I", true)
  | 20 => ("CaseGrouperModel", "nodeClass", "[I", true)
  | 21 => ("CaseGrouperModel", "nodeCond", "[I", true)
  | 22 => ("CaseGrouperModel", "nodeThen", "[I", true)
  | 23 => ("CaseGrouperModel", "nodeElse", "[I", true)
  | 24 => ("CaseGrouperModel", "nodeChapter", "[I", true)
  | 25 => ("CaseGrouperModel", "condWhat", "[I", true)
  | 26 => ("CaseGrouperModel", "condOne", "[I", true)
  | 27 => ("CaseGrouperModel", "condTwo", "[I", true)
  | 28 => ("CaseGrouperModel", "condUnlike", "[I", true)
  | 29 => ("CaseGrouperModel", "now", "I", false)
  | 30 => ("CaseGrouperModel", "kept", "I", false)
  | 31 => ("CaseGrouperModel", "draft", "I", false)
  | 32 => ("CaseGrouperModel", "isKept", "Z", false)
  | 33 => ("CaseGrouperModel", "faultLine", "I", false)
  | 34 => ("CaseGrouperModel", "stays", "I", false)
  | 35 => ("CaseGrouperModel", "main", "[I", true)
  | 36 => ("CaseGrouperModel", "age", "[I", true)
  | 37 => ("CaseGrouperModel", "days", "[I", true)
  | 38 => ("CaseGrouperModel", "seconds", "[I", true)
  | 39 => ("CaseGrouperModel", "second", "[I", true)
  | 40 => ("CaseGrouperModel", "dones", "[I", true)
  | 41 => ("CaseGrouperModel", "done", "[I", true)
  | 42 => ("CaseGrouperModel", "size", "I", false)
  | 43 => ("CaseGrouperModel", "place", "I", false)
  | 44 => ("CaseGrouperModel", "endOf", "I", false)
  | 45 => ("CaseGrouperModel", "token", "I", false)
  | 46 => ("CaseGrouperModel", "word", "J", false)
  | 47 => ("CaseGrouperModel", "number", "I", false)
  | 48 => ("CaseGrouperModel", "fault", "I", false)
  | 49 => ("CaseGrouperModel", "from", "I", false)
  | 50 => ("CaseGrouperModel", "to", "I", false)
  | 51 => ("CaseGrouperModel", "spanPlace", "I", false)
  | 52 => ("CaseGrouperModel", "spanWhat", "[I", true)
  | 53 => ("CaseGrouperModel", "spanFrom", "[I", true)
  | 54 => ("CaseGrouperModel", "spanTo", "[I", true)
  | 55 => ("CaseGrouperModel", "unlikeSpans", "I", false)
  | 56 => ("CaseGrouperModel", "compWhat", "[I", true)
  | 57 => ("CaseGrouperModel", "compSign", "[I", true)
  | 58 => ("CaseGrouperModel", "compNumber", "[I", true)
  | 59 => ("CaseGrouperModel", "unlikeComps", "I", false)
  | 60 => ("CaseGrouperModel", "open", "I", false)
  | 61 => ("CaseGrouperModel", "treeOf", "I", false)
  | 62 => ("CaseGrouperModel", "top", "I", false)
  | 63 => ("CaseGrouperModel", "level", "I", false)
  | 64 => ("CaseGrouperModel", "way", "[I", true)
  | 65 => ("CaseGrouperModel", "wayLong", "I", false)
  | 66 => ("CaseGrouperModel", "leaves", "I", false)
  | 67 => ("CaseGrouperModel", "leafNode", "[I", true)
  | 68 => ("CaseGrouperModel", "isReached", "[Z", true)
  | 69 => ("CaseGrouperModel", "answers", "[I", true)
  | 70 => ("CaseGrouperModel", "answerFrom", "[I", true)
  | 71 => ("CaseGrouperModel", "answerMany", "I", false)
  | _ => ("CaseGrouperModel", "condTree", "[I", true)
def tyX5 : Nat → FieldType := fun k => match k with
  | 0 => .array .int
  | 1 => .int
  | 2 => .int
  | 3 => .array .int
  | 4 => .array .long
  | 5 => .array .int
  | 6 => .array .int
  | 7 => .array .int
  | 8 => .array .int
  | 9 => .array .int
  | 10 => .array .int
  | 11 => .array .int
  | 12 => .array .int
  | 13 => .array .int
  | 14 => .array .int
  | 15 => .array .int
  | 16 => .array .int
  | 17 => .array .int
  | 18 => .array .long
  | 19 => .array .int
  | 20 => .array .int
  | 21 => .array .int
  | 22 => .array .int
  | 23 => .array .int
  | 24 => .array .int
  | 25 => .array .int
  | 26 => .array .int
  | 27 => .array .int
  | 28 => .array .int
  | 29 => .int
  | 30 => .int
  | 31 => .int
  | 32 => .boolean
  | 33 => .int
  | 34 => .int
  | 35 => .array .int
  | 36 => .array .int
  | 37 => .array .int
  | 38 => .array .int
  | 39 => .array .int
  | 40 => .array .int
  | 41 => .array .int
  | 42 => .int
  | 43 => .int
  | 44 => .int
  | 45 => .int
  | 46 => .long
  | 47 => .int
  | 48 => .int
  | 49 => .int
  | 50 => .int
  | 51 => .int
  | 52 => .array .int
  | 53 => .array .int
  | 54 => .array .int
  | 55 => .int
  | 56 => .array .int
  | 57 => .array .int
  | 58 => .array .int
  | 59 => .int
  | 60 => .int
  | 61 => .int
  | 62 => .int
  | 63 => .int
  | 64 => .array .int
  | 65 => .int
  | 66 => .int
  | 67 => .array .int
  | 68 => .array .boolean
  | 69 => .array .int
  | 70 => .array .int
  | 71 => .int
  | _ => .array .int
abbrev wsX50 : List Cond := u_ws RX5 TX5 73
set_option maxRecDepth 100000 in
theorem nmX5 : ∀ a, a < 73 → ∀ b, b < 73 → a ≠ b → (TX5 a).2.1 ≠ (TX5 b).2.1 := by decide +kernel
set_option maxRecDepth 100000 in
theorem tyX5_ok : ∀ k, k < 73 → parseFieldDescriptor (TX5 k).2.2.1 = some (tyX5 k) := by decide +kernel
abbrev cX5_init : ByteArray := prog_20_method_1_code
def yX5_init : MethodName := ⟨RX5, "<init>", "()V"⟩
def dkwX5_init_16 : List UInt8 := [42, 8, 188, 10, 181, 0, 154, 42, 17, 4, 176, 188, 10, 181, 0, 157, 177]
abbrev dktX5_init_16 : List UInt8 := dkwX5_init_16 ++ []
def dkwX5_init_15 : List UInt8 := [16, 40, 188, 10, 181, 0, 144, 42, 16, 40, 188, 4, 181, 0, 147, 42, 17, 6, 164, 188, 10, 181, 0, 151]
abbrev dktX5_init_15 : List UInt8 := dkwX5_init_15 ++ dktX5_init_16
def dkwX5_init_14 : List UInt8 := [16, 6, 188, 10, 181, 0, 135, 42, 16, 6, 188, 10, 181, 0, 138, 42, 16, 40, 188, 10, 181, 0, 141, 42]
abbrev dktX5_init_14 : List UInt8 := dkwX5_init_14 ++ dktX5_init_15
def dkwX5_init_13 : List UInt8 := [16, 6, 188, 10, 181, 0, 126, 42, 16, 6, 188, 10, 181, 0, 129, 42, 16, 6, 188, 10, 181, 0, 132, 42]
abbrev dktX5_init_13 : List UInt8 := dkwX5_init_13 ++ dktX5_init_14
def dkwX5_init_12 : List UInt8 := [188, 10, 181, 0, 117, 42, 17, 0, 144, 188, 10, 181, 0, 120, 42, 16, 6, 188, 10, 181, 0, 123, 42]
abbrev dktX5_init_12 : List UInt8 := dkwX5_init_12 ++ dktX5_init_13
def dkwX5_init_11 : List UInt8 := [181, 0, 108, 42, 16, 24, 188, 10, 181, 0, 111, 42, 17, 0, 192, 188, 10, 181, 0, 114, 42, 16, 24]
abbrev dktX5_init_11 : List UInt8 := dkwX5_init_11 ++ dktX5_init_12
def dkwX5_init_10 : List UInt8 := [181, 0, 99, 42, 16, 24, 188, 10, 181, 0, 102, 42, 16, 24, 188, 10, 181, 0, 105, 42, 16, 24, 188, 10]
abbrev dktX5_init_10 : List UInt8 := dkwX5_init_10 ++ dktX5_init_11
def dkwX5_init_9 : List UInt8 := [181, 0, 86, 42, 17, 4, 176, 188, 10, 181, 0, 89, 42, 4, 181, 0, 92, 42, 5, 181, 0, 96, 42, 2]
abbrev dktX5_init_9 : List UInt8 := dkwX5_init_9 ++ dktX5_init_10
def dkwX5_init_8 : List UInt8 := [17, 4, 176, 188, 10, 181, 0, 80, 42, 17, 4, 176, 188, 10, 181, 0, 83, 42, 17, 4, 176, 188, 10]
abbrev dktX5_init_8 : List UInt8 := dkwX5_init_8 ++ dktX5_init_9
def dkwX5_init_7 : List UInt8 := [188, 10, 181, 0, 71, 42, 16, 120, 188, 10, 181, 0, 74, 42, 16, 120, 188, 10, 181, 0, 77, 42]
abbrev dktX5_init_7 : List UInt8 := dkwX5_init_7 ++ dktX5_init_8
def dkwX5_init_6 : List UInt8 := [188, 10, 181, 0, 62, 42, 16, 120, 188, 10, 181, 0, 65, 42, 16, 120, 188, 10, 181, 0, 68, 42, 16, 120]
abbrev dktX5_init_6 : List UInt8 := dkwX5_init_6 ++ dktX5_init_7
def dkwX5_init_5 : List UInt8 := [188, 10, 181, 0, 53, 42, 16, 90, 188, 10, 181, 0, 56, 42, 16, 48, 188, 11, 181, 0, 59, 42, 16, 48]
abbrev dktX5_init_5 : List UInt8 := dkwX5_init_5 ++ dktX5_init_6
def dkwX5_init_4 : List UInt8 := [188, 10, 181, 0, 44, 42, 16, 30, 188, 10, 181, 0, 47, 42, 16, 30, 188, 10, 181, 0, 50, 42, 16, 90]
abbrev dktX5_init_4 : List UInt8 := dkwX5_init_4 ++ dktX5_init_5
def dkwX5_init_3 : List UInt8 := [188, 10, 181, 0, 35, 42, 16, 30, 188, 10, 181, 0, 38, 42, 16, 30, 188, 10, 181, 0, 41, 42, 16, 30]
abbrev dktX5_init_3 : List UInt8 := dkwX5_init_3 ++ dktX5_init_4
def dkwX5_init_2 : List UInt8 := [188, 10, 181, 0, 26, 42, 16, 18, 188, 10, 181, 0, 29, 42, 16, 30, 188, 10, 181, 0, 32, 42, 16, 30]
abbrev dktX5_init_2 : List UInt8 := dkwX5_init_2 ++ dktX5_init_3
def dkwX5_init_1 : List UInt8 := [188, 11, 181, 0, 16, 42, 16, 18, 188, 10, 181, 0, 20, 42, 16, 54, 188, 10, 181, 0, 23, 42, 16, 54]
abbrev dktX5_init_1 : List UInt8 := dkwX5_init_1 ++ dktX5_init_2
def dkwX5_init_0 : List UInt8 := [42, 183, 0, 1, 42, 17, 3, 168, 188, 10, 181, 0, 7, 42, 16, 21, 188, 10, 181, 0, 13, 42, 16, 18]
abbrev dktX5_init_0 : List UInt8 := dkwX5_init_0 ++ dktX5_init_1
theorem dksX5_init_0 : cX5_init.data.toList.drop 0 = dktX5_init_0 := by decide +kernel
theorem dksX5_init_1 : cX5_init.data.toList.drop 24 = dktX5_init_1 := dk_seg dksX5_init_0 24 rfl rfl
theorem dksX5_init_2 : cX5_init.data.toList.drop 48 = dktX5_init_2 := dk_seg dksX5_init_1 24 rfl rfl
theorem dksX5_init_3 : cX5_init.data.toList.drop 72 = dktX5_init_3 := dk_seg dksX5_init_2 24 rfl rfl
theorem dksX5_init_4 : cX5_init.data.toList.drop 96 = dktX5_init_4 := dk_seg dksX5_init_3 24 rfl rfl
theorem dksX5_init_5 : cX5_init.data.toList.drop 120 = dktX5_init_5 := dk_seg dksX5_init_4 24 rfl rfl
theorem dksX5_init_6 : cX5_init.data.toList.drop 144 = dktX5_init_6 := dk_seg dksX5_init_5 24 rfl rfl
theorem dksX5_init_7 : cX5_init.data.toList.drop 168 = dktX5_init_7 := dk_seg dksX5_init_6 24 rfl rfl
theorem dksX5_init_8 : cX5_init.data.toList.drop 190 = dktX5_init_8 := dk_seg dksX5_init_7 22 rfl rfl
theorem dksX5_init_9 : cX5_init.data.toList.drop 213 = dktX5_init_9 := dk_seg dksX5_init_8 23 rfl rfl
theorem dksX5_init_10 : cX5_init.data.toList.drop 237 = dktX5_init_10 := dk_seg dksX5_init_9 24 rfl rfl
theorem dksX5_init_11 : cX5_init.data.toList.drop 261 = dktX5_init_11 := dk_seg dksX5_init_10 24 rfl rfl
theorem dksX5_init_12 : cX5_init.data.toList.drop 284 = dktX5_init_12 := dk_seg dksX5_init_11 23 rfl rfl
theorem dksX5_init_13 : cX5_init.data.toList.drop 307 = dktX5_init_13 := dk_seg dksX5_init_12 23 rfl rfl
theorem dksX5_init_14 : cX5_init.data.toList.drop 331 = dktX5_init_14 := dk_seg dksX5_init_13 24 rfl rfl
theorem dksX5_init_15 : cX5_init.data.toList.drop 355 = dktX5_init_15 := dk_seg dksX5_init_14 24 rfl rfl
theorem dksX5_init_16 : cX5_init.data.toList.drop 379 = dktX5_init_16 := dk_seg dksX5_init_15 24 rfl rfl
theorem dX5_init_0 : decode cX5_init 0 = .ok (.aload_n 0, 1) := dk_42 (dk_at dksX5_init_0 0 rfl rfl)
theorem dX5_init_1 : decode cX5_init 1 = .ok (.invokespecial 1, 3) := dk_183 0 1 (dk_at dksX5_init_0 1 rfl rfl)
theorem dX5_init_4 : decode cX5_init 4 = .ok (.aload_n 0, 1) := dk_42 (dk_at dksX5_init_0 4 rfl rfl)
theorem dX5_init_5 : decode cX5_init 5 = .ok (.sipush 936, 3) := dk_17 3 168 (dk_at dksX5_init_0 5 rfl rfl)
theorem dX5_init_8 : decode cX5_init 8 = .ok (.newarray .int, 2) := dk_188_10 (dk_at dksX5_init_0 8 rfl rfl)
theorem dX5_init_10 : decode cX5_init 10 = .ok (.putfield 7, 3) := dk_181 0 7 (dk_at dksX5_init_0 10 rfl rfl)
theorem dX5_init_13 : decode cX5_init 13 = .ok (.aload_n 0, 1) := dk_42 (dk_at dksX5_init_0 13 rfl rfl)
theorem dX5_init_14 : decode cX5_init 14 = .ok (.bipush 21, 2) := dk_16 21 (dk_at dksX5_init_0 14 rfl rfl)
theorem dX5_init_16 : decode cX5_init 16 = .ok (.newarray .int, 2) := dk_188_10 (dk_at dksX5_init_0 16 rfl rfl)
theorem dX5_init_18 : decode cX5_init 18 = .ok (.putfield 13, 3) := dk_181 0 13 (dk_at dksX5_init_0 18 rfl rfl)
theorem dX5_init_21 : decode cX5_init 21 = .ok (.aload_n 0, 1) := dk_42 (dk_at dksX5_init_0 21 rfl rfl)
theorem dX5_init_22 : decode cX5_init 22 = .ok (.bipush 18, 2) := dk_16 18 (dk_at dksX5_init_0 22 rfl rfl)
theorem dX5_init_24 : decode cX5_init 24 = .ok (.newarray .long, 2) := dk_188_11 (dk_at dksX5_init_1 0 rfl rfl)
theorem dX5_init_26 : decode cX5_init 26 = .ok (.putfield 16, 3) := dk_181 0 16 (dk_at dksX5_init_1 2 rfl rfl)
theorem dX5_init_29 : decode cX5_init 29 = .ok (.aload_n 0, 1) := dk_42 (dk_at dksX5_init_1 5 rfl rfl)
theorem dX5_init_30 : decode cX5_init 30 = .ok (.bipush 18, 2) := dk_16 18 (dk_at dksX5_init_1 6 rfl rfl)
theorem dX5_init_32 : decode cX5_init 32 = .ok (.newarray .int, 2) := dk_188_10 (dk_at dksX5_init_1 8 rfl rfl)
theorem dX5_init_34 : decode cX5_init 34 = .ok (.putfield 20, 3) := dk_181 0 20 (dk_at dksX5_init_1 10 rfl rfl)
theorem dX5_init_37 : decode cX5_init 37 = .ok (.aload_n 0, 1) := dk_42 (dk_at dksX5_init_1 13 rfl rfl)
theorem dX5_init_38 : decode cX5_init 38 = .ok (.bipush 54, 2) := dk_16 54 (dk_at dksX5_init_1 14 rfl rfl)
theorem dX5_init_40 : decode cX5_init 40 = .ok (.newarray .int, 2) := dk_188_10 (dk_at dksX5_init_1 16 rfl rfl)
theorem dX5_init_42 : decode cX5_init 42 = .ok (.putfield 23, 3) := dk_181 0 23 (dk_at dksX5_init_1 18 rfl rfl)
theorem dX5_init_45 : decode cX5_init 45 = .ok (.aload_n 0, 1) := dk_42 (dk_at dksX5_init_1 21 rfl rfl)
theorem dX5_init_46 : decode cX5_init 46 = .ok (.bipush 54, 2) := dk_16 54 (dk_at dksX5_init_1 22 rfl rfl)
theorem dX5_init_48 : decode cX5_init 48 = .ok (.newarray .int, 2) := dk_188_10 (dk_at dksX5_init_2 0 rfl rfl)
theorem dX5_init_50 : decode cX5_init 50 = .ok (.putfield 26, 3) := dk_181 0 26 (dk_at dksX5_init_2 2 rfl rfl)
theorem dX5_init_53 : decode cX5_init 53 = .ok (.aload_n 0, 1) := dk_42 (dk_at dksX5_init_2 5 rfl rfl)
theorem dX5_init_54 : decode cX5_init 54 = .ok (.bipush 18, 2) := dk_16 18 (dk_at dksX5_init_2 6 rfl rfl)
theorem dX5_init_56 : decode cX5_init 56 = .ok (.newarray .int, 2) := dk_188_10 (dk_at dksX5_init_2 8 rfl rfl)
theorem dX5_init_58 : decode cX5_init 58 = .ok (.putfield 29, 3) := dk_181 0 29 (dk_at dksX5_init_2 10 rfl rfl)
theorem dX5_init_61 : decode cX5_init 61 = .ok (.aload_n 0, 1) := dk_42 (dk_at dksX5_init_2 13 rfl rfl)
theorem dX5_init_62 : decode cX5_init 62 = .ok (.bipush 30, 2) := dk_16 30 (dk_at dksX5_init_2 14 rfl rfl)
theorem dX5_init_64 : decode cX5_init 64 = .ok (.newarray .int, 2) := dk_188_10 (dk_at dksX5_init_2 16 rfl rfl)
theorem dX5_init_66 : decode cX5_init 66 = .ok (.putfield 32, 3) := dk_181 0 32 (dk_at dksX5_init_2 18 rfl rfl)
theorem dX5_init_69 : decode cX5_init 69 = .ok (.aload_n 0, 1) := dk_42 (dk_at dksX5_init_2 21 rfl rfl)
theorem dX5_init_70 : decode cX5_init 70 = .ok (.bipush 30, 2) := dk_16 30 (dk_at dksX5_init_2 22 rfl rfl)
theorem dX5_init_72 : decode cX5_init 72 = .ok (.newarray .int, 2) := dk_188_10 (dk_at dksX5_init_3 0 rfl rfl)
theorem dX5_init_74 : decode cX5_init 74 = .ok (.putfield 35, 3) := dk_181 0 35 (dk_at dksX5_init_3 2 rfl rfl)
theorem dX5_init_77 : decode cX5_init 77 = .ok (.aload_n 0, 1) := dk_42 (dk_at dksX5_init_3 5 rfl rfl)
theorem dX5_init_78 : decode cX5_init 78 = .ok (.bipush 30, 2) := dk_16 30 (dk_at dksX5_init_3 6 rfl rfl)
theorem dX5_init_80 : decode cX5_init 80 = .ok (.newarray .int, 2) := dk_188_10 (dk_at dksX5_init_3 8 rfl rfl)
theorem dX5_init_82 : decode cX5_init 82 = .ok (.putfield 38, 3) := dk_181 0 38 (dk_at dksX5_init_3 10 rfl rfl)
theorem dX5_init_85 : decode cX5_init 85 = .ok (.aload_n 0, 1) := dk_42 (dk_at dksX5_init_3 13 rfl rfl)
theorem dX5_init_86 : decode cX5_init 86 = .ok (.bipush 30, 2) := dk_16 30 (dk_at dksX5_init_3 14 rfl rfl)
theorem dX5_init_88 : decode cX5_init 88 = .ok (.newarray .int, 2) := dk_188_10 (dk_at dksX5_init_3 16 rfl rfl)
theorem dX5_init_90 : decode cX5_init 90 = .ok (.putfield 41, 3) := dk_181 0 41 (dk_at dksX5_init_3 18 rfl rfl)
theorem dX5_init_93 : decode cX5_init 93 = .ok (.aload_n 0, 1) := dk_42 (dk_at dksX5_init_3 21 rfl rfl)
theorem dX5_init_94 : decode cX5_init 94 = .ok (.bipush 30, 2) := dk_16 30 (dk_at dksX5_init_3 22 rfl rfl)
theorem dX5_init_96 : decode cX5_init 96 = .ok (.newarray .int, 2) := dk_188_10 (dk_at dksX5_init_4 0 rfl rfl)
theorem dX5_init_98 : decode cX5_init 98 = .ok (.putfield 44, 3) := dk_181 0 44 (dk_at dksX5_init_4 2 rfl rfl)
theorem dX5_init_101 : decode cX5_init 101 = .ok (.aload_n 0, 1) := dk_42 (dk_at dksX5_init_4 5 rfl rfl)
theorem dX5_init_102 : decode cX5_init 102 = .ok (.bipush 30, 2) := dk_16 30 (dk_at dksX5_init_4 6 rfl rfl)
theorem dX5_init_104 : decode cX5_init 104 = .ok (.newarray .int, 2) := dk_188_10 (dk_at dksX5_init_4 8 rfl rfl)
theorem dX5_init_106 : decode cX5_init 106 = .ok (.putfield 47, 3) := dk_181 0 47 (dk_at dksX5_init_4 10 rfl rfl)
theorem dX5_init_109 : decode cX5_init 109 = .ok (.aload_n 0, 1) := dk_42 (dk_at dksX5_init_4 13 rfl rfl)
theorem dX5_init_110 : decode cX5_init 110 = .ok (.bipush 30, 2) := dk_16 30 (dk_at dksX5_init_4 14 rfl rfl)
theorem dX5_init_112 : decode cX5_init 112 = .ok (.newarray .int, 2) := dk_188_10 (dk_at dksX5_init_4 16 rfl rfl)
theorem dX5_init_114 : decode cX5_init 114 = .ok (.putfield 50, 3) := dk_181 0 50 (dk_at dksX5_init_4 18 rfl rfl)
theorem dX5_init_117 : decode cX5_init 117 = .ok (.aload_n 0, 1) := dk_42 (dk_at dksX5_init_4 21 rfl rfl)
theorem dX5_init_118 : decode cX5_init 118 = .ok (.bipush 90, 2) := dk_16 90 (dk_at dksX5_init_4 22 rfl rfl)
theorem dX5_init_120 : decode cX5_init 120 = .ok (.newarray .int, 2) := dk_188_10 (dk_at dksX5_init_5 0 rfl rfl)
theorem dX5_init_122 : decode cX5_init 122 = .ok (.putfield 53, 3) := dk_181 0 53 (dk_at dksX5_init_5 2 rfl rfl)
theorem dX5_init_125 : decode cX5_init 125 = .ok (.aload_n 0, 1) := dk_42 (dk_at dksX5_init_5 5 rfl rfl)
theorem dX5_init_126 : decode cX5_init 126 = .ok (.bipush 90, 2) := dk_16 90 (dk_at dksX5_init_5 6 rfl rfl)
theorem dX5_init_128 : decode cX5_init 128 = .ok (.newarray .int, 2) := dk_188_10 (dk_at dksX5_init_5 8 rfl rfl)
theorem dX5_init_130 : decode cX5_init 130 = .ok (.putfield 56, 3) := dk_181 0 56 (dk_at dksX5_init_5 10 rfl rfl)
theorem dX5_init_133 : decode cX5_init 133 = .ok (.aload_n 0, 1) := dk_42 (dk_at dksX5_init_5 13 rfl rfl)
theorem dX5_init_134 : decode cX5_init 134 = .ok (.bipush 48, 2) := dk_16 48 (dk_at dksX5_init_5 14 rfl rfl)
theorem dX5_init_136 : decode cX5_init 136 = .ok (.newarray .long, 2) := dk_188_11 (dk_at dksX5_init_5 16 rfl rfl)
theorem dX5_init_138 : decode cX5_init 138 = .ok (.putfield 59, 3) := dk_181 0 59 (dk_at dksX5_init_5 18 rfl rfl)
theorem dX5_init_141 : decode cX5_init 141 = .ok (.aload_n 0, 1) := dk_42 (dk_at dksX5_init_5 21 rfl rfl)
theorem dX5_init_142 : decode cX5_init 142 = .ok (.bipush 48, 2) := dk_16 48 (dk_at dksX5_init_5 22 rfl rfl)
theorem dX5_init_144 : decode cX5_init 144 = .ok (.newarray .int, 2) := dk_188_10 (dk_at dksX5_init_6 0 rfl rfl)
theorem dX5_init_146 : decode cX5_init 146 = .ok (.putfield 62, 3) := dk_181 0 62 (dk_at dksX5_init_6 2 rfl rfl)
theorem dX5_init_149 : decode cX5_init 149 = .ok (.aload_n 0, 1) := dk_42 (dk_at dksX5_init_6 5 rfl rfl)
theorem dX5_init_150 : decode cX5_init 150 = .ok (.bipush 120, 2) := dk_16 120 (dk_at dksX5_init_6 6 rfl rfl)
theorem dX5_init_152 : decode cX5_init 152 = .ok (.newarray .int, 2) := dk_188_10 (dk_at dksX5_init_6 8 rfl rfl)
theorem dX5_init_154 : decode cX5_init 154 = .ok (.putfield 65, 3) := dk_181 0 65 (dk_at dksX5_init_6 10 rfl rfl)
theorem dX5_init_157 : decode cX5_init 157 = .ok (.aload_n 0, 1) := dk_42 (dk_at dksX5_init_6 13 rfl rfl)
theorem dX5_init_158 : decode cX5_init 158 = .ok (.bipush 120, 2) := dk_16 120 (dk_at dksX5_init_6 14 rfl rfl)
theorem dX5_init_160 : decode cX5_init 160 = .ok (.newarray .int, 2) := dk_188_10 (dk_at dksX5_init_6 16 rfl rfl)
theorem dX5_init_162 : decode cX5_init 162 = .ok (.putfield 68, 3) := dk_181 0 68 (dk_at dksX5_init_6 18 rfl rfl)
theorem dX5_init_165 : decode cX5_init 165 = .ok (.aload_n 0, 1) := dk_42 (dk_at dksX5_init_6 21 rfl rfl)
theorem dX5_init_166 : decode cX5_init 166 = .ok (.bipush 120, 2) := dk_16 120 (dk_at dksX5_init_6 22 rfl rfl)
theorem dX5_init_168 : decode cX5_init 168 = .ok (.newarray .int, 2) := dk_188_10 (dk_at dksX5_init_7 0 rfl rfl)
theorem dX5_init_170 : decode cX5_init 170 = .ok (.putfield 71, 3) := dk_181 0 71 (dk_at dksX5_init_7 2 rfl rfl)
theorem dX5_init_173 : decode cX5_init 173 = .ok (.aload_n 0, 1) := dk_42 (dk_at dksX5_init_7 5 rfl rfl)
theorem dX5_init_174 : decode cX5_init 174 = .ok (.bipush 120, 2) := dk_16 120 (dk_at dksX5_init_7 6 rfl rfl)
theorem dX5_init_176 : decode cX5_init 176 = .ok (.newarray .int, 2) := dk_188_10 (dk_at dksX5_init_7 8 rfl rfl)
theorem dX5_init_178 : decode cX5_init 178 = .ok (.putfield 74, 3) := dk_181 0 74 (dk_at dksX5_init_7 10 rfl rfl)
theorem dX5_init_181 : decode cX5_init 181 = .ok (.aload_n 0, 1) := dk_42 (dk_at dksX5_init_7 13 rfl rfl)
theorem dX5_init_182 : decode cX5_init 182 = .ok (.bipush 120, 2) := dk_16 120 (dk_at dksX5_init_7 14 rfl rfl)
theorem dX5_init_184 : decode cX5_init 184 = .ok (.newarray .int, 2) := dk_188_10 (dk_at dksX5_init_7 16 rfl rfl)
theorem dX5_init_186 : decode cX5_init 186 = .ok (.putfield 77, 3) := dk_181 0 77 (dk_at dksX5_init_7 18 rfl rfl)
theorem dX5_init_189 : decode cX5_init 189 = .ok (.aload_n 0, 1) := dk_42 (dk_at dksX5_init_7 21 rfl rfl)
theorem dX5_init_190 : decode cX5_init 190 = .ok (.sipush 1200, 3) := dk_17 4 176 (dk_at dksX5_init_8 0 rfl rfl)
theorem dX5_init_193 : decode cX5_init 193 = .ok (.newarray .int, 2) := dk_188_10 (dk_at dksX5_init_8 3 rfl rfl)
theorem dX5_init_195 : decode cX5_init 195 = .ok (.putfield 80, 3) := dk_181 0 80 (dk_at dksX5_init_8 5 rfl rfl)
theorem dX5_init_198 : decode cX5_init 198 = .ok (.aload_n 0, 1) := dk_42 (dk_at dksX5_init_8 8 rfl rfl)
theorem dX5_init_199 : decode cX5_init 199 = .ok (.sipush 1200, 3) := dk_17 4 176 (dk_at dksX5_init_8 9 rfl rfl)
theorem dX5_init_202 : decode cX5_init 202 = .ok (.newarray .int, 2) := dk_188_10 (dk_at dksX5_init_8 12 rfl rfl)
theorem dX5_init_204 : decode cX5_init 204 = .ok (.putfield 83, 3) := dk_181 0 83 (dk_at dksX5_init_8 14 rfl rfl)
theorem dX5_init_207 : decode cX5_init 207 = .ok (.aload_n 0, 1) := dk_42 (dk_at dksX5_init_8 17 rfl rfl)
theorem dX5_init_208 : decode cX5_init 208 = .ok (.sipush 1200, 3) := dk_17 4 176 (dk_at dksX5_init_8 18 rfl rfl)
theorem dX5_init_211 : decode cX5_init 211 = .ok (.newarray .int, 2) := dk_188_10 (dk_at dksX5_init_8 21 rfl rfl)
theorem dX5_init_213 : decode cX5_init 213 = .ok (.putfield 86, 3) := dk_181 0 86 (dk_at dksX5_init_9 0 rfl rfl)
theorem dX5_init_216 : decode cX5_init 216 = .ok (.aload_n 0, 1) := dk_42 (dk_at dksX5_init_9 3 rfl rfl)
theorem dX5_init_217 : decode cX5_init 217 = .ok (.sipush 1200, 3) := dk_17 4 176 (dk_at dksX5_init_9 4 rfl rfl)
theorem dX5_init_220 : decode cX5_init 220 = .ok (.newarray .int, 2) := dk_188_10 (dk_at dksX5_init_9 7 rfl rfl)
theorem dX5_init_222 : decode cX5_init 222 = .ok (.putfield 89, 3) := dk_181 0 89 (dk_at dksX5_init_9 9 rfl rfl)
theorem dX5_init_225 : decode cX5_init 225 = .ok (.aload_n 0, 1) := dk_42 (dk_at dksX5_init_9 12 rfl rfl)
theorem dX5_init_226 : decode cX5_init 226 = .ok (.iconst 1, 1) := dk_4 (dk_at dksX5_init_9 13 rfl rfl)
theorem dX5_init_227 : decode cX5_init 227 = .ok (.putfield 92, 3) := dk_181 0 92 (dk_at dksX5_init_9 14 rfl rfl)
theorem dX5_init_230 : decode cX5_init 230 = .ok (.aload_n 0, 1) := dk_42 (dk_at dksX5_init_9 17 rfl rfl)
theorem dX5_init_231 : decode cX5_init 231 = .ok (.iconst 2, 1) := dk_5 (dk_at dksX5_init_9 18 rfl rfl)
theorem dX5_init_232 : decode cX5_init 232 = .ok (.putfield 96, 3) := dk_181 0 96 (dk_at dksX5_init_9 19 rfl rfl)
theorem dX5_init_235 : decode cX5_init 235 = .ok (.aload_n 0, 1) := dk_42 (dk_at dksX5_init_9 22 rfl rfl)
theorem dX5_init_236 : decode cX5_init 236 = .ok (.iconst (-1), 1) := dk_2 (dk_at dksX5_init_9 23 rfl rfl)
theorem dX5_init_237 : decode cX5_init 237 = .ok (.putfield 99, 3) := dk_181 0 99 (dk_at dksX5_init_10 0 rfl rfl)
theorem dX5_init_240 : decode cX5_init 240 = .ok (.aload_n 0, 1) := dk_42 (dk_at dksX5_init_10 3 rfl rfl)
theorem dX5_init_241 : decode cX5_init 241 = .ok (.bipush 24, 2) := dk_16 24 (dk_at dksX5_init_10 4 rfl rfl)
theorem dX5_init_243 : decode cX5_init 243 = .ok (.newarray .int, 2) := dk_188_10 (dk_at dksX5_init_10 6 rfl rfl)
theorem dX5_init_245 : decode cX5_init 245 = .ok (.putfield 102, 3) := dk_181 0 102 (dk_at dksX5_init_10 8 rfl rfl)
theorem dX5_init_248 : decode cX5_init 248 = .ok (.aload_n 0, 1) := dk_42 (dk_at dksX5_init_10 11 rfl rfl)
theorem dX5_init_249 : decode cX5_init 249 = .ok (.bipush 24, 2) := dk_16 24 (dk_at dksX5_init_10 12 rfl rfl)
theorem dX5_init_251 : decode cX5_init 251 = .ok (.newarray .int, 2) := dk_188_10 (dk_at dksX5_init_10 14 rfl rfl)
theorem dX5_init_253 : decode cX5_init 253 = .ok (.putfield 105, 3) := dk_181 0 105 (dk_at dksX5_init_10 16 rfl rfl)
theorem dX5_init_256 : decode cX5_init 256 = .ok (.aload_n 0, 1) := dk_42 (dk_at dksX5_init_10 19 rfl rfl)
theorem dX5_init_257 : decode cX5_init 257 = .ok (.bipush 24, 2) := dk_16 24 (dk_at dksX5_init_10 20 rfl rfl)
theorem dX5_init_259 : decode cX5_init 259 = .ok (.newarray .int, 2) := dk_188_10 (dk_at dksX5_init_10 22 rfl rfl)
theorem dX5_init_261 : decode cX5_init 261 = .ok (.putfield 108, 3) := dk_181 0 108 (dk_at dksX5_init_11 0 rfl rfl)
theorem dX5_init_264 : decode cX5_init 264 = .ok (.aload_n 0, 1) := dk_42 (dk_at dksX5_init_11 3 rfl rfl)
theorem dX5_init_265 : decode cX5_init 265 = .ok (.bipush 24, 2) := dk_16 24 (dk_at dksX5_init_11 4 rfl rfl)
theorem dX5_init_267 : decode cX5_init 267 = .ok (.newarray .int, 2) := dk_188_10 (dk_at dksX5_init_11 6 rfl rfl)
theorem dX5_init_269 : decode cX5_init 269 = .ok (.putfield 111, 3) := dk_181 0 111 (dk_at dksX5_init_11 8 rfl rfl)
theorem dX5_init_272 : decode cX5_init 272 = .ok (.aload_n 0, 1) := dk_42 (dk_at dksX5_init_11 11 rfl rfl)
theorem dX5_init_273 : decode cX5_init 273 = .ok (.sipush 192, 3) := dk_17 0 192 (dk_at dksX5_init_11 12 rfl rfl)
theorem dX5_init_276 : decode cX5_init 276 = .ok (.newarray .int, 2) := dk_188_10 (dk_at dksX5_init_11 15 rfl rfl)
theorem dX5_init_278 : decode cX5_init 278 = .ok (.putfield 114, 3) := dk_181 0 114 (dk_at dksX5_init_11 17 rfl rfl)
theorem dX5_init_281 : decode cX5_init 281 = .ok (.aload_n 0, 1) := dk_42 (dk_at dksX5_init_11 20 rfl rfl)
theorem dX5_init_282 : decode cX5_init 282 = .ok (.bipush 24, 2) := dk_16 24 (dk_at dksX5_init_11 21 rfl rfl)
theorem dX5_init_284 : decode cX5_init 284 = .ok (.newarray .int, 2) := dk_188_10 (dk_at dksX5_init_12 0 rfl rfl)
theorem dX5_init_286 : decode cX5_init 286 = .ok (.putfield 117, 3) := dk_181 0 117 (dk_at dksX5_init_12 2 rfl rfl)
theorem dX5_init_289 : decode cX5_init 289 = .ok (.aload_n 0, 1) := dk_42 (dk_at dksX5_init_12 5 rfl rfl)
theorem dX5_init_290 : decode cX5_init 290 = .ok (.sipush 144, 3) := dk_17 0 144 (dk_at dksX5_init_12 6 rfl rfl)
theorem dX5_init_293 : decode cX5_init 293 = .ok (.newarray .int, 2) := dk_188_10 (dk_at dksX5_init_12 9 rfl rfl)
theorem dX5_init_295 : decode cX5_init 295 = .ok (.putfield 120, 3) := dk_181 0 120 (dk_at dksX5_init_12 11 rfl rfl)
theorem dX5_init_298 : decode cX5_init 298 = .ok (.aload_n 0, 1) := dk_42 (dk_at dksX5_init_12 14 rfl rfl)
theorem dX5_init_299 : decode cX5_init 299 = .ok (.bipush 6, 2) := dk_16 6 (dk_at dksX5_init_12 15 rfl rfl)
theorem dX5_init_301 : decode cX5_init 301 = .ok (.newarray .int, 2) := dk_188_10 (dk_at dksX5_init_12 17 rfl rfl)
theorem dX5_init_303 : decode cX5_init 303 = .ok (.putfield 123, 3) := dk_181 0 123 (dk_at dksX5_init_12 19 rfl rfl)
theorem dX5_init_306 : decode cX5_init 306 = .ok (.aload_n 0, 1) := dk_42 (dk_at dksX5_init_12 22 rfl rfl)
theorem dX5_init_307 : decode cX5_init 307 = .ok (.bipush 6, 2) := dk_16 6 (dk_at dksX5_init_13 0 rfl rfl)
theorem dX5_init_309 : decode cX5_init 309 = .ok (.newarray .int, 2) := dk_188_10 (dk_at dksX5_init_13 2 rfl rfl)
theorem dX5_init_311 : decode cX5_init 311 = .ok (.putfield 126, 3) := dk_181 0 126 (dk_at dksX5_init_13 4 rfl rfl)
theorem dX5_init_314 : decode cX5_init 314 = .ok (.aload_n 0, 1) := dk_42 (dk_at dksX5_init_13 7 rfl rfl)
theorem dX5_init_315 : decode cX5_init 315 = .ok (.bipush 6, 2) := dk_16 6 (dk_at dksX5_init_13 8 rfl rfl)
theorem dX5_init_317 : decode cX5_init 317 = .ok (.newarray .int, 2) := dk_188_10 (dk_at dksX5_init_13 10 rfl rfl)
theorem dX5_init_319 : decode cX5_init 319 = .ok (.putfield 129, 3) := dk_181 0 129 (dk_at dksX5_init_13 12 rfl rfl)
theorem dX5_init_322 : decode cX5_init 322 = .ok (.aload_n 0, 1) := dk_42 (dk_at dksX5_init_13 15 rfl rfl)
theorem dX5_init_323 : decode cX5_init 323 = .ok (.bipush 6, 2) := dk_16 6 (dk_at dksX5_init_13 16 rfl rfl)
theorem dX5_init_325 : decode cX5_init 325 = .ok (.newarray .int, 2) := dk_188_10 (dk_at dksX5_init_13 18 rfl rfl)
theorem dX5_init_327 : decode cX5_init 327 = .ok (.putfield 132, 3) := dk_181 0 132 (dk_at dksX5_init_13 20 rfl rfl)
theorem dX5_init_330 : decode cX5_init 330 = .ok (.aload_n 0, 1) := dk_42 (dk_at dksX5_init_13 23 rfl rfl)
theorem dX5_init_331 : decode cX5_init 331 = .ok (.bipush 6, 2) := dk_16 6 (dk_at dksX5_init_14 0 rfl rfl)
theorem dX5_init_333 : decode cX5_init 333 = .ok (.newarray .int, 2) := dk_188_10 (dk_at dksX5_init_14 2 rfl rfl)
theorem dX5_init_335 : decode cX5_init 335 = .ok (.putfield 135, 3) := dk_181 0 135 (dk_at dksX5_init_14 4 rfl rfl)
theorem dX5_init_338 : decode cX5_init 338 = .ok (.aload_n 0, 1) := dk_42 (dk_at dksX5_init_14 7 rfl rfl)
theorem dX5_init_339 : decode cX5_init 339 = .ok (.bipush 6, 2) := dk_16 6 (dk_at dksX5_init_14 8 rfl rfl)
theorem dX5_init_341 : decode cX5_init 341 = .ok (.newarray .int, 2) := dk_188_10 (dk_at dksX5_init_14 10 rfl rfl)
theorem dX5_init_343 : decode cX5_init 343 = .ok (.putfield 138, 3) := dk_181 0 138 (dk_at dksX5_init_14 12 rfl rfl)
theorem dX5_init_346 : decode cX5_init 346 = .ok (.aload_n 0, 1) := dk_42 (dk_at dksX5_init_14 15 rfl rfl)
theorem dX5_init_347 : decode cX5_init 347 = .ok (.bipush 40, 2) := dk_16 40 (dk_at dksX5_init_14 16 rfl rfl)
theorem dX5_init_349 : decode cX5_init 349 = .ok (.newarray .int, 2) := dk_188_10 (dk_at dksX5_init_14 18 rfl rfl)
theorem dX5_init_351 : decode cX5_init 351 = .ok (.putfield 141, 3) := dk_181 0 141 (dk_at dksX5_init_14 20 rfl rfl)
theorem dX5_init_354 : decode cX5_init 354 = .ok (.aload_n 0, 1) := dk_42 (dk_at dksX5_init_14 23 rfl rfl)
theorem dX5_init_355 : decode cX5_init 355 = .ok (.bipush 40, 2) := dk_16 40 (dk_at dksX5_init_15 0 rfl rfl)
theorem dX5_init_357 : decode cX5_init 357 = .ok (.newarray .int, 2) := dk_188_10 (dk_at dksX5_init_15 2 rfl rfl)
theorem dX5_init_359 : decode cX5_init 359 = .ok (.putfield 144, 3) := dk_181 0 144 (dk_at dksX5_init_15 4 rfl rfl)
theorem dX5_init_362 : decode cX5_init 362 = .ok (.aload_n 0, 1) := dk_42 (dk_at dksX5_init_15 7 rfl rfl)
theorem dX5_init_363 : decode cX5_init 363 = .ok (.bipush 40, 2) := dk_16 40 (dk_at dksX5_init_15 8 rfl rfl)
theorem dX5_init_365 : decode cX5_init 365 = .ok (.newarray .boolean, 2) := dk_188_4 (dk_at dksX5_init_15 10 rfl rfl)
theorem dX5_init_367 : decode cX5_init 367 = .ok (.putfield 147, 3) := dk_181 0 147 (dk_at dksX5_init_15 12 rfl rfl)
theorem dX5_init_370 : decode cX5_init 370 = .ok (.aload_n 0, 1) := dk_42 (dk_at dksX5_init_15 15 rfl rfl)
theorem dX5_init_371 : decode cX5_init 371 = .ok (.sipush 1700, 3) := dk_17 6 164 (dk_at dksX5_init_15 16 rfl rfl)
theorem dX5_init_374 : decode cX5_init 374 = .ok (.newarray .int, 2) := dk_188_10 (dk_at dksX5_init_15 19 rfl rfl)
theorem dX5_init_376 : decode cX5_init 376 = .ok (.putfield 151, 3) := dk_181 0 151 (dk_at dksX5_init_15 21 rfl rfl)
theorem dX5_init_379 : decode cX5_init 379 = .ok (.aload_n 0, 1) := dk_42 (dk_at dksX5_init_16 0 rfl rfl)
theorem dX5_init_380 : decode cX5_init 380 = .ok (.iconst 5, 1) := dk_8 (dk_at dksX5_init_16 1 rfl rfl)
theorem dX5_init_381 : decode cX5_init 381 = .ok (.newarray .int, 2) := dk_188_10 (dk_at dksX5_init_16 2 rfl rfl)
theorem dX5_init_383 : decode cX5_init 383 = .ok (.putfield 154, 3) := dk_181 0 154 (dk_at dksX5_init_16 4 rfl rfl)
theorem dX5_init_386 : decode cX5_init 386 = .ok (.aload_n 0, 1) := dk_42 (dk_at dksX5_init_16 7 rfl rfl)
theorem dX5_init_387 : decode cX5_init 387 = .ok (.sipush 1200, 3) := dk_17 4 176 (dk_at dksX5_init_16 8 rfl rfl)
theorem dX5_init_390 : decode cX5_init 390 = .ok (.newarray .int, 2) := dk_188_10 (dk_at dksX5_init_16 11 rfl rfl)
theorem dX5_init_392 : decode cX5_init 392 = .ok (.putfield 157, 3) := dk_181 0 157 (dk_at dksX5_init_16 13 rfl rfl)
theorem dX5_init_395 : decode cX5_init 395 = .ok (.return_, 1) := dk_177 (dk_at dksX5_init_16 16 rfl rfl)
abbrev cX5_thrown : ByteArray := prog_20_method_2_code
def yX5_thrown : MethodName := ⟨RX5, "thrown", "()I"⟩
theorem dX5_thrown_0 : decode cX5_thrown 0 = .ok (.aload_n 0, 1) := by decide +kernel
theorem dX5_thrown_1 : decode cX5_thrown 1 = .ok (.getfield 160, 3) := by decide +kernel
theorem dX5_thrown_4 : decode cX5_thrown 4 = .ok (.ireturn, 1) := by decide +kernel
abbrev cX5_feed : ByteArray := prog_20_method_10_code
def yX5_feed : MethodName := ⟨RX5, "feed", "(JJJ)I"⟩
def dkwX5_feed_1 : List UInt8 := [182, 0, 166, 42, 33, 182, 0, 166, 42, 22, 5, 182, 0, 166, 42, 180, 0, 163, 172]
abbrev dktX5_feed_1 : List UInt8 := dkwX5_feed_1 ++ []
def dkwX5_feed_0 : List UInt8 := [42, 3, 181, 0, 160, 42, 180, 0, 163, 16, 24, 96, 17, 3, 168, 164, 0, 5, 2, 172, 42, 31]
abbrev dktX5_feed_0 : List UInt8 := dkwX5_feed_0 ++ dktX5_feed_1
theorem dksX5_feed_0 : cX5_feed.data.toList.drop 0 = dktX5_feed_0 := by decide +kernel
theorem dksX5_feed_1 : cX5_feed.data.toList.drop 22 = dktX5_feed_1 := dk_seg dksX5_feed_0 22 rfl rfl
theorem dX5_feed_0 : decode cX5_feed 0 = .ok (.aload_n 0, 1) := dk_42 (dk_at dksX5_feed_0 0 rfl rfl)
theorem dX5_feed_1 : decode cX5_feed 1 = .ok (.iconst 0, 1) := dk_3 (dk_at dksX5_feed_0 1 rfl rfl)
theorem dX5_feed_2 : decode cX5_feed 2 = .ok (.putfield 160, 3) := dk_181 0 160 (dk_at dksX5_feed_0 2 rfl rfl)
theorem dX5_feed_5 : decode cX5_feed 5 = .ok (.aload_n 0, 1) := dk_42 (dk_at dksX5_feed_0 5 rfl rfl)
theorem dX5_feed_6 : decode cX5_feed 6 = .ok (.getfield 163, 3) := dk_180 0 163 (dk_at dksX5_feed_0 6 rfl rfl)
theorem dX5_feed_9 : decode cX5_feed 9 = .ok (.bipush 24, 2) := dk_16 24 (dk_at dksX5_feed_0 9 rfl rfl)
theorem dX5_feed_11 : decode cX5_feed 11 = .ok (.iadd, 1) := dk_96 (dk_at dksX5_feed_0 11 rfl rfl)
theorem dX5_feed_12 : decode cX5_feed 12 = .ok (.sipush 936, 3) := dk_17 3 168 (dk_at dksX5_feed_0 12 rfl rfl)
theorem dX5_feed_15 : decode cX5_feed 15 = .ok (.if_icmp .le 5, 3) := dk_164 0 5 (dk_at dksX5_feed_0 15 rfl rfl)
theorem dX5_feed_18 : decode cX5_feed 18 = .ok (.iconst (-1), 1) := dk_2 (dk_at dksX5_feed_0 18 rfl rfl)
theorem dX5_feed_19 : decode cX5_feed 19 = .ok (.ireturn, 1) := dk_172 (dk_at dksX5_feed_0 19 rfl rfl)
theorem dX5_feed_20 : decode cX5_feed 20 = .ok (.aload_n 0, 1) := dk_42 (dk_at dksX5_feed_0 20 rfl rfl)
theorem dX5_feed_21 : decode cX5_feed 21 = .ok (.lload_n 1, 1) := dk_31 (dk_at dksX5_feed_0 21 rfl rfl)
theorem dX5_feed_22 : decode cX5_feed 22 = .ok (.invokevirtual 166, 3) := dk_182 0 166 (dk_at dksX5_feed_1 0 rfl rfl)
theorem dX5_feed_25 : decode cX5_feed 25 = .ok (.aload_n 0, 1) := dk_42 (dk_at dksX5_feed_1 3 rfl rfl)
theorem dX5_feed_26 : decode cX5_feed 26 = .ok (.lload_n 3, 1) := dk_33 (dk_at dksX5_feed_1 4 rfl rfl)
theorem dX5_feed_27 : decode cX5_feed 27 = .ok (.invokevirtual 166, 3) := dk_182 0 166 (dk_at dksX5_feed_1 5 rfl rfl)
theorem dX5_feed_30 : decode cX5_feed 30 = .ok (.aload_n 0, 1) := dk_42 (dk_at dksX5_feed_1 8 rfl rfl)
theorem dX5_feed_31 : decode cX5_feed 31 = .ok (.lload 5, 2) := dk_22 5 (dk_at dksX5_feed_1 9 rfl rfl)
theorem dX5_feed_33 : decode cX5_feed 33 = .ok (.invokevirtual 166, 3) := dk_182 0 166 (dk_at dksX5_feed_1 11 rfl rfl)
theorem dX5_feed_36 : decode cX5_feed 36 = .ok (.aload_n 0, 1) := dk_42 (dk_at dksX5_feed_1 14 rfl rfl)
theorem dX5_feed_37 : decode cX5_feed 37 = .ok (.getfield 163, 3) := dk_180 0 163 (dk_at dksX5_feed_1 15 rfl rfl)
theorem dX5_feed_40 : decode cX5_feed 40 = .ok (.ireturn, 1) := dk_172 (dk_at dksX5_feed_1 18 rfl rfl)
abbrev cX5_eight : ByteArray := prog_20_method_9_code
def yX5_eight : MethodName := ⟨RX5, "eight", "(J)V"⟩
def dkwX5_eight_1 : List UInt8 := [42, 89, 180, 0, 163, 4, 96, 181, 0, 163, 132, 3, 248, 167, 255, 222, 177]
abbrev dktX5_eight_1 : List UInt8 := dkwX5_eight_1 ++ []
def dkwX5_eight_0 : List UInt8 := [16, 56, 62, 29, 155, 0, 36, 42, 180, 0, 7, 42, 180, 0, 163, 31, 29, 123, 136, 17, 0, 255, 126, 79]
abbrev dktX5_eight_0 : List UInt8 := dkwX5_eight_0 ++ dktX5_eight_1
theorem dksX5_eight_0 : cX5_eight.data.toList.drop 0 = dktX5_eight_0 := by decide +kernel
theorem dksX5_eight_1 : cX5_eight.data.toList.drop 24 = dktX5_eight_1 := dk_seg dksX5_eight_0 24 rfl rfl
theorem dX5_eight_0 : decode cX5_eight 0 = .ok (.bipush 56, 2) := dk_16 56 (dk_at dksX5_eight_0 0 rfl rfl)
theorem dX5_eight_2 : decode cX5_eight 2 = .ok (.istore_n 3, 1) := dk_62 (dk_at dksX5_eight_0 2 rfl rfl)
theorem dX5_eight_3 : decode cX5_eight 3 = .ok (.iload_n 3, 1) := dk_29 (dk_at dksX5_eight_0 3 rfl rfl)
theorem dX5_eight_4 : decode cX5_eight 4 = .ok (.ifCond .lt 36, 3) := dk_155 0 36 (dk_at dksX5_eight_0 4 rfl rfl)
theorem dX5_eight_7 : decode cX5_eight 7 = .ok (.aload_n 0, 1) := dk_42 (dk_at dksX5_eight_0 7 rfl rfl)
theorem dX5_eight_8 : decode cX5_eight 8 = .ok (.getfield 7, 3) := dk_180 0 7 (dk_at dksX5_eight_0 8 rfl rfl)
theorem dX5_eight_11 : decode cX5_eight 11 = .ok (.aload_n 0, 1) := dk_42 (dk_at dksX5_eight_0 11 rfl rfl)
theorem dX5_eight_12 : decode cX5_eight 12 = .ok (.getfield 163, 3) := dk_180 0 163 (dk_at dksX5_eight_0 12 rfl rfl)
theorem dX5_eight_15 : decode cX5_eight 15 = .ok (.lload_n 1, 1) := dk_31 (dk_at dksX5_eight_0 15 rfl rfl)
theorem dX5_eight_16 : decode cX5_eight 16 = .ok (.iload_n 3, 1) := dk_29 (dk_at dksX5_eight_0 16 rfl rfl)
theorem dX5_eight_17 : decode cX5_eight 17 = .ok (.lshr, 1) := dk_123 (dk_at dksX5_eight_0 17 rfl rfl)
theorem dX5_eight_18 : decode cX5_eight 18 = .ok (.l2i, 1) := dk_136 (dk_at dksX5_eight_0 18 rfl rfl)
theorem dX5_eight_19 : decode cX5_eight 19 = .ok (.sipush 255, 3) := dk_17 0 255 (dk_at dksX5_eight_0 19 rfl rfl)
theorem dX5_eight_22 : decode cX5_eight 22 = .ok (.iand, 1) := dk_126 (dk_at dksX5_eight_0 22 rfl rfl)
theorem dX5_eight_23 : decode cX5_eight 23 = .ok (.iastore, 1) := dk_79 (dk_at dksX5_eight_0 23 rfl rfl)
theorem dX5_eight_24 : decode cX5_eight 24 = .ok (.aload_n 0, 1) := dk_42 (dk_at dksX5_eight_1 0 rfl rfl)
theorem dX5_eight_25 : decode cX5_eight 25 = .ok (.dup, 1) := dk_89 (dk_at dksX5_eight_1 1 rfl rfl)
theorem dX5_eight_26 : decode cX5_eight 26 = .ok (.getfield 163, 3) := dk_180 0 163 (dk_at dksX5_eight_1 2 rfl rfl)
theorem dX5_eight_29 : decode cX5_eight 29 = .ok (.iconst 1, 1) := dk_4 (dk_at dksX5_eight_1 5 rfl rfl)
theorem dX5_eight_30 : decode cX5_eight 30 = .ok (.iadd, 1) := dk_96 (dk_at dksX5_eight_1 6 rfl rfl)
theorem dX5_eight_31 : decode cX5_eight 31 = .ok (.putfield 163, 3) := dk_181 0 163 (dk_at dksX5_eight_1 7 rfl rfl)
theorem dX5_eight_34 : decode cX5_eight 34 = .ok (.iinc 3 (-8), 3) := dk_132 3 248 (dk_at dksX5_eight_1 10 rfl rfl)
theorem dX5_eight_37 : decode cX5_eight 37 = .ok (.goto (-34), 3) := dk_167 255 222 (dk_at dksX5_eight_1 13 rfl rfl)
theorem dX5_eight_40 : decode cX5_eight 40 = .ok (.return_, 1) := dk_177 (dk_at dksX5_eight_1 16 rfl rfl)
abbrev cX5_end : ByteArray := prog_20_method_11_code
def yX5_end : MethodName := ⟨RX5, "end", "(I)I"⟩
def dkwX5_end_1 : List UInt8 := [27, 172]
abbrev dktX5_end_1 : List UInt8 := dkwX5_end_1 ++ []
def dkwX5_end_0 : List UInt8 := [42, 3, 181, 0, 160, 27, 3, 42, 180, 0, 163, 184, 0, 170, 154, 0, 5, 2, 172, 42, 27, 181, 0, 163]
abbrev dktX5_end_0 : List UInt8 := dkwX5_end_0 ++ dktX5_end_1
theorem dksX5_end_0 : cX5_end.data.toList.drop 0 = dktX5_end_0 := by decide +kernel
theorem dksX5_end_1 : cX5_end.data.toList.drop 24 = dktX5_end_1 := dk_seg dksX5_end_0 24 rfl rfl
theorem dX5_end_0 : decode cX5_end 0 = .ok (.aload_n 0, 1) := dk_42 (dk_at dksX5_end_0 0 rfl rfl)
theorem dX5_end_1 : decode cX5_end 1 = .ok (.iconst 0, 1) := dk_3 (dk_at dksX5_end_0 1 rfl rfl)
theorem dX5_end_2 : decode cX5_end 2 = .ok (.putfield 160, 3) := dk_181 0 160 (dk_at dksX5_end_0 2 rfl rfl)
theorem dX5_end_5 : decode cX5_end 5 = .ok (.iload_n 1, 1) := dk_27 (dk_at dksX5_end_0 5 rfl rfl)
theorem dX5_end_6 : decode cX5_end 6 = .ok (.iconst 0, 1) := dk_3 (dk_at dksX5_end_0 6 rfl rfl)
theorem dX5_end_7 : decode cX5_end 7 = .ok (.aload_n 0, 1) := dk_42 (dk_at dksX5_end_0 7 rfl rfl)
theorem dX5_end_8 : decode cX5_end 8 = .ok (.getfield 163, 3) := dk_180 0 163 (dk_at dksX5_end_0 8 rfl rfl)
theorem dX5_end_11 : decode cX5_end 11 = .ok (.invokestatic 170, 3) := dk_184 0 170 (dk_at dksX5_end_0 11 rfl rfl)
theorem dX5_end_14 : decode cX5_end 14 = .ok (.ifCond .ne 5, 3) := dk_154 0 5 (dk_at dksX5_end_0 14 rfl rfl)
theorem dX5_end_17 : decode cX5_end 17 = .ok (.iconst (-1), 1) := dk_2 (dk_at dksX5_end_0 17 rfl rfl)
theorem dX5_end_18 : decode cX5_end 18 = .ok (.ireturn, 1) := dk_172 (dk_at dksX5_end_0 18 rfl rfl)
theorem dX5_end_19 : decode cX5_end 19 = .ok (.aload_n 0, 1) := dk_42 (dk_at dksX5_end_0 19 rfl rfl)
theorem dX5_end_20 : decode cX5_end 20 = .ok (.iload_n 1, 1) := dk_27 (dk_at dksX5_end_0 20 rfl rfl)
theorem dX5_end_21 : decode cX5_end 21 = .ok (.putfield 163, 3) := dk_181 0 163 (dk_at dksX5_end_0 21 rfl rfl)
theorem dX5_end_24 : decode cX5_end 24 = .ok (.iload_n 1, 1) := dk_27 (dk_at dksX5_end_1 0 rfl rfl)
theorem dX5_end_25 : decode cX5_end 25 = .ok (.ireturn, 1) := dk_172 (dk_at dksX5_end_1 1 rfl rfl)
abbrev cX5_within : ByteArray := prog_20_method_3_code
def yX5_within : MethodName := ⟨RX5, "within", "(III)Z"⟩
def dkwX5_within_0 : List UInt8 := [26, 27, 161, 0, 12, 26, 28, 163, 0, 7, 4, 167, 0, 4, 3, 172]
abbrev dktX5_within_0 : List UInt8 := dkwX5_within_0 ++ []
theorem dksX5_within_0 : cX5_within.data.toList.drop 0 = dktX5_within_0 := by decide +kernel
theorem dX5_within_0 : decode cX5_within 0 = .ok (.iload_n 0, 1) := dk_26 (dk_at dksX5_within_0 0 rfl rfl)
theorem dX5_within_1 : decode cX5_within 1 = .ok (.iload_n 1, 1) := dk_27 (dk_at dksX5_within_0 1 rfl rfl)
theorem dX5_within_2 : decode cX5_within 2 = .ok (.if_icmp .lt 12, 3) := dk_161 0 12 (dk_at dksX5_within_0 2 rfl rfl)
theorem dX5_within_5 : decode cX5_within 5 = .ok (.iload_n 0, 1) := dk_26 (dk_at dksX5_within_0 5 rfl rfl)
theorem dX5_within_6 : decode cX5_within 6 = .ok (.iload_n 2, 1) := dk_28 (dk_at dksX5_within_0 6 rfl rfl)
theorem dX5_within_7 : decode cX5_within 7 = .ok (.if_icmp .gt 7, 3) := dk_163 0 7 (dk_at dksX5_within_0 7 rfl rfl)
theorem dX5_within_10 : decode cX5_within 10 = .ok (.iconst 1, 1) := dk_4 (dk_at dksX5_within_0 10 rfl rfl)
theorem dX5_within_11 : decode cX5_within 11 = .ok (.goto 4, 3) := dk_167 0 4 (dk_at dksX5_within_0 11 rfl rfl)
theorem dX5_within_14 : decode cX5_within 14 = .ok (.iconst 0, 1) := dk_3 (dk_at dksX5_within_0 14 rfl rfl)
theorem dX5_within_15 : decode cX5_within 15 = .ok (.ireturn, 1) := dk_172 (dk_at dksX5_within_0 15 rfl rfl)
abbrev cX5_edition : ByteArray := prog_20_method_47_code
def yX5_edition : MethodName := ⟨RX5, "edition", "()I"⟩
def dkwX5_edition_11 : List UInt8 := [181, 1, 144, 42, 28, 181, 0, 96, 42, 182, 1, 147, 27, 172]
abbrev dktX5_edition_11 : List UInt8 := dkwX5_edition_11 ++ []
def dkwX5_edition_10 : List UInt8 := [42, 27, 181, 0, 99, 16, 254, 42, 180, 0, 177, 100, 172, 42, 180, 1, 144, 61, 42, 42, 180, 0, 96]
abbrev dktX5_edition_10 : List UInt8 := dkwX5_edition_10 ++ dktX5_edition_11
def dkwX5_edition_9 : List UInt8 := [28, 96, 46, 156, 0, 8, 42, 8, 182, 0, 237, 132, 2, 1, 167, 255, 212, 42, 180, 0, 177, 158, 0, 16]
abbrev dktX5_edition_9 : List UInt8 := dkwX5_edition_9 ++ dktX5_edition_10
def dkwX5_edition_8 : List UInt8 := [182, 1, 44, 162, 0, 38, 42, 180, 0, 177, 154, 0, 31, 42, 180, 0, 29, 16, 6, 42, 180, 0, 96, 104]
abbrev dktX5_edition_8 : List UInt8 := dkwX5_edition_8 ++ dktX5_edition_9
def dkwX5_edition_7 : List UInt8 := [158, 0, 6, 167, 0, 13, 42, 182, 0, 240, 132, 1, 1, 167, 255, 156, 3, 61, 28, 42, 42, 180, 0, 96]
abbrev dktX5_edition_7 : List UInt8 := dkwX5_edition_7 ++ dktX5_edition_8
def dkwX5_edition_6 : List UInt8 := [18, 253, 182, 0, 243, 153, 0, 10, 42, 182, 1, 141, 167, 0, 8, 42, 4, 182, 0, 237, 42, 180, 0, 177]
abbrev dktX5_edition_6 : List UInt8 := dkwX5_edition_6 ++ dktX5_edition_7
def dkwX5_edition_5 : List UInt8 := [42, 182, 1, 135, 167, 0, 40, 42, 18, 251, 182, 0, 243, 153, 0, 10, 42, 182, 1, 138, 167, 0, 24, 42]
abbrev dktX5_edition_5 : List UInt8 := dkwX5_edition_5 ++ dktX5_edition_6
def dkwX5_edition_4 : List UInt8 := [18, 247, 182, 0, 243, 153, 0, 10, 42, 182, 1, 132, 167, 0, 56, 42, 18, 249, 182, 0, 243, 153, 0, 10]
abbrev dktX5_edition_4 : List UInt8 := dkwX5_edition_4 ++ dktX5_edition_5
def dkwX5_edition_3 : List UInt8 := [181, 0, 180, 3, 60, 42, 182, 0, 240, 42, 180, 0, 177, 154, 0, 99, 42, 180, 0, 190, 153, 0, 92, 42]
abbrev dktX5_edition_3 : List UInt8 := dkwX5_edition_3 ++ dktX5_edition_4
def dkwX5_edition_2 : List UInt8 := [16, 7, 42, 180, 0, 96, 104, 27, 96, 3, 79, 132, 1, 1, 167, 255, 232, 42, 3, 181, 0, 177, 42, 3]
abbrev dktX5_edition_2 : List UInt8 := dkwX5_edition_2 ++ dktX5_edition_3
def dkwX5_edition_1 : List UInt8 := [180, 0, 174, 17, 3, 132, 164, 0, 5, 2, 172, 3, 60, 27, 16, 7, 162, 0, 24, 42, 180, 0, 13]
abbrev dktX5_edition_1 : List UInt8 := dkwX5_edition_1 ++ dktX5_edition_2
def dkwX5_edition_0 : List UInt8 := [42, 3, 181, 0, 160, 42, 42, 180, 0, 163, 181, 0, 174, 42, 3, 181, 0, 163, 42, 2, 181, 0, 99, 42]
abbrev dktX5_edition_0 : List UInt8 := dkwX5_edition_0 ++ dktX5_edition_1
theorem dksX5_edition_0 : cX5_edition.data.toList.drop 0 = dktX5_edition_0 := by decide +kernel
theorem dksX5_edition_1 : cX5_edition.data.toList.drop 24 = dktX5_edition_1 := dk_seg dksX5_edition_0 24 rfl rfl
theorem dksX5_edition_2 : cX5_edition.data.toList.drop 47 = dktX5_edition_2 := dk_seg dksX5_edition_1 23 rfl rfl
theorem dksX5_edition_3 : cX5_edition.data.toList.drop 71 = dktX5_edition_3 := dk_seg dksX5_edition_2 24 rfl rfl
theorem dksX5_edition_4 : cX5_edition.data.toList.drop 95 = dktX5_edition_4 := dk_seg dksX5_edition_3 24 rfl rfl
theorem dksX5_edition_5 : cX5_edition.data.toList.drop 119 = dktX5_edition_5 := dk_seg dksX5_edition_4 24 rfl rfl
theorem dksX5_edition_6 : cX5_edition.data.toList.drop 143 = dktX5_edition_6 := dk_seg dksX5_edition_5 24 rfl rfl
theorem dksX5_edition_7 : cX5_edition.data.toList.drop 167 = dktX5_edition_7 := dk_seg dksX5_edition_6 24 rfl rfl
theorem dksX5_edition_8 : cX5_edition.data.toList.drop 191 = dktX5_edition_8 := dk_seg dksX5_edition_7 24 rfl rfl
theorem dksX5_edition_9 : cX5_edition.data.toList.drop 215 = dktX5_edition_9 := dk_seg dksX5_edition_8 24 rfl rfl
theorem dksX5_edition_10 : cX5_edition.data.toList.drop 239 = dktX5_edition_10 := dk_seg dksX5_edition_9 24 rfl rfl
theorem dksX5_edition_11 : cX5_edition.data.toList.drop 262 = dktX5_edition_11 := dk_seg dksX5_edition_10 23 rfl rfl
theorem dX5_edition_0 : decode cX5_edition 0 = .ok (.aload_n 0, 1) := dk_42 (dk_at dksX5_edition_0 0 rfl rfl)
theorem dX5_edition_1 : decode cX5_edition 1 = .ok (.iconst 0, 1) := dk_3 (dk_at dksX5_edition_0 1 rfl rfl)
theorem dX5_edition_2 : decode cX5_edition 2 = .ok (.putfield 160, 3) := dk_181 0 160 (dk_at dksX5_edition_0 2 rfl rfl)
theorem dX5_edition_5 : decode cX5_edition 5 = .ok (.aload_n 0, 1) := dk_42 (dk_at dksX5_edition_0 5 rfl rfl)
theorem dX5_edition_6 : decode cX5_edition 6 = .ok (.aload_n 0, 1) := dk_42 (dk_at dksX5_edition_0 6 rfl rfl)
theorem dX5_edition_7 : decode cX5_edition 7 = .ok (.getfield 163, 3) := dk_180 0 163 (dk_at dksX5_edition_0 7 rfl rfl)
theorem dX5_edition_10 : decode cX5_edition 10 = .ok (.putfield 174, 3) := dk_181 0 174 (dk_at dksX5_edition_0 10 rfl rfl)
theorem dX5_edition_13 : decode cX5_edition 13 = .ok (.aload_n 0, 1) := dk_42 (dk_at dksX5_edition_0 13 rfl rfl)
theorem dX5_edition_14 : decode cX5_edition 14 = .ok (.iconst 0, 1) := dk_3 (dk_at dksX5_edition_0 14 rfl rfl)
theorem dX5_edition_15 : decode cX5_edition 15 = .ok (.putfield 163, 3) := dk_181 0 163 (dk_at dksX5_edition_0 15 rfl rfl)
theorem dX5_edition_18 : decode cX5_edition 18 = .ok (.aload_n 0, 1) := dk_42 (dk_at dksX5_edition_0 18 rfl rfl)
theorem dX5_edition_19 : decode cX5_edition 19 = .ok (.iconst (-1), 1) := dk_2 (dk_at dksX5_edition_0 19 rfl rfl)
theorem dX5_edition_20 : decode cX5_edition 20 = .ok (.putfield 99, 3) := dk_181 0 99 (dk_at dksX5_edition_0 20 rfl rfl)
theorem dX5_edition_23 : decode cX5_edition 23 = .ok (.aload_n 0, 1) := dk_42 (dk_at dksX5_edition_0 23 rfl rfl)
theorem dX5_edition_24 : decode cX5_edition 24 = .ok (.getfield 174, 3) := dk_180 0 174 (dk_at dksX5_edition_1 0 rfl rfl)
theorem dX5_edition_27 : decode cX5_edition 27 = .ok (.sipush 900, 3) := dk_17 3 132 (dk_at dksX5_edition_1 3 rfl rfl)
theorem dX5_edition_30 : decode cX5_edition 30 = .ok (.if_icmp .le 5, 3) := dk_164 0 5 (dk_at dksX5_edition_1 6 rfl rfl)
theorem dX5_edition_33 : decode cX5_edition 33 = .ok (.iconst (-1), 1) := dk_2 (dk_at dksX5_edition_1 9 rfl rfl)
theorem dX5_edition_34 : decode cX5_edition 34 = .ok (.ireturn, 1) := dk_172 (dk_at dksX5_edition_1 10 rfl rfl)
theorem dX5_edition_35 : decode cX5_edition 35 = .ok (.iconst 0, 1) := dk_3 (dk_at dksX5_edition_1 11 rfl rfl)
theorem dX5_edition_36 : decode cX5_edition 36 = .ok (.istore_n 1, 1) := dk_60 (dk_at dksX5_edition_1 12 rfl rfl)
theorem dX5_edition_37 : decode cX5_edition 37 = .ok (.iload_n 1, 1) := dk_27 (dk_at dksX5_edition_1 13 rfl rfl)
theorem dX5_edition_38 : decode cX5_edition 38 = .ok (.bipush 7, 2) := dk_16 7 (dk_at dksX5_edition_1 14 rfl rfl)
theorem dX5_edition_40 : decode cX5_edition 40 = .ok (.if_icmp .ge 24, 3) := dk_162 0 24 (dk_at dksX5_edition_1 16 rfl rfl)
theorem dX5_edition_43 : decode cX5_edition 43 = .ok (.aload_n 0, 1) := dk_42 (dk_at dksX5_edition_1 19 rfl rfl)
theorem dX5_edition_44 : decode cX5_edition 44 = .ok (.getfield 13, 3) := dk_180 0 13 (dk_at dksX5_edition_1 20 rfl rfl)
theorem dX5_edition_47 : decode cX5_edition 47 = .ok (.bipush 7, 2) := dk_16 7 (dk_at dksX5_edition_2 0 rfl rfl)
theorem dX5_edition_49 : decode cX5_edition 49 = .ok (.aload_n 0, 1) := dk_42 (dk_at dksX5_edition_2 2 rfl rfl)
theorem dX5_edition_50 : decode cX5_edition 50 = .ok (.getfield 96, 3) := dk_180 0 96 (dk_at dksX5_edition_2 3 rfl rfl)
theorem dX5_edition_53 : decode cX5_edition 53 = .ok (.imul, 1) := dk_104 (dk_at dksX5_edition_2 6 rfl rfl)
theorem dX5_edition_54 : decode cX5_edition 54 = .ok (.iload_n 1, 1) := dk_27 (dk_at dksX5_edition_2 7 rfl rfl)
theorem dX5_edition_55 : decode cX5_edition 55 = .ok (.iadd, 1) := dk_96 (dk_at dksX5_edition_2 8 rfl rfl)
theorem dX5_edition_56 : decode cX5_edition 56 = .ok (.iconst 0, 1) := dk_3 (dk_at dksX5_edition_2 9 rfl rfl)
theorem dX5_edition_57 : decode cX5_edition 57 = .ok (.iastore, 1) := dk_79 (dk_at dksX5_edition_2 10 rfl rfl)
theorem dX5_edition_58 : decode cX5_edition 58 = .ok (.iinc 1 1, 3) := dk_132 1 1 (dk_at dksX5_edition_2 11 rfl rfl)
theorem dX5_edition_61 : decode cX5_edition 61 = .ok (.goto (-24), 3) := dk_167 255 232 (dk_at dksX5_edition_2 14 rfl rfl)
theorem dX5_edition_64 : decode cX5_edition 64 = .ok (.aload_n 0, 1) := dk_42 (dk_at dksX5_edition_2 17 rfl rfl)
theorem dX5_edition_65 : decode cX5_edition 65 = .ok (.iconst 0, 1) := dk_3 (dk_at dksX5_edition_2 18 rfl rfl)
theorem dX5_edition_66 : decode cX5_edition 66 = .ok (.putfield 177, 3) := dk_181 0 177 (dk_at dksX5_edition_2 19 rfl rfl)
theorem dX5_edition_69 : decode cX5_edition 69 = .ok (.aload_n 0, 1) := dk_42 (dk_at dksX5_edition_2 22 rfl rfl)
theorem dX5_edition_70 : decode cX5_edition 70 = .ok (.iconst 0, 1) := dk_3 (dk_at dksX5_edition_2 23 rfl rfl)
theorem dX5_edition_71 : decode cX5_edition 71 = .ok (.putfield 180, 3) := dk_181 0 180 (dk_at dksX5_edition_3 0 rfl rfl)
theorem dX5_edition_74 : decode cX5_edition 74 = .ok (.iconst 0, 1) := dk_3 (dk_at dksX5_edition_3 3 rfl rfl)
theorem dX5_edition_75 : decode cX5_edition 75 = .ok (.istore_n 1, 1) := dk_60 (dk_at dksX5_edition_3 4 rfl rfl)
theorem dX5_edition_76 : decode cX5_edition 76 = .ok (.aload_n 0, 1) := dk_42 (dk_at dksX5_edition_3 5 rfl rfl)
theorem dX5_edition_77 : decode cX5_edition 77 = .ok (.invokevirtual 240, 3) := dk_182 0 240 (dk_at dksX5_edition_3 6 rfl rfl)
theorem dX5_edition_80 : decode cX5_edition 80 = .ok (.aload_n 0, 1) := dk_42 (dk_at dksX5_edition_3 9 rfl rfl)
theorem dX5_edition_81 : decode cX5_edition 81 = .ok (.getfield 177, 3) := dk_180 0 177 (dk_at dksX5_edition_3 10 rfl rfl)
theorem dX5_edition_84 : decode cX5_edition 84 = .ok (.ifCond .ne 99, 3) := dk_154 0 99 (dk_at dksX5_edition_3 13 rfl rfl)
theorem dX5_edition_87 : decode cX5_edition 87 = .ok (.aload_n 0, 1) := dk_42 (dk_at dksX5_edition_3 16 rfl rfl)
theorem dX5_edition_88 : decode cX5_edition 88 = .ok (.getfield 190, 3) := dk_180 0 190 (dk_at dksX5_edition_3 17 rfl rfl)
theorem dX5_edition_91 : decode cX5_edition 91 = .ok (.ifCond .eq 92, 3) := dk_153 0 92 (dk_at dksX5_edition_3 20 rfl rfl)
theorem dX5_edition_94 : decode cX5_edition 94 = .ok (.aload_n 0, 1) := dk_42 (dk_at dksX5_edition_3 23 rfl rfl)
theorem dX5_edition_95 : decode cX5_edition 95 = .ok (.ldc 247, 2) := dk_18 247 (dk_at dksX5_edition_4 0 rfl rfl)
theorem dX5_edition_97 : decode cX5_edition 97 = .ok (.invokevirtual 243, 3) := dk_182 0 243 (dk_at dksX5_edition_4 2 rfl rfl)
theorem dX5_edition_100 : decode cX5_edition 100 = .ok (.ifCond .eq 10, 3) := dk_153 0 10 (dk_at dksX5_edition_4 5 rfl rfl)
theorem dX5_edition_103 : decode cX5_edition 103 = .ok (.aload_n 0, 1) := dk_42 (dk_at dksX5_edition_4 8 rfl rfl)
theorem dX5_edition_104 : decode cX5_edition 104 = .ok (.invokevirtual 388, 3) := dk_182 1 132 (dk_at dksX5_edition_4 9 rfl rfl)
theorem dX5_edition_107 : decode cX5_edition 107 = .ok (.goto 56, 3) := dk_167 0 56 (dk_at dksX5_edition_4 12 rfl rfl)
theorem dX5_edition_110 : decode cX5_edition 110 = .ok (.aload_n 0, 1) := dk_42 (dk_at dksX5_edition_4 15 rfl rfl)
theorem dX5_edition_111 : decode cX5_edition 111 = .ok (.ldc 249, 2) := dk_18 249 (dk_at dksX5_edition_4 16 rfl rfl)
theorem dX5_edition_113 : decode cX5_edition 113 = .ok (.invokevirtual 243, 3) := dk_182 0 243 (dk_at dksX5_edition_4 18 rfl rfl)
theorem dX5_edition_116 : decode cX5_edition 116 = .ok (.ifCond .eq 10, 3) := dk_153 0 10 (dk_at dksX5_edition_4 21 rfl rfl)
theorem dX5_edition_119 : decode cX5_edition 119 = .ok (.aload_n 0, 1) := dk_42 (dk_at dksX5_edition_5 0 rfl rfl)
theorem dX5_edition_120 : decode cX5_edition 120 = .ok (.invokevirtual 391, 3) := dk_182 1 135 (dk_at dksX5_edition_5 1 rfl rfl)
theorem dX5_edition_123 : decode cX5_edition 123 = .ok (.goto 40, 3) := dk_167 0 40 (dk_at dksX5_edition_5 4 rfl rfl)
theorem dX5_edition_126 : decode cX5_edition 126 = .ok (.aload_n 0, 1) := dk_42 (dk_at dksX5_edition_5 7 rfl rfl)
theorem dX5_edition_127 : decode cX5_edition 127 = .ok (.ldc 251, 2) := dk_18 251 (dk_at dksX5_edition_5 8 rfl rfl)
theorem dX5_edition_129 : decode cX5_edition 129 = .ok (.invokevirtual 243, 3) := dk_182 0 243 (dk_at dksX5_edition_5 10 rfl rfl)
theorem dX5_edition_132 : decode cX5_edition 132 = .ok (.ifCond .eq 10, 3) := dk_153 0 10 (dk_at dksX5_edition_5 13 rfl rfl)
theorem dX5_edition_135 : decode cX5_edition 135 = .ok (.aload_n 0, 1) := dk_42 (dk_at dksX5_edition_5 16 rfl rfl)
theorem dX5_edition_136 : decode cX5_edition 136 = .ok (.invokevirtual 394, 3) := dk_182 1 138 (dk_at dksX5_edition_5 17 rfl rfl)
theorem dX5_edition_139 : decode cX5_edition 139 = .ok (.goto 24, 3) := dk_167 0 24 (dk_at dksX5_edition_5 20 rfl rfl)
theorem dX5_edition_142 : decode cX5_edition 142 = .ok (.aload_n 0, 1) := dk_42 (dk_at dksX5_edition_5 23 rfl rfl)
theorem dX5_edition_143 : decode cX5_edition 143 = .ok (.ldc 253, 2) := dk_18 253 (dk_at dksX5_edition_6 0 rfl rfl)
theorem dX5_edition_145 : decode cX5_edition 145 = .ok (.invokevirtual 243, 3) := dk_182 0 243 (dk_at dksX5_edition_6 2 rfl rfl)
theorem dX5_edition_148 : decode cX5_edition 148 = .ok (.ifCond .eq 10, 3) := dk_153 0 10 (dk_at dksX5_edition_6 5 rfl rfl)
theorem dX5_edition_151 : decode cX5_edition 151 = .ok (.aload_n 0, 1) := dk_42 (dk_at dksX5_edition_6 8 rfl rfl)
theorem dX5_edition_152 : decode cX5_edition 152 = .ok (.invokevirtual 397, 3) := dk_182 1 141 (dk_at dksX5_edition_6 9 rfl rfl)
theorem dX5_edition_155 : decode cX5_edition 155 = .ok (.goto 8, 3) := dk_167 0 8 (dk_at dksX5_edition_6 12 rfl rfl)
theorem dX5_edition_158 : decode cX5_edition 158 = .ok (.aload_n 0, 1) := dk_42 (dk_at dksX5_edition_6 15 rfl rfl)
theorem dX5_edition_159 : decode cX5_edition 159 = .ok (.iconst 1, 1) := dk_4 (dk_at dksX5_edition_6 16 rfl rfl)
theorem dX5_edition_160 : decode cX5_edition 160 = .ok (.invokevirtual 237, 3) := dk_182 0 237 (dk_at dksX5_edition_6 17 rfl rfl)
theorem dX5_edition_163 : decode cX5_edition 163 = .ok (.aload_n 0, 1) := dk_42 (dk_at dksX5_edition_6 20 rfl rfl)
theorem dX5_edition_164 : decode cX5_edition 164 = .ok (.getfield 177, 3) := dk_180 0 177 (dk_at dksX5_edition_6 21 rfl rfl)
theorem dX5_edition_167 : decode cX5_edition 167 = .ok (.ifCond .le 6, 3) := dk_158 0 6 (dk_at dksX5_edition_7 0 rfl rfl)
theorem dX5_edition_170 : decode cX5_edition 170 = .ok (.goto 13, 3) := dk_167 0 13 (dk_at dksX5_edition_7 3 rfl rfl)
theorem dX5_edition_173 : decode cX5_edition 173 = .ok (.aload_n 0, 1) := dk_42 (dk_at dksX5_edition_7 6 rfl rfl)
theorem dX5_edition_174 : decode cX5_edition 174 = .ok (.invokevirtual 240, 3) := dk_182 0 240 (dk_at dksX5_edition_7 7 rfl rfl)
theorem dX5_edition_177 : decode cX5_edition 177 = .ok (.iinc 1 1, 3) := dk_132 1 1 (dk_at dksX5_edition_7 10 rfl rfl)
theorem dX5_edition_180 : decode cX5_edition 180 = .ok (.goto (-100), 3) := dk_167 255 156 (dk_at dksX5_edition_7 13 rfl rfl)
theorem dX5_edition_183 : decode cX5_edition 183 = .ok (.iconst 0, 1) := dk_3 (dk_at dksX5_edition_7 16 rfl rfl)
theorem dX5_edition_184 : decode cX5_edition 184 = .ok (.istore_n 2, 1) := dk_61 (dk_at dksX5_edition_7 17 rfl rfl)
theorem dX5_edition_185 : decode cX5_edition 185 = .ok (.iload_n 2, 1) := dk_28 (dk_at dksX5_edition_7 18 rfl rfl)
theorem dX5_edition_186 : decode cX5_edition 186 = .ok (.aload_n 0, 1) := dk_42 (dk_at dksX5_edition_7 19 rfl rfl)
theorem dX5_edition_187 : decode cX5_edition 187 = .ok (.aload_n 0, 1) := dk_42 (dk_at dksX5_edition_7 20 rfl rfl)
theorem dX5_edition_188 : decode cX5_edition 188 = .ok (.getfield 96, 3) := dk_180 0 96 (dk_at dksX5_edition_7 21 rfl rfl)
theorem dX5_edition_191 : decode cX5_edition 191 = .ok (.invokevirtual 300, 3) := dk_182 1 44 (dk_at dksX5_edition_8 0 rfl rfl)
theorem dX5_edition_194 : decode cX5_edition 194 = .ok (.if_icmp .ge 38, 3) := dk_162 0 38 (dk_at dksX5_edition_8 3 rfl rfl)
theorem dX5_edition_197 : decode cX5_edition 197 = .ok (.aload_n 0, 1) := dk_42 (dk_at dksX5_edition_8 6 rfl rfl)
theorem dX5_edition_198 : decode cX5_edition 198 = .ok (.getfield 177, 3) := dk_180 0 177 (dk_at dksX5_edition_8 7 rfl rfl)
theorem dX5_edition_201 : decode cX5_edition 201 = .ok (.ifCond .ne 31, 3) := dk_154 0 31 (dk_at dksX5_edition_8 10 rfl rfl)
theorem dX5_edition_204 : decode cX5_edition 204 = .ok (.aload_n 0, 1) := dk_42 (dk_at dksX5_edition_8 13 rfl rfl)
theorem dX5_edition_205 : decode cX5_edition 205 = .ok (.getfield 29, 3) := dk_180 0 29 (dk_at dksX5_edition_8 14 rfl rfl)
theorem dX5_edition_208 : decode cX5_edition 208 = .ok (.bipush 6, 2) := dk_16 6 (dk_at dksX5_edition_8 17 rfl rfl)
theorem dX5_edition_210 : decode cX5_edition 210 = .ok (.aload_n 0, 1) := dk_42 (dk_at dksX5_edition_8 19 rfl rfl)
theorem dX5_edition_211 : decode cX5_edition 211 = .ok (.getfield 96, 3) := dk_180 0 96 (dk_at dksX5_edition_8 20 rfl rfl)
theorem dX5_edition_214 : decode cX5_edition 214 = .ok (.imul, 1) := dk_104 (dk_at dksX5_edition_8 23 rfl rfl)
theorem dX5_edition_215 : decode cX5_edition 215 = .ok (.iload_n 2, 1) := dk_28 (dk_at dksX5_edition_9 0 rfl rfl)
theorem dX5_edition_216 : decode cX5_edition 216 = .ok (.iadd, 1) := dk_96 (dk_at dksX5_edition_9 1 rfl rfl)
theorem dX5_edition_217 : decode cX5_edition 217 = .ok (.iaload, 1) := dk_46 (dk_at dksX5_edition_9 2 rfl rfl)
theorem dX5_edition_218 : decode cX5_edition 218 = .ok (.ifCond .ge 8, 3) := dk_156 0 8 (dk_at dksX5_edition_9 3 rfl rfl)
theorem dX5_edition_221 : decode cX5_edition 221 = .ok (.aload_n 0, 1) := dk_42 (dk_at dksX5_edition_9 6 rfl rfl)
theorem dX5_edition_222 : decode cX5_edition 222 = .ok (.iconst 5, 1) := dk_8 (dk_at dksX5_edition_9 7 rfl rfl)
theorem dX5_edition_223 : decode cX5_edition 223 = .ok (.invokevirtual 237, 3) := dk_182 0 237 (dk_at dksX5_edition_9 8 rfl rfl)
theorem dX5_edition_226 : decode cX5_edition 226 = .ok (.iinc 2 1, 3) := dk_132 2 1 (dk_at dksX5_edition_9 11 rfl rfl)
theorem dX5_edition_229 : decode cX5_edition 229 = .ok (.goto (-44), 3) := dk_167 255 212 (dk_at dksX5_edition_9 14 rfl rfl)
theorem dX5_edition_232 : decode cX5_edition 232 = .ok (.aload_n 0, 1) := dk_42 (dk_at dksX5_edition_9 17 rfl rfl)
theorem dX5_edition_233 : decode cX5_edition 233 = .ok (.getfield 177, 3) := dk_180 0 177 (dk_at dksX5_edition_9 18 rfl rfl)
theorem dX5_edition_236 : decode cX5_edition 236 = .ok (.ifCond .le 16, 3) := dk_158 0 16 (dk_at dksX5_edition_9 21 rfl rfl)
theorem dX5_edition_239 : decode cX5_edition 239 = .ok (.aload_n 0, 1) := dk_42 (dk_at dksX5_edition_10 0 rfl rfl)
theorem dX5_edition_240 : decode cX5_edition 240 = .ok (.iload_n 1, 1) := dk_27 (dk_at dksX5_edition_10 1 rfl rfl)
theorem dX5_edition_241 : decode cX5_edition 241 = .ok (.putfield 99, 3) := dk_181 0 99 (dk_at dksX5_edition_10 2 rfl rfl)
theorem dX5_edition_244 : decode cX5_edition 244 = .ok (.bipush (-2), 2) := dk_16 254 (dk_at dksX5_edition_10 5 rfl rfl)
theorem dX5_edition_246 : decode cX5_edition 246 = .ok (.aload_n 0, 1) := dk_42 (dk_at dksX5_edition_10 7 rfl rfl)
theorem dX5_edition_247 : decode cX5_edition 247 = .ok (.getfield 177, 3) := dk_180 0 177 (dk_at dksX5_edition_10 8 rfl rfl)
theorem dX5_edition_250 : decode cX5_edition 250 = .ok (.isub, 1) := dk_100 (dk_at dksX5_edition_10 11 rfl rfl)
theorem dX5_edition_251 : decode cX5_edition 251 = .ok (.ireturn, 1) := dk_172 (dk_at dksX5_edition_10 12 rfl rfl)
theorem dX5_edition_252 : decode cX5_edition 252 = .ok (.aload_n 0, 1) := dk_42 (dk_at dksX5_edition_10 13 rfl rfl)
theorem dX5_edition_253 : decode cX5_edition 253 = .ok (.getfield 400, 3) := dk_180 1 144 (dk_at dksX5_edition_10 14 rfl rfl)
theorem dX5_edition_256 : decode cX5_edition 256 = .ok (.istore_n 2, 1) := dk_61 (dk_at dksX5_edition_10 17 rfl rfl)
theorem dX5_edition_257 : decode cX5_edition 257 = .ok (.aload_n 0, 1) := dk_42 (dk_at dksX5_edition_10 18 rfl rfl)
theorem dX5_edition_258 : decode cX5_edition 258 = .ok (.aload_n 0, 1) := dk_42 (dk_at dksX5_edition_10 19 rfl rfl)
theorem dX5_edition_259 : decode cX5_edition 259 = .ok (.getfield 96, 3) := dk_180 0 96 (dk_at dksX5_edition_10 20 rfl rfl)
theorem dX5_edition_262 : decode cX5_edition 262 = .ok (.putfield 400, 3) := dk_181 1 144 (dk_at dksX5_edition_11 0 rfl rfl)
theorem dX5_edition_265 : decode cX5_edition 265 = .ok (.aload_n 0, 1) := dk_42 (dk_at dksX5_edition_11 3 rfl rfl)
theorem dX5_edition_266 : decode cX5_edition 266 = .ok (.iload_n 2, 1) := dk_28 (dk_at dksX5_edition_11 4 rfl rfl)
theorem dX5_edition_267 : decode cX5_edition 267 = .ok (.putfield 96, 3) := dk_181 0 96 (dk_at dksX5_edition_11 5 rfl rfl)
theorem dX5_edition_270 : decode cX5_edition 270 = .ok (.aload_n 0, 1) := dk_42 (dk_at dksX5_edition_11 8 rfl rfl)
theorem dX5_edition_271 : decode cX5_edition 271 = .ok (.invokevirtual 403, 3) := dk_182 1 147 (dk_at dksX5_edition_11 9 rfl rfl)
theorem dX5_edition_274 : decode cX5_edition 274 = .ok (.iload_n 1, 1) := dk_27 (dk_at dksX5_edition_11 12 rfl rfl)
theorem dX5_edition_275 : decode cX5_edition 275 = .ok (.ireturn, 1) := dk_172 (dk_at dksX5_edition_11 13 rfl rfl)
abbrev cX5_next : ByteArray := prog_20_method_15_code
def yX5_next : MethodName := ⟨RX5, "next", "()V"⟩
def dkwX5_next_6 : List UInt8 := [153, 0, 8, 42, 27, 182, 0, 203, 177]
abbrev dktX5_next_6 : List UInt8 := dkwX5_next_6 ++ []
def dkwX5_next_5 : List UInt8 := [160, 0, 11, 42, 7, 181, 0, 190, 167, 0, 22, 28, 184, 0, 196, 154, 0, 10, 28, 184, 0, 200]
abbrev dktX5_next_5 : List UInt8 := dkwX5_next_5 ++ dktX5_next_6
def dkwX5_next_4 : List UInt8 := [159, 0, 27, 28, 16, 44, 159, 0, 21, 28, 16, 59, 159, 0, 15, 28, 16, 60, 159, 0, 9, 28, 16, 62]
abbrev dktX5_next_4 : List UInt8 := dkwX5_next_4 ++ dktX5_next_5
def dkwX5_next_3 : List UInt8 := [42, 3, 181, 0, 190, 42, 27, 181, 0, 180, 167, 0, 66, 28, 16, 40, 159, 0, 33, 28, 16, 41]
abbrev dktX5_next_3 : List UInt8 := dkwX5_next_3 ++ dktX5_next_4
def dkwX5_next_2 : List UInt8 := [181, 0, 180, 42, 27, 182, 0, 183, 61, 42, 8, 181, 0, 190, 42, 28, 181, 0, 193, 28, 2, 160, 0, 16]
abbrev dktX5_next_2 : List UInt8 := dkwX5_next_2 ++ dktX5_next_3
def dkwX5_next_1 : List UInt8 := [27, 182, 0, 183, 16, 10, 160, 0, 9, 132, 1, 1, 167, 255, 233, 42, 27, 181, 0, 187, 42, 27, 4, 96]
abbrev dktX5_next_1 : List UInt8 := dkwX5_next_1 ++ dktX5_next_2
def dkwX5_next_0 : List UInt8 := [42, 180, 0, 177, 158, 0, 4, 177, 42, 180, 0, 180, 60, 42, 27, 182, 0, 183, 16, 32, 159, 0, 13, 42]
abbrev dktX5_next_0 : List UInt8 := dkwX5_next_0 ++ dktX5_next_1
theorem dksX5_next_0 : cX5_next.data.toList.drop 0 = dktX5_next_0 := by decide +kernel
theorem dksX5_next_1 : cX5_next.data.toList.drop 24 = dktX5_next_1 := dk_seg dksX5_next_0 24 rfl rfl
theorem dksX5_next_2 : cX5_next.data.toList.drop 48 = dktX5_next_2 := dk_seg dksX5_next_1 24 rfl rfl
theorem dksX5_next_3 : cX5_next.data.toList.drop 72 = dktX5_next_3 := dk_seg dksX5_next_2 24 rfl rfl
theorem dksX5_next_4 : cX5_next.data.toList.drop 94 = dktX5_next_4 := dk_seg dksX5_next_3 22 rfl rfl
theorem dksX5_next_5 : cX5_next.data.toList.drop 118 = dktX5_next_5 := dk_seg dksX5_next_4 24 rfl rfl
theorem dksX5_next_6 : cX5_next.data.toList.drop 140 = dktX5_next_6 := dk_seg dksX5_next_5 22 rfl rfl
theorem dX5_next_0 : decode cX5_next 0 = .ok (.aload_n 0, 1) := dk_42 (dk_at dksX5_next_0 0 rfl rfl)
theorem dX5_next_1 : decode cX5_next 1 = .ok (.getfield 177, 3) := dk_180 0 177 (dk_at dksX5_next_0 1 rfl rfl)
theorem dX5_next_4 : decode cX5_next 4 = .ok (.ifCond .le 4, 3) := dk_158 0 4 (dk_at dksX5_next_0 4 rfl rfl)
theorem dX5_next_7 : decode cX5_next 7 = .ok (.return_, 1) := dk_177 (dk_at dksX5_next_0 7 rfl rfl)
theorem dX5_next_8 : decode cX5_next 8 = .ok (.aload_n 0, 1) := dk_42 (dk_at dksX5_next_0 8 rfl rfl)
theorem dX5_next_9 : decode cX5_next 9 = .ok (.getfield 180, 3) := dk_180 0 180 (dk_at dksX5_next_0 9 rfl rfl)
theorem dX5_next_12 : decode cX5_next 12 = .ok (.istore_n 1, 1) := dk_60 (dk_at dksX5_next_0 12 rfl rfl)
theorem dX5_next_13 : decode cX5_next 13 = .ok (.aload_n 0, 1) := dk_42 (dk_at dksX5_next_0 13 rfl rfl)
theorem dX5_next_14 : decode cX5_next 14 = .ok (.iload_n 1, 1) := dk_27 (dk_at dksX5_next_0 14 rfl rfl)
theorem dX5_next_15 : decode cX5_next 15 = .ok (.invokevirtual 183, 3) := dk_182 0 183 (dk_at dksX5_next_0 15 rfl rfl)
theorem dX5_next_18 : decode cX5_next 18 = .ok (.bipush 32, 2) := dk_16 32 (dk_at dksX5_next_0 18 rfl rfl)
theorem dX5_next_20 : decode cX5_next 20 = .ok (.if_icmp .eq 13, 3) := dk_159 0 13 (dk_at dksX5_next_0 20 rfl rfl)
theorem dX5_next_23 : decode cX5_next 23 = .ok (.aload_n 0, 1) := dk_42 (dk_at dksX5_next_0 23 rfl rfl)
theorem dX5_next_24 : decode cX5_next 24 = .ok (.iload_n 1, 1) := dk_27 (dk_at dksX5_next_1 0 rfl rfl)
theorem dX5_next_25 : decode cX5_next 25 = .ok (.invokevirtual 183, 3) := dk_182 0 183 (dk_at dksX5_next_1 1 rfl rfl)
theorem dX5_next_28 : decode cX5_next 28 = .ok (.bipush 10, 2) := dk_16 10 (dk_at dksX5_next_1 4 rfl rfl)
theorem dX5_next_30 : decode cX5_next 30 = .ok (.if_icmp .ne 9, 3) := dk_160 0 9 (dk_at dksX5_next_1 6 rfl rfl)
theorem dX5_next_33 : decode cX5_next 33 = .ok (.iinc 1 1, 3) := dk_132 1 1 (dk_at dksX5_next_1 9 rfl rfl)
theorem dX5_next_36 : decode cX5_next 36 = .ok (.goto (-23), 3) := dk_167 255 233 (dk_at dksX5_next_1 12 rfl rfl)
theorem dX5_next_39 : decode cX5_next 39 = .ok (.aload_n 0, 1) := dk_42 (dk_at dksX5_next_1 15 rfl rfl)
theorem dX5_next_40 : decode cX5_next 40 = .ok (.iload_n 1, 1) := dk_27 (dk_at dksX5_next_1 16 rfl rfl)
theorem dX5_next_41 : decode cX5_next 41 = .ok (.putfield 187, 3) := dk_181 0 187 (dk_at dksX5_next_1 17 rfl rfl)
theorem dX5_next_44 : decode cX5_next 44 = .ok (.aload_n 0, 1) := dk_42 (dk_at dksX5_next_1 20 rfl rfl)
theorem dX5_next_45 : decode cX5_next 45 = .ok (.iload_n 1, 1) := dk_27 (dk_at dksX5_next_1 21 rfl rfl)
theorem dX5_next_46 : decode cX5_next 46 = .ok (.iconst 1, 1) := dk_4 (dk_at dksX5_next_1 22 rfl rfl)
theorem dX5_next_47 : decode cX5_next 47 = .ok (.iadd, 1) := dk_96 (dk_at dksX5_next_1 23 rfl rfl)
theorem dX5_next_48 : decode cX5_next 48 = .ok (.putfield 180, 3) := dk_181 0 180 (dk_at dksX5_next_2 0 rfl rfl)
theorem dX5_next_51 : decode cX5_next 51 = .ok (.aload_n 0, 1) := dk_42 (dk_at dksX5_next_2 3 rfl rfl)
theorem dX5_next_52 : decode cX5_next 52 = .ok (.iload_n 1, 1) := dk_27 (dk_at dksX5_next_2 4 rfl rfl)
theorem dX5_next_53 : decode cX5_next 53 = .ok (.invokevirtual 183, 3) := dk_182 0 183 (dk_at dksX5_next_2 5 rfl rfl)
theorem dX5_next_56 : decode cX5_next 56 = .ok (.istore_n 2, 1) := dk_61 (dk_at dksX5_next_2 8 rfl rfl)
theorem dX5_next_57 : decode cX5_next 57 = .ok (.aload_n 0, 1) := dk_42 (dk_at dksX5_next_2 9 rfl rfl)
theorem dX5_next_58 : decode cX5_next 58 = .ok (.iconst 5, 1) := dk_8 (dk_at dksX5_next_2 10 rfl rfl)
theorem dX5_next_59 : decode cX5_next 59 = .ok (.putfield 190, 3) := dk_181 0 190 (dk_at dksX5_next_2 11 rfl rfl)
theorem dX5_next_62 : decode cX5_next 62 = .ok (.aload_n 0, 1) := dk_42 (dk_at dksX5_next_2 14 rfl rfl)
theorem dX5_next_63 : decode cX5_next 63 = .ok (.iload_n 2, 1) := dk_28 (dk_at dksX5_next_2 15 rfl rfl)
theorem dX5_next_64 : decode cX5_next 64 = .ok (.putfield 193, 3) := dk_181 0 193 (dk_at dksX5_next_2 16 rfl rfl)
theorem dX5_next_67 : decode cX5_next 67 = .ok (.iload_n 2, 1) := dk_28 (dk_at dksX5_next_2 19 rfl rfl)
theorem dX5_next_68 : decode cX5_next 68 = .ok (.iconst (-1), 1) := dk_2 (dk_at dksX5_next_2 20 rfl rfl)
theorem dX5_next_69 : decode cX5_next 69 = .ok (.if_icmp .ne 16, 3) := dk_160 0 16 (dk_at dksX5_next_2 21 rfl rfl)
theorem dX5_next_72 : decode cX5_next 72 = .ok (.aload_n 0, 1) := dk_42 (dk_at dksX5_next_3 0 rfl rfl)
theorem dX5_next_73 : decode cX5_next 73 = .ok (.iconst 0, 1) := dk_3 (dk_at dksX5_next_3 1 rfl rfl)
theorem dX5_next_74 : decode cX5_next 74 = .ok (.putfield 190, 3) := dk_181 0 190 (dk_at dksX5_next_3 2 rfl rfl)
theorem dX5_next_77 : decode cX5_next 77 = .ok (.aload_n 0, 1) := dk_42 (dk_at dksX5_next_3 5 rfl rfl)
theorem dX5_next_78 : decode cX5_next 78 = .ok (.iload_n 1, 1) := dk_27 (dk_at dksX5_next_3 6 rfl rfl)
theorem dX5_next_79 : decode cX5_next 79 = .ok (.putfield 180, 3) := dk_181 0 180 (dk_at dksX5_next_3 7 rfl rfl)
theorem dX5_next_82 : decode cX5_next 82 = .ok (.goto 66, 3) := dk_167 0 66 (dk_at dksX5_next_3 10 rfl rfl)
theorem dX5_next_85 : decode cX5_next 85 = .ok (.iload_n 2, 1) := dk_28 (dk_at dksX5_next_3 13 rfl rfl)
theorem dX5_next_86 : decode cX5_next 86 = .ok (.bipush 40, 2) := dk_16 40 (dk_at dksX5_next_3 14 rfl rfl)
theorem dX5_next_88 : decode cX5_next 88 = .ok (.if_icmp .eq 33, 3) := dk_159 0 33 (dk_at dksX5_next_3 16 rfl rfl)
theorem dX5_next_91 : decode cX5_next 91 = .ok (.iload_n 2, 1) := dk_28 (dk_at dksX5_next_3 19 rfl rfl)
theorem dX5_next_92 : decode cX5_next 92 = .ok (.bipush 41, 2) := dk_16 41 (dk_at dksX5_next_3 20 rfl rfl)
theorem dX5_next_94 : decode cX5_next 94 = .ok (.if_icmp .eq 27, 3) := dk_159 0 27 (dk_at dksX5_next_4 0 rfl rfl)
theorem dX5_next_97 : decode cX5_next 97 = .ok (.iload_n 2, 1) := dk_28 (dk_at dksX5_next_4 3 rfl rfl)
theorem dX5_next_98 : decode cX5_next 98 = .ok (.bipush 44, 2) := dk_16 44 (dk_at dksX5_next_4 4 rfl rfl)
theorem dX5_next_100 : decode cX5_next 100 = .ok (.if_icmp .eq 21, 3) := dk_159 0 21 (dk_at dksX5_next_4 6 rfl rfl)
theorem dX5_next_103 : decode cX5_next 103 = .ok (.iload_n 2, 1) := dk_28 (dk_at dksX5_next_4 9 rfl rfl)
theorem dX5_next_104 : decode cX5_next 104 = .ok (.bipush 59, 2) := dk_16 59 (dk_at dksX5_next_4 10 rfl rfl)
theorem dX5_next_106 : decode cX5_next 106 = .ok (.if_icmp .eq 15, 3) := dk_159 0 15 (dk_at dksX5_next_4 12 rfl rfl)
theorem dX5_next_109 : decode cX5_next 109 = .ok (.iload_n 2, 1) := dk_28 (dk_at dksX5_next_4 15 rfl rfl)
theorem dX5_next_110 : decode cX5_next 110 = .ok (.bipush 60, 2) := dk_16 60 (dk_at dksX5_next_4 16 rfl rfl)
theorem dX5_next_112 : decode cX5_next 112 = .ok (.if_icmp .eq 9, 3) := dk_159 0 9 (dk_at dksX5_next_4 18 rfl rfl)
theorem dX5_next_115 : decode cX5_next 115 = .ok (.iload_n 2, 1) := dk_28 (dk_at dksX5_next_4 21 rfl rfl)
theorem dX5_next_116 : decode cX5_next 116 = .ok (.bipush 62, 2) := dk_16 62 (dk_at dksX5_next_4 22 rfl rfl)
theorem dX5_next_118 : decode cX5_next 118 = .ok (.if_icmp .ne 11, 3) := dk_160 0 11 (dk_at dksX5_next_5 0 rfl rfl)
theorem dX5_next_121 : decode cX5_next 121 = .ok (.aload_n 0, 1) := dk_42 (dk_at dksX5_next_5 3 rfl rfl)
theorem dX5_next_122 : decode cX5_next 122 = .ok (.iconst 4, 1) := dk_7 (dk_at dksX5_next_5 4 rfl rfl)
theorem dX5_next_123 : decode cX5_next 123 = .ok (.putfield 190, 3) := dk_181 0 190 (dk_at dksX5_next_5 5 rfl rfl)
theorem dX5_next_126 : decode cX5_next 126 = .ok (.goto 22, 3) := dk_167 0 22 (dk_at dksX5_next_5 8 rfl rfl)
theorem dX5_next_129 : decode cX5_next 129 = .ok (.iload_n 2, 1) := dk_28 (dk_at dksX5_next_5 11 rfl rfl)
theorem dX5_next_130 : decode cX5_next 130 = .ok (.invokestatic 196, 3) := dk_184 0 196 (dk_at dksX5_next_5 12 rfl rfl)
theorem dX5_next_133 : decode cX5_next 133 = .ok (.ifCond .ne 10, 3) := dk_154 0 10 (dk_at dksX5_next_5 15 rfl rfl)
theorem dX5_next_136 : decode cX5_next 136 = .ok (.iload_n 2, 1) := dk_28 (dk_at dksX5_next_5 18 rfl rfl)
theorem dX5_next_137 : decode cX5_next 137 = .ok (.invokestatic 200, 3) := dk_184 0 200 (dk_at dksX5_next_5 19 rfl rfl)
theorem dX5_next_140 : decode cX5_next 140 = .ok (.ifCond .eq 8, 3) := dk_153 0 8 (dk_at dksX5_next_6 0 rfl rfl)
theorem dX5_next_143 : decode cX5_next 143 = .ok (.aload_n 0, 1) := dk_42 (dk_at dksX5_next_6 3 rfl rfl)
theorem dX5_next_144 : decode cX5_next 144 = .ok (.iload_n 1, 1) := dk_27 (dk_at dksX5_next_6 4 rfl rfl)
theorem dX5_next_145 : decode cX5_next 145 = .ok (.invokevirtual 203, 3) := dk_182 0 203 (dk_at dksX5_next_6 5 rfl rfl)
theorem dX5_next_148 : decode cX5_next 148 = .ok (.return_, 1) := dk_177 (dk_at dksX5_next_6 8 rfl rfl)
abbrev cX5_byteAt : ByteArray := prog_20_method_12_code
def yX5_byteAt : MethodName := ⟨RX5, "byteAt", "(I)I"⟩
def dkwX5_byteAt_0 : List UInt8 := [27, 42, 180, 0, 174, 162, 0, 12, 42, 180, 0, 7, 27, 46, 167, 0, 4, 2, 172]
abbrev dktX5_byteAt_0 : List UInt8 := dkwX5_byteAt_0 ++ []
theorem dksX5_byteAt_0 : cX5_byteAt.data.toList.drop 0 = dktX5_byteAt_0 := by decide +kernel
theorem dX5_byteAt_0 : decode cX5_byteAt 0 = .ok (.iload_n 1, 1) := dk_27 (dk_at dksX5_byteAt_0 0 rfl rfl)
theorem dX5_byteAt_1 : decode cX5_byteAt 1 = .ok (.aload_n 0, 1) := dk_42 (dk_at dksX5_byteAt_0 1 rfl rfl)
theorem dX5_byteAt_2 : decode cX5_byteAt 2 = .ok (.getfield 174, 3) := dk_180 0 174 (dk_at dksX5_byteAt_0 2 rfl rfl)
theorem dX5_byteAt_5 : decode cX5_byteAt 5 = .ok (.if_icmp .ge 12, 3) := dk_162 0 12 (dk_at dksX5_byteAt_0 5 rfl rfl)
theorem dX5_byteAt_8 : decode cX5_byteAt 8 = .ok (.aload_n 0, 1) := dk_42 (dk_at dksX5_byteAt_0 8 rfl rfl)
theorem dX5_byteAt_9 : decode cX5_byteAt 9 = .ok (.getfield 7, 3) := dk_180 0 7 (dk_at dksX5_byteAt_0 9 rfl rfl)
theorem dX5_byteAt_12 : decode cX5_byteAt 12 = .ok (.iload_n 1, 1) := dk_27 (dk_at dksX5_byteAt_0 12 rfl rfl)
theorem dX5_byteAt_13 : decode cX5_byteAt 13 = .ok (.iaload, 1) := dk_46 (dk_at dksX5_byteAt_0 13 rfl rfl)
theorem dX5_byteAt_14 : decode cX5_byteAt 14 = .ok (.goto 4, 3) := dk_167 0 4 (dk_at dksX5_byteAt_0 14 rfl rfl)
theorem dX5_byteAt_17 : decode cX5_byteAt 17 = .ok (.iconst (-1), 1) := dk_2 (dk_at dksX5_byteAt_0 17 rfl rfl)
theorem dX5_byteAt_18 : decode cX5_byteAt 18 = .ok (.ireturn, 1) := dk_172 (dk_at dksX5_byteAt_0 18 rfl rfl)
abbrev cX5_isSmall : ByteArray := prog_20_method_13_code
def yX5_isSmall : MethodName := ⟨RX5, "isSmall", "(I)Z"⟩
def dkwX5_isSmall_0 : List UInt8 := [26, 16, 97, 161, 0, 13, 26, 16, 122, 163, 0, 7, 4, 167, 0, 4, 3, 172]
abbrev dktX5_isSmall_0 : List UInt8 := dkwX5_isSmall_0 ++ []
theorem dksX5_isSmall_0 : cX5_isSmall.data.toList.drop 0 = dktX5_isSmall_0 := by decide +kernel
theorem dX5_isSmall_0 : decode cX5_isSmall 0 = .ok (.iload_n 0, 1) := dk_26 (dk_at dksX5_isSmall_0 0 rfl rfl)
theorem dX5_isSmall_1 : decode cX5_isSmall 1 = .ok (.bipush 97, 2) := dk_16 97 (dk_at dksX5_isSmall_0 1 rfl rfl)
theorem dX5_isSmall_3 : decode cX5_isSmall 3 = .ok (.if_icmp .lt 13, 3) := dk_161 0 13 (dk_at dksX5_isSmall_0 3 rfl rfl)
theorem dX5_isSmall_6 : decode cX5_isSmall 6 = .ok (.iload_n 0, 1) := dk_26 (dk_at dksX5_isSmall_0 6 rfl rfl)
theorem dX5_isSmall_7 : decode cX5_isSmall 7 = .ok (.bipush 122, 2) := dk_16 122 (dk_at dksX5_isSmall_0 7 rfl rfl)
theorem dX5_isSmall_9 : decode cX5_isSmall 9 = .ok (.if_icmp .gt 7, 3) := dk_163 0 7 (dk_at dksX5_isSmall_0 9 rfl rfl)
theorem dX5_isSmall_12 : decode cX5_isSmall 12 = .ok (.iconst 1, 1) := dk_4 (dk_at dksX5_isSmall_0 12 rfl rfl)
theorem dX5_isSmall_13 : decode cX5_isSmall 13 = .ok (.goto 4, 3) := dk_167 0 4 (dk_at dksX5_isSmall_0 13 rfl rfl)
theorem dX5_isSmall_16 : decode cX5_isSmall 16 = .ok (.iconst 0, 1) := dk_3 (dk_at dksX5_isSmall_0 16 rfl rfl)
theorem dX5_isSmall_17 : decode cX5_isSmall 17 = .ok (.ireturn, 1) := dk_172 (dk_at dksX5_isSmall_0 17 rfl rfl)
abbrev cX5_isDigit : ByteArray := prog_20_method_14_code
def yX5_isDigit : MethodName := ⟨RX5, "isDigit", "(I)Z"⟩
def dkwX5_isDigit_0 : List UInt8 := [26, 16, 48, 161, 0, 13, 26, 16, 57, 163, 0, 7, 4, 167, 0, 4, 3, 172]
abbrev dktX5_isDigit_0 : List UInt8 := dkwX5_isDigit_0 ++ []
theorem dksX5_isDigit_0 : cX5_isDigit.data.toList.drop 0 = dktX5_isDigit_0 := by decide +kernel
theorem dX5_isDigit_0 : decode cX5_isDigit 0 = .ok (.iload_n 0, 1) := dk_26 (dk_at dksX5_isDigit_0 0 rfl rfl)
theorem dX5_isDigit_1 : decode cX5_isDigit 1 = .ok (.bipush 48, 2) := dk_16 48 (dk_at dksX5_isDigit_0 1 rfl rfl)
theorem dX5_isDigit_3 : decode cX5_isDigit 3 = .ok (.if_icmp .lt 13, 3) := dk_161 0 13 (dk_at dksX5_isDigit_0 3 rfl rfl)
theorem dX5_isDigit_6 : decode cX5_isDigit 6 = .ok (.iload_n 0, 1) := dk_26 (dk_at dksX5_isDigit_0 6 rfl rfl)
theorem dX5_isDigit_7 : decode cX5_isDigit 7 = .ok (.bipush 57, 2) := dk_16 57 (dk_at dksX5_isDigit_0 7 rfl rfl)
theorem dX5_isDigit_9 : decode cX5_isDigit 9 = .ok (.if_icmp .gt 7, 3) := dk_163 0 7 (dk_at dksX5_isDigit_0 9 rfl rfl)
theorem dX5_isDigit_12 : decode cX5_isDigit 12 = .ok (.iconst 1, 1) := dk_4 (dk_at dksX5_isDigit_0 12 rfl rfl)
theorem dX5_isDigit_13 : decode cX5_isDigit 13 = .ok (.goto 4, 3) := dk_167 0 4 (dk_at dksX5_isDigit_0 13 rfl rfl)
theorem dX5_isDigit_16 : decode cX5_isDigit 16 = .ok (.iconst 0, 1) := dk_3 (dk_at dksX5_isDigit_0 16 rfl rfl)
theorem dX5_isDigit_17 : decode cX5_isDigit 17 = .ok (.ireturn, 1) := dk_172 (dk_at dksX5_isDigit_0 17 rfl rfl)
abbrev cX5_runs : ByteArray := prog_20_method_16_code
def yX5_runs : MethodName := ⟨RX5, "runs", "(I)V"⟩
def dkwX5_runs_8 : List UInt8 := [42, 180, 0, 7, 27, 46, 182, 0, 213, 177]
abbrev dktX5_runs_8 : List UInt8 := dkwX5_runs_8 ++ []
def dkwX5_runs_7 : List UInt8 := [21, 4, 6, 160, 0, 30, 28, 4, 160, 0, 25, 42, 180, 0, 7, 27, 46, 184, 0, 196, 153, 0, 13, 42]
abbrev dktX5_runs_7 : List UInt8 := dkwX5_runs_7 ++ dktX5_runs_8
def dkwX5_runs_6 : List UInt8 := [163, 0, 8, 42, 5, 181, 0, 190, 28, 154, 0, 14, 21, 4, 6, 163, 0, 8, 42, 6, 181, 0, 190]
abbrev dktX5_runs_6 : List UInt8 := dkwX5_runs_6 ++ dktX5_runs_7
def dkwX5_runs_5 : List UInt8 := [167, 255, 157, 42, 29, 181, 0, 180, 29, 27, 100, 54, 4, 28, 21, 4, 160, 0, 15, 21, 4, 16, 8]
abbrev dktX5_runs_5 : List UInt8 := dkwX5_runs_5 ++ dktX5_runs_6
def dkwX5_runs_4 : List UInt8 := [153, 0, 20, 42, 16, 10, 42, 180, 0, 193, 104, 21, 4, 96, 16, 48, 100, 181, 0, 193, 132, 3, 1]
abbrev dktX5_runs_4 : List UInt8 := dkwX5_runs_4 ++ dktX5_runs_5
def dkwX5_runs_3 : List UInt8 := [180, 0, 207, 105, 21, 4, 133, 97, 181, 0, 207, 29, 27, 100, 6, 162, 0, 28, 21, 4, 184, 0, 200]
abbrev dktX5_runs_3 : List UInt8 := dkwX5_runs_3 ++ dktX5_runs_4
def dkwX5_runs_2 : List UInt8 := [184, 0, 196, 153, 0, 6, 132, 2, 1, 29, 27, 100, 16, 8, 162, 0, 19, 42, 20, 0, 211, 42]
abbrev dktX5_runs_2 : List UInt8 := dkwX5_runs_2 ++ dktX5_runs_3
def dkwX5_runs_1 : List UInt8 := [154, 0, 14, 42, 29, 182, 0, 183, 184, 0, 200, 153, 0, 83, 42, 29, 182, 0, 183, 54, 4, 21, 4]
abbrev dktX5_runs_1 : List UInt8 := dkwX5_runs_1 ++ dktX5_runs_2
def dkwX5_runs_0 : List UInt8 := [3, 61, 27, 62, 42, 9, 181, 0, 207, 42, 3, 181, 0, 193, 42, 29, 182, 0, 183, 184, 0, 196]
abbrev dktX5_runs_0 : List UInt8 := dkwX5_runs_0 ++ dktX5_runs_1
theorem dksX5_runs_0 : cX5_runs.data.toList.drop 0 = dktX5_runs_0 := by decide +kernel
theorem dksX5_runs_1 : cX5_runs.data.toList.drop 22 = dktX5_runs_1 := dk_seg dksX5_runs_0 22 rfl rfl
theorem dksX5_runs_2 : cX5_runs.data.toList.drop 45 = dktX5_runs_2 := dk_seg dksX5_runs_1 23 rfl rfl
theorem dksX5_runs_3 : cX5_runs.data.toList.drop 67 = dktX5_runs_3 := dk_seg dksX5_runs_2 22 rfl rfl
theorem dksX5_runs_4 : cX5_runs.data.toList.drop 90 = dktX5_runs_4 := dk_seg dksX5_runs_3 23 rfl rfl
theorem dksX5_runs_5 : cX5_runs.data.toList.drop 113 = dktX5_runs_5 := dk_seg dksX5_runs_4 23 rfl rfl
theorem dksX5_runs_6 : cX5_runs.data.toList.drop 136 = dktX5_runs_6 := dk_seg dksX5_runs_5 23 rfl rfl
theorem dksX5_runs_7 : cX5_runs.data.toList.drop 159 = dktX5_runs_7 := dk_seg dksX5_runs_6 23 rfl rfl
theorem dksX5_runs_8 : cX5_runs.data.toList.drop 183 = dktX5_runs_8 := dk_seg dksX5_runs_7 24 rfl rfl
theorem dX5_runs_0 : decode cX5_runs 0 = .ok (.iconst 0, 1) := dk_3 (dk_at dksX5_runs_0 0 rfl rfl)
theorem dX5_runs_1 : decode cX5_runs 1 = .ok (.istore_n 2, 1) := dk_61 (dk_at dksX5_runs_0 1 rfl rfl)
theorem dX5_runs_2 : decode cX5_runs 2 = .ok (.iload_n 1, 1) := dk_27 (dk_at dksX5_runs_0 2 rfl rfl)
theorem dX5_runs_3 : decode cX5_runs 3 = .ok (.istore_n 3, 1) := dk_62 (dk_at dksX5_runs_0 3 rfl rfl)
theorem dX5_runs_4 : decode cX5_runs 4 = .ok (.aload_n 0, 1) := dk_42 (dk_at dksX5_runs_0 4 rfl rfl)
theorem dX5_runs_5 : decode cX5_runs 5 = .ok (.lconst 0, 1) := dk_9 (dk_at dksX5_runs_0 5 rfl rfl)
theorem dX5_runs_6 : decode cX5_runs 6 = .ok (.putfield 207, 3) := dk_181 0 207 (dk_at dksX5_runs_0 6 rfl rfl)
theorem dX5_runs_9 : decode cX5_runs 9 = .ok (.aload_n 0, 1) := dk_42 (dk_at dksX5_runs_0 9 rfl rfl)
theorem dX5_runs_10 : decode cX5_runs 10 = .ok (.iconst 0, 1) := dk_3 (dk_at dksX5_runs_0 10 rfl rfl)
theorem dX5_runs_11 : decode cX5_runs 11 = .ok (.putfield 193, 3) := dk_181 0 193 (dk_at dksX5_runs_0 11 rfl rfl)
theorem dX5_runs_14 : decode cX5_runs 14 = .ok (.aload_n 0, 1) := dk_42 (dk_at dksX5_runs_0 14 rfl rfl)
theorem dX5_runs_15 : decode cX5_runs 15 = .ok (.iload_n 3, 1) := dk_29 (dk_at dksX5_runs_0 15 rfl rfl)
theorem dX5_runs_16 : decode cX5_runs 16 = .ok (.invokevirtual 183, 3) := dk_182 0 183 (dk_at dksX5_runs_0 16 rfl rfl)
theorem dX5_runs_19 : decode cX5_runs 19 = .ok (.invokestatic 196, 3) := dk_184 0 196 (dk_at dksX5_runs_0 19 rfl rfl)
theorem dX5_runs_22 : decode cX5_runs 22 = .ok (.ifCond .ne 14, 3) := dk_154 0 14 (dk_at dksX5_runs_1 0 rfl rfl)
theorem dX5_runs_25 : decode cX5_runs 25 = .ok (.aload_n 0, 1) := dk_42 (dk_at dksX5_runs_1 3 rfl rfl)
theorem dX5_runs_26 : decode cX5_runs 26 = .ok (.iload_n 3, 1) := dk_29 (dk_at dksX5_runs_1 4 rfl rfl)
theorem dX5_runs_27 : decode cX5_runs 27 = .ok (.invokevirtual 183, 3) := dk_182 0 183 (dk_at dksX5_runs_1 5 rfl rfl)
theorem dX5_runs_30 : decode cX5_runs 30 = .ok (.invokestatic 200, 3) := dk_184 0 200 (dk_at dksX5_runs_1 8 rfl rfl)
theorem dX5_runs_33 : decode cX5_runs 33 = .ok (.ifCond .eq 83, 3) := dk_153 0 83 (dk_at dksX5_runs_1 11 rfl rfl)
theorem dX5_runs_36 : decode cX5_runs 36 = .ok (.aload_n 0, 1) := dk_42 (dk_at dksX5_runs_1 14 rfl rfl)
theorem dX5_runs_37 : decode cX5_runs 37 = .ok (.iload_n 3, 1) := dk_29 (dk_at dksX5_runs_1 15 rfl rfl)
theorem dX5_runs_38 : decode cX5_runs 38 = .ok (.invokevirtual 183, 3) := dk_182 0 183 (dk_at dksX5_runs_1 16 rfl rfl)
theorem dX5_runs_41 : decode cX5_runs 41 = .ok (.istore 4, 2) := dk_54 4 (dk_at dksX5_runs_1 19 rfl rfl)
theorem dX5_runs_43 : decode cX5_runs 43 = .ok (.iload 4, 2) := dk_21 4 (dk_at dksX5_runs_1 21 rfl rfl)
theorem dX5_runs_45 : decode cX5_runs 45 = .ok (.invokestatic 196, 3) := dk_184 0 196 (dk_at dksX5_runs_2 0 rfl rfl)
theorem dX5_runs_48 : decode cX5_runs 48 = .ok (.ifCond .eq 6, 3) := dk_153 0 6 (dk_at dksX5_runs_2 3 rfl rfl)
theorem dX5_runs_51 : decode cX5_runs 51 = .ok (.iinc 2 1, 3) := dk_132 2 1 (dk_at dksX5_runs_2 6 rfl rfl)
theorem dX5_runs_54 : decode cX5_runs 54 = .ok (.iload_n 3, 1) := dk_29 (dk_at dksX5_runs_2 9 rfl rfl)
theorem dX5_runs_55 : decode cX5_runs 55 = .ok (.iload_n 1, 1) := dk_27 (dk_at dksX5_runs_2 10 rfl rfl)
theorem dX5_runs_56 : decode cX5_runs 56 = .ok (.isub, 1) := dk_100 (dk_at dksX5_runs_2 11 rfl rfl)
theorem dX5_runs_57 : decode cX5_runs 57 = .ok (.bipush 8, 2) := dk_16 8 (dk_at dksX5_runs_2 12 rfl rfl)
theorem dX5_runs_59 : decode cX5_runs 59 = .ok (.if_icmp .ge 19, 3) := dk_162 0 19 (dk_at dksX5_runs_2 14 rfl rfl)
theorem dX5_runs_62 : decode cX5_runs 62 = .ok (.aload_n 0, 1) := dk_42 (dk_at dksX5_runs_2 17 rfl rfl)
theorem dX5_runs_63 : decode cX5_runs 63 = .ok (.ldc2_w 211, 3) := dk_20 0 211 (dk_at dksX5_runs_2 18 rfl rfl)
theorem dX5_runs_66 : decode cX5_runs 66 = .ok (.aload_n 0, 1) := dk_42 (dk_at dksX5_runs_2 21 rfl rfl)
theorem dX5_runs_67 : decode cX5_runs 67 = .ok (.getfield 207, 3) := dk_180 0 207 (dk_at dksX5_runs_3 0 rfl rfl)
theorem dX5_runs_70 : decode cX5_runs 70 = .ok (.lmul, 1) := dk_105 (dk_at dksX5_runs_3 3 rfl rfl)
theorem dX5_runs_71 : decode cX5_runs 71 = .ok (.iload 4, 2) := dk_21 4 (dk_at dksX5_runs_3 4 rfl rfl)
theorem dX5_runs_73 : decode cX5_runs 73 = .ok (.i2l, 1) := dk_133 (dk_at dksX5_runs_3 6 rfl rfl)
theorem dX5_runs_74 : decode cX5_runs 74 = .ok (.ladd, 1) := dk_97 (dk_at dksX5_runs_3 7 rfl rfl)
theorem dX5_runs_75 : decode cX5_runs 75 = .ok (.putfield 207, 3) := dk_181 0 207 (dk_at dksX5_runs_3 8 rfl rfl)
theorem dX5_runs_78 : decode cX5_runs 78 = .ok (.iload_n 3, 1) := dk_29 (dk_at dksX5_runs_3 11 rfl rfl)
theorem dX5_runs_79 : decode cX5_runs 79 = .ok (.iload_n 1, 1) := dk_27 (dk_at dksX5_runs_3 12 rfl rfl)
theorem dX5_runs_80 : decode cX5_runs 80 = .ok (.isub, 1) := dk_100 (dk_at dksX5_runs_3 13 rfl rfl)
theorem dX5_runs_81 : decode cX5_runs 81 = .ok (.iconst 3, 1) := dk_6 (dk_at dksX5_runs_3 14 rfl rfl)
theorem dX5_runs_82 : decode cX5_runs 82 = .ok (.if_icmp .ge 28, 3) := dk_162 0 28 (dk_at dksX5_runs_3 15 rfl rfl)
theorem dX5_runs_85 : decode cX5_runs 85 = .ok (.iload 4, 2) := dk_21 4 (dk_at dksX5_runs_3 18 rfl rfl)
theorem dX5_runs_87 : decode cX5_runs 87 = .ok (.invokestatic 200, 3) := dk_184 0 200 (dk_at dksX5_runs_3 20 rfl rfl)
theorem dX5_runs_90 : decode cX5_runs 90 = .ok (.ifCond .eq 20, 3) := dk_153 0 20 (dk_at dksX5_runs_4 0 rfl rfl)
theorem dX5_runs_93 : decode cX5_runs 93 = .ok (.aload_n 0, 1) := dk_42 (dk_at dksX5_runs_4 3 rfl rfl)
theorem dX5_runs_94 : decode cX5_runs 94 = .ok (.bipush 10, 2) := dk_16 10 (dk_at dksX5_runs_4 4 rfl rfl)
theorem dX5_runs_96 : decode cX5_runs 96 = .ok (.aload_n 0, 1) := dk_42 (dk_at dksX5_runs_4 6 rfl rfl)
theorem dX5_runs_97 : decode cX5_runs 97 = .ok (.getfield 193, 3) := dk_180 0 193 (dk_at dksX5_runs_4 7 rfl rfl)
theorem dX5_runs_100 : decode cX5_runs 100 = .ok (.imul, 1) := dk_104 (dk_at dksX5_runs_4 10 rfl rfl)
theorem dX5_runs_101 : decode cX5_runs 101 = .ok (.iload 4, 2) := dk_21 4 (dk_at dksX5_runs_4 11 rfl rfl)
theorem dX5_runs_103 : decode cX5_runs 103 = .ok (.iadd, 1) := dk_96 (dk_at dksX5_runs_4 13 rfl rfl)
theorem dX5_runs_104 : decode cX5_runs 104 = .ok (.bipush 48, 2) := dk_16 48 (dk_at dksX5_runs_4 14 rfl rfl)
theorem dX5_runs_106 : decode cX5_runs 106 = .ok (.isub, 1) := dk_100 (dk_at dksX5_runs_4 16 rfl rfl)
theorem dX5_runs_107 : decode cX5_runs 107 = .ok (.putfield 193, 3) := dk_181 0 193 (dk_at dksX5_runs_4 17 rfl rfl)
theorem dX5_runs_110 : decode cX5_runs 110 = .ok (.iinc 3 1, 3) := dk_132 3 1 (dk_at dksX5_runs_4 20 rfl rfl)
theorem dX5_runs_113 : decode cX5_runs 113 = .ok (.goto (-99), 3) := dk_167 255 157 (dk_at dksX5_runs_5 0 rfl rfl)
theorem dX5_runs_116 : decode cX5_runs 116 = .ok (.aload_n 0, 1) := dk_42 (dk_at dksX5_runs_5 3 rfl rfl)
theorem dX5_runs_117 : decode cX5_runs 117 = .ok (.iload_n 3, 1) := dk_29 (dk_at dksX5_runs_5 4 rfl rfl)
theorem dX5_runs_118 : decode cX5_runs 118 = .ok (.putfield 180, 3) := dk_181 0 180 (dk_at dksX5_runs_5 5 rfl rfl)
theorem dX5_runs_121 : decode cX5_runs 121 = .ok (.iload_n 3, 1) := dk_29 (dk_at dksX5_runs_5 8 rfl rfl)
theorem dX5_runs_122 : decode cX5_runs 122 = .ok (.iload_n 1, 1) := dk_27 (dk_at dksX5_runs_5 9 rfl rfl)
theorem dX5_runs_123 : decode cX5_runs 123 = .ok (.isub, 1) := dk_100 (dk_at dksX5_runs_5 10 rfl rfl)
theorem dX5_runs_124 : decode cX5_runs 124 = .ok (.istore 4, 2) := dk_54 4 (dk_at dksX5_runs_5 11 rfl rfl)
theorem dX5_runs_126 : decode cX5_runs 126 = .ok (.iload_n 2, 1) := dk_28 (dk_at dksX5_runs_5 13 rfl rfl)
theorem dX5_runs_127 : decode cX5_runs 127 = .ok (.iload 4, 2) := dk_21 4 (dk_at dksX5_runs_5 14 rfl rfl)
theorem dX5_runs_129 : decode cX5_runs 129 = .ok (.if_icmp .ne 15, 3) := dk_160 0 15 (dk_at dksX5_runs_5 16 rfl rfl)
theorem dX5_runs_132 : decode cX5_runs 132 = .ok (.iload 4, 2) := dk_21 4 (dk_at dksX5_runs_5 19 rfl rfl)
theorem dX5_runs_134 : decode cX5_runs 134 = .ok (.bipush 8, 2) := dk_16 8 (dk_at dksX5_runs_5 21 rfl rfl)
theorem dX5_runs_136 : decode cX5_runs 136 = .ok (.if_icmp .gt 8, 3) := dk_163 0 8 (dk_at dksX5_runs_6 0 rfl rfl)
theorem dX5_runs_139 : decode cX5_runs 139 = .ok (.aload_n 0, 1) := dk_42 (dk_at dksX5_runs_6 3 rfl rfl)
theorem dX5_runs_140 : decode cX5_runs 140 = .ok (.iconst 2, 1) := dk_5 (dk_at dksX5_runs_6 4 rfl rfl)
theorem dX5_runs_141 : decode cX5_runs 141 = .ok (.putfield 190, 3) := dk_181 0 190 (dk_at dksX5_runs_6 5 rfl rfl)
theorem dX5_runs_144 : decode cX5_runs 144 = .ok (.iload_n 2, 1) := dk_28 (dk_at dksX5_runs_6 8 rfl rfl)
theorem dX5_runs_145 : decode cX5_runs 145 = .ok (.ifCond .ne 14, 3) := dk_154 0 14 (dk_at dksX5_runs_6 9 rfl rfl)
theorem dX5_runs_148 : decode cX5_runs 148 = .ok (.iload 4, 2) := dk_21 4 (dk_at dksX5_runs_6 12 rfl rfl)
theorem dX5_runs_150 : decode cX5_runs 150 = .ok (.iconst 3, 1) := dk_6 (dk_at dksX5_runs_6 14 rfl rfl)
theorem dX5_runs_151 : decode cX5_runs 151 = .ok (.if_icmp .gt 8, 3) := dk_163 0 8 (dk_at dksX5_runs_6 15 rfl rfl)
theorem dX5_runs_154 : decode cX5_runs 154 = .ok (.aload_n 0, 1) := dk_42 (dk_at dksX5_runs_6 18 rfl rfl)
theorem dX5_runs_155 : decode cX5_runs 155 = .ok (.iconst 3, 1) := dk_6 (dk_at dksX5_runs_6 19 rfl rfl)
theorem dX5_runs_156 : decode cX5_runs 156 = .ok (.putfield 190, 3) := dk_181 0 190 (dk_at dksX5_runs_6 20 rfl rfl)
theorem dX5_runs_159 : decode cX5_runs 159 = .ok (.iload 4, 2) := dk_21 4 (dk_at dksX5_runs_7 0 rfl rfl)
theorem dX5_runs_161 : decode cX5_runs 161 = .ok (.iconst 3, 1) := dk_6 (dk_at dksX5_runs_7 2 rfl rfl)
theorem dX5_runs_162 : decode cX5_runs 162 = .ok (.if_icmp .ne 30, 3) := dk_160 0 30 (dk_at dksX5_runs_7 3 rfl rfl)
theorem dX5_runs_165 : decode cX5_runs 165 = .ok (.iload_n 2, 1) := dk_28 (dk_at dksX5_runs_7 6 rfl rfl)
theorem dX5_runs_166 : decode cX5_runs 166 = .ok (.iconst 1, 1) := dk_4 (dk_at dksX5_runs_7 7 rfl rfl)
theorem dX5_runs_167 : decode cX5_runs 167 = .ok (.if_icmp .ne 25, 3) := dk_160 0 25 (dk_at dksX5_runs_7 8 rfl rfl)
theorem dX5_runs_170 : decode cX5_runs 170 = .ok (.aload_n 0, 1) := dk_42 (dk_at dksX5_runs_7 11 rfl rfl)
theorem dX5_runs_171 : decode cX5_runs 171 = .ok (.getfield 7, 3) := dk_180 0 7 (dk_at dksX5_runs_7 12 rfl rfl)
theorem dX5_runs_174 : decode cX5_runs 174 = .ok (.iload_n 1, 1) := dk_27 (dk_at dksX5_runs_7 15 rfl rfl)
theorem dX5_runs_175 : decode cX5_runs 175 = .ok (.iaload, 1) := dk_46 (dk_at dksX5_runs_7 16 rfl rfl)
theorem dX5_runs_176 : decode cX5_runs 176 = .ok (.invokestatic 196, 3) := dk_184 0 196 (dk_at dksX5_runs_7 17 rfl rfl)
theorem dX5_runs_179 : decode cX5_runs 179 = .ok (.ifCond .eq 13, 3) := dk_153 0 13 (dk_at dksX5_runs_7 20 rfl rfl)
theorem dX5_runs_182 : decode cX5_runs 182 = .ok (.aload_n 0, 1) := dk_42 (dk_at dksX5_runs_7 23 rfl rfl)
theorem dX5_runs_183 : decode cX5_runs 183 = .ok (.aload_n 0, 1) := dk_42 (dk_at dksX5_runs_8 0 rfl rfl)
theorem dX5_runs_184 : decode cX5_runs 184 = .ok (.getfield 7, 3) := dk_180 0 7 (dk_at dksX5_runs_8 1 rfl rfl)
theorem dX5_runs_187 : decode cX5_runs 187 = .ok (.iload_n 1, 1) := dk_27 (dk_at dksX5_runs_8 4 rfl rfl)
theorem dX5_runs_188 : decode cX5_runs 188 = .ok (.iaload, 1) := dk_46 (dk_at dksX5_runs_8 5 rfl rfl)
theorem dX5_runs_189 : decode cX5_runs 189 = .ok (.invokevirtual 213, 3) := dk_182 0 213 (dk_at dksX5_runs_8 6 rfl rfl)
theorem dX5_runs_192 : decode cX5_runs 192 = .ok (.return_, 1) := dk_177 (dk_at dksX5_runs_8 9 rfl rfl)
abbrev cX5_codes : ByteArray := prog_20_method_17_code
def yX5_codes : MethodName := ⟨RX5, "codes", "(I)V"⟩
def dkwX5_codes_2 : List UInt8 := [181, 0, 190, 42, 89, 180, 0, 193, 17, 3, 232, 16, 100, 27, 16, 112, 100, 104, 96, 96, 181, 0, 193, 177]
abbrev dktX5_codes_2 : List UInt8 := dkwX5_codes_2 ++ []
def dkwX5_codes_1 : List UInt8 := [16, 97, 100, 104, 96, 181, 0, 193, 167, 0, 39, 27, 16, 112, 16, 116, 184, 0, 170, 153, 0, 28, 42, 4]
abbrev dktX5_codes_1 : List UInt8 := dkwX5_codes_1 ++ dktX5_codes_2
def dkwX5_codes_0 : List UInt8 := [27, 16, 97, 16, 106, 184, 0, 170, 153, 0, 27, 42, 4, 181, 0, 190, 42, 89, 180, 0, 193, 16, 100, 27]
abbrev dktX5_codes_0 : List UInt8 := dkwX5_codes_0 ++ dktX5_codes_1
theorem dksX5_codes_0 : cX5_codes.data.toList.drop 0 = dktX5_codes_0 := by decide +kernel
theorem dksX5_codes_1 : cX5_codes.data.toList.drop 24 = dktX5_codes_1 := dk_seg dksX5_codes_0 24 rfl rfl
theorem dksX5_codes_2 : cX5_codes.data.toList.drop 48 = dktX5_codes_2 := dk_seg dksX5_codes_1 24 rfl rfl
theorem dX5_codes_0 : decode cX5_codes 0 = .ok (.iload_n 1, 1) := dk_27 (dk_at dksX5_codes_0 0 rfl rfl)
theorem dX5_codes_1 : decode cX5_codes 1 = .ok (.bipush 97, 2) := dk_16 97 (dk_at dksX5_codes_0 1 rfl rfl)
theorem dX5_codes_3 : decode cX5_codes 3 = .ok (.bipush 106, 2) := dk_16 106 (dk_at dksX5_codes_0 3 rfl rfl)
theorem dX5_codes_5 : decode cX5_codes 5 = .ok (.invokestatic 170, 3) := dk_184 0 170 (dk_at dksX5_codes_0 5 rfl rfl)
theorem dX5_codes_8 : decode cX5_codes 8 = .ok (.ifCond .eq 27, 3) := dk_153 0 27 (dk_at dksX5_codes_0 8 rfl rfl)
theorem dX5_codes_11 : decode cX5_codes 11 = .ok (.aload_n 0, 1) := dk_42 (dk_at dksX5_codes_0 11 rfl rfl)
theorem dX5_codes_12 : decode cX5_codes 12 = .ok (.iconst 1, 1) := dk_4 (dk_at dksX5_codes_0 12 rfl rfl)
theorem dX5_codes_13 : decode cX5_codes 13 = .ok (.putfield 190, 3) := dk_181 0 190 (dk_at dksX5_codes_0 13 rfl rfl)
theorem dX5_codes_16 : decode cX5_codes 16 = .ok (.aload_n 0, 1) := dk_42 (dk_at dksX5_codes_0 16 rfl rfl)
theorem dX5_codes_17 : decode cX5_codes 17 = .ok (.dup, 1) := dk_89 (dk_at dksX5_codes_0 17 rfl rfl)
theorem dX5_codes_18 : decode cX5_codes 18 = .ok (.getfield 193, 3) := dk_180 0 193 (dk_at dksX5_codes_0 18 rfl rfl)
theorem dX5_codes_21 : decode cX5_codes 21 = .ok (.bipush 100, 2) := dk_16 100 (dk_at dksX5_codes_0 21 rfl rfl)
theorem dX5_codes_23 : decode cX5_codes 23 = .ok (.iload_n 1, 1) := dk_27 (dk_at dksX5_codes_0 23 rfl rfl)
theorem dX5_codes_24 : decode cX5_codes 24 = .ok (.bipush 97, 2) := dk_16 97 (dk_at dksX5_codes_1 0 rfl rfl)
theorem dX5_codes_26 : decode cX5_codes 26 = .ok (.isub, 1) := dk_100 (dk_at dksX5_codes_1 2 rfl rfl)
theorem dX5_codes_27 : decode cX5_codes 27 = .ok (.imul, 1) := dk_104 (dk_at dksX5_codes_1 3 rfl rfl)
theorem dX5_codes_28 : decode cX5_codes 28 = .ok (.iadd, 1) := dk_96 (dk_at dksX5_codes_1 4 rfl rfl)
theorem dX5_codes_29 : decode cX5_codes 29 = .ok (.putfield 193, 3) := dk_181 0 193 (dk_at dksX5_codes_1 5 rfl rfl)
theorem dX5_codes_32 : decode cX5_codes 32 = .ok (.goto 39, 3) := dk_167 0 39 (dk_at dksX5_codes_1 8 rfl rfl)
theorem dX5_codes_35 : decode cX5_codes 35 = .ok (.iload_n 1, 1) := dk_27 (dk_at dksX5_codes_1 11 rfl rfl)
theorem dX5_codes_36 : decode cX5_codes 36 = .ok (.bipush 112, 2) := dk_16 112 (dk_at dksX5_codes_1 12 rfl rfl)
theorem dX5_codes_38 : decode cX5_codes 38 = .ok (.bipush 116, 2) := dk_16 116 (dk_at dksX5_codes_1 14 rfl rfl)
theorem dX5_codes_40 : decode cX5_codes 40 = .ok (.invokestatic 170, 3) := dk_184 0 170 (dk_at dksX5_codes_1 16 rfl rfl)
theorem dX5_codes_43 : decode cX5_codes 43 = .ok (.ifCond .eq 28, 3) := dk_153 0 28 (dk_at dksX5_codes_1 19 rfl rfl)
theorem dX5_codes_46 : decode cX5_codes 46 = .ok (.aload_n 0, 1) := dk_42 (dk_at dksX5_codes_1 22 rfl rfl)
theorem dX5_codes_47 : decode cX5_codes 47 = .ok (.iconst 1, 1) := dk_4 (dk_at dksX5_codes_1 23 rfl rfl)
theorem dX5_codes_48 : decode cX5_codes 48 = .ok (.putfield 190, 3) := dk_181 0 190 (dk_at dksX5_codes_2 0 rfl rfl)
theorem dX5_codes_51 : decode cX5_codes 51 = .ok (.aload_n 0, 1) := dk_42 (dk_at dksX5_codes_2 3 rfl rfl)
theorem dX5_codes_52 : decode cX5_codes 52 = .ok (.dup, 1) := dk_89 (dk_at dksX5_codes_2 4 rfl rfl)
theorem dX5_codes_53 : decode cX5_codes 53 = .ok (.getfield 193, 3) := dk_180 0 193 (dk_at dksX5_codes_2 5 rfl rfl)
theorem dX5_codes_56 : decode cX5_codes 56 = .ok (.sipush 1000, 3) := dk_17 3 232 (dk_at dksX5_codes_2 8 rfl rfl)
theorem dX5_codes_59 : decode cX5_codes 59 = .ok (.bipush 100, 2) := dk_16 100 (dk_at dksX5_codes_2 11 rfl rfl)
theorem dX5_codes_61 : decode cX5_codes 61 = .ok (.iload_n 1, 1) := dk_27 (dk_at dksX5_codes_2 13 rfl rfl)
theorem dX5_codes_62 : decode cX5_codes 62 = .ok (.bipush 112, 2) := dk_16 112 (dk_at dksX5_codes_2 14 rfl rfl)
theorem dX5_codes_64 : decode cX5_codes 64 = .ok (.isub, 1) := dk_100 (dk_at dksX5_codes_2 16 rfl rfl)
theorem dX5_codes_65 : decode cX5_codes 65 = .ok (.imul, 1) := dk_104 (dk_at dksX5_codes_2 17 rfl rfl)
theorem dX5_codes_66 : decode cX5_codes 66 = .ok (.iadd, 1) := dk_96 (dk_at dksX5_codes_2 18 rfl rfl)
theorem dX5_codes_67 : decode cX5_codes 67 = .ok (.iadd, 1) := dk_96 (dk_at dksX5_codes_2 19 rfl rfl)
theorem dX5_codes_68 : decode cX5_codes 68 = .ok (.putfield 193, 3) := dk_181 0 193 (dk_at dksX5_codes_2 20 rfl rfl)
theorem dX5_codes_71 : decode cX5_codes 71 = .ok (.return_, 1) := dk_177 (dk_at dksX5_codes_2 23 rfl rfl)
abbrev cX5_isWord : ByteArray := prog_20_method_21_code
def yX5_isWord : MethodName := ⟨RX5, "isWord", "(Ljava/lang/String;)Z"⟩
def dkwX5_isWord_1 : List UInt8 := [154, 0, 7, 4, 167, 0, 4, 3, 172]
abbrev dktX5_isWord_1 : List UInt8 := dkwX5_isWord_1 ++ []
def dkwX5_isWord_0 : List UInt8 := [42, 180, 0, 177, 154, 0, 27, 42, 180, 0, 190, 5, 160, 0, 19, 42, 180, 0, 207, 43, 184, 0, 230, 148]
abbrev dktX5_isWord_0 : List UInt8 := dkwX5_isWord_0 ++ dktX5_isWord_1
theorem dksX5_isWord_0 : cX5_isWord.data.toList.drop 0 = dktX5_isWord_0 := by decide +kernel
theorem dksX5_isWord_1 : cX5_isWord.data.toList.drop 24 = dktX5_isWord_1 := dk_seg dksX5_isWord_0 24 rfl rfl
theorem dX5_isWord_0 : decode cX5_isWord 0 = .ok (.aload_n 0, 1) := dk_42 (dk_at dksX5_isWord_0 0 rfl rfl)
theorem dX5_isWord_1 : decode cX5_isWord 1 = .ok (.getfield 177, 3) := dk_180 0 177 (dk_at dksX5_isWord_0 1 rfl rfl)
theorem dX5_isWord_4 : decode cX5_isWord 4 = .ok (.ifCond .ne 27, 3) := dk_154 0 27 (dk_at dksX5_isWord_0 4 rfl rfl)
theorem dX5_isWord_7 : decode cX5_isWord 7 = .ok (.aload_n 0, 1) := dk_42 (dk_at dksX5_isWord_0 7 rfl rfl)
theorem dX5_isWord_8 : decode cX5_isWord 8 = .ok (.getfield 190, 3) := dk_180 0 190 (dk_at dksX5_isWord_0 8 rfl rfl)
theorem dX5_isWord_11 : decode cX5_isWord 11 = .ok (.iconst 2, 1) := dk_5 (dk_at dksX5_isWord_0 11 rfl rfl)
theorem dX5_isWord_12 : decode cX5_isWord 12 = .ok (.if_icmp .ne 19, 3) := dk_160 0 19 (dk_at dksX5_isWord_0 12 rfl rfl)
theorem dX5_isWord_15 : decode cX5_isWord 15 = .ok (.aload_n 0, 1) := dk_42 (dk_at dksX5_isWord_0 15 rfl rfl)
theorem dX5_isWord_16 : decode cX5_isWord 16 = .ok (.getfield 207, 3) := dk_180 0 207 (dk_at dksX5_isWord_0 16 rfl rfl)
theorem dX5_isWord_19 : decode cX5_isWord 19 = .ok (.aload_n 1, 1) := dk_43 (dk_at dksX5_isWord_0 19 rfl rfl)
theorem dX5_isWord_20 : decode cX5_isWord 20 = .ok (.invokestatic 230, 3) := dk_184 0 230 (dk_at dksX5_isWord_0 20 rfl rfl)
theorem dX5_isWord_23 : decode cX5_isWord 23 = .ok (.lcmp, 1) := dk_148 (dk_at dksX5_isWord_0 23 rfl rfl)
theorem dX5_isWord_24 : decode cX5_isWord 24 = .ok (.ifCond .ne 7, 3) := dk_154 0 7 (dk_at dksX5_isWord_1 0 rfl rfl)
theorem dX5_isWord_27 : decode cX5_isWord 27 = .ok (.iconst 1, 1) := dk_4 (dk_at dksX5_isWord_1 3 rfl rfl)
theorem dX5_isWord_28 : decode cX5_isWord 28 = .ok (.goto 4, 3) := dk_167 0 4 (dk_at dksX5_isWord_1 4 rfl rfl)
theorem dX5_isWord_31 : decode cX5_isWord 31 = .ok (.iconst 0, 1) := dk_3 (dk_at dksX5_isWord_1 7 rfl rfl)
theorem dX5_isWord_32 : decode cX5_isWord 32 = .ok (.ireturn, 1) := dk_172 (dk_at dksX5_isWord_1 8 rfl rfl)
abbrev cX5_packed : ByteArray := prog_20_method_20_code
def yX5_packed : MethodName := ⟨RX5, "packed", "(Ljava/lang/String;)J"⟩
def dkwX5_packed_1 : List UInt8 := [64, 132, 3, 1, 167, 255, 232, 31, 173]
abbrev dktX5_packed_1 : List UInt8 := dkwX5_packed_1 ++ []
def dkwX5_packed_0 : List UInt8 := [9, 64, 3, 62, 29, 42, 182, 0, 220, 162, 0, 22, 20, 0, 211, 31, 105, 42, 29, 182, 0, 226, 133, 97]
abbrev dktX5_packed_0 : List UInt8 := dkwX5_packed_0 ++ dktX5_packed_1
theorem dksX5_packed_0 : cX5_packed.data.toList.drop 0 = dktX5_packed_0 := by decide +kernel
theorem dksX5_packed_1 : cX5_packed.data.toList.drop 24 = dktX5_packed_1 := dk_seg dksX5_packed_0 24 rfl rfl
theorem dX5_packed_0 : decode cX5_packed 0 = .ok (.lconst 0, 1) := dk_9 (dk_at dksX5_packed_0 0 rfl rfl)
theorem dX5_packed_1 : decode cX5_packed 1 = .ok (.lstore_n 1, 1) := dk_64 (dk_at dksX5_packed_0 1 rfl rfl)
theorem dX5_packed_2 : decode cX5_packed 2 = .ok (.iconst 0, 1) := dk_3 (dk_at dksX5_packed_0 2 rfl rfl)
theorem dX5_packed_3 : decode cX5_packed 3 = .ok (.istore_n 3, 1) := dk_62 (dk_at dksX5_packed_0 3 rfl rfl)
theorem dX5_packed_4 : decode cX5_packed 4 = .ok (.iload_n 3, 1) := dk_29 (dk_at dksX5_packed_0 4 rfl rfl)
theorem dX5_packed_5 : decode cX5_packed 5 = .ok (.aload_n 0, 1) := dk_42 (dk_at dksX5_packed_0 5 rfl rfl)
theorem dX5_packed_6 : decode cX5_packed 6 = .ok (.invokevirtual 220, 3) := dk_182 0 220 (dk_at dksX5_packed_0 6 rfl rfl)
theorem dX5_packed_9 : decode cX5_packed 9 = .ok (.if_icmp .ge 22, 3) := dk_162 0 22 (dk_at dksX5_packed_0 9 rfl rfl)
theorem dX5_packed_12 : decode cX5_packed 12 = .ok (.ldc2_w 211, 3) := dk_20 0 211 (dk_at dksX5_packed_0 12 rfl rfl)
theorem dX5_packed_15 : decode cX5_packed 15 = .ok (.lload_n 1, 1) := dk_31 (dk_at dksX5_packed_0 15 rfl rfl)
theorem dX5_packed_16 : decode cX5_packed 16 = .ok (.lmul, 1) := dk_105 (dk_at dksX5_packed_0 16 rfl rfl)
theorem dX5_packed_17 : decode cX5_packed 17 = .ok (.aload_n 0, 1) := dk_42 (dk_at dksX5_packed_0 17 rfl rfl)
theorem dX5_packed_18 : decode cX5_packed 18 = .ok (.iload_n 3, 1) := dk_29 (dk_at dksX5_packed_0 18 rfl rfl)
theorem dX5_packed_19 : decode cX5_packed 19 = .ok (.invokevirtual 226, 3) := dk_182 0 226 (dk_at dksX5_packed_0 19 rfl rfl)
theorem dX5_packed_22 : decode cX5_packed 22 = .ok (.i2l, 1) := dk_133 (dk_at dksX5_packed_0 22 rfl rfl)
theorem dX5_packed_23 : decode cX5_packed 23 = .ok (.ladd, 1) := dk_97 (dk_at dksX5_packed_0 23 rfl rfl)
theorem dX5_packed_24 : decode cX5_packed 24 = .ok (.lstore_n 1, 1) := dk_64 (dk_at dksX5_packed_1 0 rfl rfl)
theorem dX5_packed_25 : decode cX5_packed 25 = .ok (.iinc 3 1, 3) := dk_132 3 1 (dk_at dksX5_packed_1 1 rfl rfl)
theorem dX5_packed_28 : decode cX5_packed 28 = .ok (.goto (-24), 3) := dk_167 255 232 (dk_at dksX5_packed_1 4 rfl rfl)
theorem dX5_packed_31 : decode cX5_packed 31 = .ok (.lload_n 1, 1) := dk_31 (dk_at dksX5_packed_1 7 rfl rfl)
theorem dX5_packed_32 : decode cX5_packed 32 = .ok (.lreturn, 1) := dk_173 (dk_at dksX5_packed_1 8 rfl rfl)
abbrev cX5_chapterLine : ByteArray := prog_20_method_31_code
def yX5_chapterLine : MethodName := ⟨RX5, "chapterLine", "()V"⟩
def dkwX5_chapterLine_8 : List UInt8 := [180, 0, 96, 104, 92, 46, 4, 96, 79, 177]
abbrev dktX5_chapterLine_8 : List UInt8 := dkwX5_chapterLine_8 ++ []
def dkwX5_chapterLine_7 : List UInt8 := [21, 4, 2, 79, 42, 182, 1, 59, 42, 180, 0, 177, 154, 0, 19, 42, 180, 0, 13, 16, 7, 42]
abbrev dktX5_chapterLine_7 : List UInt8 := dkwX5_chapterLine_7 ++ dktX5_chapterLine_8
def dkwX5_chapterLine_6 : List UInt8 := [154, 255, 182, 42, 180, 0, 16, 21, 4, 32, 80, 42, 180, 0, 20, 21, 4, 21, 5, 79, 42, 180, 0, 29]
abbrev dktX5_chapterLine_6 : List UInt8 := dkwX5_chapterLine_6 ++ dktX5_chapterLine_7
def dkwX5_chapterLine_5 : List UInt8 := [180, 0, 26, 6, 21, 4, 104, 21, 5, 96, 42, 180, 1, 42, 79, 132, 5, 1, 42, 16, 44, 182, 0, 234]
abbrev dktX5_chapterLine_5 : List UInt8 := dkwX5_chapterLine_5 ++ dktX5_chapterLine_6
def dkwX5_chapterLine_4 : List UInt8 := [180, 0, 177, 158, 0, 4, 177, 42, 180, 0, 23, 6, 21, 4, 104, 21, 5, 96, 42, 180, 1, 39, 79, 42]
abbrev dktX5_chapterLine_4 : List UInt8 := dkwX5_chapterLine_4 ++ dktX5_chapterLine_5
def dkwX5_chapterLine_3 : List UInt8 := [158, 0, 7, 42, 182, 0, 240, 42, 3, 21, 5, 6, 160, 0, 7, 4, 167, 0, 4, 3, 182, 1, 55, 42]
abbrev dktX5_chapterLine_3 : List UInt8 := dkwX5_chapterLine_3 ++ dktX5_chapterLine_4
def dkwX5_chapterLine_2 : List UInt8 := [182, 0, 237, 42, 182, 0, 240, 16, 6, 42, 180, 0, 96, 104, 27, 96, 54, 4, 3, 54, 5, 21, 5]
abbrev dktX5_chapterLine_2 : List UInt8 := dkwX5_chapterLine_2 ++ dktX5_chapterLine_3
def dkwX5_chapterLine_1 : List UInt8 := [42, 182, 1, 47, 65, 42, 180, 0, 177, 154, 0, 16, 42, 32, 182, 1, 51, 155, 0, 8, 42, 6]
abbrev dktX5_chapterLine_1 : List UInt8 := dkwX5_chapterLine_1 ++ dktX5_chapterLine_2
def dkwX5_chapterLine_0 : List UInt8 := [42, 42, 180, 0, 96, 182, 1, 44, 60, 27, 16, 6, 160, 0, 8, 42, 7, 182, 0, 237, 42, 182, 0, 240]
abbrev dktX5_chapterLine_0 : List UInt8 := dkwX5_chapterLine_0 ++ dktX5_chapterLine_1
theorem dksX5_chapterLine_0 : cX5_chapterLine.data.toList.drop 0 = dktX5_chapterLine_0 := by decide +kernel
theorem dksX5_chapterLine_1 : cX5_chapterLine.data.toList.drop 24 = dktX5_chapterLine_1 := dk_seg dksX5_chapterLine_0 24 rfl rfl
theorem dksX5_chapterLine_2 : cX5_chapterLine.data.toList.drop 46 = dktX5_chapterLine_2 := dk_seg dksX5_chapterLine_1 22 rfl rfl
theorem dksX5_chapterLine_3 : cX5_chapterLine.data.toList.drop 69 = dktX5_chapterLine_3 := dk_seg dksX5_chapterLine_2 23 rfl rfl
theorem dksX5_chapterLine_4 : cX5_chapterLine.data.toList.drop 93 = dktX5_chapterLine_4 := dk_seg dksX5_chapterLine_3 24 rfl rfl
theorem dksX5_chapterLine_5 : cX5_chapterLine.data.toList.drop 117 = dktX5_chapterLine_5 := dk_seg dksX5_chapterLine_4 24 rfl rfl
theorem dksX5_chapterLine_6 : cX5_chapterLine.data.toList.drop 141 = dktX5_chapterLine_6 := dk_seg dksX5_chapterLine_5 24 rfl rfl
theorem dksX5_chapterLine_7 : cX5_chapterLine.data.toList.drop 165 = dktX5_chapterLine_7 := dk_seg dksX5_chapterLine_6 24 rfl rfl
theorem dksX5_chapterLine_8 : cX5_chapterLine.data.toList.drop 187 = dktX5_chapterLine_8 := dk_seg dksX5_chapterLine_7 22 rfl rfl
theorem dX5_chapterLine_0 : decode cX5_chapterLine 0 = .ok (.aload_n 0, 1) := dk_42 (dk_at dksX5_chapterLine_0 0 rfl rfl)
theorem dX5_chapterLine_1 : decode cX5_chapterLine 1 = .ok (.aload_n 0, 1) := dk_42 (dk_at dksX5_chapterLine_0 1 rfl rfl)
theorem dX5_chapterLine_2 : decode cX5_chapterLine 2 = .ok (.getfield 96, 3) := dk_180 0 96 (dk_at dksX5_chapterLine_0 2 rfl rfl)
theorem dX5_chapterLine_5 : decode cX5_chapterLine 5 = .ok (.invokevirtual 300, 3) := dk_182 1 44 (dk_at dksX5_chapterLine_0 5 rfl rfl)
theorem dX5_chapterLine_8 : decode cX5_chapterLine 8 = .ok (.istore_n 1, 1) := dk_60 (dk_at dksX5_chapterLine_0 8 rfl rfl)
theorem dX5_chapterLine_9 : decode cX5_chapterLine 9 = .ok (.iload_n 1, 1) := dk_27 (dk_at dksX5_chapterLine_0 9 rfl rfl)
theorem dX5_chapterLine_10 : decode cX5_chapterLine 10 = .ok (.bipush 6, 2) := dk_16 6 (dk_at dksX5_chapterLine_0 10 rfl rfl)
theorem dX5_chapterLine_12 : decode cX5_chapterLine 12 = .ok (.if_icmp .ne 8, 3) := dk_160 0 8 (dk_at dksX5_chapterLine_0 12 rfl rfl)
theorem dX5_chapterLine_15 : decode cX5_chapterLine 15 = .ok (.aload_n 0, 1) := dk_42 (dk_at dksX5_chapterLine_0 15 rfl rfl)
theorem dX5_chapterLine_16 : decode cX5_chapterLine 16 = .ok (.iconst 4, 1) := dk_7 (dk_at dksX5_chapterLine_0 16 rfl rfl)
theorem dX5_chapterLine_17 : decode cX5_chapterLine 17 = .ok (.invokevirtual 237, 3) := dk_182 0 237 (dk_at dksX5_chapterLine_0 17 rfl rfl)
theorem dX5_chapterLine_20 : decode cX5_chapterLine 20 = .ok (.aload_n 0, 1) := dk_42 (dk_at dksX5_chapterLine_0 20 rfl rfl)
theorem dX5_chapterLine_21 : decode cX5_chapterLine 21 = .ok (.invokevirtual 240, 3) := dk_182 0 240 (dk_at dksX5_chapterLine_0 21 rfl rfl)
theorem dX5_chapterLine_24 : decode cX5_chapterLine 24 = .ok (.aload_n 0, 1) := dk_42 (dk_at dksX5_chapterLine_1 0 rfl rfl)
theorem dX5_chapterLine_25 : decode cX5_chapterLine 25 = .ok (.invokevirtual 303, 3) := dk_182 1 47 (dk_at dksX5_chapterLine_1 1 rfl rfl)
theorem dX5_chapterLine_28 : decode cX5_chapterLine 28 = .ok (.lstore_n 2, 1) := dk_65 (dk_at dksX5_chapterLine_1 4 rfl rfl)
theorem dX5_chapterLine_29 : decode cX5_chapterLine 29 = .ok (.aload_n 0, 1) := dk_42 (dk_at dksX5_chapterLine_1 5 rfl rfl)
theorem dX5_chapterLine_30 : decode cX5_chapterLine 30 = .ok (.getfield 177, 3) := dk_180 0 177 (dk_at dksX5_chapterLine_1 6 rfl rfl)
theorem dX5_chapterLine_33 : decode cX5_chapterLine 33 = .ok (.ifCond .ne 16, 3) := dk_154 0 16 (dk_at dksX5_chapterLine_1 9 rfl rfl)
theorem dX5_chapterLine_36 : decode cX5_chapterLine 36 = .ok (.aload_n 0, 1) := dk_42 (dk_at dksX5_chapterLine_1 12 rfl rfl)
theorem dX5_chapterLine_37 : decode cX5_chapterLine 37 = .ok (.lload_n 2, 1) := dk_32 (dk_at dksX5_chapterLine_1 13 rfl rfl)
theorem dX5_chapterLine_38 : decode cX5_chapterLine 38 = .ok (.invokevirtual 307, 3) := dk_182 1 51 (dk_at dksX5_chapterLine_1 14 rfl rfl)
theorem dX5_chapterLine_41 : decode cX5_chapterLine 41 = .ok (.ifCond .lt 8, 3) := dk_155 0 8 (dk_at dksX5_chapterLine_1 17 rfl rfl)
theorem dX5_chapterLine_44 : decode cX5_chapterLine 44 = .ok (.aload_n 0, 1) := dk_42 (dk_at dksX5_chapterLine_1 20 rfl rfl)
theorem dX5_chapterLine_45 : decode cX5_chapterLine 45 = .ok (.iconst 3, 1) := dk_6 (dk_at dksX5_chapterLine_1 21 rfl rfl)
theorem dX5_chapterLine_46 : decode cX5_chapterLine 46 = .ok (.invokevirtual 237, 3) := dk_182 0 237 (dk_at dksX5_chapterLine_2 0 rfl rfl)
theorem dX5_chapterLine_49 : decode cX5_chapterLine 49 = .ok (.aload_n 0, 1) := dk_42 (dk_at dksX5_chapterLine_2 3 rfl rfl)
theorem dX5_chapterLine_50 : decode cX5_chapterLine 50 = .ok (.invokevirtual 240, 3) := dk_182 0 240 (dk_at dksX5_chapterLine_2 4 rfl rfl)
theorem dX5_chapterLine_53 : decode cX5_chapterLine 53 = .ok (.bipush 6, 2) := dk_16 6 (dk_at dksX5_chapterLine_2 7 rfl rfl)
theorem dX5_chapterLine_55 : decode cX5_chapterLine 55 = .ok (.aload_n 0, 1) := dk_42 (dk_at dksX5_chapterLine_2 9 rfl rfl)
theorem dX5_chapterLine_56 : decode cX5_chapterLine 56 = .ok (.getfield 96, 3) := dk_180 0 96 (dk_at dksX5_chapterLine_2 10 rfl rfl)
theorem dX5_chapterLine_59 : decode cX5_chapterLine 59 = .ok (.imul, 1) := dk_104 (dk_at dksX5_chapterLine_2 13 rfl rfl)
theorem dX5_chapterLine_60 : decode cX5_chapterLine 60 = .ok (.iload_n 1, 1) := dk_27 (dk_at dksX5_chapterLine_2 14 rfl rfl)
theorem dX5_chapterLine_61 : decode cX5_chapterLine 61 = .ok (.iadd, 1) := dk_96 (dk_at dksX5_chapterLine_2 15 rfl rfl)
theorem dX5_chapterLine_62 : decode cX5_chapterLine 62 = .ok (.istore 4, 2) := dk_54 4 (dk_at dksX5_chapterLine_2 16 rfl rfl)
theorem dX5_chapterLine_64 : decode cX5_chapterLine 64 = .ok (.iconst 0, 1) := dk_3 (dk_at dksX5_chapterLine_2 18 rfl rfl)
theorem dX5_chapterLine_65 : decode cX5_chapterLine 65 = .ok (.istore 5, 2) := dk_54 5 (dk_at dksX5_chapterLine_2 19 rfl rfl)
theorem dX5_chapterLine_67 : decode cX5_chapterLine 67 = .ok (.iload 5, 2) := dk_21 5 (dk_at dksX5_chapterLine_2 21 rfl rfl)
theorem dX5_chapterLine_69 : decode cX5_chapterLine 69 = .ok (.ifCond .le 7, 3) := dk_158 0 7 (dk_at dksX5_chapterLine_3 0 rfl rfl)
theorem dX5_chapterLine_72 : decode cX5_chapterLine 72 = .ok (.aload_n 0, 1) := dk_42 (dk_at dksX5_chapterLine_3 3 rfl rfl)
theorem dX5_chapterLine_73 : decode cX5_chapterLine 73 = .ok (.invokevirtual 240, 3) := dk_182 0 240 (dk_at dksX5_chapterLine_3 4 rfl rfl)
theorem dX5_chapterLine_76 : decode cX5_chapterLine 76 = .ok (.aload_n 0, 1) := dk_42 (dk_at dksX5_chapterLine_3 7 rfl rfl)
theorem dX5_chapterLine_77 : decode cX5_chapterLine 77 = .ok (.iconst 0, 1) := dk_3 (dk_at dksX5_chapterLine_3 8 rfl rfl)
theorem dX5_chapterLine_78 : decode cX5_chapterLine 78 = .ok (.iload 5, 2) := dk_21 5 (dk_at dksX5_chapterLine_3 9 rfl rfl)
theorem dX5_chapterLine_80 : decode cX5_chapterLine 80 = .ok (.iconst 3, 1) := dk_6 (dk_at dksX5_chapterLine_3 11 rfl rfl)
theorem dX5_chapterLine_81 : decode cX5_chapterLine 81 = .ok (.if_icmp .ne 7, 3) := dk_160 0 7 (dk_at dksX5_chapterLine_3 12 rfl rfl)
theorem dX5_chapterLine_84 : decode cX5_chapterLine 84 = .ok (.iconst 1, 1) := dk_4 (dk_at dksX5_chapterLine_3 15 rfl rfl)
theorem dX5_chapterLine_85 : decode cX5_chapterLine 85 = .ok (.goto 4, 3) := dk_167 0 4 (dk_at dksX5_chapterLine_3 16 rfl rfl)
theorem dX5_chapterLine_88 : decode cX5_chapterLine 88 = .ok (.iconst 0, 1) := dk_3 (dk_at dksX5_chapterLine_3 19 rfl rfl)
theorem dX5_chapterLine_89 : decode cX5_chapterLine 89 = .ok (.invokevirtual 311, 3) := dk_182 1 55 (dk_at dksX5_chapterLine_3 20 rfl rfl)
theorem dX5_chapterLine_92 : decode cX5_chapterLine 92 = .ok (.aload_n 0, 1) := dk_42 (dk_at dksX5_chapterLine_3 23 rfl rfl)
theorem dX5_chapterLine_93 : decode cX5_chapterLine 93 = .ok (.getfield 177, 3) := dk_180 0 177 (dk_at dksX5_chapterLine_4 0 rfl rfl)
theorem dX5_chapterLine_96 : decode cX5_chapterLine 96 = .ok (.ifCond .le 4, 3) := dk_158 0 4 (dk_at dksX5_chapterLine_4 3 rfl rfl)
theorem dX5_chapterLine_99 : decode cX5_chapterLine 99 = .ok (.return_, 1) := dk_177 (dk_at dksX5_chapterLine_4 6 rfl rfl)
theorem dX5_chapterLine_100 : decode cX5_chapterLine 100 = .ok (.aload_n 0, 1) := dk_42 (dk_at dksX5_chapterLine_4 7 rfl rfl)
theorem dX5_chapterLine_101 : decode cX5_chapterLine 101 = .ok (.getfield 23, 3) := dk_180 0 23 (dk_at dksX5_chapterLine_4 8 rfl rfl)
theorem dX5_chapterLine_104 : decode cX5_chapterLine 104 = .ok (.iconst 3, 1) := dk_6 (dk_at dksX5_chapterLine_4 11 rfl rfl)
theorem dX5_chapterLine_105 : decode cX5_chapterLine 105 = .ok (.iload 4, 2) := dk_21 4 (dk_at dksX5_chapterLine_4 12 rfl rfl)
theorem dX5_chapterLine_107 : decode cX5_chapterLine 107 = .ok (.imul, 1) := dk_104 (dk_at dksX5_chapterLine_4 14 rfl rfl)
theorem dX5_chapterLine_108 : decode cX5_chapterLine 108 = .ok (.iload 5, 2) := dk_21 5 (dk_at dksX5_chapterLine_4 15 rfl rfl)
theorem dX5_chapterLine_110 : decode cX5_chapterLine 110 = .ok (.iadd, 1) := dk_96 (dk_at dksX5_chapterLine_4 17 rfl rfl)
theorem dX5_chapterLine_111 : decode cX5_chapterLine 111 = .ok (.aload_n 0, 1) := dk_42 (dk_at dksX5_chapterLine_4 18 rfl rfl)
theorem dX5_chapterLine_112 : decode cX5_chapterLine 112 = .ok (.getfield 295, 3) := dk_180 1 39 (dk_at dksX5_chapterLine_4 19 rfl rfl)
theorem dX5_chapterLine_115 : decode cX5_chapterLine 115 = .ok (.iastore, 1) := dk_79 (dk_at dksX5_chapterLine_4 22 rfl rfl)
theorem dX5_chapterLine_116 : decode cX5_chapterLine 116 = .ok (.aload_n 0, 1) := dk_42 (dk_at dksX5_chapterLine_4 23 rfl rfl)
theorem dX5_chapterLine_117 : decode cX5_chapterLine 117 = .ok (.getfield 26, 3) := dk_180 0 26 (dk_at dksX5_chapterLine_5 0 rfl rfl)
theorem dX5_chapterLine_120 : decode cX5_chapterLine 120 = .ok (.iconst 3, 1) := dk_6 (dk_at dksX5_chapterLine_5 3 rfl rfl)
theorem dX5_chapterLine_121 : decode cX5_chapterLine 121 = .ok (.iload 4, 2) := dk_21 4 (dk_at dksX5_chapterLine_5 4 rfl rfl)
theorem dX5_chapterLine_123 : decode cX5_chapterLine 123 = .ok (.imul, 1) := dk_104 (dk_at dksX5_chapterLine_5 6 rfl rfl)
theorem dX5_chapterLine_124 : decode cX5_chapterLine 124 = .ok (.iload 5, 2) := dk_21 5 (dk_at dksX5_chapterLine_5 7 rfl rfl)
theorem dX5_chapterLine_126 : decode cX5_chapterLine 126 = .ok (.iadd, 1) := dk_96 (dk_at dksX5_chapterLine_5 9 rfl rfl)
theorem dX5_chapterLine_127 : decode cX5_chapterLine 127 = .ok (.aload_n 0, 1) := dk_42 (dk_at dksX5_chapterLine_5 10 rfl rfl)
theorem dX5_chapterLine_128 : decode cX5_chapterLine 128 = .ok (.getfield 298, 3) := dk_180 1 42 (dk_at dksX5_chapterLine_5 11 rfl rfl)
theorem dX5_chapterLine_131 : decode cX5_chapterLine 131 = .ok (.iastore, 1) := dk_79 (dk_at dksX5_chapterLine_5 14 rfl rfl)
theorem dX5_chapterLine_132 : decode cX5_chapterLine 132 = .ok (.iinc 5 1, 3) := dk_132 5 1 (dk_at dksX5_chapterLine_5 15 rfl rfl)
theorem dX5_chapterLine_135 : decode cX5_chapterLine 135 = .ok (.aload_n 0, 1) := dk_42 (dk_at dksX5_chapterLine_5 18 rfl rfl)
theorem dX5_chapterLine_136 : decode cX5_chapterLine 136 = .ok (.bipush 44, 2) := dk_16 44 (dk_at dksX5_chapterLine_5 19 rfl rfl)
theorem dX5_chapterLine_138 : decode cX5_chapterLine 138 = .ok (.invokevirtual 234, 3) := dk_182 0 234 (dk_at dksX5_chapterLine_5 21 rfl rfl)
theorem dX5_chapterLine_141 : decode cX5_chapterLine 141 = .ok (.ifCond .ne (-74), 3) := dk_154 255 182 (dk_at dksX5_chapterLine_6 0 rfl rfl)
theorem dX5_chapterLine_144 : decode cX5_chapterLine 144 = .ok (.aload_n 0, 1) := dk_42 (dk_at dksX5_chapterLine_6 3 rfl rfl)
theorem dX5_chapterLine_145 : decode cX5_chapterLine 145 = .ok (.getfield 16, 3) := dk_180 0 16 (dk_at dksX5_chapterLine_6 4 rfl rfl)
theorem dX5_chapterLine_148 : decode cX5_chapterLine 148 = .ok (.iload 4, 2) := dk_21 4 (dk_at dksX5_chapterLine_6 7 rfl rfl)
theorem dX5_chapterLine_150 : decode cX5_chapterLine 150 = .ok (.lload_n 2, 1) := dk_32 (dk_at dksX5_chapterLine_6 9 rfl rfl)
theorem dX5_chapterLine_151 : decode cX5_chapterLine 151 = .ok (.lastore, 1) := dk_80 (dk_at dksX5_chapterLine_6 10 rfl rfl)
theorem dX5_chapterLine_152 : decode cX5_chapterLine 152 = .ok (.aload_n 0, 1) := dk_42 (dk_at dksX5_chapterLine_6 11 rfl rfl)
theorem dX5_chapterLine_153 : decode cX5_chapterLine 153 = .ok (.getfield 20, 3) := dk_180 0 20 (dk_at dksX5_chapterLine_6 12 rfl rfl)
theorem dX5_chapterLine_156 : decode cX5_chapterLine 156 = .ok (.iload 4, 2) := dk_21 4 (dk_at dksX5_chapterLine_6 15 rfl rfl)
theorem dX5_chapterLine_158 : decode cX5_chapterLine 158 = .ok (.iload 5, 2) := dk_21 5 (dk_at dksX5_chapterLine_6 17 rfl rfl)
theorem dX5_chapterLine_160 : decode cX5_chapterLine 160 = .ok (.iastore, 1) := dk_79 (dk_at dksX5_chapterLine_6 19 rfl rfl)
theorem dX5_chapterLine_161 : decode cX5_chapterLine 161 = .ok (.aload_n 0, 1) := dk_42 (dk_at dksX5_chapterLine_6 20 rfl rfl)
theorem dX5_chapterLine_162 : decode cX5_chapterLine 162 = .ok (.getfield 29, 3) := dk_180 0 29 (dk_at dksX5_chapterLine_6 21 rfl rfl)
theorem dX5_chapterLine_165 : decode cX5_chapterLine 165 = .ok (.iload 4, 2) := dk_21 4 (dk_at dksX5_chapterLine_7 0 rfl rfl)
theorem dX5_chapterLine_167 : decode cX5_chapterLine 167 = .ok (.iconst (-1), 1) := dk_2 (dk_at dksX5_chapterLine_7 2 rfl rfl)
theorem dX5_chapterLine_168 : decode cX5_chapterLine 168 = .ok (.iastore, 1) := dk_79 (dk_at dksX5_chapterLine_7 3 rfl rfl)
theorem dX5_chapterLine_169 : decode cX5_chapterLine 169 = .ok (.aload_n 0, 1) := dk_42 (dk_at dksX5_chapterLine_7 4 rfl rfl)
theorem dX5_chapterLine_170 : decode cX5_chapterLine 170 = .ok (.invokevirtual 315, 3) := dk_182 1 59 (dk_at dksX5_chapterLine_7 5 rfl rfl)
theorem dX5_chapterLine_173 : decode cX5_chapterLine 173 = .ok (.aload_n 0, 1) := dk_42 (dk_at dksX5_chapterLine_7 8 rfl rfl)
theorem dX5_chapterLine_174 : decode cX5_chapterLine 174 = .ok (.getfield 177, 3) := dk_180 0 177 (dk_at dksX5_chapterLine_7 9 rfl rfl)
theorem dX5_chapterLine_177 : decode cX5_chapterLine 177 = .ok (.ifCond .ne 19, 3) := dk_154 0 19 (dk_at dksX5_chapterLine_7 12 rfl rfl)
theorem dX5_chapterLine_180 : decode cX5_chapterLine 180 = .ok (.aload_n 0, 1) := dk_42 (dk_at dksX5_chapterLine_7 15 rfl rfl)
theorem dX5_chapterLine_181 : decode cX5_chapterLine 181 = .ok (.getfield 13, 3) := dk_180 0 13 (dk_at dksX5_chapterLine_7 16 rfl rfl)
theorem dX5_chapterLine_184 : decode cX5_chapterLine 184 = .ok (.bipush 7, 2) := dk_16 7 (dk_at dksX5_chapterLine_7 19 rfl rfl)
theorem dX5_chapterLine_186 : decode cX5_chapterLine 186 = .ok (.aload_n 0, 1) := dk_42 (dk_at dksX5_chapterLine_7 21 rfl rfl)
theorem dX5_chapterLine_187 : decode cX5_chapterLine 187 = .ok (.getfield 96, 3) := dk_180 0 96 (dk_at dksX5_chapterLine_8 0 rfl rfl)
theorem dX5_chapterLine_190 : decode cX5_chapterLine 190 = .ok (.imul, 1) := dk_104 (dk_at dksX5_chapterLine_8 3 rfl rfl)
theorem dX5_chapterLine_191 : decode cX5_chapterLine 191 = .ok (.dup2, 1) := dk_92 (dk_at dksX5_chapterLine_8 4 rfl rfl)
theorem dX5_chapterLine_192 : decode cX5_chapterLine 192 = .ok (.iaload, 1) := dk_46 (dk_at dksX5_chapterLine_8 5 rfl rfl)
theorem dX5_chapterLine_193 : decode cX5_chapterLine 193 = .ok (.iconst 1, 1) := dk_4 (dk_at dksX5_chapterLine_8 6 rfl rfl)
theorem dX5_chapterLine_194 : decode cX5_chapterLine 194 = .ok (.iadd, 1) := dk_96 (dk_at dksX5_chapterLine_8 7 rfl rfl)
theorem dX5_chapterLine_195 : decode cX5_chapterLine 195 = .ok (.iastore, 1) := dk_79 (dk_at dksX5_chapterLine_8 8 rfl rfl)
theorem dX5_chapterLine_196 : decode cX5_chapterLine 196 = .ok (.return_, 1) := dk_177 (dk_at dksX5_chapterLine_8 9 rfl rfl)
abbrev cX5_chapters : ByteArray := prog_20_method_4_code
def yX5_chapters : MethodName := ⟨RX5, "chapters", "(I)I"⟩
def dkwX5_chapters_0 : List UInt8 := [42, 180, 0, 13, 16, 7, 27, 104, 46, 172]
abbrev dktX5_chapters_0 : List UInt8 := dkwX5_chapters_0 ++ []
theorem dksX5_chapters_0 : cX5_chapters.data.toList.drop 0 = dktX5_chapters_0 := by decide +kernel
theorem dX5_chapters_0 : decode cX5_chapters 0 = .ok (.aload_n 0, 1) := dk_42 (dk_at dksX5_chapters_0 0 rfl rfl)
theorem dX5_chapters_1 : decode cX5_chapters 1 = .ok (.getfield 13, 3) := dk_180 0 13 (dk_at dksX5_chapters_0 1 rfl rfl)
theorem dX5_chapters_4 : decode cX5_chapters 4 = .ok (.bipush 7, 2) := dk_16 7 (dk_at dksX5_chapters_0 4 rfl rfl)
theorem dX5_chapters_6 : decode cX5_chapters 6 = .ok (.iload_n 1, 1) := dk_27 (dk_at dksX5_chapters_0 6 rfl rfl)
theorem dX5_chapters_7 : decode cX5_chapters 7 = .ok (.imul, 1) := dk_104 (dk_at dksX5_chapters_0 7 rfl rfl)
theorem dX5_chapters_8 : decode cX5_chapters 8 = .ok (.iaload, 1) := dk_46 (dk_at dksX5_chapters_0 8 rfl rfl)
theorem dX5_chapters_9 : decode cX5_chapters 9 = .ok (.ireturn, 1) := dk_172 (dk_at dksX5_chapters_0 9 rfl rfl)
abbrev cX5_wrong : ByteArray := prog_20_method_18_code
def yX5_wrong : MethodName := ⟨RX5, "wrong", "(I)V"⟩
def dkwX5_wrong_0 : List UInt8 := [42, 27, 42, 180, 0, 187, 182, 0, 216, 177]
abbrev dktX5_wrong_0 : List UInt8 := dkwX5_wrong_0 ++ []
theorem dksX5_wrong_0 : cX5_wrong.data.toList.drop 0 = dktX5_wrong_0 := by decide +kernel
theorem dX5_wrong_0 : decode cX5_wrong 0 = .ok (.aload_n 0, 1) := dk_42 (dk_at dksX5_wrong_0 0 rfl rfl)
theorem dX5_wrong_1 : decode cX5_wrong 1 = .ok (.iload_n 1, 1) := dk_27 (dk_at dksX5_wrong_0 1 rfl rfl)
theorem dX5_wrong_2 : decode cX5_wrong 2 = .ok (.aload_n 0, 1) := dk_42 (dk_at dksX5_wrong_0 2 rfl rfl)
theorem dX5_wrong_3 : decode cX5_wrong 3 = .ok (.getfield 187, 3) := dk_180 0 187 (dk_at dksX5_wrong_0 3 rfl rfl)
theorem dX5_wrong_6 : decode cX5_wrong 6 = .ok (.invokevirtual 216, 3) := dk_182 0 216 (dk_at dksX5_wrong_0 6 rfl rfl)
theorem dX5_wrong_9 : decode cX5_wrong 9 = .ok (.return_, 1) := dk_177 (dk_at dksX5_wrong_0 9 rfl rfl)
abbrev cX5_wrongAt : ByteArray := prog_20_method_19_code
def yX5_wrongAt : MethodName := ⟨RX5, "wrongAt", "(II)V"⟩
def dkwX5_wrongAt_0 : List UInt8 := [42, 180, 0, 177, 154, 0, 13, 42, 16, 8, 28, 104, 27, 96, 181, 0, 177, 177]
abbrev dktX5_wrongAt_0 : List UInt8 := dkwX5_wrongAt_0 ++ []
theorem dksX5_wrongAt_0 : cX5_wrongAt.data.toList.drop 0 = dktX5_wrongAt_0 := by decide +kernel
theorem dX5_wrongAt_0 : decode cX5_wrongAt 0 = .ok (.aload_n 0, 1) := dk_42 (dk_at dksX5_wrongAt_0 0 rfl rfl)
theorem dX5_wrongAt_1 : decode cX5_wrongAt 1 = .ok (.getfield 177, 3) := dk_180 0 177 (dk_at dksX5_wrongAt_0 1 rfl rfl)
theorem dX5_wrongAt_4 : decode cX5_wrongAt 4 = .ok (.ifCond .ne 13, 3) := dk_154 0 13 (dk_at dksX5_wrongAt_0 4 rfl rfl)
theorem dX5_wrongAt_7 : decode cX5_wrongAt 7 = .ok (.aload_n 0, 1) := dk_42 (dk_at dksX5_wrongAt_0 7 rfl rfl)
theorem dX5_wrongAt_8 : decode cX5_wrongAt 8 = .ok (.bipush 8, 2) := dk_16 8 (dk_at dksX5_wrongAt_0 8 rfl rfl)
theorem dX5_wrongAt_10 : decode cX5_wrongAt 10 = .ok (.iload_n 2, 1) := dk_28 (dk_at dksX5_wrongAt_0 10 rfl rfl)
theorem dX5_wrongAt_11 : decode cX5_wrongAt 11 = .ok (.imul, 1) := dk_104 (dk_at dksX5_wrongAt_0 11 rfl rfl)
theorem dX5_wrongAt_12 : decode cX5_wrongAt 12 = .ok (.iload_n 1, 1) := dk_27 (dk_at dksX5_wrongAt_0 12 rfl rfl)
theorem dX5_wrongAt_13 : decode cX5_wrongAt 13 = .ok (.iadd, 1) := dk_96 (dk_at dksX5_wrongAt_0 13 rfl rfl)
theorem dX5_wrongAt_14 : decode cX5_wrongAt 14 = .ok (.putfield 177, 3) := dk_181 0 177 (dk_at dksX5_wrongAt_0 14 rfl rfl)
theorem dX5_wrongAt_17 : decode cX5_wrongAt 17 = .ok (.return_, 1) := dk_177 (dk_at dksX5_wrongAt_0 17 rfl rfl)
abbrev cX5_name : ByteArray := prog_20_method_26_code
def yX5_name : MethodName := ⟨RX5, "name", "()J"⟩
def dkwX5_name_1 : List UInt8 := [182, 0, 237, 42, 180, 0, 207, 173]
abbrev dktX5_name_1 : List UInt8 := dkwX5_name_1 ++ []
def dkwX5_name_0 : List UInt8 := [42, 180, 0, 177, 154, 0, 23, 42, 180, 0, 190, 5, 160, 0, 10, 42, 182, 1, 28, 153, 0, 8, 42, 4]
abbrev dktX5_name_0 : List UInt8 := dkwX5_name_0 ++ dktX5_name_1
theorem dksX5_name_0 : cX5_name.data.toList.drop 0 = dktX5_name_0 := by decide +kernel
theorem dksX5_name_1 : cX5_name.data.toList.drop 24 = dktX5_name_1 := dk_seg dksX5_name_0 24 rfl rfl
theorem dX5_name_0 : decode cX5_name 0 = .ok (.aload_n 0, 1) := dk_42 (dk_at dksX5_name_0 0 rfl rfl)
theorem dX5_name_1 : decode cX5_name 1 = .ok (.getfield 177, 3) := dk_180 0 177 (dk_at dksX5_name_0 1 rfl rfl)
theorem dX5_name_4 : decode cX5_name 4 = .ok (.ifCond .ne 23, 3) := dk_154 0 23 (dk_at dksX5_name_0 4 rfl rfl)
theorem dX5_name_7 : decode cX5_name 7 = .ok (.aload_n 0, 1) := dk_42 (dk_at dksX5_name_0 7 rfl rfl)
theorem dX5_name_8 : decode cX5_name 8 = .ok (.getfield 190, 3) := dk_180 0 190 (dk_at dksX5_name_0 8 rfl rfl)
theorem dX5_name_11 : decode cX5_name 11 = .ok (.iconst 2, 1) := dk_5 (dk_at dksX5_name_0 11 rfl rfl)
theorem dX5_name_12 : decode cX5_name 12 = .ok (.if_icmp .ne 10, 3) := dk_160 0 10 (dk_at dksX5_name_0 12 rfl rfl)
theorem dX5_name_15 : decode cX5_name 15 = .ok (.aload_n 0, 1) := dk_42 (dk_at dksX5_name_0 15 rfl rfl)
theorem dX5_name_16 : decode cX5_name 16 = .ok (.invokevirtual 284, 3) := dk_182 1 28 (dk_at dksX5_name_0 16 rfl rfl)
theorem dX5_name_19 : decode cX5_name 19 = .ok (.ifCond .eq 8, 3) := dk_153 0 8 (dk_at dksX5_name_0 19 rfl rfl)
theorem dX5_name_22 : decode cX5_name 22 = .ok (.aload_n 0, 1) := dk_42 (dk_at dksX5_name_0 22 rfl rfl)
theorem dX5_name_23 : decode cX5_name 23 = .ok (.iconst 1, 1) := dk_4 (dk_at dksX5_name_0 23 rfl rfl)
theorem dX5_name_24 : decode cX5_name 24 = .ok (.invokevirtual 237, 3) := dk_182 0 237 (dk_at dksX5_name_1 0 rfl rfl)
theorem dX5_name_27 : decode cX5_name 27 = .ok (.aload_n 0, 1) := dk_42 (dk_at dksX5_name_1 3 rfl rfl)
theorem dX5_name_28 : decode cX5_name 28 = .ok (.getfield 207, 3) := dk_180 0 207 (dk_at dksX5_name_1 4 rfl rfl)
theorem dX5_name_31 : decode cX5_name 31 = .ok (.lreturn, 1) := dk_173 (dk_at dksX5_name_1 7 rfl rfl)
abbrev cX5_isTold : ByteArray := prog_20_method_25_code
def yX5_isTold : MethodName := ⟨RX5, "isTold", "()Z"⟩
def dkwX5_isTold_8 : List UInt8 := [182, 0, 243, 154, 0, 13, 42, 19, 1, 26, 182, 0, 243, 153, 0, 7, 4, 167, 0, 4, 3, 172]
abbrev dktX5_isTold_8 : List UInt8 := dkwX5_isTold_8 ++ []
def dkwX5_isTold_7 : List UInt8 := [19, 1, 22, 182, 0, 243, 154, 0, 33, 42, 19, 1, 23, 182, 0, 243, 154, 0, 23, 42, 19, 1, 24]
abbrev dktX5_isTold_7 : List UInt8 := dkwX5_isTold_7 ++ dktX5_isTold_8
def dkwX5_isTold_6 : List UInt8 := [19, 1, 18, 182, 0, 243, 154, 0, 13, 42, 19, 1, 20, 182, 0, 243, 153, 0, 5, 4, 172, 42]
abbrev dktX5_isTold_6 : List UInt8 := dkwX5_isTold_6 ++ dktX5_isTold_7
def dkwX5_isTold_5 : List UInt8 := [154, 0, 43, 42, 19, 1, 15, 182, 0, 243, 154, 0, 33, 42, 19, 1, 16, 182, 0, 243, 154, 0, 23, 42]
abbrev dktX5_isTold_5 : List UInt8 := dkwX5_isTold_5 ++ dktX5_isTold_6
def dkwX5_isTold_4 : List UInt8 := [154, 0, 13, 42, 19, 1, 11, 182, 0, 243, 153, 0, 5, 4, 172, 42, 19, 1, 13, 182, 0, 243]
abbrev dktX5_isTold_4 : List UInt8 := dkwX5_isTold_4 ++ dktX5_isTold_5
def dkwX5_isTold_3 : List UInt8 := [182, 0, 243, 154, 0, 33, 42, 19, 1, 7, 182, 0, 243, 154, 0, 23, 42, 19, 1, 9, 182, 0, 243]
abbrev dktX5_isTold_3 : List UInt8 := dkwX5_isTold_3 ++ dktX5_isTold_4
def dkwX5_isTold_2 : List UInt8 := [19, 1, 1, 182, 0, 243, 154, 0, 53, 42, 19, 1, 3, 182, 0, 243, 154, 0, 43, 42, 19, 1, 5]
abbrev dktX5_isTold_2 : List UInt8 := dkwX5_isTold_2 ++ dktX5_isTold_3
def dkwX5_isTold_1 : List UInt8 := [154, 0, 21, 42, 18, 253, 182, 0, 243, 154, 0, 12, 42, 18, 255, 182, 0, 243, 153, 0, 5, 4, 172, 42]
abbrev dktX5_isTold_1 : List UInt8 := dkwX5_isTold_1 ++ dktX5_isTold_2
def dkwX5_isTold_0 : List UInt8 := [42, 18, 247, 182, 0, 243, 154, 0, 39, 42, 18, 249, 182, 0, 243, 154, 0, 30, 42, 18, 251, 182, 0, 243]
abbrev dktX5_isTold_0 : List UInt8 := dkwX5_isTold_0 ++ dktX5_isTold_1
theorem dksX5_isTold_0 : cX5_isTold.data.toList.drop 0 = dktX5_isTold_0 := by decide +kernel
theorem dksX5_isTold_1 : cX5_isTold.data.toList.drop 24 = dktX5_isTold_1 := dk_seg dksX5_isTold_0 24 rfl rfl
theorem dksX5_isTold_2 : cX5_isTold.data.toList.drop 48 = dktX5_isTold_2 := dk_seg dksX5_isTold_1 24 rfl rfl
theorem dksX5_isTold_3 : cX5_isTold.data.toList.drop 71 = dktX5_isTold_3 := dk_seg dksX5_isTold_2 23 rfl rfl
theorem dksX5_isTold_4 : cX5_isTold.data.toList.drop 94 = dktX5_isTold_4 := dk_seg dksX5_isTold_3 23 rfl rfl
theorem dksX5_isTold_5 : cX5_isTold.data.toList.drop 116 = dktX5_isTold_5 := dk_seg dksX5_isTold_4 22 rfl rfl
theorem dksX5_isTold_6 : cX5_isTold.data.toList.drop 140 = dktX5_isTold_6 := dk_seg dksX5_isTold_5 24 rfl rfl
theorem dksX5_isTold_7 : cX5_isTold.data.toList.drop 162 = dktX5_isTold_7 := dk_seg dksX5_isTold_6 22 rfl rfl
theorem dksX5_isTold_8 : cX5_isTold.data.toList.drop 185 = dktX5_isTold_8 := dk_seg dksX5_isTold_7 23 rfl rfl
theorem dX5_isTold_0 : decode cX5_isTold 0 = .ok (.aload_n 0, 1) := dk_42 (dk_at dksX5_isTold_0 0 rfl rfl)
theorem dX5_isTold_1 : decode cX5_isTold 1 = .ok (.ldc 247, 2) := dk_18 247 (dk_at dksX5_isTold_0 1 rfl rfl)
theorem dX5_isTold_3 : decode cX5_isTold 3 = .ok (.invokevirtual 243, 3) := dk_182 0 243 (dk_at dksX5_isTold_0 3 rfl rfl)
theorem dX5_isTold_6 : decode cX5_isTold 6 = .ok (.ifCond .ne 39, 3) := dk_154 0 39 (dk_at dksX5_isTold_0 6 rfl rfl)
theorem dX5_isTold_9 : decode cX5_isTold 9 = .ok (.aload_n 0, 1) := dk_42 (dk_at dksX5_isTold_0 9 rfl rfl)
theorem dX5_isTold_10 : decode cX5_isTold 10 = .ok (.ldc 249, 2) := dk_18 249 (dk_at dksX5_isTold_0 10 rfl rfl)
theorem dX5_isTold_12 : decode cX5_isTold 12 = .ok (.invokevirtual 243, 3) := dk_182 0 243 (dk_at dksX5_isTold_0 12 rfl rfl)
theorem dX5_isTold_15 : decode cX5_isTold 15 = .ok (.ifCond .ne 30, 3) := dk_154 0 30 (dk_at dksX5_isTold_0 15 rfl rfl)
theorem dX5_isTold_18 : decode cX5_isTold 18 = .ok (.aload_n 0, 1) := dk_42 (dk_at dksX5_isTold_0 18 rfl rfl)
theorem dX5_isTold_19 : decode cX5_isTold 19 = .ok (.ldc 251, 2) := dk_18 251 (dk_at dksX5_isTold_0 19 rfl rfl)
theorem dX5_isTold_21 : decode cX5_isTold 21 = .ok (.invokevirtual 243, 3) := dk_182 0 243 (dk_at dksX5_isTold_0 21 rfl rfl)
theorem dX5_isTold_24 : decode cX5_isTold 24 = .ok (.ifCond .ne 21, 3) := dk_154 0 21 (dk_at dksX5_isTold_1 0 rfl rfl)
theorem dX5_isTold_27 : decode cX5_isTold 27 = .ok (.aload_n 0, 1) := dk_42 (dk_at dksX5_isTold_1 3 rfl rfl)
theorem dX5_isTold_28 : decode cX5_isTold 28 = .ok (.ldc 253, 2) := dk_18 253 (dk_at dksX5_isTold_1 4 rfl rfl)
theorem dX5_isTold_30 : decode cX5_isTold 30 = .ok (.invokevirtual 243, 3) := dk_182 0 243 (dk_at dksX5_isTold_1 6 rfl rfl)
theorem dX5_isTold_33 : decode cX5_isTold 33 = .ok (.ifCond .ne 12, 3) := dk_154 0 12 (dk_at dksX5_isTold_1 9 rfl rfl)
theorem dX5_isTold_36 : decode cX5_isTold 36 = .ok (.aload_n 0, 1) := dk_42 (dk_at dksX5_isTold_1 12 rfl rfl)
theorem dX5_isTold_37 : decode cX5_isTold 37 = .ok (.ldc 255, 2) := dk_18 255 (dk_at dksX5_isTold_1 13 rfl rfl)
theorem dX5_isTold_39 : decode cX5_isTold 39 = .ok (.invokevirtual 243, 3) := dk_182 0 243 (dk_at dksX5_isTold_1 15 rfl rfl)
theorem dX5_isTold_42 : decode cX5_isTold 42 = .ok (.ifCond .eq 5, 3) := dk_153 0 5 (dk_at dksX5_isTold_1 18 rfl rfl)
theorem dX5_isTold_45 : decode cX5_isTold 45 = .ok (.iconst 1, 1) := dk_4 (dk_at dksX5_isTold_1 21 rfl rfl)
theorem dX5_isTold_46 : decode cX5_isTold 46 = .ok (.ireturn, 1) := dk_172 (dk_at dksX5_isTold_1 22 rfl rfl)
theorem dX5_isTold_47 : decode cX5_isTold 47 = .ok (.aload_n 0, 1) := dk_42 (dk_at dksX5_isTold_1 23 rfl rfl)
theorem dX5_isTold_48 : decode cX5_isTold 48 = .ok (.ldc_w 257, 3) := dk_19 1 1 (dk_at dksX5_isTold_2 0 rfl rfl)
theorem dX5_isTold_51 : decode cX5_isTold 51 = .ok (.invokevirtual 243, 3) := dk_182 0 243 (dk_at dksX5_isTold_2 3 rfl rfl)
theorem dX5_isTold_54 : decode cX5_isTold 54 = .ok (.ifCond .ne 53, 3) := dk_154 0 53 (dk_at dksX5_isTold_2 6 rfl rfl)
theorem dX5_isTold_57 : decode cX5_isTold 57 = .ok (.aload_n 0, 1) := dk_42 (dk_at dksX5_isTold_2 9 rfl rfl)
theorem dX5_isTold_58 : decode cX5_isTold 58 = .ok (.ldc_w 259, 3) := dk_19 1 3 (dk_at dksX5_isTold_2 10 rfl rfl)
theorem dX5_isTold_61 : decode cX5_isTold 61 = .ok (.invokevirtual 243, 3) := dk_182 0 243 (dk_at dksX5_isTold_2 13 rfl rfl)
theorem dX5_isTold_64 : decode cX5_isTold 64 = .ok (.ifCond .ne 43, 3) := dk_154 0 43 (dk_at dksX5_isTold_2 16 rfl rfl)
theorem dX5_isTold_67 : decode cX5_isTold 67 = .ok (.aload_n 0, 1) := dk_42 (dk_at dksX5_isTold_2 19 rfl rfl)
theorem dX5_isTold_68 : decode cX5_isTold 68 = .ok (.ldc_w 261, 3) := dk_19 1 5 (dk_at dksX5_isTold_2 20 rfl rfl)
theorem dX5_isTold_71 : decode cX5_isTold 71 = .ok (.invokevirtual 243, 3) := dk_182 0 243 (dk_at dksX5_isTold_3 0 rfl rfl)
theorem dX5_isTold_74 : decode cX5_isTold 74 = .ok (.ifCond .ne 33, 3) := dk_154 0 33 (dk_at dksX5_isTold_3 3 rfl rfl)
theorem dX5_isTold_77 : decode cX5_isTold 77 = .ok (.aload_n 0, 1) := dk_42 (dk_at dksX5_isTold_3 6 rfl rfl)
theorem dX5_isTold_78 : decode cX5_isTold 78 = .ok (.ldc_w 263, 3) := dk_19 1 7 (dk_at dksX5_isTold_3 7 rfl rfl)
theorem dX5_isTold_81 : decode cX5_isTold 81 = .ok (.invokevirtual 243, 3) := dk_182 0 243 (dk_at dksX5_isTold_3 10 rfl rfl)
theorem dX5_isTold_84 : decode cX5_isTold 84 = .ok (.ifCond .ne 23, 3) := dk_154 0 23 (dk_at dksX5_isTold_3 13 rfl rfl)
theorem dX5_isTold_87 : decode cX5_isTold 87 = .ok (.aload_n 0, 1) := dk_42 (dk_at dksX5_isTold_3 16 rfl rfl)
theorem dX5_isTold_88 : decode cX5_isTold 88 = .ok (.ldc_w 265, 3) := dk_19 1 9 (dk_at dksX5_isTold_3 17 rfl rfl)
theorem dX5_isTold_91 : decode cX5_isTold 91 = .ok (.invokevirtual 243, 3) := dk_182 0 243 (dk_at dksX5_isTold_3 20 rfl rfl)
theorem dX5_isTold_94 : decode cX5_isTold 94 = .ok (.ifCond .ne 13, 3) := dk_154 0 13 (dk_at dksX5_isTold_4 0 rfl rfl)
theorem dX5_isTold_97 : decode cX5_isTold 97 = .ok (.aload_n 0, 1) := dk_42 (dk_at dksX5_isTold_4 3 rfl rfl)
theorem dX5_isTold_98 : decode cX5_isTold 98 = .ok (.ldc_w 267, 3) := dk_19 1 11 (dk_at dksX5_isTold_4 4 rfl rfl)
theorem dX5_isTold_101 : decode cX5_isTold 101 = .ok (.invokevirtual 243, 3) := dk_182 0 243 (dk_at dksX5_isTold_4 7 rfl rfl)
theorem dX5_isTold_104 : decode cX5_isTold 104 = .ok (.ifCond .eq 5, 3) := dk_153 0 5 (dk_at dksX5_isTold_4 10 rfl rfl)
theorem dX5_isTold_107 : decode cX5_isTold 107 = .ok (.iconst 1, 1) := dk_4 (dk_at dksX5_isTold_4 13 rfl rfl)
theorem dX5_isTold_108 : decode cX5_isTold 108 = .ok (.ireturn, 1) := dk_172 (dk_at dksX5_isTold_4 14 rfl rfl)
theorem dX5_isTold_109 : decode cX5_isTold 109 = .ok (.aload_n 0, 1) := dk_42 (dk_at dksX5_isTold_4 15 rfl rfl)
theorem dX5_isTold_110 : decode cX5_isTold 110 = .ok (.ldc_w 269, 3) := dk_19 1 13 (dk_at dksX5_isTold_4 16 rfl rfl)
theorem dX5_isTold_113 : decode cX5_isTold 113 = .ok (.invokevirtual 243, 3) := dk_182 0 243 (dk_at dksX5_isTold_4 19 rfl rfl)
theorem dX5_isTold_116 : decode cX5_isTold 116 = .ok (.ifCond .ne 43, 3) := dk_154 0 43 (dk_at dksX5_isTold_5 0 rfl rfl)
theorem dX5_isTold_119 : decode cX5_isTold 119 = .ok (.aload_n 0, 1) := dk_42 (dk_at dksX5_isTold_5 3 rfl rfl)
theorem dX5_isTold_120 : decode cX5_isTold 120 = .ok (.ldc_w 271, 3) := dk_19 1 15 (dk_at dksX5_isTold_5 4 rfl rfl)
theorem dX5_isTold_123 : decode cX5_isTold 123 = .ok (.invokevirtual 243, 3) := dk_182 0 243 (dk_at dksX5_isTold_5 7 rfl rfl)
theorem dX5_isTold_126 : decode cX5_isTold 126 = .ok (.ifCond .ne 33, 3) := dk_154 0 33 (dk_at dksX5_isTold_5 10 rfl rfl)
theorem dX5_isTold_129 : decode cX5_isTold 129 = .ok (.aload_n 0, 1) := dk_42 (dk_at dksX5_isTold_5 13 rfl rfl)
theorem dX5_isTold_130 : decode cX5_isTold 130 = .ok (.ldc_w 272, 3) := dk_19 1 16 (dk_at dksX5_isTold_5 14 rfl rfl)
theorem dX5_isTold_133 : decode cX5_isTold 133 = .ok (.invokevirtual 243, 3) := dk_182 0 243 (dk_at dksX5_isTold_5 17 rfl rfl)
theorem dX5_isTold_136 : decode cX5_isTold 136 = .ok (.ifCond .ne 23, 3) := dk_154 0 23 (dk_at dksX5_isTold_5 20 rfl rfl)
theorem dX5_isTold_139 : decode cX5_isTold 139 = .ok (.aload_n 0, 1) := dk_42 (dk_at dksX5_isTold_5 23 rfl rfl)
theorem dX5_isTold_140 : decode cX5_isTold 140 = .ok (.ldc_w 274, 3) := dk_19 1 18 (dk_at dksX5_isTold_6 0 rfl rfl)
theorem dX5_isTold_143 : decode cX5_isTold 143 = .ok (.invokevirtual 243, 3) := dk_182 0 243 (dk_at dksX5_isTold_6 3 rfl rfl)
theorem dX5_isTold_146 : decode cX5_isTold 146 = .ok (.ifCond .ne 13, 3) := dk_154 0 13 (dk_at dksX5_isTold_6 6 rfl rfl)
theorem dX5_isTold_149 : decode cX5_isTold 149 = .ok (.aload_n 0, 1) := dk_42 (dk_at dksX5_isTold_6 9 rfl rfl)
theorem dX5_isTold_150 : decode cX5_isTold 150 = .ok (.ldc_w 276, 3) := dk_19 1 20 (dk_at dksX5_isTold_6 10 rfl rfl)
theorem dX5_isTold_153 : decode cX5_isTold 153 = .ok (.invokevirtual 243, 3) := dk_182 0 243 (dk_at dksX5_isTold_6 13 rfl rfl)
theorem dX5_isTold_156 : decode cX5_isTold 156 = .ok (.ifCond .eq 5, 3) := dk_153 0 5 (dk_at dksX5_isTold_6 16 rfl rfl)
theorem dX5_isTold_159 : decode cX5_isTold 159 = .ok (.iconst 1, 1) := dk_4 (dk_at dksX5_isTold_6 19 rfl rfl)
theorem dX5_isTold_160 : decode cX5_isTold 160 = .ok (.ireturn, 1) := dk_172 (dk_at dksX5_isTold_6 20 rfl rfl)
theorem dX5_isTold_161 : decode cX5_isTold 161 = .ok (.aload_n 0, 1) := dk_42 (dk_at dksX5_isTold_6 21 rfl rfl)
theorem dX5_isTold_162 : decode cX5_isTold 162 = .ok (.ldc_w 278, 3) := dk_19 1 22 (dk_at dksX5_isTold_7 0 rfl rfl)
theorem dX5_isTold_165 : decode cX5_isTold 165 = .ok (.invokevirtual 243, 3) := dk_182 0 243 (dk_at dksX5_isTold_7 3 rfl rfl)
theorem dX5_isTold_168 : decode cX5_isTold 168 = .ok (.ifCond .ne 33, 3) := dk_154 0 33 (dk_at dksX5_isTold_7 6 rfl rfl)
theorem dX5_isTold_171 : decode cX5_isTold 171 = .ok (.aload_n 0, 1) := dk_42 (dk_at dksX5_isTold_7 9 rfl rfl)
theorem dX5_isTold_172 : decode cX5_isTold 172 = .ok (.ldc_w 279, 3) := dk_19 1 23 (dk_at dksX5_isTold_7 10 rfl rfl)
theorem dX5_isTold_175 : decode cX5_isTold 175 = .ok (.invokevirtual 243, 3) := dk_182 0 243 (dk_at dksX5_isTold_7 13 rfl rfl)
theorem dX5_isTold_178 : decode cX5_isTold 178 = .ok (.ifCond .ne 23, 3) := dk_154 0 23 (dk_at dksX5_isTold_7 16 rfl rfl)
theorem dX5_isTold_181 : decode cX5_isTold 181 = .ok (.aload_n 0, 1) := dk_42 (dk_at dksX5_isTold_7 19 rfl rfl)
theorem dX5_isTold_182 : decode cX5_isTold 182 = .ok (.ldc_w 280, 3) := dk_19 1 24 (dk_at dksX5_isTold_7 20 rfl rfl)
theorem dX5_isTold_185 : decode cX5_isTold 185 = .ok (.invokevirtual 243, 3) := dk_182 0 243 (dk_at dksX5_isTold_8 0 rfl rfl)
theorem dX5_isTold_188 : decode cX5_isTold 188 = .ok (.ifCond .ne 13, 3) := dk_154 0 13 (dk_at dksX5_isTold_8 3 rfl rfl)
theorem dX5_isTold_191 : decode cX5_isTold 191 = .ok (.aload_n 0, 1) := dk_42 (dk_at dksX5_isTold_8 6 rfl rfl)
theorem dX5_isTold_192 : decode cX5_isTold 192 = .ok (.ldc_w 282, 3) := dk_19 1 26 (dk_at dksX5_isTold_8 7 rfl rfl)
theorem dX5_isTold_195 : decode cX5_isTold 195 = .ok (.invokevirtual 243, 3) := dk_182 0 243 (dk_at dksX5_isTold_8 10 rfl rfl)
theorem dX5_isTold_198 : decode cX5_isTold 198 = .ok (.ifCond .eq 7, 3) := dk_153 0 7 (dk_at dksX5_isTold_8 13 rfl rfl)
theorem dX5_isTold_201 : decode cX5_isTold 201 = .ok (.iconst 1, 1) := dk_4 (dk_at dksX5_isTold_8 16 rfl rfl)
theorem dX5_isTold_202 : decode cX5_isTold 202 = .ok (.goto 4, 3) := dk_167 0 4 (dk_at dksX5_isTold_8 17 rfl rfl)
theorem dX5_isTold_205 : decode cX5_isTold 205 = .ok (.iconst 0, 1) := dk_3 (dk_at dksX5_isTold_8 20 rfl rfl)
theorem dX5_isTold_206 : decode cX5_isTold 206 = .ok (.ireturn, 1) := dk_172 (dk_at dksX5_isTold_8 21 rfl rfl)
abbrev cX5_chapterOf : ByteArray := prog_20_method_30_code
def yX5_chapterOf : MethodName := ⟨RX5, "chapterOf", "(J)I"⟩
def dkwX5_chapterOf_1 : List UInt8 := [104, 29, 96, 47, 31, 148, 154, 0, 5, 29, 172, 132, 3, 1, 167, 255, 220, 2, 172]
abbrev dktX5_chapterOf_1 : List UInt8 := dkwX5_chapterOf_1 ++ []
def dkwX5_chapterOf_0 : List UInt8 := [3, 62, 29, 42, 42, 180, 0, 96, 182, 1, 44, 162, 0, 30, 42, 180, 0, 16, 16, 6, 42, 180, 0, 96]
abbrev dktX5_chapterOf_0 : List UInt8 := dkwX5_chapterOf_0 ++ dktX5_chapterOf_1
theorem dksX5_chapterOf_0 : cX5_chapterOf.data.toList.drop 0 = dktX5_chapterOf_0 := by decide +kernel
theorem dksX5_chapterOf_1 : cX5_chapterOf.data.toList.drop 24 = dktX5_chapterOf_1 := dk_seg dksX5_chapterOf_0 24 rfl rfl
theorem dX5_chapterOf_0 : decode cX5_chapterOf 0 = .ok (.iconst 0, 1) := dk_3 (dk_at dksX5_chapterOf_0 0 rfl rfl)
theorem dX5_chapterOf_1 : decode cX5_chapterOf 1 = .ok (.istore_n 3, 1) := dk_62 (dk_at dksX5_chapterOf_0 1 rfl rfl)
theorem dX5_chapterOf_2 : decode cX5_chapterOf 2 = .ok (.iload_n 3, 1) := dk_29 (dk_at dksX5_chapterOf_0 2 rfl rfl)
theorem dX5_chapterOf_3 : decode cX5_chapterOf 3 = .ok (.aload_n 0, 1) := dk_42 (dk_at dksX5_chapterOf_0 3 rfl rfl)
theorem dX5_chapterOf_4 : decode cX5_chapterOf 4 = .ok (.aload_n 0, 1) := dk_42 (dk_at dksX5_chapterOf_0 4 rfl rfl)
theorem dX5_chapterOf_5 : decode cX5_chapterOf 5 = .ok (.getfield 96, 3) := dk_180 0 96 (dk_at dksX5_chapterOf_0 5 rfl rfl)
theorem dX5_chapterOf_8 : decode cX5_chapterOf 8 = .ok (.invokevirtual 300, 3) := dk_182 1 44 (dk_at dksX5_chapterOf_0 8 rfl rfl)
theorem dX5_chapterOf_11 : decode cX5_chapterOf 11 = .ok (.if_icmp .ge 30, 3) := dk_162 0 30 (dk_at dksX5_chapterOf_0 11 rfl rfl)
theorem dX5_chapterOf_14 : decode cX5_chapterOf 14 = .ok (.aload_n 0, 1) := dk_42 (dk_at dksX5_chapterOf_0 14 rfl rfl)
theorem dX5_chapterOf_15 : decode cX5_chapterOf 15 = .ok (.getfield 16, 3) := dk_180 0 16 (dk_at dksX5_chapterOf_0 15 rfl rfl)
theorem dX5_chapterOf_18 : decode cX5_chapterOf 18 = .ok (.bipush 6, 2) := dk_16 6 (dk_at dksX5_chapterOf_0 18 rfl rfl)
theorem dX5_chapterOf_20 : decode cX5_chapterOf 20 = .ok (.aload_n 0, 1) := dk_42 (dk_at dksX5_chapterOf_0 20 rfl rfl)
theorem dX5_chapterOf_21 : decode cX5_chapterOf 21 = .ok (.getfield 96, 3) := dk_180 0 96 (dk_at dksX5_chapterOf_0 21 rfl rfl)
theorem dX5_chapterOf_24 : decode cX5_chapterOf 24 = .ok (.imul, 1) := dk_104 (dk_at dksX5_chapterOf_1 0 rfl rfl)
theorem dX5_chapterOf_25 : decode cX5_chapterOf 25 = .ok (.iload_n 3, 1) := dk_29 (dk_at dksX5_chapterOf_1 1 rfl rfl)
theorem dX5_chapterOf_26 : decode cX5_chapterOf 26 = .ok (.iadd, 1) := dk_96 (dk_at dksX5_chapterOf_1 2 rfl rfl)
theorem dX5_chapterOf_27 : decode cX5_chapterOf 27 = .ok (.laload, 1) := dk_47 (dk_at dksX5_chapterOf_1 3 rfl rfl)
theorem dX5_chapterOf_28 : decode cX5_chapterOf 28 = .ok (.lload_n 1, 1) := dk_31 (dk_at dksX5_chapterOf_1 4 rfl rfl)
theorem dX5_chapterOf_29 : decode cX5_chapterOf 29 = .ok (.lcmp, 1) := dk_148 (dk_at dksX5_chapterOf_1 5 rfl rfl)
theorem dX5_chapterOf_30 : decode cX5_chapterOf 30 = .ok (.ifCond .ne 5, 3) := dk_154 0 5 (dk_at dksX5_chapterOf_1 6 rfl rfl)
theorem dX5_chapterOf_33 : decode cX5_chapterOf 33 = .ok (.iload_n 3, 1) := dk_29 (dk_at dksX5_chapterOf_1 9 rfl rfl)
theorem dX5_chapterOf_34 : decode cX5_chapterOf 34 = .ok (.ireturn, 1) := dk_172 (dk_at dksX5_chapterOf_1 10 rfl rfl)
theorem dX5_chapterOf_35 : decode cX5_chapterOf 35 = .ok (.iinc 3 1, 3) := dk_132 3 1 (dk_at dksX5_chapterOf_1 11 rfl rfl)
theorem dX5_chapterOf_38 : decode cX5_chapterOf 38 = .ok (.goto (-36), 3) := dk_167 255 220 (dk_at dksX5_chapterOf_1 14 rfl rfl)
theorem dX5_chapterOf_41 : decode cX5_chapterOf 41 = .ok (.iconst (-1), 1) := dk_2 (dk_at dksX5_chapterOf_1 17 rfl rfl)
theorem dX5_chapterOf_42 : decode cX5_chapterOf 42 = .ok (.ireturn, 1) := dk_172 (dk_at dksX5_chapterOf_1 18 rfl rfl)
abbrev cX5_span : ByteArray := prog_20_method_29_code
def yX5_span : MethodName := ⟨RX5, "span", "(ZZ)V"⟩
def dkwX5_span_6 : List UInt8 := [180, 1, 39, 162, 0, 8, 42, 5, 182, 0, 237, 42, 42, 180, 0, 193, 181, 1, 42, 42, 182, 0, 240, 177]
abbrev dktX5_span_6 : List UInt8 := dkwX5_span_6 ++ []
def dkwX5_span_5 : List UInt8 := [180, 0, 177, 154, 0, 30, 42, 180, 0, 193, 27, 184, 1, 32, 153, 0, 14, 42, 180, 0, 193, 42]
abbrev dktX5_span_5 : List UInt8 := dkwX5_span_5 ++ dktX5_span_6
def dkwX5_span_4 : List UInt8 := [182, 0, 240, 42, 180, 0, 177, 154, 0, 16, 42, 180, 0, 190, 4, 159, 0, 8, 42, 4, 182, 0, 237, 42]
abbrev dktX5_span_4 : List UInt8 := dkwX5_span_4 ++ dktX5_span_5
def dkwX5_span_3 : List UInt8 := [42, 42, 180, 0, 193, 181, 1, 42, 42, 182, 0, 240, 42, 19, 1, 18, 182, 0, 243, 154, 0, 4, 177, 42]
abbrev dktX5_span_3 : List UInt8 := dkwX5_span_3 ++ dktX5_span_4
def dkwX5_span_2 : List UInt8 := [153, 0, 8, 42, 7, 182, 0, 237, 42, 42, 180, 0, 187, 181, 1, 36, 42, 42, 180, 0, 193, 181, 1, 39]
abbrev dktX5_span_2 : List UInt8 := dkwX5_span_2 ++ dktX5_span_3
def dkwX5_span_1 : List UInt8 := [180, 0, 177, 154, 0, 19, 42, 180, 0, 193, 27, 184, 1, 32, 154, 0, 8, 42, 5, 182, 0, 237, 28]
abbrev dktX5_span_1 : List UInt8 := dkwX5_span_1 ++ dktX5_span_2
def dkwX5_span_0 : List UInt8 := [42, 180, 0, 177, 158, 0, 4, 177, 42, 180, 0, 190, 4, 159, 0, 8, 42, 4, 182, 0, 237, 42]
abbrev dktX5_span_0 : List UInt8 := dkwX5_span_0 ++ dktX5_span_1
theorem dksX5_span_0 : cX5_span.data.toList.drop 0 = dktX5_span_0 := by decide +kernel
theorem dksX5_span_1 : cX5_span.data.toList.drop 22 = dktX5_span_1 := dk_seg dksX5_span_0 22 rfl rfl
theorem dksX5_span_2 : cX5_span.data.toList.drop 45 = dktX5_span_2 := dk_seg dksX5_span_1 23 rfl rfl
theorem dksX5_span_3 : cX5_span.data.toList.drop 69 = dktX5_span_3 := dk_seg dksX5_span_2 24 rfl rfl
theorem dksX5_span_4 : cX5_span.data.toList.drop 93 = dktX5_span_4 := dk_seg dksX5_span_3 24 rfl rfl
theorem dksX5_span_5 : cX5_span.data.toList.drop 117 = dktX5_span_5 := dk_seg dksX5_span_4 24 rfl rfl
theorem dksX5_span_6 : cX5_span.data.toList.drop 139 = dktX5_span_6 := dk_seg dksX5_span_5 22 rfl rfl
theorem dX5_span_0 : decode cX5_span 0 = .ok (.aload_n 0, 1) := dk_42 (dk_at dksX5_span_0 0 rfl rfl)
theorem dX5_span_1 : decode cX5_span 1 = .ok (.getfield 177, 3) := dk_180 0 177 (dk_at dksX5_span_0 1 rfl rfl)
theorem dX5_span_4 : decode cX5_span 4 = .ok (.ifCond .le 4, 3) := dk_158 0 4 (dk_at dksX5_span_0 4 rfl rfl)
theorem dX5_span_7 : decode cX5_span 7 = .ok (.return_, 1) := dk_177 (dk_at dksX5_span_0 7 rfl rfl)
theorem dX5_span_8 : decode cX5_span 8 = .ok (.aload_n 0, 1) := dk_42 (dk_at dksX5_span_0 8 rfl rfl)
theorem dX5_span_9 : decode cX5_span 9 = .ok (.getfield 190, 3) := dk_180 0 190 (dk_at dksX5_span_0 9 rfl rfl)
theorem dX5_span_12 : decode cX5_span 12 = .ok (.iconst 1, 1) := dk_4 (dk_at dksX5_span_0 12 rfl rfl)
theorem dX5_span_13 : decode cX5_span 13 = .ok (.if_icmp .eq 8, 3) := dk_159 0 8 (dk_at dksX5_span_0 13 rfl rfl)
theorem dX5_span_16 : decode cX5_span 16 = .ok (.aload_n 0, 1) := dk_42 (dk_at dksX5_span_0 16 rfl rfl)
theorem dX5_span_17 : decode cX5_span 17 = .ok (.iconst 1, 1) := dk_4 (dk_at dksX5_span_0 17 rfl rfl)
theorem dX5_span_18 : decode cX5_span 18 = .ok (.invokevirtual 237, 3) := dk_182 0 237 (dk_at dksX5_span_0 18 rfl rfl)
theorem dX5_span_21 : decode cX5_span 21 = .ok (.aload_n 0, 1) := dk_42 (dk_at dksX5_span_0 21 rfl rfl)
theorem dX5_span_22 : decode cX5_span 22 = .ok (.getfield 177, 3) := dk_180 0 177 (dk_at dksX5_span_1 0 rfl rfl)
theorem dX5_span_25 : decode cX5_span 25 = .ok (.ifCond .ne 19, 3) := dk_154 0 19 (dk_at dksX5_span_1 3 rfl rfl)
theorem dX5_span_28 : decode cX5_span 28 = .ok (.aload_n 0, 1) := dk_42 (dk_at dksX5_span_1 6 rfl rfl)
theorem dX5_span_29 : decode cX5_span 29 = .ok (.getfield 193, 3) := dk_180 0 193 (dk_at dksX5_span_1 7 rfl rfl)
theorem dX5_span_32 : decode cX5_span 32 = .ok (.iload_n 1, 1) := dk_27 (dk_at dksX5_span_1 10 rfl rfl)
theorem dX5_span_33 : decode cX5_span 33 = .ok (.invokestatic 288, 3) := dk_184 1 32 (dk_at dksX5_span_1 11 rfl rfl)
theorem dX5_span_36 : decode cX5_span 36 = .ok (.ifCond .ne 8, 3) := dk_154 0 8 (dk_at dksX5_span_1 14 rfl rfl)
theorem dX5_span_39 : decode cX5_span 39 = .ok (.aload_n 0, 1) := dk_42 (dk_at dksX5_span_1 17 rfl rfl)
theorem dX5_span_40 : decode cX5_span 40 = .ok (.iconst 2, 1) := dk_5 (dk_at dksX5_span_1 18 rfl rfl)
theorem dX5_span_41 : decode cX5_span 41 = .ok (.invokevirtual 237, 3) := dk_182 0 237 (dk_at dksX5_span_1 19 rfl rfl)
theorem dX5_span_44 : decode cX5_span 44 = .ok (.iload_n 2, 1) := dk_28 (dk_at dksX5_span_1 22 rfl rfl)
theorem dX5_span_45 : decode cX5_span 45 = .ok (.ifCond .eq 8, 3) := dk_153 0 8 (dk_at dksX5_span_2 0 rfl rfl)
theorem dX5_span_48 : decode cX5_span 48 = .ok (.aload_n 0, 1) := dk_42 (dk_at dksX5_span_2 3 rfl rfl)
theorem dX5_span_49 : decode cX5_span 49 = .ok (.iconst 4, 1) := dk_7 (dk_at dksX5_span_2 4 rfl rfl)
theorem dX5_span_50 : decode cX5_span 50 = .ok (.invokevirtual 237, 3) := dk_182 0 237 (dk_at dksX5_span_2 5 rfl rfl)
theorem dX5_span_53 : decode cX5_span 53 = .ok (.aload_n 0, 1) := dk_42 (dk_at dksX5_span_2 8 rfl rfl)
theorem dX5_span_54 : decode cX5_span 54 = .ok (.aload_n 0, 1) := dk_42 (dk_at dksX5_span_2 9 rfl rfl)
theorem dX5_span_55 : decode cX5_span 55 = .ok (.getfield 187, 3) := dk_180 0 187 (dk_at dksX5_span_2 10 rfl rfl)
theorem dX5_span_58 : decode cX5_span 58 = .ok (.putfield 292, 3) := dk_181 1 36 (dk_at dksX5_span_2 13 rfl rfl)
theorem dX5_span_61 : decode cX5_span 61 = .ok (.aload_n 0, 1) := dk_42 (dk_at dksX5_span_2 16 rfl rfl)
theorem dX5_span_62 : decode cX5_span 62 = .ok (.aload_n 0, 1) := dk_42 (dk_at dksX5_span_2 17 rfl rfl)
theorem dX5_span_63 : decode cX5_span 63 = .ok (.getfield 193, 3) := dk_180 0 193 (dk_at dksX5_span_2 18 rfl rfl)
theorem dX5_span_66 : decode cX5_span 66 = .ok (.putfield 295, 3) := dk_181 1 39 (dk_at dksX5_span_2 21 rfl rfl)
theorem dX5_span_69 : decode cX5_span 69 = .ok (.aload_n 0, 1) := dk_42 (dk_at dksX5_span_3 0 rfl rfl)
theorem dX5_span_70 : decode cX5_span 70 = .ok (.aload_n 0, 1) := dk_42 (dk_at dksX5_span_3 1 rfl rfl)
theorem dX5_span_71 : decode cX5_span 71 = .ok (.getfield 193, 3) := dk_180 0 193 (dk_at dksX5_span_3 2 rfl rfl)
theorem dX5_span_74 : decode cX5_span 74 = .ok (.putfield 298, 3) := dk_181 1 42 (dk_at dksX5_span_3 5 rfl rfl)
theorem dX5_span_77 : decode cX5_span 77 = .ok (.aload_n 0, 1) := dk_42 (dk_at dksX5_span_3 8 rfl rfl)
theorem dX5_span_78 : decode cX5_span 78 = .ok (.invokevirtual 240, 3) := dk_182 0 240 (dk_at dksX5_span_3 9 rfl rfl)
theorem dX5_span_81 : decode cX5_span 81 = .ok (.aload_n 0, 1) := dk_42 (dk_at dksX5_span_3 12 rfl rfl)
theorem dX5_span_82 : decode cX5_span 82 = .ok (.ldc_w 274, 3) := dk_19 1 18 (dk_at dksX5_span_3 13 rfl rfl)
theorem dX5_span_85 : decode cX5_span 85 = .ok (.invokevirtual 243, 3) := dk_182 0 243 (dk_at dksX5_span_3 16 rfl rfl)
theorem dX5_span_88 : decode cX5_span 88 = .ok (.ifCond .ne 4, 3) := dk_154 0 4 (dk_at dksX5_span_3 19 rfl rfl)
theorem dX5_span_91 : decode cX5_span 91 = .ok (.return_, 1) := dk_177 (dk_at dksX5_span_3 22 rfl rfl)
theorem dX5_span_92 : decode cX5_span 92 = .ok (.aload_n 0, 1) := dk_42 (dk_at dksX5_span_3 23 rfl rfl)
theorem dX5_span_93 : decode cX5_span 93 = .ok (.invokevirtual 240, 3) := dk_182 0 240 (dk_at dksX5_span_4 0 rfl rfl)
theorem dX5_span_96 : decode cX5_span 96 = .ok (.aload_n 0, 1) := dk_42 (dk_at dksX5_span_4 3 rfl rfl)
theorem dX5_span_97 : decode cX5_span 97 = .ok (.getfield 177, 3) := dk_180 0 177 (dk_at dksX5_span_4 4 rfl rfl)
theorem dX5_span_100 : decode cX5_span 100 = .ok (.ifCond .ne 16, 3) := dk_154 0 16 (dk_at dksX5_span_4 7 rfl rfl)
theorem dX5_span_103 : decode cX5_span 103 = .ok (.aload_n 0, 1) := dk_42 (dk_at dksX5_span_4 10 rfl rfl)
theorem dX5_span_104 : decode cX5_span 104 = .ok (.getfield 190, 3) := dk_180 0 190 (dk_at dksX5_span_4 11 rfl rfl)
theorem dX5_span_107 : decode cX5_span 107 = .ok (.iconst 1, 1) := dk_4 (dk_at dksX5_span_4 14 rfl rfl)
theorem dX5_span_108 : decode cX5_span 108 = .ok (.if_icmp .eq 8, 3) := dk_159 0 8 (dk_at dksX5_span_4 15 rfl rfl)
theorem dX5_span_111 : decode cX5_span 111 = .ok (.aload_n 0, 1) := dk_42 (dk_at dksX5_span_4 18 rfl rfl)
theorem dX5_span_112 : decode cX5_span 112 = .ok (.iconst 1, 1) := dk_4 (dk_at dksX5_span_4 19 rfl rfl)
theorem dX5_span_113 : decode cX5_span 113 = .ok (.invokevirtual 237, 3) := dk_182 0 237 (dk_at dksX5_span_4 20 rfl rfl)
theorem dX5_span_116 : decode cX5_span 116 = .ok (.aload_n 0, 1) := dk_42 (dk_at dksX5_span_4 23 rfl rfl)
theorem dX5_span_117 : decode cX5_span 117 = .ok (.getfield 177, 3) := dk_180 0 177 (dk_at dksX5_span_5 0 rfl rfl)
theorem dX5_span_120 : decode cX5_span 120 = .ok (.ifCond .ne 30, 3) := dk_154 0 30 (dk_at dksX5_span_5 3 rfl rfl)
theorem dX5_span_123 : decode cX5_span 123 = .ok (.aload_n 0, 1) := dk_42 (dk_at dksX5_span_5 6 rfl rfl)
theorem dX5_span_124 : decode cX5_span 124 = .ok (.getfield 193, 3) := dk_180 0 193 (dk_at dksX5_span_5 7 rfl rfl)
theorem dX5_span_127 : decode cX5_span 127 = .ok (.iload_n 1, 1) := dk_27 (dk_at dksX5_span_5 10 rfl rfl)
theorem dX5_span_128 : decode cX5_span 128 = .ok (.invokestatic 288, 3) := dk_184 1 32 (dk_at dksX5_span_5 11 rfl rfl)
theorem dX5_span_131 : decode cX5_span 131 = .ok (.ifCond .eq 14, 3) := dk_153 0 14 (dk_at dksX5_span_5 14 rfl rfl)
theorem dX5_span_134 : decode cX5_span 134 = .ok (.aload_n 0, 1) := dk_42 (dk_at dksX5_span_5 17 rfl rfl)
theorem dX5_span_135 : decode cX5_span 135 = .ok (.getfield 193, 3) := dk_180 0 193 (dk_at dksX5_span_5 18 rfl rfl)
theorem dX5_span_138 : decode cX5_span 138 = .ok (.aload_n 0, 1) := dk_42 (dk_at dksX5_span_5 21 rfl rfl)
theorem dX5_span_139 : decode cX5_span 139 = .ok (.getfield 295, 3) := dk_180 1 39 (dk_at dksX5_span_6 0 rfl rfl)
theorem dX5_span_142 : decode cX5_span 142 = .ok (.if_icmp .ge 8, 3) := dk_162 0 8 (dk_at dksX5_span_6 3 rfl rfl)
theorem dX5_span_145 : decode cX5_span 145 = .ok (.aload_n 0, 1) := dk_42 (dk_at dksX5_span_6 6 rfl rfl)
theorem dX5_span_146 : decode cX5_span 146 = .ok (.iconst 2, 1) := dk_5 (dk_at dksX5_span_6 7 rfl rfl)
theorem dX5_span_147 : decode cX5_span 147 = .ok (.invokevirtual 237, 3) := dk_182 0 237 (dk_at dksX5_span_6 8 rfl rfl)
theorem dX5_span_150 : decode cX5_span 150 = .ok (.aload_n 0, 1) := dk_42 (dk_at dksX5_span_6 11 rfl rfl)
theorem dX5_span_151 : decode cX5_span 151 = .ok (.aload_n 0, 1) := dk_42 (dk_at dksX5_span_6 12 rfl rfl)
theorem dX5_span_152 : decode cX5_span 152 = .ok (.getfield 193, 3) := dk_180 0 193 (dk_at dksX5_span_6 13 rfl rfl)
theorem dX5_span_155 : decode cX5_span 155 = .ok (.putfield 298, 3) := dk_181 1 42 (dk_at dksX5_span_6 16 rfl rfl)
theorem dX5_span_158 : decode cX5_span 158 = .ok (.aload_n 0, 1) := dk_42 (dk_at dksX5_span_6 19 rfl rfl)
theorem dX5_span_159 : decode cX5_span 159 = .ok (.invokevirtual 240, 3) := dk_182 0 240 (dk_at dksX5_span_6 20 rfl rfl)
theorem dX5_span_162 : decode cX5_span 162 = .ok (.return_, 1) := dk_177 (dk_at dksX5_span_6 23 rfl rfl)
abbrev cX5_isSort : ByteArray := prog_20_method_28_code
def yX5_isSort : MethodName := ⟨RX5, "isSort", "(IZ)Z"⟩
def dkwX5_isSort_0 : List UInt8 := [26, 17, 3, 232, 161, 0, 7, 4, 167, 0, 4, 3, 27, 160, 0, 7, 4, 167, 0, 4, 3, 172]
abbrev dktX5_isSort_0 : List UInt8 := dkwX5_isSort_0 ++ []
theorem dksX5_isSort_0 : cX5_isSort.data.toList.drop 0 = dktX5_isSort_0 := by decide +kernel
theorem dX5_isSort_0 : decode cX5_isSort 0 = .ok (.iload_n 0, 1) := dk_26 (dk_at dksX5_isSort_0 0 rfl rfl)
theorem dX5_isSort_1 : decode cX5_isSort 1 = .ok (.sipush 1000, 3) := dk_17 3 232 (dk_at dksX5_isSort_0 1 rfl rfl)
theorem dX5_isSort_4 : decode cX5_isSort 4 = .ok (.if_icmp .lt 7, 3) := dk_161 0 7 (dk_at dksX5_isSort_0 4 rfl rfl)
theorem dX5_isSort_7 : decode cX5_isSort 7 = .ok (.iconst 1, 1) := dk_4 (dk_at dksX5_isSort_0 7 rfl rfl)
theorem dX5_isSort_8 : decode cX5_isSort 8 = .ok (.goto 4, 3) := dk_167 0 4 (dk_at dksX5_isSort_0 8 rfl rfl)
theorem dX5_isSort_11 : decode cX5_isSort 11 = .ok (.iconst 0, 1) := dk_3 (dk_at dksX5_isSort_0 11 rfl rfl)
theorem dX5_isSort_12 : decode cX5_isSort 12 = .ok (.iload_n 1, 1) := dk_27 (dk_at dksX5_isSort_0 12 rfl rfl)
theorem dX5_isSort_13 : decode cX5_isSort 13 = .ok (.if_icmp .ne 7, 3) := dk_160 0 7 (dk_at dksX5_isSort_0 13 rfl rfl)
theorem dX5_isSort_16 : decode cX5_isSort 16 = .ok (.iconst 1, 1) := dk_4 (dk_at dksX5_isSort_0 16 rfl rfl)
theorem dX5_isSort_17 : decode cX5_isSort 17 = .ok (.goto 4, 3) := dk_167 0 4 (dk_at dksX5_isSort_0 17 rfl rfl)
theorem dX5_isSort_20 : decode cX5_isSort 20 = .ok (.iconst 0, 1) := dk_3 (dk_at dksX5_isSort_0 20 rfl rfl)
theorem dX5_isSort_21 : decode cX5_isSort 21 = .ok (.ireturn, 1) := dk_172 (dk_at dksX5_isSort_0 21 rfl rfl)
abbrev cX5_isSign : ByteArray := prog_20_method_22_code
def yX5_isSign : MethodName := ⟨RX5, "isSign", "(I)Z"⟩
def dkwX5_isSign_1 : List UInt8 := [167, 0, 4, 3, 172]
abbrev dktX5_isSign_1 : List UInt8 := dkwX5_isSign_1 ++ []
def dkwX5_isSign_0 : List UInt8 := [42, 180, 0, 177, 154, 0, 23, 42, 180, 0, 190, 7, 160, 0, 15, 42, 180, 0, 193, 27, 160, 0, 7, 4]
abbrev dktX5_isSign_0 : List UInt8 := dkwX5_isSign_0 ++ dktX5_isSign_1
theorem dksX5_isSign_0 : cX5_isSign.data.toList.drop 0 = dktX5_isSign_0 := by decide +kernel
theorem dksX5_isSign_1 : cX5_isSign.data.toList.drop 24 = dktX5_isSign_1 := dk_seg dksX5_isSign_0 24 rfl rfl
theorem dX5_isSign_0 : decode cX5_isSign 0 = .ok (.aload_n 0, 1) := dk_42 (dk_at dksX5_isSign_0 0 rfl rfl)
theorem dX5_isSign_1 : decode cX5_isSign 1 = .ok (.getfield 177, 3) := dk_180 0 177 (dk_at dksX5_isSign_0 1 rfl rfl)
theorem dX5_isSign_4 : decode cX5_isSign 4 = .ok (.ifCond .ne 23, 3) := dk_154 0 23 (dk_at dksX5_isSign_0 4 rfl rfl)
theorem dX5_isSign_7 : decode cX5_isSign 7 = .ok (.aload_n 0, 1) := dk_42 (dk_at dksX5_isSign_0 7 rfl rfl)
theorem dX5_isSign_8 : decode cX5_isSign 8 = .ok (.getfield 190, 3) := dk_180 0 190 (dk_at dksX5_isSign_0 8 rfl rfl)
theorem dX5_isSign_11 : decode cX5_isSign 11 = .ok (.iconst 4, 1) := dk_7 (dk_at dksX5_isSign_0 11 rfl rfl)
theorem dX5_isSign_12 : decode cX5_isSign 12 = .ok (.if_icmp .ne 15, 3) := dk_160 0 15 (dk_at dksX5_isSign_0 12 rfl rfl)
theorem dX5_isSign_15 : decode cX5_isSign 15 = .ok (.aload_n 0, 1) := dk_42 (dk_at dksX5_isSign_0 15 rfl rfl)
theorem dX5_isSign_16 : decode cX5_isSign 16 = .ok (.getfield 193, 3) := dk_180 0 193 (dk_at dksX5_isSign_0 16 rfl rfl)
theorem dX5_isSign_19 : decode cX5_isSign 19 = .ok (.iload_n 1, 1) := dk_27 (dk_at dksX5_isSign_0 19 rfl rfl)
theorem dX5_isSign_20 : decode cX5_isSign 20 = .ok (.if_icmp .ne 7, 3) := dk_160 0 7 (dk_at dksX5_isSign_0 20 rfl rfl)
theorem dX5_isSign_23 : decode cX5_isSign 23 = .ok (.iconst 1, 1) := dk_4 (dk_at dksX5_isSign_0 23 rfl rfl)
theorem dX5_isSign_24 : decode cX5_isSign 24 = .ok (.goto 4, 3) := dk_167 0 4 (dk_at dksX5_isSign_1 0 rfl rfl)
theorem dX5_isSign_27 : decode cX5_isSign 27 = .ok (.iconst 0, 1) := dk_3 (dk_at dksX5_isSign_1 3 rfl rfl)
theorem dX5_isSign_28 : decode cX5_isSign 28 = .ok (.ireturn, 1) := dk_172 (dk_at dksX5_isSign_1 4 rfl rfl)
abbrev cX5_lineEnds : ByteArray := prog_20_method_32_code
def yX5_lineEnds : MethodName := ⟨RX5, "lineEnds", "()V"⟩
def dkwX5_lineEnds_0 : List UInt8 := [42, 180, 0, 177, 154, 0, 17, 42, 16, 59, 182, 0, 234, 154, 0, 8, 42, 4, 182, 0, 237, 177]
abbrev dktX5_lineEnds_0 : List UInt8 := dkwX5_lineEnds_0 ++ []
theorem dksX5_lineEnds_0 : cX5_lineEnds.data.toList.drop 0 = dktX5_lineEnds_0 := by decide +kernel
theorem dX5_lineEnds_0 : decode cX5_lineEnds 0 = .ok (.aload_n 0, 1) := dk_42 (dk_at dksX5_lineEnds_0 0 rfl rfl)
theorem dX5_lineEnds_1 : decode cX5_lineEnds 1 = .ok (.getfield 177, 3) := dk_180 0 177 (dk_at dksX5_lineEnds_0 1 rfl rfl)
theorem dX5_lineEnds_4 : decode cX5_lineEnds 4 = .ok (.ifCond .ne 17, 3) := dk_154 0 17 (dk_at dksX5_lineEnds_0 4 rfl rfl)
theorem dX5_lineEnds_7 : decode cX5_lineEnds 7 = .ok (.aload_n 0, 1) := dk_42 (dk_at dksX5_lineEnds_0 7 rfl rfl)
theorem dX5_lineEnds_8 : decode cX5_lineEnds 8 = .ok (.bipush 59, 2) := dk_16 59 (dk_at dksX5_lineEnds_0 8 rfl rfl)
theorem dX5_lineEnds_10 : decode cX5_lineEnds 10 = .ok (.invokevirtual 234, 3) := dk_182 0 234 (dk_at dksX5_lineEnds_0 10 rfl rfl)
theorem dX5_lineEnds_13 : decode cX5_lineEnds 13 = .ok (.ifCond .ne 8, 3) := dk_154 0 8 (dk_at dksX5_lineEnds_0 13 rfl rfl)
theorem dX5_lineEnds_16 : decode cX5_lineEnds 16 = .ok (.aload_n 0, 1) := dk_42 (dk_at dksX5_lineEnds_0 16 rfl rfl)
theorem dX5_lineEnds_17 : decode cX5_lineEnds 17 = .ok (.iconst 1, 1) := dk_4 (dk_at dksX5_lineEnds_0 17 rfl rfl)
theorem dX5_lineEnds_18 : decode cX5_lineEnds 18 = .ok (.invokevirtual 237, 3) := dk_182 0 237 (dk_at dksX5_lineEnds_0 18 rfl rfl)
theorem dX5_lineEnds_21 : decode cX5_lineEnds 21 = .ok (.return_, 1) := dk_177 (dk_at dksX5_lineEnds_0 21 rfl rfl)
abbrev cX5_rankLine : ByteArray := prog_20_method_33_code
def yX5_rankLine : MethodName := ⟨RX5, "rankLine", "()V"⟩
def dkwX5_rankLine_5 : List UInt8 := [96, 92, 46, 4, 96, 79, 177]
abbrev dktX5_rankLine_5 : List UInt8 := dkwX5_rankLine_5 ++ []
def dkwX5_rankLine_4 : List UInt8 := [16, 10, 42, 180, 0, 96, 104, 27, 96, 21, 4, 79, 42, 180, 0, 13, 16, 7, 42, 180, 0, 96, 104, 4]
abbrev dktX5_rankLine_4 : List UInt8 := dkwX5_rankLine_4 ++ dktX5_rankLine_5
def dkwX5_rankLine_3 : List UInt8 := [104, 27, 96, 28, 79, 42, 180, 0, 35, 16, 10, 42, 180, 0, 96, 104, 27, 96, 29, 79, 42, 180, 0, 38]
abbrev dktX5_rankLine_3 : List UInt8 := dkwX5_rankLine_3 ++ dktX5_rankLine_4
def dkwX5_rankLine_2 : List UInt8 := [54, 4, 42, 182, 1, 59, 42, 180, 0, 177, 158, 0, 4, 177, 42, 180, 0, 32, 16, 10, 42, 180, 0, 96]
abbrev dktX5_rankLine_2 : List UInt8 := dkwX5_rankLine_2 ++ dktX5_rankLine_3
def dkwX5_rankLine_1 : List UInt8 := [42, 4, 3, 182, 1, 55, 42, 180, 1, 39, 61, 42, 180, 1, 42, 62, 42, 4, 16, 9, 182, 1, 65]
abbrev dktX5_rankLine_1 : List UInt8 := dkwX5_rankLine_1 ++ dktX5_rankLine_2
def dkwX5_rankLine_0 : List UInt8 := [42, 42, 180, 0, 96, 182, 1, 62, 60, 27, 16, 10, 160, 0, 8, 42, 7, 182, 0, 237, 42, 182, 0, 240]
abbrev dktX5_rankLine_0 : List UInt8 := dkwX5_rankLine_0 ++ dktX5_rankLine_1
theorem dksX5_rankLine_0 : cX5_rankLine.data.toList.drop 0 = dktX5_rankLine_0 := by decide +kernel
theorem dksX5_rankLine_1 : cX5_rankLine.data.toList.drop 24 = dktX5_rankLine_1 := dk_seg dksX5_rankLine_0 24 rfl rfl
theorem dksX5_rankLine_2 : cX5_rankLine.data.toList.drop 47 = dktX5_rankLine_2 := dk_seg dksX5_rankLine_1 23 rfl rfl
theorem dksX5_rankLine_3 : cX5_rankLine.data.toList.drop 71 = dktX5_rankLine_3 := dk_seg dksX5_rankLine_2 24 rfl rfl
theorem dksX5_rankLine_4 : cX5_rankLine.data.toList.drop 95 = dktX5_rankLine_4 := dk_seg dksX5_rankLine_3 24 rfl rfl
theorem dksX5_rankLine_5 : cX5_rankLine.data.toList.drop 119 = dktX5_rankLine_5 := dk_seg dksX5_rankLine_4 24 rfl rfl
theorem dX5_rankLine_0 : decode cX5_rankLine 0 = .ok (.aload_n 0, 1) := dk_42 (dk_at dksX5_rankLine_0 0 rfl rfl)
theorem dX5_rankLine_1 : decode cX5_rankLine 1 = .ok (.aload_n 0, 1) := dk_42 (dk_at dksX5_rankLine_0 1 rfl rfl)
theorem dX5_rankLine_2 : decode cX5_rankLine 2 = .ok (.getfield 96, 3) := dk_180 0 96 (dk_at dksX5_rankLine_0 2 rfl rfl)
theorem dX5_rankLine_5 : decode cX5_rankLine 5 = .ok (.invokevirtual 318, 3) := dk_182 1 62 (dk_at dksX5_rankLine_0 5 rfl rfl)
theorem dX5_rankLine_8 : decode cX5_rankLine 8 = .ok (.istore_n 1, 1) := dk_60 (dk_at dksX5_rankLine_0 8 rfl rfl)
theorem dX5_rankLine_9 : decode cX5_rankLine 9 = .ok (.iload_n 1, 1) := dk_27 (dk_at dksX5_rankLine_0 9 rfl rfl)
theorem dX5_rankLine_10 : decode cX5_rankLine 10 = .ok (.bipush 10, 2) := dk_16 10 (dk_at dksX5_rankLine_0 10 rfl rfl)
theorem dX5_rankLine_12 : decode cX5_rankLine 12 = .ok (.if_icmp .ne 8, 3) := dk_160 0 8 (dk_at dksX5_rankLine_0 12 rfl rfl)
theorem dX5_rankLine_15 : decode cX5_rankLine 15 = .ok (.aload_n 0, 1) := dk_42 (dk_at dksX5_rankLine_0 15 rfl rfl)
theorem dX5_rankLine_16 : decode cX5_rankLine 16 = .ok (.iconst 4, 1) := dk_7 (dk_at dksX5_rankLine_0 16 rfl rfl)
theorem dX5_rankLine_17 : decode cX5_rankLine 17 = .ok (.invokevirtual 237, 3) := dk_182 0 237 (dk_at dksX5_rankLine_0 17 rfl rfl)
theorem dX5_rankLine_20 : decode cX5_rankLine 20 = .ok (.aload_n 0, 1) := dk_42 (dk_at dksX5_rankLine_0 20 rfl rfl)
theorem dX5_rankLine_21 : decode cX5_rankLine 21 = .ok (.invokevirtual 240, 3) := dk_182 0 240 (dk_at dksX5_rankLine_0 21 rfl rfl)
theorem dX5_rankLine_24 : decode cX5_rankLine 24 = .ok (.aload_n 0, 1) := dk_42 (dk_at dksX5_rankLine_1 0 rfl rfl)
theorem dX5_rankLine_25 : decode cX5_rankLine 25 = .ok (.iconst 1, 1) := dk_4 (dk_at dksX5_rankLine_1 1 rfl rfl)
theorem dX5_rankLine_26 : decode cX5_rankLine 26 = .ok (.iconst 0, 1) := dk_3 (dk_at dksX5_rankLine_1 2 rfl rfl)
theorem dX5_rankLine_27 : decode cX5_rankLine 27 = .ok (.invokevirtual 311, 3) := dk_182 1 55 (dk_at dksX5_rankLine_1 3 rfl rfl)
theorem dX5_rankLine_30 : decode cX5_rankLine 30 = .ok (.aload_n 0, 1) := dk_42 (dk_at dksX5_rankLine_1 6 rfl rfl)
theorem dX5_rankLine_31 : decode cX5_rankLine 31 = .ok (.getfield 295, 3) := dk_180 1 39 (dk_at dksX5_rankLine_1 7 rfl rfl)
theorem dX5_rankLine_34 : decode cX5_rankLine 34 = .ok (.istore_n 2, 1) := dk_61 (dk_at dksX5_rankLine_1 10 rfl rfl)
theorem dX5_rankLine_35 : decode cX5_rankLine 35 = .ok (.aload_n 0, 1) := dk_42 (dk_at dksX5_rankLine_1 11 rfl rfl)
theorem dX5_rankLine_36 : decode cX5_rankLine 36 = .ok (.getfield 298, 3) := dk_180 1 42 (dk_at dksX5_rankLine_1 12 rfl rfl)
theorem dX5_rankLine_39 : decode cX5_rankLine 39 = .ok (.istore_n 3, 1) := dk_62 (dk_at dksX5_rankLine_1 15 rfl rfl)
theorem dX5_rankLine_40 : decode cX5_rankLine 40 = .ok (.aload_n 0, 1) := dk_42 (dk_at dksX5_rankLine_1 16 rfl rfl)
theorem dX5_rankLine_41 : decode cX5_rankLine 41 = .ok (.iconst 1, 1) := dk_4 (dk_at dksX5_rankLine_1 17 rfl rfl)
theorem dX5_rankLine_42 : decode cX5_rankLine 42 = .ok (.bipush 9, 2) := dk_16 9 (dk_at dksX5_rankLine_1 18 rfl rfl)
theorem dX5_rankLine_44 : decode cX5_rankLine 44 = .ok (.invokevirtual 321, 3) := dk_182 1 65 (dk_at dksX5_rankLine_1 20 rfl rfl)
theorem dX5_rankLine_47 : decode cX5_rankLine 47 = .ok (.istore 4, 2) := dk_54 4 (dk_at dksX5_rankLine_2 0 rfl rfl)
theorem dX5_rankLine_49 : decode cX5_rankLine 49 = .ok (.aload_n 0, 1) := dk_42 (dk_at dksX5_rankLine_2 2 rfl rfl)
theorem dX5_rankLine_50 : decode cX5_rankLine 50 = .ok (.invokevirtual 315, 3) := dk_182 1 59 (dk_at dksX5_rankLine_2 3 rfl rfl)
theorem dX5_rankLine_53 : decode cX5_rankLine 53 = .ok (.aload_n 0, 1) := dk_42 (dk_at dksX5_rankLine_2 6 rfl rfl)
theorem dX5_rankLine_54 : decode cX5_rankLine 54 = .ok (.getfield 177, 3) := dk_180 0 177 (dk_at dksX5_rankLine_2 7 rfl rfl)
theorem dX5_rankLine_57 : decode cX5_rankLine 57 = .ok (.ifCond .le 4, 3) := dk_158 0 4 (dk_at dksX5_rankLine_2 10 rfl rfl)
theorem dX5_rankLine_60 : decode cX5_rankLine 60 = .ok (.return_, 1) := dk_177 (dk_at dksX5_rankLine_2 13 rfl rfl)
theorem dX5_rankLine_61 : decode cX5_rankLine 61 = .ok (.aload_n 0, 1) := dk_42 (dk_at dksX5_rankLine_2 14 rfl rfl)
theorem dX5_rankLine_62 : decode cX5_rankLine 62 = .ok (.getfield 32, 3) := dk_180 0 32 (dk_at dksX5_rankLine_2 15 rfl rfl)
theorem dX5_rankLine_65 : decode cX5_rankLine 65 = .ok (.bipush 10, 2) := dk_16 10 (dk_at dksX5_rankLine_2 18 rfl rfl)
theorem dX5_rankLine_67 : decode cX5_rankLine 67 = .ok (.aload_n 0, 1) := dk_42 (dk_at dksX5_rankLine_2 20 rfl rfl)
theorem dX5_rankLine_68 : decode cX5_rankLine 68 = .ok (.getfield 96, 3) := dk_180 0 96 (dk_at dksX5_rankLine_2 21 rfl rfl)
theorem dX5_rankLine_71 : decode cX5_rankLine 71 = .ok (.imul, 1) := dk_104 (dk_at dksX5_rankLine_3 0 rfl rfl)
theorem dX5_rankLine_72 : decode cX5_rankLine 72 = .ok (.iload_n 1, 1) := dk_27 (dk_at dksX5_rankLine_3 1 rfl rfl)
theorem dX5_rankLine_73 : decode cX5_rankLine 73 = .ok (.iadd, 1) := dk_96 (dk_at dksX5_rankLine_3 2 rfl rfl)
theorem dX5_rankLine_74 : decode cX5_rankLine 74 = .ok (.iload_n 2, 1) := dk_28 (dk_at dksX5_rankLine_3 3 rfl rfl)
theorem dX5_rankLine_75 : decode cX5_rankLine 75 = .ok (.iastore, 1) := dk_79 (dk_at dksX5_rankLine_3 4 rfl rfl)
theorem dX5_rankLine_76 : decode cX5_rankLine 76 = .ok (.aload_n 0, 1) := dk_42 (dk_at dksX5_rankLine_3 5 rfl rfl)
theorem dX5_rankLine_77 : decode cX5_rankLine 77 = .ok (.getfield 35, 3) := dk_180 0 35 (dk_at dksX5_rankLine_3 6 rfl rfl)
theorem dX5_rankLine_80 : decode cX5_rankLine 80 = .ok (.bipush 10, 2) := dk_16 10 (dk_at dksX5_rankLine_3 9 rfl rfl)
theorem dX5_rankLine_82 : decode cX5_rankLine 82 = .ok (.aload_n 0, 1) := dk_42 (dk_at dksX5_rankLine_3 11 rfl rfl)
theorem dX5_rankLine_83 : decode cX5_rankLine 83 = .ok (.getfield 96, 3) := dk_180 0 96 (dk_at dksX5_rankLine_3 12 rfl rfl)
theorem dX5_rankLine_86 : decode cX5_rankLine 86 = .ok (.imul, 1) := dk_104 (dk_at dksX5_rankLine_3 15 rfl rfl)
theorem dX5_rankLine_87 : decode cX5_rankLine 87 = .ok (.iload_n 1, 1) := dk_27 (dk_at dksX5_rankLine_3 16 rfl rfl)
theorem dX5_rankLine_88 : decode cX5_rankLine 88 = .ok (.iadd, 1) := dk_96 (dk_at dksX5_rankLine_3 17 rfl rfl)
theorem dX5_rankLine_89 : decode cX5_rankLine 89 = .ok (.iload_n 3, 1) := dk_29 (dk_at dksX5_rankLine_3 18 rfl rfl)
theorem dX5_rankLine_90 : decode cX5_rankLine 90 = .ok (.iastore, 1) := dk_79 (dk_at dksX5_rankLine_3 19 rfl rfl)
theorem dX5_rankLine_91 : decode cX5_rankLine 91 = .ok (.aload_n 0, 1) := dk_42 (dk_at dksX5_rankLine_3 20 rfl rfl)
theorem dX5_rankLine_92 : decode cX5_rankLine 92 = .ok (.getfield 38, 3) := dk_180 0 38 (dk_at dksX5_rankLine_3 21 rfl rfl)
theorem dX5_rankLine_95 : decode cX5_rankLine 95 = .ok (.bipush 10, 2) := dk_16 10 (dk_at dksX5_rankLine_4 0 rfl rfl)
theorem dX5_rankLine_97 : decode cX5_rankLine 97 = .ok (.aload_n 0, 1) := dk_42 (dk_at dksX5_rankLine_4 2 rfl rfl)
theorem dX5_rankLine_98 : decode cX5_rankLine 98 = .ok (.getfield 96, 3) := dk_180 0 96 (dk_at dksX5_rankLine_4 3 rfl rfl)
theorem dX5_rankLine_101 : decode cX5_rankLine 101 = .ok (.imul, 1) := dk_104 (dk_at dksX5_rankLine_4 6 rfl rfl)
theorem dX5_rankLine_102 : decode cX5_rankLine 102 = .ok (.iload_n 1, 1) := dk_27 (dk_at dksX5_rankLine_4 7 rfl rfl)
theorem dX5_rankLine_103 : decode cX5_rankLine 103 = .ok (.iadd, 1) := dk_96 (dk_at dksX5_rankLine_4 8 rfl rfl)
theorem dX5_rankLine_104 : decode cX5_rankLine 104 = .ok (.iload 4, 2) := dk_21 4 (dk_at dksX5_rankLine_4 9 rfl rfl)
theorem dX5_rankLine_106 : decode cX5_rankLine 106 = .ok (.iastore, 1) := dk_79 (dk_at dksX5_rankLine_4 11 rfl rfl)
theorem dX5_rankLine_107 : decode cX5_rankLine 107 = .ok (.aload_n 0, 1) := dk_42 (dk_at dksX5_rankLine_4 12 rfl rfl)
theorem dX5_rankLine_108 : decode cX5_rankLine 108 = .ok (.getfield 13, 3) := dk_180 0 13 (dk_at dksX5_rankLine_4 13 rfl rfl)
theorem dX5_rankLine_111 : decode cX5_rankLine 111 = .ok (.bipush 7, 2) := dk_16 7 (dk_at dksX5_rankLine_4 16 rfl rfl)
theorem dX5_rankLine_113 : decode cX5_rankLine 113 = .ok (.aload_n 0, 1) := dk_42 (dk_at dksX5_rankLine_4 18 rfl rfl)
theorem dX5_rankLine_114 : decode cX5_rankLine 114 = .ok (.getfield 96, 3) := dk_180 0 96 (dk_at dksX5_rankLine_4 19 rfl rfl)
theorem dX5_rankLine_117 : decode cX5_rankLine 117 = .ok (.imul, 1) := dk_104 (dk_at dksX5_rankLine_4 22 rfl rfl)
theorem dX5_rankLine_118 : decode cX5_rankLine 118 = .ok (.iconst 1, 1) := dk_4 (dk_at dksX5_rankLine_4 23 rfl rfl)
theorem dX5_rankLine_119 : decode cX5_rankLine 119 = .ok (.iadd, 1) := dk_96 (dk_at dksX5_rankLine_5 0 rfl rfl)
theorem dX5_rankLine_120 : decode cX5_rankLine 120 = .ok (.dup2, 1) := dk_92 (dk_at dksX5_rankLine_5 1 rfl rfl)
theorem dX5_rankLine_121 : decode cX5_rankLine 121 = .ok (.iaload, 1) := dk_46 (dk_at dksX5_rankLine_5 2 rfl rfl)
theorem dX5_rankLine_122 : decode cX5_rankLine 122 = .ok (.iconst 1, 1) := dk_4 (dk_at dksX5_rankLine_5 3 rfl rfl)
theorem dX5_rankLine_123 : decode cX5_rankLine 123 = .ok (.iadd, 1) := dk_96 (dk_at dksX5_rankLine_5 4 rfl rfl)
theorem dX5_rankLine_124 : decode cX5_rankLine 124 = .ok (.iastore, 1) := dk_79 (dk_at dksX5_rankLine_5 5 rfl rfl)
theorem dX5_rankLine_125 : decode cX5_rankLine 125 = .ok (.return_, 1) := dk_177 (dk_at dksX5_rankLine_5 6 rfl rfl)
abbrev cX5_ranks : ByteArray := prog_20_method_5_code
def yX5_ranks : MethodName := ⟨RX5, "ranks", "(I)I"⟩
def dkwX5_ranks_0 : List UInt8 := [42, 180, 0, 13, 16, 7, 27, 104, 4, 96, 46, 172]
abbrev dktX5_ranks_0 : List UInt8 := dkwX5_ranks_0 ++ []
theorem dksX5_ranks_0 : cX5_ranks.data.toList.drop 0 = dktX5_ranks_0 := by decide +kernel
theorem dX5_ranks_0 : decode cX5_ranks 0 = .ok (.aload_n 0, 1) := dk_42 (dk_at dksX5_ranks_0 0 rfl rfl)
theorem dX5_ranks_1 : decode cX5_ranks 1 = .ok (.getfield 13, 3) := dk_180 0 13 (dk_at dksX5_ranks_0 1 rfl rfl)
theorem dX5_ranks_4 : decode cX5_ranks 4 = .ok (.bipush 7, 2) := dk_16 7 (dk_at dksX5_ranks_0 4 rfl rfl)
theorem dX5_ranks_6 : decode cX5_ranks 6 = .ok (.iload_n 1, 1) := dk_27 (dk_at dksX5_ranks_0 6 rfl rfl)
theorem dX5_ranks_7 : decode cX5_ranks 7 = .ok (.imul, 1) := dk_104 (dk_at dksX5_ranks_0 7 rfl rfl)
theorem dX5_ranks_8 : decode cX5_ranks 8 = .ok (.iconst 1, 1) := dk_4 (dk_at dksX5_ranks_0 8 rfl rfl)
theorem dX5_ranks_9 : decode cX5_ranks 9 = .ok (.iadd, 1) := dk_96 (dk_at dksX5_ranks_0 9 rfl rfl)
theorem dX5_ranks_10 : decode cX5_ranks 10 = .ok (.iaload, 1) := dk_46 (dk_at dksX5_ranks_0 10 rfl rfl)
theorem dX5_ranks_11 : decode cX5_ranks 11 = .ok (.ireturn, 1) := dk_172 (dk_at dksX5_ranks_0 11 rfl rfl)
abbrev cX5_numberTold : ByteArray := prog_20_method_27_code
def yX5_numberTold : MethodName := ⟨RX5, "numberTold", "(II)I"⟩
def dkwX5_numberTold_2 : List UInt8 := [62, 42, 182, 0, 240, 29, 172]
abbrev dktX5_numberTold_2 : List UInt8 := dkwX5_numberTold_2 ++ []
def dkwX5_numberTold_1 : List UInt8 := [154, 0, 20, 42, 180, 0, 193, 27, 28, 184, 0, 170, 154, 0, 8, 42, 5, 182, 0, 237, 42, 180, 0, 193]
abbrev dktX5_numberTold_1 : List UInt8 := dkwX5_numberTold_1 ++ dktX5_numberTold_2
def dkwX5_numberTold_0 : List UInt8 := [42, 180, 0, 177, 154, 0, 16, 42, 180, 0, 190, 6, 159, 0, 8, 42, 4, 182, 0, 237, 42, 180, 0, 177]
abbrev dktX5_numberTold_0 : List UInt8 := dkwX5_numberTold_0 ++ dktX5_numberTold_1
theorem dksX5_numberTold_0 : cX5_numberTold.data.toList.drop 0 = dktX5_numberTold_0 := by decide +kernel
theorem dksX5_numberTold_1 : cX5_numberTold.data.toList.drop 24 = dktX5_numberTold_1 := dk_seg dksX5_numberTold_0 24 rfl rfl
theorem dksX5_numberTold_2 : cX5_numberTold.data.toList.drop 48 = dktX5_numberTold_2 := dk_seg dksX5_numberTold_1 24 rfl rfl
theorem dX5_numberTold_0 : decode cX5_numberTold 0 = .ok (.aload_n 0, 1) := dk_42 (dk_at dksX5_numberTold_0 0 rfl rfl)
theorem dX5_numberTold_1 : decode cX5_numberTold 1 = .ok (.getfield 177, 3) := dk_180 0 177 (dk_at dksX5_numberTold_0 1 rfl rfl)
theorem dX5_numberTold_4 : decode cX5_numberTold 4 = .ok (.ifCond .ne 16, 3) := dk_154 0 16 (dk_at dksX5_numberTold_0 4 rfl rfl)
theorem dX5_numberTold_7 : decode cX5_numberTold 7 = .ok (.aload_n 0, 1) := dk_42 (dk_at dksX5_numberTold_0 7 rfl rfl)
theorem dX5_numberTold_8 : decode cX5_numberTold 8 = .ok (.getfield 190, 3) := dk_180 0 190 (dk_at dksX5_numberTold_0 8 rfl rfl)
theorem dX5_numberTold_11 : decode cX5_numberTold 11 = .ok (.iconst 3, 1) := dk_6 (dk_at dksX5_numberTold_0 11 rfl rfl)
theorem dX5_numberTold_12 : decode cX5_numberTold 12 = .ok (.if_icmp .eq 8, 3) := dk_159 0 8 (dk_at dksX5_numberTold_0 12 rfl rfl)
theorem dX5_numberTold_15 : decode cX5_numberTold 15 = .ok (.aload_n 0, 1) := dk_42 (dk_at dksX5_numberTold_0 15 rfl rfl)
theorem dX5_numberTold_16 : decode cX5_numberTold 16 = .ok (.iconst 1, 1) := dk_4 (dk_at dksX5_numberTold_0 16 rfl rfl)
theorem dX5_numberTold_17 : decode cX5_numberTold 17 = .ok (.invokevirtual 237, 3) := dk_182 0 237 (dk_at dksX5_numberTold_0 17 rfl rfl)
theorem dX5_numberTold_20 : decode cX5_numberTold 20 = .ok (.aload_n 0, 1) := dk_42 (dk_at dksX5_numberTold_0 20 rfl rfl)
theorem dX5_numberTold_21 : decode cX5_numberTold 21 = .ok (.getfield 177, 3) := dk_180 0 177 (dk_at dksX5_numberTold_0 21 rfl rfl)
theorem dX5_numberTold_24 : decode cX5_numberTold 24 = .ok (.ifCond .ne 20, 3) := dk_154 0 20 (dk_at dksX5_numberTold_1 0 rfl rfl)
theorem dX5_numberTold_27 : decode cX5_numberTold 27 = .ok (.aload_n 0, 1) := dk_42 (dk_at dksX5_numberTold_1 3 rfl rfl)
theorem dX5_numberTold_28 : decode cX5_numberTold 28 = .ok (.getfield 193, 3) := dk_180 0 193 (dk_at dksX5_numberTold_1 4 rfl rfl)
theorem dX5_numberTold_31 : decode cX5_numberTold 31 = .ok (.iload_n 1, 1) := dk_27 (dk_at dksX5_numberTold_1 7 rfl rfl)
theorem dX5_numberTold_32 : decode cX5_numberTold 32 = .ok (.iload_n 2, 1) := dk_28 (dk_at dksX5_numberTold_1 8 rfl rfl)
theorem dX5_numberTold_33 : decode cX5_numberTold 33 = .ok (.invokestatic 170, 3) := dk_184 0 170 (dk_at dksX5_numberTold_1 9 rfl rfl)
theorem dX5_numberTold_36 : decode cX5_numberTold 36 = .ok (.ifCond .ne 8, 3) := dk_154 0 8 (dk_at dksX5_numberTold_1 12 rfl rfl)
theorem dX5_numberTold_39 : decode cX5_numberTold 39 = .ok (.aload_n 0, 1) := dk_42 (dk_at dksX5_numberTold_1 15 rfl rfl)
theorem dX5_numberTold_40 : decode cX5_numberTold 40 = .ok (.iconst 2, 1) := dk_5 (dk_at dksX5_numberTold_1 16 rfl rfl)
theorem dX5_numberTold_41 : decode cX5_numberTold 41 = .ok (.invokevirtual 237, 3) := dk_182 0 237 (dk_at dksX5_numberTold_1 17 rfl rfl)
theorem dX5_numberTold_44 : decode cX5_numberTold 44 = .ok (.aload_n 0, 1) := dk_42 (dk_at dksX5_numberTold_1 20 rfl rfl)
theorem dX5_numberTold_45 : decode cX5_numberTold 45 = .ok (.getfield 193, 3) := dk_180 0 193 (dk_at dksX5_numberTold_1 21 rfl rfl)
theorem dX5_numberTold_48 : decode cX5_numberTold 48 = .ok (.istore_n 3, 1) := dk_62 (dk_at dksX5_numberTold_2 0 rfl rfl)
theorem dX5_numberTold_49 : decode cX5_numberTold 49 = .ok (.aload_n 0, 1) := dk_42 (dk_at dksX5_numberTold_2 1 rfl rfl)
theorem dX5_numberTold_50 : decode cX5_numberTold 50 = .ok (.invokevirtual 240, 3) := dk_182 0 240 (dk_at dksX5_numberTold_2 2 rfl rfl)
theorem dX5_numberTold_53 : decode cX5_numberTold 53 = .ok (.iload_n 3, 1) := dk_29 (dk_at dksX5_numberTold_2 5 rfl rfl)
theorem dX5_numberTold_54 : decode cX5_numberTold 54 = .ok (.ireturn, 1) := dk_172 (dk_at dksX5_numberTold_2 6 rfl rfl)
abbrev cX5_partnerLine : ByteArray := prog_20_method_34_code
def yX5_partnerLine : MethodName := ⟨RX5, "partnerLine", "()V"⟩
def dkwX5_partnerLine_8 : List UInt8 := [180, 0, 13, 16, 7, 42, 180, 0, 96, 104, 5, 96, 92, 46, 4, 96, 79, 177]
abbrev dktX5_partnerLine_8 : List UInt8 := dkwX5_partnerLine_8 ++ []
def dkwX5_partnerLine_7 : List UInt8 := [180, 0, 44, 28, 21, 4, 79, 42, 180, 0, 47, 28, 21, 5, 79, 42, 180, 0, 50, 28, 21, 6, 79, 42]
abbrev dktX5_partnerLine_7 : List UInt8 := dkwX5_partnerLine_7 ++ dktX5_partnerLine_8
def dkwX5_partnerLine_6 : List UInt8 := [154, 255, 189, 42, 182, 1, 59, 42, 180, 0, 177, 158, 0, 4, 177, 42, 180, 0, 41, 28, 29, 79, 42]
abbrev dktX5_partnerLine_6 : List UInt8 := dkwX5_partnerLine_6 ++ dktX5_partnerLine_7
def dkwX5_partnerLine_5 : List UInt8 := [180, 0, 56, 6, 28, 104, 21, 6, 96, 42, 180, 1, 42, 79, 132, 6, 1, 42, 16, 44, 182, 0, 234]
abbrev dktX5_partnerLine_5 : List UInt8 := dkwX5_partnerLine_5 ++ dktX5_partnerLine_6
def dkwX5_partnerLine_4 : List UInt8 := [180, 0, 177, 158, 0, 4, 177, 42, 180, 0, 53, 6, 28, 104, 21, 6, 96, 42, 180, 1, 39, 79, 42]
abbrev dktX5_partnerLine_4 : List UInt8 := dkwX5_partnerLine_4 ++ dktX5_partnerLine_5
def dkwX5_partnerLine_3 : List UInt8 := [153, 0, 73, 42, 182, 0, 240, 42, 3, 21, 6, 6, 160, 0, 7, 4, 167, 0, 4, 3, 182, 1, 55, 42]
abbrev dktX5_partnerLine_3 : List UInt8 := dkwX5_partnerLine_3 ++ dktX5_partnerLine_4
def dkwX5_partnerLine_2 : List UInt8 := [180, 1, 42, 54, 4, 42, 4, 6, 182, 1, 65, 54, 5, 3, 54, 6, 42, 19, 1, 20, 182, 0, 243]
abbrev dktX5_partnerLine_2 : List UInt8 := dkwX5_partnerLine_2 ++ dktX5_partnerLine_3
def dkwX5_partnerLine_1 : List UInt8 := [42, 3, 3, 182, 1, 55, 16, 10, 42, 180, 0, 96, 104, 27, 96, 61, 42, 180, 1, 39, 62, 42]
abbrev dktX5_partnerLine_1 : List UInt8 := dkwX5_partnerLine_1 ++ dktX5_partnerLine_2
def dkwX5_partnerLine_0 : List UInt8 := [42, 42, 180, 0, 96, 182, 1, 69, 60, 27, 16, 10, 160, 0, 8, 42, 7, 182, 0, 237, 42, 182, 0, 240]
abbrev dktX5_partnerLine_0 : List UInt8 := dkwX5_partnerLine_0 ++ dktX5_partnerLine_1
theorem dksX5_partnerLine_0 : cX5_partnerLine.data.toList.drop 0 = dktX5_partnerLine_0 := by decide +kernel
theorem dksX5_partnerLine_1 : cX5_partnerLine.data.toList.drop 24 = dktX5_partnerLine_1 := dk_seg dksX5_partnerLine_0 24 rfl rfl
theorem dksX5_partnerLine_2 : cX5_partnerLine.data.toList.drop 46 = dktX5_partnerLine_2 := dk_seg dksX5_partnerLine_1 22 rfl rfl
theorem dksX5_partnerLine_3 : cX5_partnerLine.data.toList.drop 69 = dktX5_partnerLine_3 := dk_seg dksX5_partnerLine_2 23 rfl rfl
theorem dksX5_partnerLine_4 : cX5_partnerLine.data.toList.drop 93 = dktX5_partnerLine_4 := dk_seg dksX5_partnerLine_3 24 rfl rfl
theorem dksX5_partnerLine_5 : cX5_partnerLine.data.toList.drop 116 = dktX5_partnerLine_5 := dk_seg dksX5_partnerLine_4 23 rfl rfl
theorem dksX5_partnerLine_6 : cX5_partnerLine.data.toList.drop 139 = dktX5_partnerLine_6 := dk_seg dksX5_partnerLine_5 23 rfl rfl
theorem dksX5_partnerLine_7 : cX5_partnerLine.data.toList.drop 162 = dktX5_partnerLine_7 := dk_seg dksX5_partnerLine_6 23 rfl rfl
theorem dksX5_partnerLine_8 : cX5_partnerLine.data.toList.drop 186 = dktX5_partnerLine_8 := dk_seg dksX5_partnerLine_7 24 rfl rfl
theorem dX5_partnerLine_0 : decode cX5_partnerLine 0 = .ok (.aload_n 0, 1) := dk_42 (dk_at dksX5_partnerLine_0 0 rfl rfl)
theorem dX5_partnerLine_1 : decode cX5_partnerLine 1 = .ok (.aload_n 0, 1) := dk_42 (dk_at dksX5_partnerLine_0 1 rfl rfl)
theorem dX5_partnerLine_2 : decode cX5_partnerLine 2 = .ok (.getfield 96, 3) := dk_180 0 96 (dk_at dksX5_partnerLine_0 2 rfl rfl)
theorem dX5_partnerLine_5 : decode cX5_partnerLine 5 = .ok (.invokevirtual 325, 3) := dk_182 1 69 (dk_at dksX5_partnerLine_0 5 rfl rfl)
theorem dX5_partnerLine_8 : decode cX5_partnerLine 8 = .ok (.istore_n 1, 1) := dk_60 (dk_at dksX5_partnerLine_0 8 rfl rfl)
theorem dX5_partnerLine_9 : decode cX5_partnerLine 9 = .ok (.iload_n 1, 1) := dk_27 (dk_at dksX5_partnerLine_0 9 rfl rfl)
theorem dX5_partnerLine_10 : decode cX5_partnerLine 10 = .ok (.bipush 10, 2) := dk_16 10 (dk_at dksX5_partnerLine_0 10 rfl rfl)
theorem dX5_partnerLine_12 : decode cX5_partnerLine 12 = .ok (.if_icmp .ne 8, 3) := dk_160 0 8 (dk_at dksX5_partnerLine_0 12 rfl rfl)
theorem dX5_partnerLine_15 : decode cX5_partnerLine 15 = .ok (.aload_n 0, 1) := dk_42 (dk_at dksX5_partnerLine_0 15 rfl rfl)
theorem dX5_partnerLine_16 : decode cX5_partnerLine 16 = .ok (.iconst 4, 1) := dk_7 (dk_at dksX5_partnerLine_0 16 rfl rfl)
theorem dX5_partnerLine_17 : decode cX5_partnerLine 17 = .ok (.invokevirtual 237, 3) := dk_182 0 237 (dk_at dksX5_partnerLine_0 17 rfl rfl)
theorem dX5_partnerLine_20 : decode cX5_partnerLine 20 = .ok (.aload_n 0, 1) := dk_42 (dk_at dksX5_partnerLine_0 20 rfl rfl)
theorem dX5_partnerLine_21 : decode cX5_partnerLine 21 = .ok (.invokevirtual 240, 3) := dk_182 0 240 (dk_at dksX5_partnerLine_0 21 rfl rfl)
theorem dX5_partnerLine_24 : decode cX5_partnerLine 24 = .ok (.aload_n 0, 1) := dk_42 (dk_at dksX5_partnerLine_1 0 rfl rfl)
theorem dX5_partnerLine_25 : decode cX5_partnerLine 25 = .ok (.iconst 0, 1) := dk_3 (dk_at dksX5_partnerLine_1 1 rfl rfl)
theorem dX5_partnerLine_26 : decode cX5_partnerLine 26 = .ok (.iconst 0, 1) := dk_3 (dk_at dksX5_partnerLine_1 2 rfl rfl)
theorem dX5_partnerLine_27 : decode cX5_partnerLine 27 = .ok (.invokevirtual 311, 3) := dk_182 1 55 (dk_at dksX5_partnerLine_1 3 rfl rfl)
theorem dX5_partnerLine_30 : decode cX5_partnerLine 30 = .ok (.bipush 10, 2) := dk_16 10 (dk_at dksX5_partnerLine_1 6 rfl rfl)
theorem dX5_partnerLine_32 : decode cX5_partnerLine 32 = .ok (.aload_n 0, 1) := dk_42 (dk_at dksX5_partnerLine_1 8 rfl rfl)
theorem dX5_partnerLine_33 : decode cX5_partnerLine 33 = .ok (.getfield 96, 3) := dk_180 0 96 (dk_at dksX5_partnerLine_1 9 rfl rfl)
theorem dX5_partnerLine_36 : decode cX5_partnerLine 36 = .ok (.imul, 1) := dk_104 (dk_at dksX5_partnerLine_1 12 rfl rfl)
theorem dX5_partnerLine_37 : decode cX5_partnerLine 37 = .ok (.iload_n 1, 1) := dk_27 (dk_at dksX5_partnerLine_1 13 rfl rfl)
theorem dX5_partnerLine_38 : decode cX5_partnerLine 38 = .ok (.iadd, 1) := dk_96 (dk_at dksX5_partnerLine_1 14 rfl rfl)
theorem dX5_partnerLine_39 : decode cX5_partnerLine 39 = .ok (.istore_n 2, 1) := dk_61 (dk_at dksX5_partnerLine_1 15 rfl rfl)
theorem dX5_partnerLine_40 : decode cX5_partnerLine 40 = .ok (.aload_n 0, 1) := dk_42 (dk_at dksX5_partnerLine_1 16 rfl rfl)
theorem dX5_partnerLine_41 : decode cX5_partnerLine 41 = .ok (.getfield 295, 3) := dk_180 1 39 (dk_at dksX5_partnerLine_1 17 rfl rfl)
theorem dX5_partnerLine_44 : decode cX5_partnerLine 44 = .ok (.istore_n 3, 1) := dk_62 (dk_at dksX5_partnerLine_1 20 rfl rfl)
theorem dX5_partnerLine_45 : decode cX5_partnerLine 45 = .ok (.aload_n 0, 1) := dk_42 (dk_at dksX5_partnerLine_1 21 rfl rfl)
theorem dX5_partnerLine_46 : decode cX5_partnerLine 46 = .ok (.getfield 298, 3) := dk_180 1 42 (dk_at dksX5_partnerLine_2 0 rfl rfl)
theorem dX5_partnerLine_49 : decode cX5_partnerLine 49 = .ok (.istore 4, 2) := dk_54 4 (dk_at dksX5_partnerLine_2 3 rfl rfl)
theorem dX5_partnerLine_51 : decode cX5_partnerLine 51 = .ok (.aload_n 0, 1) := dk_42 (dk_at dksX5_partnerLine_2 5 rfl rfl)
theorem dX5_partnerLine_52 : decode cX5_partnerLine 52 = .ok (.iconst 1, 1) := dk_4 (dk_at dksX5_partnerLine_2 6 rfl rfl)
theorem dX5_partnerLine_53 : decode cX5_partnerLine 53 = .ok (.iconst 3, 1) := dk_6 (dk_at dksX5_partnerLine_2 7 rfl rfl)
theorem dX5_partnerLine_54 : decode cX5_partnerLine 54 = .ok (.invokevirtual 321, 3) := dk_182 1 65 (dk_at dksX5_partnerLine_2 8 rfl rfl)
theorem dX5_partnerLine_57 : decode cX5_partnerLine 57 = .ok (.istore 5, 2) := dk_54 5 (dk_at dksX5_partnerLine_2 11 rfl rfl)
theorem dX5_partnerLine_59 : decode cX5_partnerLine 59 = .ok (.iconst 0, 1) := dk_3 (dk_at dksX5_partnerLine_2 13 rfl rfl)
theorem dX5_partnerLine_60 : decode cX5_partnerLine 60 = .ok (.istore 6, 2) := dk_54 6 (dk_at dksX5_partnerLine_2 14 rfl rfl)
theorem dX5_partnerLine_62 : decode cX5_partnerLine 62 = .ok (.aload_n 0, 1) := dk_42 (dk_at dksX5_partnerLine_2 16 rfl rfl)
theorem dX5_partnerLine_63 : decode cX5_partnerLine 63 = .ok (.ldc_w 276, 3) := dk_19 1 20 (dk_at dksX5_partnerLine_2 17 rfl rfl)
theorem dX5_partnerLine_66 : decode cX5_partnerLine 66 = .ok (.invokevirtual 243, 3) := dk_182 0 243 (dk_at dksX5_partnerLine_2 20 rfl rfl)
theorem dX5_partnerLine_69 : decode cX5_partnerLine 69 = .ok (.ifCond .eq 73, 3) := dk_153 0 73 (dk_at dksX5_partnerLine_3 0 rfl rfl)
theorem dX5_partnerLine_72 : decode cX5_partnerLine 72 = .ok (.aload_n 0, 1) := dk_42 (dk_at dksX5_partnerLine_3 3 rfl rfl)
theorem dX5_partnerLine_73 : decode cX5_partnerLine 73 = .ok (.invokevirtual 240, 3) := dk_182 0 240 (dk_at dksX5_partnerLine_3 4 rfl rfl)
theorem dX5_partnerLine_76 : decode cX5_partnerLine 76 = .ok (.aload_n 0, 1) := dk_42 (dk_at dksX5_partnerLine_3 7 rfl rfl)
theorem dX5_partnerLine_77 : decode cX5_partnerLine 77 = .ok (.iconst 0, 1) := dk_3 (dk_at dksX5_partnerLine_3 8 rfl rfl)
theorem dX5_partnerLine_78 : decode cX5_partnerLine 78 = .ok (.iload 6, 2) := dk_21 6 (dk_at dksX5_partnerLine_3 9 rfl rfl)
theorem dX5_partnerLine_80 : decode cX5_partnerLine 80 = .ok (.iconst 3, 1) := dk_6 (dk_at dksX5_partnerLine_3 11 rfl rfl)
theorem dX5_partnerLine_81 : decode cX5_partnerLine 81 = .ok (.if_icmp .ne 7, 3) := dk_160 0 7 (dk_at dksX5_partnerLine_3 12 rfl rfl)
theorem dX5_partnerLine_84 : decode cX5_partnerLine 84 = .ok (.iconst 1, 1) := dk_4 (dk_at dksX5_partnerLine_3 15 rfl rfl)
theorem dX5_partnerLine_85 : decode cX5_partnerLine 85 = .ok (.goto 4, 3) := dk_167 0 4 (dk_at dksX5_partnerLine_3 16 rfl rfl)
theorem dX5_partnerLine_88 : decode cX5_partnerLine 88 = .ok (.iconst 0, 1) := dk_3 (dk_at dksX5_partnerLine_3 19 rfl rfl)
theorem dX5_partnerLine_89 : decode cX5_partnerLine 89 = .ok (.invokevirtual 311, 3) := dk_182 1 55 (dk_at dksX5_partnerLine_3 20 rfl rfl)
theorem dX5_partnerLine_92 : decode cX5_partnerLine 92 = .ok (.aload_n 0, 1) := dk_42 (dk_at dksX5_partnerLine_3 23 rfl rfl)
theorem dX5_partnerLine_93 : decode cX5_partnerLine 93 = .ok (.getfield 177, 3) := dk_180 0 177 (dk_at dksX5_partnerLine_4 0 rfl rfl)
theorem dX5_partnerLine_96 : decode cX5_partnerLine 96 = .ok (.ifCond .le 4, 3) := dk_158 0 4 (dk_at dksX5_partnerLine_4 3 rfl rfl)
theorem dX5_partnerLine_99 : decode cX5_partnerLine 99 = .ok (.return_, 1) := dk_177 (dk_at dksX5_partnerLine_4 6 rfl rfl)
theorem dX5_partnerLine_100 : decode cX5_partnerLine 100 = .ok (.aload_n 0, 1) := dk_42 (dk_at dksX5_partnerLine_4 7 rfl rfl)
theorem dX5_partnerLine_101 : decode cX5_partnerLine 101 = .ok (.getfield 53, 3) := dk_180 0 53 (dk_at dksX5_partnerLine_4 8 rfl rfl)
theorem dX5_partnerLine_104 : decode cX5_partnerLine 104 = .ok (.iconst 3, 1) := dk_6 (dk_at dksX5_partnerLine_4 11 rfl rfl)
theorem dX5_partnerLine_105 : decode cX5_partnerLine 105 = .ok (.iload_n 2, 1) := dk_28 (dk_at dksX5_partnerLine_4 12 rfl rfl)
theorem dX5_partnerLine_106 : decode cX5_partnerLine 106 = .ok (.imul, 1) := dk_104 (dk_at dksX5_partnerLine_4 13 rfl rfl)
theorem dX5_partnerLine_107 : decode cX5_partnerLine 107 = .ok (.iload 6, 2) := dk_21 6 (dk_at dksX5_partnerLine_4 14 rfl rfl)
theorem dX5_partnerLine_109 : decode cX5_partnerLine 109 = .ok (.iadd, 1) := dk_96 (dk_at dksX5_partnerLine_4 16 rfl rfl)
theorem dX5_partnerLine_110 : decode cX5_partnerLine 110 = .ok (.aload_n 0, 1) := dk_42 (dk_at dksX5_partnerLine_4 17 rfl rfl)
theorem dX5_partnerLine_111 : decode cX5_partnerLine 111 = .ok (.getfield 295, 3) := dk_180 1 39 (dk_at dksX5_partnerLine_4 18 rfl rfl)
theorem dX5_partnerLine_114 : decode cX5_partnerLine 114 = .ok (.iastore, 1) := dk_79 (dk_at dksX5_partnerLine_4 21 rfl rfl)
theorem dX5_partnerLine_115 : decode cX5_partnerLine 115 = .ok (.aload_n 0, 1) := dk_42 (dk_at dksX5_partnerLine_4 22 rfl rfl)
theorem dX5_partnerLine_116 : decode cX5_partnerLine 116 = .ok (.getfield 56, 3) := dk_180 0 56 (dk_at dksX5_partnerLine_5 0 rfl rfl)
theorem dX5_partnerLine_119 : decode cX5_partnerLine 119 = .ok (.iconst 3, 1) := dk_6 (dk_at dksX5_partnerLine_5 3 rfl rfl)
theorem dX5_partnerLine_120 : decode cX5_partnerLine 120 = .ok (.iload_n 2, 1) := dk_28 (dk_at dksX5_partnerLine_5 4 rfl rfl)
theorem dX5_partnerLine_121 : decode cX5_partnerLine 121 = .ok (.imul, 1) := dk_104 (dk_at dksX5_partnerLine_5 5 rfl rfl)
theorem dX5_partnerLine_122 : decode cX5_partnerLine 122 = .ok (.iload 6, 2) := dk_21 6 (dk_at dksX5_partnerLine_5 6 rfl rfl)
theorem dX5_partnerLine_124 : decode cX5_partnerLine 124 = .ok (.iadd, 1) := dk_96 (dk_at dksX5_partnerLine_5 8 rfl rfl)
theorem dX5_partnerLine_125 : decode cX5_partnerLine 125 = .ok (.aload_n 0, 1) := dk_42 (dk_at dksX5_partnerLine_5 9 rfl rfl)
theorem dX5_partnerLine_126 : decode cX5_partnerLine 126 = .ok (.getfield 298, 3) := dk_180 1 42 (dk_at dksX5_partnerLine_5 10 rfl rfl)
theorem dX5_partnerLine_129 : decode cX5_partnerLine 129 = .ok (.iastore, 1) := dk_79 (dk_at dksX5_partnerLine_5 13 rfl rfl)
theorem dX5_partnerLine_130 : decode cX5_partnerLine 130 = .ok (.iinc 6 1, 3) := dk_132 6 1 (dk_at dksX5_partnerLine_5 14 rfl rfl)
theorem dX5_partnerLine_133 : decode cX5_partnerLine 133 = .ok (.aload_n 0, 1) := dk_42 (dk_at dksX5_partnerLine_5 17 rfl rfl)
theorem dX5_partnerLine_134 : decode cX5_partnerLine 134 = .ok (.bipush 44, 2) := dk_16 44 (dk_at dksX5_partnerLine_5 18 rfl rfl)
theorem dX5_partnerLine_136 : decode cX5_partnerLine 136 = .ok (.invokevirtual 234, 3) := dk_182 0 234 (dk_at dksX5_partnerLine_5 20 rfl rfl)
theorem dX5_partnerLine_139 : decode cX5_partnerLine 139 = .ok (.ifCond .ne (-67), 3) := dk_154 255 189 (dk_at dksX5_partnerLine_6 0 rfl rfl)
theorem dX5_partnerLine_142 : decode cX5_partnerLine 142 = .ok (.aload_n 0, 1) := dk_42 (dk_at dksX5_partnerLine_6 3 rfl rfl)
theorem dX5_partnerLine_143 : decode cX5_partnerLine 143 = .ok (.invokevirtual 315, 3) := dk_182 1 59 (dk_at dksX5_partnerLine_6 4 rfl rfl)
theorem dX5_partnerLine_146 : decode cX5_partnerLine 146 = .ok (.aload_n 0, 1) := dk_42 (dk_at dksX5_partnerLine_6 7 rfl rfl)
theorem dX5_partnerLine_147 : decode cX5_partnerLine 147 = .ok (.getfield 177, 3) := dk_180 0 177 (dk_at dksX5_partnerLine_6 8 rfl rfl)
theorem dX5_partnerLine_150 : decode cX5_partnerLine 150 = .ok (.ifCond .le 4, 3) := dk_158 0 4 (dk_at dksX5_partnerLine_6 11 rfl rfl)
theorem dX5_partnerLine_153 : decode cX5_partnerLine 153 = .ok (.return_, 1) := dk_177 (dk_at dksX5_partnerLine_6 14 rfl rfl)
theorem dX5_partnerLine_154 : decode cX5_partnerLine 154 = .ok (.aload_n 0, 1) := dk_42 (dk_at dksX5_partnerLine_6 15 rfl rfl)
theorem dX5_partnerLine_155 : decode cX5_partnerLine 155 = .ok (.getfield 41, 3) := dk_180 0 41 (dk_at dksX5_partnerLine_6 16 rfl rfl)
theorem dX5_partnerLine_158 : decode cX5_partnerLine 158 = .ok (.iload_n 2, 1) := dk_28 (dk_at dksX5_partnerLine_6 19 rfl rfl)
theorem dX5_partnerLine_159 : decode cX5_partnerLine 159 = .ok (.iload_n 3, 1) := dk_29 (dk_at dksX5_partnerLine_6 20 rfl rfl)
theorem dX5_partnerLine_160 : decode cX5_partnerLine 160 = .ok (.iastore, 1) := dk_79 (dk_at dksX5_partnerLine_6 21 rfl rfl)
theorem dX5_partnerLine_161 : decode cX5_partnerLine 161 = .ok (.aload_n 0, 1) := dk_42 (dk_at dksX5_partnerLine_6 22 rfl rfl)
theorem dX5_partnerLine_162 : decode cX5_partnerLine 162 = .ok (.getfield 44, 3) := dk_180 0 44 (dk_at dksX5_partnerLine_7 0 rfl rfl)
theorem dX5_partnerLine_165 : decode cX5_partnerLine 165 = .ok (.iload_n 2, 1) := dk_28 (dk_at dksX5_partnerLine_7 3 rfl rfl)
theorem dX5_partnerLine_166 : decode cX5_partnerLine 166 = .ok (.iload 4, 2) := dk_21 4 (dk_at dksX5_partnerLine_7 4 rfl rfl)
theorem dX5_partnerLine_168 : decode cX5_partnerLine 168 = .ok (.iastore, 1) := dk_79 (dk_at dksX5_partnerLine_7 6 rfl rfl)
theorem dX5_partnerLine_169 : decode cX5_partnerLine 169 = .ok (.aload_n 0, 1) := dk_42 (dk_at dksX5_partnerLine_7 7 rfl rfl)
theorem dX5_partnerLine_170 : decode cX5_partnerLine 170 = .ok (.getfield 47, 3) := dk_180 0 47 (dk_at dksX5_partnerLine_7 8 rfl rfl)
theorem dX5_partnerLine_173 : decode cX5_partnerLine 173 = .ok (.iload_n 2, 1) := dk_28 (dk_at dksX5_partnerLine_7 11 rfl rfl)
theorem dX5_partnerLine_174 : decode cX5_partnerLine 174 = .ok (.iload 5, 2) := dk_21 5 (dk_at dksX5_partnerLine_7 12 rfl rfl)
theorem dX5_partnerLine_176 : decode cX5_partnerLine 176 = .ok (.iastore, 1) := dk_79 (dk_at dksX5_partnerLine_7 14 rfl rfl)
theorem dX5_partnerLine_177 : decode cX5_partnerLine 177 = .ok (.aload_n 0, 1) := dk_42 (dk_at dksX5_partnerLine_7 15 rfl rfl)
theorem dX5_partnerLine_178 : decode cX5_partnerLine 178 = .ok (.getfield 50, 3) := dk_180 0 50 (dk_at dksX5_partnerLine_7 16 rfl rfl)
theorem dX5_partnerLine_181 : decode cX5_partnerLine 181 = .ok (.iload_n 2, 1) := dk_28 (dk_at dksX5_partnerLine_7 19 rfl rfl)
theorem dX5_partnerLine_182 : decode cX5_partnerLine 182 = .ok (.iload 6, 2) := dk_21 6 (dk_at dksX5_partnerLine_7 20 rfl rfl)
theorem dX5_partnerLine_184 : decode cX5_partnerLine 184 = .ok (.iastore, 1) := dk_79 (dk_at dksX5_partnerLine_7 22 rfl rfl)
theorem dX5_partnerLine_185 : decode cX5_partnerLine 185 = .ok (.aload_n 0, 1) := dk_42 (dk_at dksX5_partnerLine_7 23 rfl rfl)
theorem dX5_partnerLine_186 : decode cX5_partnerLine 186 = .ok (.getfield 13, 3) := dk_180 0 13 (dk_at dksX5_partnerLine_8 0 rfl rfl)
theorem dX5_partnerLine_189 : decode cX5_partnerLine 189 = .ok (.bipush 7, 2) := dk_16 7 (dk_at dksX5_partnerLine_8 3 rfl rfl)
theorem dX5_partnerLine_191 : decode cX5_partnerLine 191 = .ok (.aload_n 0, 1) := dk_42 (dk_at dksX5_partnerLine_8 5 rfl rfl)
theorem dX5_partnerLine_192 : decode cX5_partnerLine 192 = .ok (.getfield 96, 3) := dk_180 0 96 (dk_at dksX5_partnerLine_8 6 rfl rfl)
theorem dX5_partnerLine_195 : decode cX5_partnerLine 195 = .ok (.imul, 1) := dk_104 (dk_at dksX5_partnerLine_8 9 rfl rfl)
theorem dX5_partnerLine_196 : decode cX5_partnerLine 196 = .ok (.iconst 2, 1) := dk_5 (dk_at dksX5_partnerLine_8 10 rfl rfl)
theorem dX5_partnerLine_197 : decode cX5_partnerLine 197 = .ok (.iadd, 1) := dk_96 (dk_at dksX5_partnerLine_8 11 rfl rfl)
theorem dX5_partnerLine_198 : decode cX5_partnerLine 198 = .ok (.dup2, 1) := dk_92 (dk_at dksX5_partnerLine_8 12 rfl rfl)
theorem dX5_partnerLine_199 : decode cX5_partnerLine 199 = .ok (.iaload, 1) := dk_46 (dk_at dksX5_partnerLine_8 13 rfl rfl)
theorem dX5_partnerLine_200 : decode cX5_partnerLine 200 = .ok (.iconst 1, 1) := dk_4 (dk_at dksX5_partnerLine_8 14 rfl rfl)
theorem dX5_partnerLine_201 : decode cX5_partnerLine 201 = .ok (.iadd, 1) := dk_96 (dk_at dksX5_partnerLine_8 15 rfl rfl)
theorem dX5_partnerLine_202 : decode cX5_partnerLine 202 = .ok (.iastore, 1) := dk_79 (dk_at dksX5_partnerLine_8 16 rfl rfl)
theorem dX5_partnerLine_203 : decode cX5_partnerLine 203 = .ok (.return_, 1) := dk_177 (dk_at dksX5_partnerLine_8 17 rfl rfl)
abbrev cX5_partners : ByteArray := prog_20_method_6_code
def yX5_partners : MethodName := ⟨RX5, "partners", "(I)I"⟩
def dkwX5_partners_0 : List UInt8 := [42, 180, 0, 13, 16, 7, 27, 104, 5, 96, 46, 172]
abbrev dktX5_partners_0 : List UInt8 := dkwX5_partners_0 ++ []
theorem dksX5_partners_0 : cX5_partners.data.toList.drop 0 = dktX5_partners_0 := by decide +kernel
theorem dX5_partners_0 : decode cX5_partners 0 = .ok (.aload_n 0, 1) := dk_42 (dk_at dksX5_partners_0 0 rfl rfl)
theorem dX5_partners_1 : decode cX5_partners 1 = .ok (.getfield 13, 3) := dk_180 0 13 (dk_at dksX5_partners_0 1 rfl rfl)
theorem dX5_partners_4 : decode cX5_partners 4 = .ok (.bipush 7, 2) := dk_16 7 (dk_at dksX5_partners_0 4 rfl rfl)
theorem dX5_partners_6 : decode cX5_partners 6 = .ok (.iload_n 1, 1) := dk_27 (dk_at dksX5_partners_0 6 rfl rfl)
theorem dX5_partners_7 : decode cX5_partners 7 = .ok (.imul, 1) := dk_104 (dk_at dksX5_partners_0 7 rfl rfl)
theorem dX5_partners_8 : decode cX5_partners 8 = .ok (.iconst 2, 1) := dk_5 (dk_at dksX5_partners_0 8 rfl rfl)
theorem dX5_partners_9 : decode cX5_partners 9 = .ok (.iadd, 1) := dk_96 (dk_at dksX5_partners_0 9 rfl rfl)
theorem dX5_partners_10 : decode cX5_partners 10 = .ok (.iaload, 1) := dk_46 (dk_at dksX5_partners_0 10 rfl rfl)
theorem dX5_partners_11 : decode cX5_partners 11 = .ok (.ireturn, 1) := dk_172 (dk_at dksX5_partners_0 11 rfl rfl)
abbrev cX5_treeLine : ByteArray := prog_20_method_35_code
def yX5_treeLine : MethodName := ⟨RX5, "treeLine", "()V"⟩
def dkwX5_treeLine_5 : List UInt8 := [180, 0, 96, 104, 29, 96, 21, 4, 79, 177]
abbrev dktX5_treeLine_5 : List UInt8 := dkwX5_treeLine_5 ++ []
def dkwX5_treeLine_4 : List UInt8 := [42, 182, 1, 84, 54, 4, 42, 182, 1, 59, 42, 180, 0, 177, 154, 0, 19, 42, 180, 0, 29, 16, 6, 42]
abbrev dktX5_treeLine_4 : List UInt8 := dkwX5_treeLine_4 ++ dktX5_treeLine_5
def dkwX5_treeLine_3 : List UInt8 := [158, 0, 4, 177, 42, 3, 181, 1, 72, 42, 3, 181, 1, 75, 42, 3, 181, 1, 78, 42, 29, 181, 1, 81]
abbrev dktX5_treeLine_3 : List UInt8 := dkwX5_treeLine_3 ++ dktX5_treeLine_4
def dkwX5_treeLine_2 : List UInt8 := [180, 0, 96, 104, 29, 96, 46, 155, 0, 8, 42, 6, 182, 0, 237, 42, 182, 0, 240, 42, 180, 0, 177]
abbrev dktX5_treeLine_2 : List UInt8 := dkwX5_treeLine_2 ++ dktX5_treeLine_3
def dkwX5_treeLine_1 : List UInt8 := [182, 1, 51, 62, 42, 180, 0, 177, 154, 0, 29, 29, 155, 0, 20, 42, 180, 0, 29, 16, 6, 42]
abbrev dktX5_treeLine_1 : List UInt8 := dkwX5_treeLine_1 ++ dktX5_treeLine_2
def dkwX5_treeLine_0 : List UInt8 := [42, 182, 0, 240, 42, 182, 1, 47, 64, 42, 180, 0, 177, 158, 0, 7, 2, 167, 0, 8, 42, 31]
abbrev dktX5_treeLine_0 : List UInt8 := dkwX5_treeLine_0 ++ dktX5_treeLine_1
theorem dksX5_treeLine_0 : cX5_treeLine.data.toList.drop 0 = dktX5_treeLine_0 := by decide +kernel
theorem dksX5_treeLine_1 : cX5_treeLine.data.toList.drop 22 = dktX5_treeLine_1 := dk_seg dksX5_treeLine_0 22 rfl rfl
theorem dksX5_treeLine_2 : cX5_treeLine.data.toList.drop 44 = dktX5_treeLine_2 := dk_seg dksX5_treeLine_1 22 rfl rfl
theorem dksX5_treeLine_3 : cX5_treeLine.data.toList.drop 67 = dktX5_treeLine_3 := dk_seg dksX5_treeLine_2 23 rfl rfl
theorem dksX5_treeLine_4 : cX5_treeLine.data.toList.drop 91 = dktX5_treeLine_4 := dk_seg dksX5_treeLine_3 24 rfl rfl
theorem dksX5_treeLine_5 : cX5_treeLine.data.toList.drop 115 = dktX5_treeLine_5 := dk_seg dksX5_treeLine_4 24 rfl rfl
theorem dX5_treeLine_0 : decode cX5_treeLine 0 = .ok (.aload_n 0, 1) := dk_42 (dk_at dksX5_treeLine_0 0 rfl rfl)
theorem dX5_treeLine_1 : decode cX5_treeLine 1 = .ok (.invokevirtual 240, 3) := dk_182 0 240 (dk_at dksX5_treeLine_0 1 rfl rfl)
theorem dX5_treeLine_4 : decode cX5_treeLine 4 = .ok (.aload_n 0, 1) := dk_42 (dk_at dksX5_treeLine_0 4 rfl rfl)
theorem dX5_treeLine_5 : decode cX5_treeLine 5 = .ok (.invokevirtual 303, 3) := dk_182 1 47 (dk_at dksX5_treeLine_0 5 rfl rfl)
theorem dX5_treeLine_8 : decode cX5_treeLine 8 = .ok (.lstore_n 1, 1) := dk_64 (dk_at dksX5_treeLine_0 8 rfl rfl)
theorem dX5_treeLine_9 : decode cX5_treeLine 9 = .ok (.aload_n 0, 1) := dk_42 (dk_at dksX5_treeLine_0 9 rfl rfl)
theorem dX5_treeLine_10 : decode cX5_treeLine 10 = .ok (.getfield 177, 3) := dk_180 0 177 (dk_at dksX5_treeLine_0 10 rfl rfl)
theorem dX5_treeLine_13 : decode cX5_treeLine 13 = .ok (.ifCond .le 7, 3) := dk_158 0 7 (dk_at dksX5_treeLine_0 13 rfl rfl)
theorem dX5_treeLine_16 : decode cX5_treeLine 16 = .ok (.iconst (-1), 1) := dk_2 (dk_at dksX5_treeLine_0 16 rfl rfl)
theorem dX5_treeLine_17 : decode cX5_treeLine 17 = .ok (.goto 8, 3) := dk_167 0 8 (dk_at dksX5_treeLine_0 17 rfl rfl)
theorem dX5_treeLine_20 : decode cX5_treeLine 20 = .ok (.aload_n 0, 1) := dk_42 (dk_at dksX5_treeLine_0 20 rfl rfl)
theorem dX5_treeLine_21 : decode cX5_treeLine 21 = .ok (.lload_n 1, 1) := dk_31 (dk_at dksX5_treeLine_0 21 rfl rfl)
theorem dX5_treeLine_22 : decode cX5_treeLine 22 = .ok (.invokevirtual 307, 3) := dk_182 1 51 (dk_at dksX5_treeLine_1 0 rfl rfl)
theorem dX5_treeLine_25 : decode cX5_treeLine 25 = .ok (.istore_n 3, 1) := dk_62 (dk_at dksX5_treeLine_1 3 rfl rfl)
theorem dX5_treeLine_26 : decode cX5_treeLine 26 = .ok (.aload_n 0, 1) := dk_42 (dk_at dksX5_treeLine_1 4 rfl rfl)
theorem dX5_treeLine_27 : decode cX5_treeLine 27 = .ok (.getfield 177, 3) := dk_180 0 177 (dk_at dksX5_treeLine_1 5 rfl rfl)
theorem dX5_treeLine_30 : decode cX5_treeLine 30 = .ok (.ifCond .ne 29, 3) := dk_154 0 29 (dk_at dksX5_treeLine_1 8 rfl rfl)
theorem dX5_treeLine_33 : decode cX5_treeLine 33 = .ok (.iload_n 3, 1) := dk_29 (dk_at dksX5_treeLine_1 11 rfl rfl)
theorem dX5_treeLine_34 : decode cX5_treeLine 34 = .ok (.ifCond .lt 20, 3) := dk_155 0 20 (dk_at dksX5_treeLine_1 12 rfl rfl)
theorem dX5_treeLine_37 : decode cX5_treeLine 37 = .ok (.aload_n 0, 1) := dk_42 (dk_at dksX5_treeLine_1 15 rfl rfl)
theorem dX5_treeLine_38 : decode cX5_treeLine 38 = .ok (.getfield 29, 3) := dk_180 0 29 (dk_at dksX5_treeLine_1 16 rfl rfl)
theorem dX5_treeLine_41 : decode cX5_treeLine 41 = .ok (.bipush 6, 2) := dk_16 6 (dk_at dksX5_treeLine_1 19 rfl rfl)
theorem dX5_treeLine_43 : decode cX5_treeLine 43 = .ok (.aload_n 0, 1) := dk_42 (dk_at dksX5_treeLine_1 21 rfl rfl)
theorem dX5_treeLine_44 : decode cX5_treeLine 44 = .ok (.getfield 96, 3) := dk_180 0 96 (dk_at dksX5_treeLine_2 0 rfl rfl)
theorem dX5_treeLine_47 : decode cX5_treeLine 47 = .ok (.imul, 1) := dk_104 (dk_at dksX5_treeLine_2 3 rfl rfl)
theorem dX5_treeLine_48 : decode cX5_treeLine 48 = .ok (.iload_n 3, 1) := dk_29 (dk_at dksX5_treeLine_2 4 rfl rfl)
theorem dX5_treeLine_49 : decode cX5_treeLine 49 = .ok (.iadd, 1) := dk_96 (dk_at dksX5_treeLine_2 5 rfl rfl)
theorem dX5_treeLine_50 : decode cX5_treeLine 50 = .ok (.iaload, 1) := dk_46 (dk_at dksX5_treeLine_2 6 rfl rfl)
theorem dX5_treeLine_51 : decode cX5_treeLine 51 = .ok (.ifCond .lt 8, 3) := dk_155 0 8 (dk_at dksX5_treeLine_2 7 rfl rfl)
theorem dX5_treeLine_54 : decode cX5_treeLine 54 = .ok (.aload_n 0, 1) := dk_42 (dk_at dksX5_treeLine_2 10 rfl rfl)
theorem dX5_treeLine_55 : decode cX5_treeLine 55 = .ok (.iconst 3, 1) := dk_6 (dk_at dksX5_treeLine_2 11 rfl rfl)
theorem dX5_treeLine_56 : decode cX5_treeLine 56 = .ok (.invokevirtual 237, 3) := dk_182 0 237 (dk_at dksX5_treeLine_2 12 rfl rfl)
theorem dX5_treeLine_59 : decode cX5_treeLine 59 = .ok (.aload_n 0, 1) := dk_42 (dk_at dksX5_treeLine_2 15 rfl rfl)
theorem dX5_treeLine_60 : decode cX5_treeLine 60 = .ok (.invokevirtual 240, 3) := dk_182 0 240 (dk_at dksX5_treeLine_2 16 rfl rfl)
theorem dX5_treeLine_63 : decode cX5_treeLine 63 = .ok (.aload_n 0, 1) := dk_42 (dk_at dksX5_treeLine_2 19 rfl rfl)
theorem dX5_treeLine_64 : decode cX5_treeLine 64 = .ok (.getfield 177, 3) := dk_180 0 177 (dk_at dksX5_treeLine_2 20 rfl rfl)
theorem dX5_treeLine_67 : decode cX5_treeLine 67 = .ok (.ifCond .le 4, 3) := dk_158 0 4 (dk_at dksX5_treeLine_3 0 rfl rfl)
theorem dX5_treeLine_70 : decode cX5_treeLine 70 = .ok (.return_, 1) := dk_177 (dk_at dksX5_treeLine_3 3 rfl rfl)
theorem dX5_treeLine_71 : decode cX5_treeLine 71 = .ok (.aload_n 0, 1) := dk_42 (dk_at dksX5_treeLine_3 4 rfl rfl)
theorem dX5_treeLine_72 : decode cX5_treeLine 72 = .ok (.iconst 0, 1) := dk_3 (dk_at dksX5_treeLine_3 5 rfl rfl)
theorem dX5_treeLine_73 : decode cX5_treeLine 73 = .ok (.putfield 328, 3) := dk_181 1 72 (dk_at dksX5_treeLine_3 6 rfl rfl)
theorem dX5_treeLine_76 : decode cX5_treeLine 76 = .ok (.aload_n 0, 1) := dk_42 (dk_at dksX5_treeLine_3 9 rfl rfl)
theorem dX5_treeLine_77 : decode cX5_treeLine 77 = .ok (.iconst 0, 1) := dk_3 (dk_at dksX5_treeLine_3 10 rfl rfl)
theorem dX5_treeLine_78 : decode cX5_treeLine 78 = .ok (.putfield 331, 3) := dk_181 1 75 (dk_at dksX5_treeLine_3 11 rfl rfl)
theorem dX5_treeLine_81 : decode cX5_treeLine 81 = .ok (.aload_n 0, 1) := dk_42 (dk_at dksX5_treeLine_3 14 rfl rfl)
theorem dX5_treeLine_82 : decode cX5_treeLine 82 = .ok (.iconst 0, 1) := dk_3 (dk_at dksX5_treeLine_3 15 rfl rfl)
theorem dX5_treeLine_83 : decode cX5_treeLine 83 = .ok (.putfield 334, 3) := dk_181 1 78 (dk_at dksX5_treeLine_3 16 rfl rfl)
theorem dX5_treeLine_86 : decode cX5_treeLine 86 = .ok (.aload_n 0, 1) := dk_42 (dk_at dksX5_treeLine_3 19 rfl rfl)
theorem dX5_treeLine_87 : decode cX5_treeLine 87 = .ok (.iload_n 3, 1) := dk_29 (dk_at dksX5_treeLine_3 20 rfl rfl)
theorem dX5_treeLine_88 : decode cX5_treeLine 88 = .ok (.putfield 337, 3) := dk_181 1 81 (dk_at dksX5_treeLine_3 21 rfl rfl)
theorem dX5_treeLine_91 : decode cX5_treeLine 91 = .ok (.aload_n 0, 1) := dk_42 (dk_at dksX5_treeLine_4 0 rfl rfl)
theorem dX5_treeLine_92 : decode cX5_treeLine 92 = .ok (.invokevirtual 340, 3) := dk_182 1 84 (dk_at dksX5_treeLine_4 1 rfl rfl)
theorem dX5_treeLine_95 : decode cX5_treeLine 95 = .ok (.istore 4, 2) := dk_54 4 (dk_at dksX5_treeLine_4 4 rfl rfl)
theorem dX5_treeLine_97 : decode cX5_treeLine 97 = .ok (.aload_n 0, 1) := dk_42 (dk_at dksX5_treeLine_4 6 rfl rfl)
theorem dX5_treeLine_98 : decode cX5_treeLine 98 = .ok (.invokevirtual 315, 3) := dk_182 1 59 (dk_at dksX5_treeLine_4 7 rfl rfl)
theorem dX5_treeLine_101 : decode cX5_treeLine 101 = .ok (.aload_n 0, 1) := dk_42 (dk_at dksX5_treeLine_4 10 rfl rfl)
theorem dX5_treeLine_102 : decode cX5_treeLine 102 = .ok (.getfield 177, 3) := dk_180 0 177 (dk_at dksX5_treeLine_4 11 rfl rfl)
theorem dX5_treeLine_105 : decode cX5_treeLine 105 = .ok (.ifCond .ne 19, 3) := dk_154 0 19 (dk_at dksX5_treeLine_4 14 rfl rfl)
theorem dX5_treeLine_108 : decode cX5_treeLine 108 = .ok (.aload_n 0, 1) := dk_42 (dk_at dksX5_treeLine_4 17 rfl rfl)
theorem dX5_treeLine_109 : decode cX5_treeLine 109 = .ok (.getfield 29, 3) := dk_180 0 29 (dk_at dksX5_treeLine_4 18 rfl rfl)
theorem dX5_treeLine_112 : decode cX5_treeLine 112 = .ok (.bipush 6, 2) := dk_16 6 (dk_at dksX5_treeLine_4 21 rfl rfl)
theorem dX5_treeLine_114 : decode cX5_treeLine 114 = .ok (.aload_n 0, 1) := dk_42 (dk_at dksX5_treeLine_4 23 rfl rfl)
theorem dX5_treeLine_115 : decode cX5_treeLine 115 = .ok (.getfield 96, 3) := dk_180 0 96 (dk_at dksX5_treeLine_5 0 rfl rfl)
theorem dX5_treeLine_118 : decode cX5_treeLine 118 = .ok (.imul, 1) := dk_104 (dk_at dksX5_treeLine_5 3 rfl rfl)
theorem dX5_treeLine_119 : decode cX5_treeLine 119 = .ok (.iload_n 3, 1) := dk_29 (dk_at dksX5_treeLine_5 4 rfl rfl)
theorem dX5_treeLine_120 : decode cX5_treeLine 120 = .ok (.iadd, 1) := dk_96 (dk_at dksX5_treeLine_5 5 rfl rfl)
theorem dX5_treeLine_121 : decode cX5_treeLine 121 = .ok (.iload 4, 2) := dk_21 4 (dk_at dksX5_treeLine_5 6 rfl rfl)
theorem dX5_treeLine_123 : decode cX5_treeLine 123 = .ok (.iastore, 1) := dk_79 (dk_at dksX5_treeLine_5 8 rfl rfl)
theorem dX5_treeLine_124 : decode cX5_treeLine 124 = .ok (.return_, 1) := dk_177 (dk_at dksX5_treeLine_5 9 rfl rfl)
abbrev cX5_node : ByteArray := prog_20_method_38_code
def yX5_node : MethodName := ⟨RX5, "node", "()I"⟩
def dkwX5_node_7 : List UInt8 := [21, 4, 79, 42, 180, 0, 74, 28, 21, 5, 79, 27, 172]
abbrev dktX5_node_7 : List UInt8 := dkwX5_node_7 ++ []
def dkwX5_node_6 : List UInt8 := [54, 5, 42, 89, 180, 1, 78, 4, 100, 181, 1, 78, 42, 180, 0, 68, 28, 29, 79, 42, 180, 0, 71, 28]
abbrev dktX5_node_6 : List UInt8 := dkwX5_node_6 ++ dktX5_node_7
def dkwX5_node_5 : List UInt8 := [19, 1, 3, 182, 1, 105, 42, 182, 1, 84, 54, 4, 42, 19, 1, 5, 182, 1, 105, 42, 182, 1, 84]
abbrev dktX5_node_5 : List UInt8 := dkwX5_node_5 ++ dktX5_node_6
def dkwX5_node_4 : List UInt8 := [16, 40, 42, 180, 0, 96, 104, 27, 96, 61, 42, 180, 0, 65, 28, 2, 79, 42, 182, 1, 102, 62, 42]
abbrev dktX5_node_4 : List UInt8 := dkwX5_node_4 ++ dktX5_node_5
def dkwX5_node_3 : List UInt8 := [4, 182, 0, 237, 3, 172, 42, 182, 1, 99, 60, 42, 182, 1, 90, 42, 180, 0, 177, 158, 0, 5, 3, 172]
abbrev dktX5_node_3 : List UInt8 := dkwX5_node_3 ++ dktX5_node_4
def dkwX5_node_2 : List UInt8 := [18, 255, 182, 0, 243, 153, 0, 8, 42, 182, 1, 96, 172, 42, 19, 1, 1, 182, 0, 243, 154, 0, 10, 42]
abbrev dktX5_node_2 : List UInt8 := dkwX5_node_2 ++ dktX5_node_3
def dkwX5_node_1 : List UInt8 := [182, 1, 84, 60, 42, 16, 41, 182, 1, 93, 42, 89, 180, 1, 78, 4, 100, 181, 1, 78, 27, 172, 42]
abbrev dktX5_node_1 : List UInt8 := dkwX5_node_1 ++ dktX5_node_2
def dkwX5_node_0 : List UInt8 := [42, 180, 0, 177, 158, 0, 5, 3, 172, 42, 16, 40, 182, 0, 234, 153, 0, 30, 42, 182, 1, 90, 42]
abbrev dktX5_node_0 : List UInt8 := dkwX5_node_0 ++ dktX5_node_1
theorem dksX5_node_0 : cX5_node.data.toList.drop 0 = dktX5_node_0 := by decide +kernel
theorem dksX5_node_1 : cX5_node.data.toList.drop 23 = dktX5_node_1 := dk_seg dksX5_node_0 23 rfl rfl
theorem dksX5_node_2 : cX5_node.data.toList.drop 46 = dktX5_node_2 := dk_seg dksX5_node_1 23 rfl rfl
theorem dksX5_node_3 : cX5_node.data.toList.drop 70 = dktX5_node_3 := dk_seg dksX5_node_2 24 rfl rfl
theorem dksX5_node_4 : cX5_node.data.toList.drop 94 = dktX5_node_4 := dk_seg dksX5_node_3 24 rfl rfl
theorem dksX5_node_5 : cX5_node.data.toList.drop 117 = dktX5_node_5 := dk_seg dksX5_node_4 23 rfl rfl
theorem dksX5_node_6 : cX5_node.data.toList.drop 140 = dktX5_node_6 := dk_seg dksX5_node_5 23 rfl rfl
theorem dksX5_node_7 : cX5_node.data.toList.drop 164 = dktX5_node_7 := dk_seg dksX5_node_6 24 rfl rfl
theorem dX5_node_0 : decode cX5_node 0 = .ok (.aload_n 0, 1) := dk_42 (dk_at dksX5_node_0 0 rfl rfl)
theorem dX5_node_1 : decode cX5_node 1 = .ok (.getfield 177, 3) := dk_180 0 177 (dk_at dksX5_node_0 1 rfl rfl)
theorem dX5_node_4 : decode cX5_node 4 = .ok (.ifCond .le 5, 3) := dk_158 0 5 (dk_at dksX5_node_0 4 rfl rfl)
theorem dX5_node_7 : decode cX5_node 7 = .ok (.iconst 0, 1) := dk_3 (dk_at dksX5_node_0 7 rfl rfl)
theorem dX5_node_8 : decode cX5_node 8 = .ok (.ireturn, 1) := dk_172 (dk_at dksX5_node_0 8 rfl rfl)
theorem dX5_node_9 : decode cX5_node 9 = .ok (.aload_n 0, 1) := dk_42 (dk_at dksX5_node_0 9 rfl rfl)
theorem dX5_node_10 : decode cX5_node 10 = .ok (.bipush 40, 2) := dk_16 40 (dk_at dksX5_node_0 10 rfl rfl)
theorem dX5_node_12 : decode cX5_node 12 = .ok (.invokevirtual 234, 3) := dk_182 0 234 (dk_at dksX5_node_0 12 rfl rfl)
theorem dX5_node_15 : decode cX5_node 15 = .ok (.ifCond .eq 30, 3) := dk_153 0 30 (dk_at dksX5_node_0 15 rfl rfl)
theorem dX5_node_18 : decode cX5_node 18 = .ok (.aload_n 0, 1) := dk_42 (dk_at dksX5_node_0 18 rfl rfl)
theorem dX5_node_19 : decode cX5_node 19 = .ok (.invokevirtual 346, 3) := dk_182 1 90 (dk_at dksX5_node_0 19 rfl rfl)
theorem dX5_node_22 : decode cX5_node 22 = .ok (.aload_n 0, 1) := dk_42 (dk_at dksX5_node_0 22 rfl rfl)
theorem dX5_node_23 : decode cX5_node 23 = .ok (.invokevirtual 340, 3) := dk_182 1 84 (dk_at dksX5_node_1 0 rfl rfl)
theorem dX5_node_26 : decode cX5_node 26 = .ok (.istore_n 1, 1) := dk_60 (dk_at dksX5_node_1 3 rfl rfl)
theorem dX5_node_27 : decode cX5_node 27 = .ok (.aload_n 0, 1) := dk_42 (dk_at dksX5_node_1 4 rfl rfl)
theorem dX5_node_28 : decode cX5_node 28 = .ok (.bipush 41, 2) := dk_16 41 (dk_at dksX5_node_1 5 rfl rfl)
theorem dX5_node_30 : decode cX5_node 30 = .ok (.invokevirtual 349, 3) := dk_182 1 93 (dk_at dksX5_node_1 7 rfl rfl)
theorem dX5_node_33 : decode cX5_node 33 = .ok (.aload_n 0, 1) := dk_42 (dk_at dksX5_node_1 10 rfl rfl)
theorem dX5_node_34 : decode cX5_node 34 = .ok (.dup, 1) := dk_89 (dk_at dksX5_node_1 11 rfl rfl)
theorem dX5_node_35 : decode cX5_node 35 = .ok (.getfield 334, 3) := dk_180 1 78 (dk_at dksX5_node_1 12 rfl rfl)
theorem dX5_node_38 : decode cX5_node 38 = .ok (.iconst 1, 1) := dk_4 (dk_at dksX5_node_1 15 rfl rfl)
theorem dX5_node_39 : decode cX5_node 39 = .ok (.isub, 1) := dk_100 (dk_at dksX5_node_1 16 rfl rfl)
theorem dX5_node_40 : decode cX5_node 40 = .ok (.putfield 334, 3) := dk_181 1 78 (dk_at dksX5_node_1 17 rfl rfl)
theorem dX5_node_43 : decode cX5_node 43 = .ok (.iload_n 1, 1) := dk_27 (dk_at dksX5_node_1 20 rfl rfl)
theorem dX5_node_44 : decode cX5_node 44 = .ok (.ireturn, 1) := dk_172 (dk_at dksX5_node_1 21 rfl rfl)
theorem dX5_node_45 : decode cX5_node 45 = .ok (.aload_n 0, 1) := dk_42 (dk_at dksX5_node_1 22 rfl rfl)
theorem dX5_node_46 : decode cX5_node 46 = .ok (.ldc 255, 2) := dk_18 255 (dk_at dksX5_node_2 0 rfl rfl)
theorem dX5_node_48 : decode cX5_node 48 = .ok (.invokevirtual 243, 3) := dk_182 0 243 (dk_at dksX5_node_2 2 rfl rfl)
theorem dX5_node_51 : decode cX5_node 51 = .ok (.ifCond .eq 8, 3) := dk_153 0 8 (dk_at dksX5_node_2 5 rfl rfl)
theorem dX5_node_54 : decode cX5_node 54 = .ok (.aload_n 0, 1) := dk_42 (dk_at dksX5_node_2 8 rfl rfl)
theorem dX5_node_55 : decode cX5_node 55 = .ok (.invokevirtual 352, 3) := dk_182 1 96 (dk_at dksX5_node_2 9 rfl rfl)
theorem dX5_node_58 : decode cX5_node 58 = .ok (.ireturn, 1) := dk_172 (dk_at dksX5_node_2 12 rfl rfl)
theorem dX5_node_59 : decode cX5_node 59 = .ok (.aload_n 0, 1) := dk_42 (dk_at dksX5_node_2 13 rfl rfl)
theorem dX5_node_60 : decode cX5_node 60 = .ok (.ldc_w 257, 3) := dk_19 1 1 (dk_at dksX5_node_2 14 rfl rfl)
theorem dX5_node_63 : decode cX5_node 63 = .ok (.invokevirtual 243, 3) := dk_182 0 243 (dk_at dksX5_node_2 17 rfl rfl)
theorem dX5_node_66 : decode cX5_node 66 = .ok (.ifCond .ne 10, 3) := dk_154 0 10 (dk_at dksX5_node_2 20 rfl rfl)
theorem dX5_node_69 : decode cX5_node 69 = .ok (.aload_n 0, 1) := dk_42 (dk_at dksX5_node_2 23 rfl rfl)
theorem dX5_node_70 : decode cX5_node 70 = .ok (.iconst 1, 1) := dk_4 (dk_at dksX5_node_3 0 rfl rfl)
theorem dX5_node_71 : decode cX5_node 71 = .ok (.invokevirtual 237, 3) := dk_182 0 237 (dk_at dksX5_node_3 1 rfl rfl)
theorem dX5_node_74 : decode cX5_node 74 = .ok (.iconst 0, 1) := dk_3 (dk_at dksX5_node_3 4 rfl rfl)
theorem dX5_node_75 : decode cX5_node 75 = .ok (.ireturn, 1) := dk_172 (dk_at dksX5_node_3 5 rfl rfl)
theorem dX5_node_76 : decode cX5_node 76 = .ok (.aload_n 0, 1) := dk_42 (dk_at dksX5_node_3 6 rfl rfl)
theorem dX5_node_77 : decode cX5_node 77 = .ok (.invokevirtual 355, 3) := dk_182 1 99 (dk_at dksX5_node_3 7 rfl rfl)
theorem dX5_node_80 : decode cX5_node 80 = .ok (.istore_n 1, 1) := dk_60 (dk_at dksX5_node_3 10 rfl rfl)
theorem dX5_node_81 : decode cX5_node 81 = .ok (.aload_n 0, 1) := dk_42 (dk_at dksX5_node_3 11 rfl rfl)
theorem dX5_node_82 : decode cX5_node 82 = .ok (.invokevirtual 346, 3) := dk_182 1 90 (dk_at dksX5_node_3 12 rfl rfl)
theorem dX5_node_85 : decode cX5_node 85 = .ok (.aload_n 0, 1) := dk_42 (dk_at dksX5_node_3 15 rfl rfl)
theorem dX5_node_86 : decode cX5_node 86 = .ok (.getfield 177, 3) := dk_180 0 177 (dk_at dksX5_node_3 16 rfl rfl)
theorem dX5_node_89 : decode cX5_node 89 = .ok (.ifCond .le 5, 3) := dk_158 0 5 (dk_at dksX5_node_3 19 rfl rfl)
theorem dX5_node_92 : decode cX5_node 92 = .ok (.iconst 0, 1) := dk_3 (dk_at dksX5_node_3 22 rfl rfl)
theorem dX5_node_93 : decode cX5_node 93 = .ok (.ireturn, 1) := dk_172 (dk_at dksX5_node_3 23 rfl rfl)
theorem dX5_node_94 : decode cX5_node 94 = .ok (.bipush 40, 2) := dk_16 40 (dk_at dksX5_node_4 0 rfl rfl)
theorem dX5_node_96 : decode cX5_node 96 = .ok (.aload_n 0, 1) := dk_42 (dk_at dksX5_node_4 2 rfl rfl)
theorem dX5_node_97 : decode cX5_node 97 = .ok (.getfield 96, 3) := dk_180 0 96 (dk_at dksX5_node_4 3 rfl rfl)
theorem dX5_node_100 : decode cX5_node 100 = .ok (.imul, 1) := dk_104 (dk_at dksX5_node_4 6 rfl rfl)
theorem dX5_node_101 : decode cX5_node 101 = .ok (.iload_n 1, 1) := dk_27 (dk_at dksX5_node_4 7 rfl rfl)
theorem dX5_node_102 : decode cX5_node 102 = .ok (.iadd, 1) := dk_96 (dk_at dksX5_node_4 8 rfl rfl)
theorem dX5_node_103 : decode cX5_node 103 = .ok (.istore_n 2, 1) := dk_61 (dk_at dksX5_node_4 9 rfl rfl)
theorem dX5_node_104 : decode cX5_node 104 = .ok (.aload_n 0, 1) := dk_42 (dk_at dksX5_node_4 10 rfl rfl)
theorem dX5_node_105 : decode cX5_node 105 = .ok (.getfield 65, 3) := dk_180 0 65 (dk_at dksX5_node_4 11 rfl rfl)
theorem dX5_node_108 : decode cX5_node 108 = .ok (.iload_n 2, 1) := dk_28 (dk_at dksX5_node_4 14 rfl rfl)
theorem dX5_node_109 : decode cX5_node 109 = .ok (.iconst (-1), 1) := dk_2 (dk_at dksX5_node_4 15 rfl rfl)
theorem dX5_node_110 : decode cX5_node 110 = .ok (.iastore, 1) := dk_79 (dk_at dksX5_node_4 16 rfl rfl)
theorem dX5_node_111 : decode cX5_node 111 = .ok (.aload_n 0, 1) := dk_42 (dk_at dksX5_node_4 17 rfl rfl)
theorem dX5_node_112 : decode cX5_node 112 = .ok (.invokevirtual 358, 3) := dk_182 1 102 (dk_at dksX5_node_4 18 rfl rfl)
theorem dX5_node_115 : decode cX5_node 115 = .ok (.istore_n 3, 1) := dk_62 (dk_at dksX5_node_4 21 rfl rfl)
theorem dX5_node_116 : decode cX5_node 116 = .ok (.aload_n 0, 1) := dk_42 (dk_at dksX5_node_4 22 rfl rfl)
theorem dX5_node_117 : decode cX5_node 117 = .ok (.ldc_w 259, 3) := dk_19 1 3 (dk_at dksX5_node_5 0 rfl rfl)
theorem dX5_node_120 : decode cX5_node 120 = .ok (.invokevirtual 361, 3) := dk_182 1 105 (dk_at dksX5_node_5 3 rfl rfl)
theorem dX5_node_123 : decode cX5_node 123 = .ok (.aload_n 0, 1) := dk_42 (dk_at dksX5_node_5 6 rfl rfl)
theorem dX5_node_124 : decode cX5_node 124 = .ok (.invokevirtual 340, 3) := dk_182 1 84 (dk_at dksX5_node_5 7 rfl rfl)
theorem dX5_node_127 : decode cX5_node 127 = .ok (.istore 4, 2) := dk_54 4 (dk_at dksX5_node_5 10 rfl rfl)
theorem dX5_node_129 : decode cX5_node 129 = .ok (.aload_n 0, 1) := dk_42 (dk_at dksX5_node_5 12 rfl rfl)
theorem dX5_node_130 : decode cX5_node 130 = .ok (.ldc_w 261, 3) := dk_19 1 5 (dk_at dksX5_node_5 13 rfl rfl)
theorem dX5_node_133 : decode cX5_node 133 = .ok (.invokevirtual 361, 3) := dk_182 1 105 (dk_at dksX5_node_5 16 rfl rfl)
theorem dX5_node_136 : decode cX5_node 136 = .ok (.aload_n 0, 1) := dk_42 (dk_at dksX5_node_5 19 rfl rfl)
theorem dX5_node_137 : decode cX5_node 137 = .ok (.invokevirtual 340, 3) := dk_182 1 84 (dk_at dksX5_node_5 20 rfl rfl)
theorem dX5_node_140 : decode cX5_node 140 = .ok (.istore 5, 2) := dk_54 5 (dk_at dksX5_node_6 0 rfl rfl)
theorem dX5_node_142 : decode cX5_node 142 = .ok (.aload_n 0, 1) := dk_42 (dk_at dksX5_node_6 2 rfl rfl)
theorem dX5_node_143 : decode cX5_node 143 = .ok (.dup, 1) := dk_89 (dk_at dksX5_node_6 3 rfl rfl)
theorem dX5_node_144 : decode cX5_node 144 = .ok (.getfield 334, 3) := dk_180 1 78 (dk_at dksX5_node_6 4 rfl rfl)
theorem dX5_node_147 : decode cX5_node 147 = .ok (.iconst 1, 1) := dk_4 (dk_at dksX5_node_6 7 rfl rfl)
theorem dX5_node_148 : decode cX5_node 148 = .ok (.isub, 1) := dk_100 (dk_at dksX5_node_6 8 rfl rfl)
theorem dX5_node_149 : decode cX5_node 149 = .ok (.putfield 334, 3) := dk_181 1 78 (dk_at dksX5_node_6 9 rfl rfl)
theorem dX5_node_152 : decode cX5_node 152 = .ok (.aload_n 0, 1) := dk_42 (dk_at dksX5_node_6 12 rfl rfl)
theorem dX5_node_153 : decode cX5_node 153 = .ok (.getfield 68, 3) := dk_180 0 68 (dk_at dksX5_node_6 13 rfl rfl)
theorem dX5_node_156 : decode cX5_node 156 = .ok (.iload_n 2, 1) := dk_28 (dk_at dksX5_node_6 16 rfl rfl)
theorem dX5_node_157 : decode cX5_node 157 = .ok (.iload_n 3, 1) := dk_29 (dk_at dksX5_node_6 17 rfl rfl)
theorem dX5_node_158 : decode cX5_node 158 = .ok (.iastore, 1) := dk_79 (dk_at dksX5_node_6 18 rfl rfl)
theorem dX5_node_159 : decode cX5_node 159 = .ok (.aload_n 0, 1) := dk_42 (dk_at dksX5_node_6 19 rfl rfl)
theorem dX5_node_160 : decode cX5_node 160 = .ok (.getfield 71, 3) := dk_180 0 71 (dk_at dksX5_node_6 20 rfl rfl)
theorem dX5_node_163 : decode cX5_node 163 = .ok (.iload_n 2, 1) := dk_28 (dk_at dksX5_node_6 23 rfl rfl)
theorem dX5_node_164 : decode cX5_node 164 = .ok (.iload 4, 2) := dk_21 4 (dk_at dksX5_node_7 0 rfl rfl)
theorem dX5_node_166 : decode cX5_node 166 = .ok (.iastore, 1) := dk_79 (dk_at dksX5_node_7 2 rfl rfl)
theorem dX5_node_167 : decode cX5_node 167 = .ok (.aload_n 0, 1) := dk_42 (dk_at dksX5_node_7 3 rfl rfl)
theorem dX5_node_168 : decode cX5_node 168 = .ok (.getfield 74, 3) := dk_180 0 74 (dk_at dksX5_node_7 4 rfl rfl)
theorem dX5_node_171 : decode cX5_node 171 = .ok (.iload_n 2, 1) := dk_28 (dk_at dksX5_node_7 7 rfl rfl)
theorem dX5_node_172 : decode cX5_node 172 = .ok (.iload 5, 2) := dk_21 5 (dk_at dksX5_node_7 8 rfl rfl)
theorem dX5_node_174 : decode cX5_node 174 = .ok (.iastore, 1) := dk_79 (dk_at dksX5_node_7 10 rfl rfl)
theorem dX5_node_175 : decode cX5_node 175 = .ok (.iload_n 1, 1) := dk_27 (dk_at dksX5_node_7 11 rfl rfl)
theorem dX5_node_176 : decode cX5_node 176 = .ok (.ireturn, 1) := dk_172 (dk_at dksX5_node_7 12 rfl rfl)
abbrev cX5_opens : ByteArray := prog_20_method_36_code
def yX5_opens : MethodName := ⟨RX5, "opens", "()V"⟩
def dkwX5_opens_1 : List UInt8 := [180, 1, 78, 4, 96, 181, 1, 78, 42, 182, 0, 240, 177]
abbrev dktX5_opens_1 : List UInt8 := dkwX5_opens_1 ++ []
def dkwX5_opens_0 : List UInt8 := [42, 180, 0, 177, 154, 0, 17, 42, 180, 1, 78, 16, 9, 160, 0, 8, 42, 7, 182, 0, 237, 42, 89]
abbrev dktX5_opens_0 : List UInt8 := dkwX5_opens_0 ++ dktX5_opens_1
theorem dksX5_opens_0 : cX5_opens.data.toList.drop 0 = dktX5_opens_0 := by decide +kernel
theorem dksX5_opens_1 : cX5_opens.data.toList.drop 23 = dktX5_opens_1 := dk_seg dksX5_opens_0 23 rfl rfl
theorem dX5_opens_0 : decode cX5_opens 0 = .ok (.aload_n 0, 1) := dk_42 (dk_at dksX5_opens_0 0 rfl rfl)
theorem dX5_opens_1 : decode cX5_opens 1 = .ok (.getfield 177, 3) := dk_180 0 177 (dk_at dksX5_opens_0 1 rfl rfl)
theorem dX5_opens_4 : decode cX5_opens 4 = .ok (.ifCond .ne 17, 3) := dk_154 0 17 (dk_at dksX5_opens_0 4 rfl rfl)
theorem dX5_opens_7 : decode cX5_opens 7 = .ok (.aload_n 0, 1) := dk_42 (dk_at dksX5_opens_0 7 rfl rfl)
theorem dX5_opens_8 : decode cX5_opens 8 = .ok (.getfield 334, 3) := dk_180 1 78 (dk_at dksX5_opens_0 8 rfl rfl)
theorem dX5_opens_11 : decode cX5_opens 11 = .ok (.bipush 9, 2) := dk_16 9 (dk_at dksX5_opens_0 11 rfl rfl)
theorem dX5_opens_13 : decode cX5_opens 13 = .ok (.if_icmp .ne 8, 3) := dk_160 0 8 (dk_at dksX5_opens_0 13 rfl rfl)
theorem dX5_opens_16 : decode cX5_opens 16 = .ok (.aload_n 0, 1) := dk_42 (dk_at dksX5_opens_0 16 rfl rfl)
theorem dX5_opens_17 : decode cX5_opens 17 = .ok (.iconst 4, 1) := dk_7 (dk_at dksX5_opens_0 17 rfl rfl)
theorem dX5_opens_18 : decode cX5_opens 18 = .ok (.invokevirtual 237, 3) := dk_182 0 237 (dk_at dksX5_opens_0 18 rfl rfl)
theorem dX5_opens_21 : decode cX5_opens 21 = .ok (.aload_n 0, 1) := dk_42 (dk_at dksX5_opens_0 21 rfl rfl)
theorem dX5_opens_22 : decode cX5_opens 22 = .ok (.dup, 1) := dk_89 (dk_at dksX5_opens_0 22 rfl rfl)
theorem dX5_opens_23 : decode cX5_opens 23 = .ok (.getfield 334, 3) := dk_180 1 78 (dk_at dksX5_opens_1 0 rfl rfl)
theorem dX5_opens_26 : decode cX5_opens 26 = .ok (.iconst 1, 1) := dk_4 (dk_at dksX5_opens_1 3 rfl rfl)
theorem dX5_opens_27 : decode cX5_opens 27 = .ok (.iadd, 1) := dk_96 (dk_at dksX5_opens_1 4 rfl rfl)
theorem dX5_opens_28 : decode cX5_opens 28 = .ok (.putfield 334, 3) := dk_181 1 78 (dk_at dksX5_opens_1 5 rfl rfl)
theorem dX5_opens_31 : decode cX5_opens 31 = .ok (.aload_n 0, 1) := dk_42 (dk_at dksX5_opens_1 8 rfl rfl)
theorem dX5_opens_32 : decode cX5_opens 32 = .ok (.invokevirtual 240, 3) := dk_182 0 240 (dk_at dksX5_opens_1 9 rfl rfl)
theorem dX5_opens_35 : decode cX5_opens 35 = .ok (.return_, 1) := dk_177 (dk_at dksX5_opens_1 12 rfl rfl)
abbrev cX5_mustSign : ByteArray := prog_20_method_23_code
def yX5_mustSign : MethodName := ⟨RX5, "mustSign", "(I)V"⟩
def dkwX5_mustSign_1 : List UInt8 := [177]
abbrev dktX5_mustSign_1 : List UInt8 := dkwX5_mustSign_1 ++ []
def dkwX5_mustSign_0 : List UInt8 := [42, 180, 0, 177, 154, 0, 16, 42, 27, 182, 0, 234, 154, 0, 8, 42, 4, 182, 0, 237, 42, 182, 0, 240]
abbrev dktX5_mustSign_0 : List UInt8 := dkwX5_mustSign_0 ++ dktX5_mustSign_1
theorem dksX5_mustSign_0 : cX5_mustSign.data.toList.drop 0 = dktX5_mustSign_0 := by decide +kernel
theorem dksX5_mustSign_1 : cX5_mustSign.data.toList.drop 24 = dktX5_mustSign_1 := dk_seg dksX5_mustSign_0 24 rfl rfl
theorem dX5_mustSign_0 : decode cX5_mustSign 0 = .ok (.aload_n 0, 1) := dk_42 (dk_at dksX5_mustSign_0 0 rfl rfl)
theorem dX5_mustSign_1 : decode cX5_mustSign 1 = .ok (.getfield 177, 3) := dk_180 0 177 (dk_at dksX5_mustSign_0 1 rfl rfl)
theorem dX5_mustSign_4 : decode cX5_mustSign 4 = .ok (.ifCond .ne 16, 3) := dk_154 0 16 (dk_at dksX5_mustSign_0 4 rfl rfl)
theorem dX5_mustSign_7 : decode cX5_mustSign 7 = .ok (.aload_n 0, 1) := dk_42 (dk_at dksX5_mustSign_0 7 rfl rfl)
theorem dX5_mustSign_8 : decode cX5_mustSign 8 = .ok (.iload_n 1, 1) := dk_27 (dk_at dksX5_mustSign_0 8 rfl rfl)
theorem dX5_mustSign_9 : decode cX5_mustSign 9 = .ok (.invokevirtual 234, 3) := dk_182 0 234 (dk_at dksX5_mustSign_0 9 rfl rfl)
theorem dX5_mustSign_12 : decode cX5_mustSign 12 = .ok (.ifCond .ne 8, 3) := dk_154 0 8 (dk_at dksX5_mustSign_0 12 rfl rfl)
theorem dX5_mustSign_15 : decode cX5_mustSign 15 = .ok (.aload_n 0, 1) := dk_42 (dk_at dksX5_mustSign_0 15 rfl rfl)
theorem dX5_mustSign_16 : decode cX5_mustSign 16 = .ok (.iconst 1, 1) := dk_4 (dk_at dksX5_mustSign_0 16 rfl rfl)
theorem dX5_mustSign_17 : decode cX5_mustSign 17 = .ok (.invokevirtual 237, 3) := dk_182 0 237 (dk_at dksX5_mustSign_0 17 rfl rfl)
theorem dX5_mustSign_20 : decode cX5_mustSign 20 = .ok (.aload_n 0, 1) := dk_42 (dk_at dksX5_mustSign_0 20 rfl rfl)
theorem dX5_mustSign_21 : decode cX5_mustSign 21 = .ok (.invokevirtual 240, 3) := dk_182 0 240 (dk_at dksX5_mustSign_0 21 rfl rfl)
theorem dX5_mustSign_24 : decode cX5_mustSign 24 = .ok (.return_, 1) := dk_177 (dk_at dksX5_mustSign_1 0 rfl rfl)
abbrev cX5_leaf : ByteArray := prog_20_method_40_code
def yX5_leaf : MethodName := ⟨RX5, "leaf", "()I"⟩
def dkwX5_leaf_10 : List UInt8 := [42, 180, 0, 65, 16, 40, 42, 180, 0, 96, 104, 27, 96, 21, 4, 79, 27, 172]
abbrev dktX5_leaf_10 : List UInt8 := dkwX5_leaf_10 ++ []
def dkwX5_leaf_9 : List UInt8 := [21, 4, 96, 21, 5, 79, 42, 180, 0, 13, 16, 7, 42, 180, 0, 96, 104, 6, 96, 92, 46, 4, 96, 79]
abbrev dktX5_leaf_9 : List UInt8 := dkwX5_leaf_9 ++ dktX5_leaf_10
def dkwX5_leaf_8 : List UInt8 := [16, 16, 42, 180, 0, 96, 104, 21, 4, 96, 32, 80, 42, 180, 0, 62, 16, 16, 42, 180, 0, 96, 104]
abbrev dktX5_leaf_8 : List UInt8 := dkwX5_leaf_8 ++ dktX5_leaf_9
def dkwX5_leaf_7 : List UInt8 := [158, 0, 5, 3, 172, 21, 4, 156, 0, 64, 42, 42, 180, 0, 96, 182, 1, 109, 54, 4, 42, 180, 0, 59]
abbrev dktX5_leaf_7 : List UInt8 := dkwX5_leaf_7 ++ dktX5_leaf_8
def dkwX5_leaf_6 : List UInt8 := [159, 0, 8, 42, 6, 182, 0, 237, 42, 180, 0, 193, 54, 5, 42, 182, 0, 240, 42, 180, 0, 177]
abbrev dktX5_leaf_6 : List UInt8 := dkwX5_leaf_6 ++ dktX5_leaf_7
def dkwX5_leaf_5 : List UInt8 := [155, 0, 30, 42, 180, 0, 62, 16, 16, 42, 180, 0, 96, 104, 21, 4, 96, 46, 42, 180, 0, 193]
abbrev dktX5_leaf_5 : List UInt8 := dkwX5_leaf_5 ++ dktX5_leaf_6
def dkwX5_leaf_4 : List UInt8 := [17, 3, 231, 184, 0, 170, 154, 0, 8, 42, 5, 182, 0, 237, 42, 180, 0, 177, 154, 0, 35, 21, 4]
abbrev dktX5_leaf_4 : List UInt8 := dkwX5_leaf_4 ++ dktX5_leaf_5
def dkwX5_leaf_3 : List UInt8 := [180, 0, 190, 6, 159, 0, 8, 42, 4, 182, 0, 237, 42, 180, 0, 177, 154, 0, 22, 42, 180, 0, 193, 4]
abbrev dktX5_leaf_3 : List UInt8 := dkwX5_leaf_3 ++ dktX5_leaf_4
def dkwX5_leaf_2 : List UInt8 := [16, 16, 160, 0, 8, 42, 7, 182, 0, 237, 42, 182, 0, 240, 42, 180, 0, 177, 154, 0, 16, 42]
abbrev dktX5_leaf_2 : List UInt8 := dkwX5_leaf_2 ++ dktX5_leaf_3
def dkwX5_leaf_1 : List UInt8 := [42, 180, 0, 96, 32, 182, 1, 112, 54, 4, 21, 4, 156, 0, 21, 42, 42, 180, 0, 96, 182, 1, 109]
abbrev dktX5_leaf_1 : List UInt8 := dkwX5_leaf_1 ++ dktX5_leaf_2
def dkwX5_leaf_0 : List UInt8 := [42, 182, 1, 99, 60, 42, 182, 0, 240, 42, 182, 1, 47, 65, 42, 180, 0, 177, 158, 0, 5, 3, 172, 42]
abbrev dktX5_leaf_0 : List UInt8 := dkwX5_leaf_0 ++ dktX5_leaf_1
theorem dksX5_leaf_0 : cX5_leaf.data.toList.drop 0 = dktX5_leaf_0 := by decide +kernel
theorem dksX5_leaf_1 : cX5_leaf.data.toList.drop 24 = dktX5_leaf_1 := dk_seg dksX5_leaf_0 24 rfl rfl
theorem dksX5_leaf_2 : cX5_leaf.data.toList.drop 47 = dktX5_leaf_2 := dk_seg dksX5_leaf_1 23 rfl rfl
theorem dksX5_leaf_3 : cX5_leaf.data.toList.drop 69 = dktX5_leaf_3 := dk_seg dksX5_leaf_2 22 rfl rfl
theorem dksX5_leaf_4 : cX5_leaf.data.toList.drop 93 = dktX5_leaf_4 := dk_seg dksX5_leaf_3 24 rfl rfl
theorem dksX5_leaf_5 : cX5_leaf.data.toList.drop 116 = dktX5_leaf_5 := dk_seg dksX5_leaf_4 23 rfl rfl
theorem dksX5_leaf_6 : cX5_leaf.data.toList.drop 138 = dktX5_leaf_6 := dk_seg dksX5_leaf_5 22 rfl rfl
theorem dksX5_leaf_7 : cX5_leaf.data.toList.drop 160 = dktX5_leaf_7 := dk_seg dksX5_leaf_6 22 rfl rfl
theorem dksX5_leaf_8 : cX5_leaf.data.toList.drop 184 = dktX5_leaf_8 := dk_seg dksX5_leaf_7 24 rfl rfl
theorem dksX5_leaf_9 : cX5_leaf.data.toList.drop 207 = dktX5_leaf_9 := dk_seg dksX5_leaf_8 23 rfl rfl
theorem dksX5_leaf_10 : cX5_leaf.data.toList.drop 231 = dktX5_leaf_10 := dk_seg dksX5_leaf_9 24 rfl rfl
theorem dX5_leaf_0 : decode cX5_leaf 0 = .ok (.aload_n 0, 1) := dk_42 (dk_at dksX5_leaf_0 0 rfl rfl)
theorem dX5_leaf_1 : decode cX5_leaf 1 = .ok (.invokevirtual 355, 3) := dk_182 1 99 (dk_at dksX5_leaf_0 1 rfl rfl)
theorem dX5_leaf_4 : decode cX5_leaf 4 = .ok (.istore_n 1, 1) := dk_60 (dk_at dksX5_leaf_0 4 rfl rfl)
theorem dX5_leaf_5 : decode cX5_leaf 5 = .ok (.aload_n 0, 1) := dk_42 (dk_at dksX5_leaf_0 5 rfl rfl)
theorem dX5_leaf_6 : decode cX5_leaf 6 = .ok (.invokevirtual 240, 3) := dk_182 0 240 (dk_at dksX5_leaf_0 6 rfl rfl)
theorem dX5_leaf_9 : decode cX5_leaf 9 = .ok (.aload_n 0, 1) := dk_42 (dk_at dksX5_leaf_0 9 rfl rfl)
theorem dX5_leaf_10 : decode cX5_leaf 10 = .ok (.invokevirtual 303, 3) := dk_182 1 47 (dk_at dksX5_leaf_0 10 rfl rfl)
theorem dX5_leaf_13 : decode cX5_leaf 13 = .ok (.lstore_n 2, 1) := dk_65 (dk_at dksX5_leaf_0 13 rfl rfl)
theorem dX5_leaf_14 : decode cX5_leaf 14 = .ok (.aload_n 0, 1) := dk_42 (dk_at dksX5_leaf_0 14 rfl rfl)
theorem dX5_leaf_15 : decode cX5_leaf 15 = .ok (.getfield 177, 3) := dk_180 0 177 (dk_at dksX5_leaf_0 15 rfl rfl)
theorem dX5_leaf_18 : decode cX5_leaf 18 = .ok (.ifCond .le 5, 3) := dk_158 0 5 (dk_at dksX5_leaf_0 18 rfl rfl)
theorem dX5_leaf_21 : decode cX5_leaf 21 = .ok (.iconst 0, 1) := dk_3 (dk_at dksX5_leaf_0 21 rfl rfl)
theorem dX5_leaf_22 : decode cX5_leaf 22 = .ok (.ireturn, 1) := dk_172 (dk_at dksX5_leaf_0 22 rfl rfl)
theorem dX5_leaf_23 : decode cX5_leaf 23 = .ok (.aload_n 0, 1) := dk_42 (dk_at dksX5_leaf_0 23 rfl rfl)
theorem dX5_leaf_24 : decode cX5_leaf 24 = .ok (.aload_n 0, 1) := dk_42 (dk_at dksX5_leaf_1 0 rfl rfl)
theorem dX5_leaf_25 : decode cX5_leaf 25 = .ok (.getfield 96, 3) := dk_180 0 96 (dk_at dksX5_leaf_1 1 rfl rfl)
theorem dX5_leaf_28 : decode cX5_leaf 28 = .ok (.lload_n 2, 1) := dk_32 (dk_at dksX5_leaf_1 4 rfl rfl)
theorem dX5_leaf_29 : decode cX5_leaf 29 = .ok (.invokevirtual 368, 3) := dk_182 1 112 (dk_at dksX5_leaf_1 5 rfl rfl)
theorem dX5_leaf_32 : decode cX5_leaf 32 = .ok (.istore 4, 2) := dk_54 4 (dk_at dksX5_leaf_1 8 rfl rfl)
theorem dX5_leaf_34 : decode cX5_leaf 34 = .ok (.iload 4, 2) := dk_21 4 (dk_at dksX5_leaf_1 10 rfl rfl)
theorem dX5_leaf_36 : decode cX5_leaf 36 = .ok (.ifCond .ge 21, 3) := dk_156 0 21 (dk_at dksX5_leaf_1 12 rfl rfl)
theorem dX5_leaf_39 : decode cX5_leaf 39 = .ok (.aload_n 0, 1) := dk_42 (dk_at dksX5_leaf_1 15 rfl rfl)
theorem dX5_leaf_40 : decode cX5_leaf 40 = .ok (.aload_n 0, 1) := dk_42 (dk_at dksX5_leaf_1 16 rfl rfl)
theorem dX5_leaf_41 : decode cX5_leaf 41 = .ok (.getfield 96, 3) := dk_180 0 96 (dk_at dksX5_leaf_1 17 rfl rfl)
theorem dX5_leaf_44 : decode cX5_leaf 44 = .ok (.invokevirtual 365, 3) := dk_182 1 109 (dk_at dksX5_leaf_1 20 rfl rfl)
theorem dX5_leaf_47 : decode cX5_leaf 47 = .ok (.bipush 16, 2) := dk_16 16 (dk_at dksX5_leaf_2 0 rfl rfl)
theorem dX5_leaf_49 : decode cX5_leaf 49 = .ok (.if_icmp .ne 8, 3) := dk_160 0 8 (dk_at dksX5_leaf_2 2 rfl rfl)
theorem dX5_leaf_52 : decode cX5_leaf 52 = .ok (.aload_n 0, 1) := dk_42 (dk_at dksX5_leaf_2 5 rfl rfl)
theorem dX5_leaf_53 : decode cX5_leaf 53 = .ok (.iconst 4, 1) := dk_7 (dk_at dksX5_leaf_2 6 rfl rfl)
theorem dX5_leaf_54 : decode cX5_leaf 54 = .ok (.invokevirtual 237, 3) := dk_182 0 237 (dk_at dksX5_leaf_2 7 rfl rfl)
theorem dX5_leaf_57 : decode cX5_leaf 57 = .ok (.aload_n 0, 1) := dk_42 (dk_at dksX5_leaf_2 10 rfl rfl)
theorem dX5_leaf_58 : decode cX5_leaf 58 = .ok (.invokevirtual 240, 3) := dk_182 0 240 (dk_at dksX5_leaf_2 11 rfl rfl)
theorem dX5_leaf_61 : decode cX5_leaf 61 = .ok (.aload_n 0, 1) := dk_42 (dk_at dksX5_leaf_2 14 rfl rfl)
theorem dX5_leaf_62 : decode cX5_leaf 62 = .ok (.getfield 177, 3) := dk_180 0 177 (dk_at dksX5_leaf_2 15 rfl rfl)
theorem dX5_leaf_65 : decode cX5_leaf 65 = .ok (.ifCond .ne 16, 3) := dk_154 0 16 (dk_at dksX5_leaf_2 18 rfl rfl)
theorem dX5_leaf_68 : decode cX5_leaf 68 = .ok (.aload_n 0, 1) := dk_42 (dk_at dksX5_leaf_2 21 rfl rfl)
theorem dX5_leaf_69 : decode cX5_leaf 69 = .ok (.getfield 190, 3) := dk_180 0 190 (dk_at dksX5_leaf_3 0 rfl rfl)
theorem dX5_leaf_72 : decode cX5_leaf 72 = .ok (.iconst 3, 1) := dk_6 (dk_at dksX5_leaf_3 3 rfl rfl)
theorem dX5_leaf_73 : decode cX5_leaf 73 = .ok (.if_icmp .eq 8, 3) := dk_159 0 8 (dk_at dksX5_leaf_3 4 rfl rfl)
theorem dX5_leaf_76 : decode cX5_leaf 76 = .ok (.aload_n 0, 1) := dk_42 (dk_at dksX5_leaf_3 7 rfl rfl)
theorem dX5_leaf_77 : decode cX5_leaf 77 = .ok (.iconst 1, 1) := dk_4 (dk_at dksX5_leaf_3 8 rfl rfl)
theorem dX5_leaf_78 : decode cX5_leaf 78 = .ok (.invokevirtual 237, 3) := dk_182 0 237 (dk_at dksX5_leaf_3 9 rfl rfl)
theorem dX5_leaf_81 : decode cX5_leaf 81 = .ok (.aload_n 0, 1) := dk_42 (dk_at dksX5_leaf_3 12 rfl rfl)
theorem dX5_leaf_82 : decode cX5_leaf 82 = .ok (.getfield 177, 3) := dk_180 0 177 (dk_at dksX5_leaf_3 13 rfl rfl)
theorem dX5_leaf_85 : decode cX5_leaf 85 = .ok (.ifCond .ne 22, 3) := dk_154 0 22 (dk_at dksX5_leaf_3 16 rfl rfl)
theorem dX5_leaf_88 : decode cX5_leaf 88 = .ok (.aload_n 0, 1) := dk_42 (dk_at dksX5_leaf_3 19 rfl rfl)
theorem dX5_leaf_89 : decode cX5_leaf 89 = .ok (.getfield 193, 3) := dk_180 0 193 (dk_at dksX5_leaf_3 20 rfl rfl)
theorem dX5_leaf_92 : decode cX5_leaf 92 = .ok (.iconst 1, 1) := dk_4 (dk_at dksX5_leaf_3 23 rfl rfl)
theorem dX5_leaf_93 : decode cX5_leaf 93 = .ok (.sipush 999, 3) := dk_17 3 231 (dk_at dksX5_leaf_4 0 rfl rfl)
theorem dX5_leaf_96 : decode cX5_leaf 96 = .ok (.invokestatic 170, 3) := dk_184 0 170 (dk_at dksX5_leaf_4 3 rfl rfl)
theorem dX5_leaf_99 : decode cX5_leaf 99 = .ok (.ifCond .ne 8, 3) := dk_154 0 8 (dk_at dksX5_leaf_4 6 rfl rfl)
theorem dX5_leaf_102 : decode cX5_leaf 102 = .ok (.aload_n 0, 1) := dk_42 (dk_at dksX5_leaf_4 9 rfl rfl)
theorem dX5_leaf_103 : decode cX5_leaf 103 = .ok (.iconst 2, 1) := dk_5 (dk_at dksX5_leaf_4 10 rfl rfl)
theorem dX5_leaf_104 : decode cX5_leaf 104 = .ok (.invokevirtual 237, 3) := dk_182 0 237 (dk_at dksX5_leaf_4 11 rfl rfl)
theorem dX5_leaf_107 : decode cX5_leaf 107 = .ok (.aload_n 0, 1) := dk_42 (dk_at dksX5_leaf_4 14 rfl rfl)
theorem dX5_leaf_108 : decode cX5_leaf 108 = .ok (.getfield 177, 3) := dk_180 0 177 (dk_at dksX5_leaf_4 15 rfl rfl)
theorem dX5_leaf_111 : decode cX5_leaf 111 = .ok (.ifCond .ne 35, 3) := dk_154 0 35 (dk_at dksX5_leaf_4 18 rfl rfl)
theorem dX5_leaf_114 : decode cX5_leaf 114 = .ok (.iload 4, 2) := dk_21 4 (dk_at dksX5_leaf_4 21 rfl rfl)
theorem dX5_leaf_116 : decode cX5_leaf 116 = .ok (.ifCond .lt 30, 3) := dk_155 0 30 (dk_at dksX5_leaf_5 0 rfl rfl)
theorem dX5_leaf_119 : decode cX5_leaf 119 = .ok (.aload_n 0, 1) := dk_42 (dk_at dksX5_leaf_5 3 rfl rfl)
theorem dX5_leaf_120 : decode cX5_leaf 120 = .ok (.getfield 62, 3) := dk_180 0 62 (dk_at dksX5_leaf_5 4 rfl rfl)
theorem dX5_leaf_123 : decode cX5_leaf 123 = .ok (.bipush 16, 2) := dk_16 16 (dk_at dksX5_leaf_5 7 rfl rfl)
theorem dX5_leaf_125 : decode cX5_leaf 125 = .ok (.aload_n 0, 1) := dk_42 (dk_at dksX5_leaf_5 9 rfl rfl)
theorem dX5_leaf_126 : decode cX5_leaf 126 = .ok (.getfield 96, 3) := dk_180 0 96 (dk_at dksX5_leaf_5 10 rfl rfl)
theorem dX5_leaf_129 : decode cX5_leaf 129 = .ok (.imul, 1) := dk_104 (dk_at dksX5_leaf_5 13 rfl rfl)
theorem dX5_leaf_130 : decode cX5_leaf 130 = .ok (.iload 4, 2) := dk_21 4 (dk_at dksX5_leaf_5 14 rfl rfl)
theorem dX5_leaf_132 : decode cX5_leaf 132 = .ok (.iadd, 1) := dk_96 (dk_at dksX5_leaf_5 16 rfl rfl)
theorem dX5_leaf_133 : decode cX5_leaf 133 = .ok (.iaload, 1) := dk_46 (dk_at dksX5_leaf_5 17 rfl rfl)
theorem dX5_leaf_134 : decode cX5_leaf 134 = .ok (.aload_n 0, 1) := dk_42 (dk_at dksX5_leaf_5 18 rfl rfl)
theorem dX5_leaf_135 : decode cX5_leaf 135 = .ok (.getfield 193, 3) := dk_180 0 193 (dk_at dksX5_leaf_5 19 rfl rfl)
theorem dX5_leaf_138 : decode cX5_leaf 138 = .ok (.if_icmp .eq 8, 3) := dk_159 0 8 (dk_at dksX5_leaf_6 0 rfl rfl)
theorem dX5_leaf_141 : decode cX5_leaf 141 = .ok (.aload_n 0, 1) := dk_42 (dk_at dksX5_leaf_6 3 rfl rfl)
theorem dX5_leaf_142 : decode cX5_leaf 142 = .ok (.iconst 3, 1) := dk_6 (dk_at dksX5_leaf_6 4 rfl rfl)
theorem dX5_leaf_143 : decode cX5_leaf 143 = .ok (.invokevirtual 237, 3) := dk_182 0 237 (dk_at dksX5_leaf_6 5 rfl rfl)
theorem dX5_leaf_146 : decode cX5_leaf 146 = .ok (.aload_n 0, 1) := dk_42 (dk_at dksX5_leaf_6 8 rfl rfl)
theorem dX5_leaf_147 : decode cX5_leaf 147 = .ok (.getfield 193, 3) := dk_180 0 193 (dk_at dksX5_leaf_6 9 rfl rfl)
theorem dX5_leaf_150 : decode cX5_leaf 150 = .ok (.istore 5, 2) := dk_54 5 (dk_at dksX5_leaf_6 12 rfl rfl)
theorem dX5_leaf_152 : decode cX5_leaf 152 = .ok (.aload_n 0, 1) := dk_42 (dk_at dksX5_leaf_6 14 rfl rfl)
theorem dX5_leaf_153 : decode cX5_leaf 153 = .ok (.invokevirtual 240, 3) := dk_182 0 240 (dk_at dksX5_leaf_6 15 rfl rfl)
theorem dX5_leaf_156 : decode cX5_leaf 156 = .ok (.aload_n 0, 1) := dk_42 (dk_at dksX5_leaf_6 18 rfl rfl)
theorem dX5_leaf_157 : decode cX5_leaf 157 = .ok (.getfield 177, 3) := dk_180 0 177 (dk_at dksX5_leaf_6 19 rfl rfl)
theorem dX5_leaf_160 : decode cX5_leaf 160 = .ok (.ifCond .le 5, 3) := dk_158 0 5 (dk_at dksX5_leaf_7 0 rfl rfl)
theorem dX5_leaf_163 : decode cX5_leaf 163 = .ok (.iconst 0, 1) := dk_3 (dk_at dksX5_leaf_7 3 rfl rfl)
theorem dX5_leaf_164 : decode cX5_leaf 164 = .ok (.ireturn, 1) := dk_172 (dk_at dksX5_leaf_7 4 rfl rfl)
theorem dX5_leaf_165 : decode cX5_leaf 165 = .ok (.iload 4, 2) := dk_21 4 (dk_at dksX5_leaf_7 5 rfl rfl)
theorem dX5_leaf_167 : decode cX5_leaf 167 = .ok (.ifCond .ge 64, 3) := dk_156 0 64 (dk_at dksX5_leaf_7 7 rfl rfl)
theorem dX5_leaf_170 : decode cX5_leaf 170 = .ok (.aload_n 0, 1) := dk_42 (dk_at dksX5_leaf_7 10 rfl rfl)
theorem dX5_leaf_171 : decode cX5_leaf 171 = .ok (.aload_n 0, 1) := dk_42 (dk_at dksX5_leaf_7 11 rfl rfl)
theorem dX5_leaf_172 : decode cX5_leaf 172 = .ok (.getfield 96, 3) := dk_180 0 96 (dk_at dksX5_leaf_7 12 rfl rfl)
theorem dX5_leaf_175 : decode cX5_leaf 175 = .ok (.invokevirtual 365, 3) := dk_182 1 109 (dk_at dksX5_leaf_7 15 rfl rfl)
theorem dX5_leaf_178 : decode cX5_leaf 178 = .ok (.istore 4, 2) := dk_54 4 (dk_at dksX5_leaf_7 18 rfl rfl)
theorem dX5_leaf_180 : decode cX5_leaf 180 = .ok (.aload_n 0, 1) := dk_42 (dk_at dksX5_leaf_7 20 rfl rfl)
theorem dX5_leaf_181 : decode cX5_leaf 181 = .ok (.getfield 59, 3) := dk_180 0 59 (dk_at dksX5_leaf_7 21 rfl rfl)
theorem dX5_leaf_184 : decode cX5_leaf 184 = .ok (.bipush 16, 2) := dk_16 16 (dk_at dksX5_leaf_8 0 rfl rfl)
theorem dX5_leaf_186 : decode cX5_leaf 186 = .ok (.aload_n 0, 1) := dk_42 (dk_at dksX5_leaf_8 2 rfl rfl)
theorem dX5_leaf_187 : decode cX5_leaf 187 = .ok (.getfield 96, 3) := dk_180 0 96 (dk_at dksX5_leaf_8 3 rfl rfl)
theorem dX5_leaf_190 : decode cX5_leaf 190 = .ok (.imul, 1) := dk_104 (dk_at dksX5_leaf_8 6 rfl rfl)
theorem dX5_leaf_191 : decode cX5_leaf 191 = .ok (.iload 4, 2) := dk_21 4 (dk_at dksX5_leaf_8 7 rfl rfl)
theorem dX5_leaf_193 : decode cX5_leaf 193 = .ok (.iadd, 1) := dk_96 (dk_at dksX5_leaf_8 9 rfl rfl)
theorem dX5_leaf_194 : decode cX5_leaf 194 = .ok (.lload_n 2, 1) := dk_32 (dk_at dksX5_leaf_8 10 rfl rfl)
theorem dX5_leaf_195 : decode cX5_leaf 195 = .ok (.lastore, 1) := dk_80 (dk_at dksX5_leaf_8 11 rfl rfl)
theorem dX5_leaf_196 : decode cX5_leaf 196 = .ok (.aload_n 0, 1) := dk_42 (dk_at dksX5_leaf_8 12 rfl rfl)
theorem dX5_leaf_197 : decode cX5_leaf 197 = .ok (.getfield 62, 3) := dk_180 0 62 (dk_at dksX5_leaf_8 13 rfl rfl)
theorem dX5_leaf_200 : decode cX5_leaf 200 = .ok (.bipush 16, 2) := dk_16 16 (dk_at dksX5_leaf_8 16 rfl rfl)
theorem dX5_leaf_202 : decode cX5_leaf 202 = .ok (.aload_n 0, 1) := dk_42 (dk_at dksX5_leaf_8 18 rfl rfl)
theorem dX5_leaf_203 : decode cX5_leaf 203 = .ok (.getfield 96, 3) := dk_180 0 96 (dk_at dksX5_leaf_8 19 rfl rfl)
theorem dX5_leaf_206 : decode cX5_leaf 206 = .ok (.imul, 1) := dk_104 (dk_at dksX5_leaf_8 22 rfl rfl)
theorem dX5_leaf_207 : decode cX5_leaf 207 = .ok (.iload 4, 2) := dk_21 4 (dk_at dksX5_leaf_9 0 rfl rfl)
theorem dX5_leaf_209 : decode cX5_leaf 209 = .ok (.iadd, 1) := dk_96 (dk_at dksX5_leaf_9 2 rfl rfl)
theorem dX5_leaf_210 : decode cX5_leaf 210 = .ok (.iload 5, 2) := dk_21 5 (dk_at dksX5_leaf_9 3 rfl rfl)
theorem dX5_leaf_212 : decode cX5_leaf 212 = .ok (.iastore, 1) := dk_79 (dk_at dksX5_leaf_9 5 rfl rfl)
theorem dX5_leaf_213 : decode cX5_leaf 213 = .ok (.aload_n 0, 1) := dk_42 (dk_at dksX5_leaf_9 6 rfl rfl)
theorem dX5_leaf_214 : decode cX5_leaf 214 = .ok (.getfield 13, 3) := dk_180 0 13 (dk_at dksX5_leaf_9 7 rfl rfl)
theorem dX5_leaf_217 : decode cX5_leaf 217 = .ok (.bipush 7, 2) := dk_16 7 (dk_at dksX5_leaf_9 10 rfl rfl)
theorem dX5_leaf_219 : decode cX5_leaf 219 = .ok (.aload_n 0, 1) := dk_42 (dk_at dksX5_leaf_9 12 rfl rfl)
theorem dX5_leaf_220 : decode cX5_leaf 220 = .ok (.getfield 96, 3) := dk_180 0 96 (dk_at dksX5_leaf_9 13 rfl rfl)
theorem dX5_leaf_223 : decode cX5_leaf 223 = .ok (.imul, 1) := dk_104 (dk_at dksX5_leaf_9 16 rfl rfl)
theorem dX5_leaf_224 : decode cX5_leaf 224 = .ok (.iconst 3, 1) := dk_6 (dk_at dksX5_leaf_9 17 rfl rfl)
theorem dX5_leaf_225 : decode cX5_leaf 225 = .ok (.iadd, 1) := dk_96 (dk_at dksX5_leaf_9 18 rfl rfl)
theorem dX5_leaf_226 : decode cX5_leaf 226 = .ok (.dup2, 1) := dk_92 (dk_at dksX5_leaf_9 19 rfl rfl)
theorem dX5_leaf_227 : decode cX5_leaf 227 = .ok (.iaload, 1) := dk_46 (dk_at dksX5_leaf_9 20 rfl rfl)
theorem dX5_leaf_228 : decode cX5_leaf 228 = .ok (.iconst 1, 1) := dk_4 (dk_at dksX5_leaf_9 21 rfl rfl)
theorem dX5_leaf_229 : decode cX5_leaf 229 = .ok (.iadd, 1) := dk_96 (dk_at dksX5_leaf_9 22 rfl rfl)
theorem dX5_leaf_230 : decode cX5_leaf 230 = .ok (.iastore, 1) := dk_79 (dk_at dksX5_leaf_9 23 rfl rfl)
theorem dX5_leaf_231 : decode cX5_leaf 231 = .ok (.aload_n 0, 1) := dk_42 (dk_at dksX5_leaf_10 0 rfl rfl)
theorem dX5_leaf_232 : decode cX5_leaf 232 = .ok (.getfield 65, 3) := dk_180 0 65 (dk_at dksX5_leaf_10 1 rfl rfl)
theorem dX5_leaf_235 : decode cX5_leaf 235 = .ok (.bipush 40, 2) := dk_16 40 (dk_at dksX5_leaf_10 4 rfl rfl)
theorem dX5_leaf_237 : decode cX5_leaf 237 = .ok (.aload_n 0, 1) := dk_42 (dk_at dksX5_leaf_10 6 rfl rfl)
theorem dX5_leaf_238 : decode cX5_leaf 238 = .ok (.getfield 96, 3) := dk_180 0 96 (dk_at dksX5_leaf_10 7 rfl rfl)
theorem dX5_leaf_241 : decode cX5_leaf 241 = .ok (.imul, 1) := dk_104 (dk_at dksX5_leaf_10 10 rfl rfl)
theorem dX5_leaf_242 : decode cX5_leaf 242 = .ok (.iload_n 1, 1) := dk_27 (dk_at dksX5_leaf_10 11 rfl rfl)
theorem dX5_leaf_243 : decode cX5_leaf 243 = .ok (.iadd, 1) := dk_96 (dk_at dksX5_leaf_10 12 rfl rfl)
theorem dX5_leaf_244 : decode cX5_leaf 244 = .ok (.iload 4, 2) := dk_21 4 (dk_at dksX5_leaf_10 13 rfl rfl)
theorem dX5_leaf_246 : decode cX5_leaf 246 = .ok (.iastore, 1) := dk_79 (dk_at dksX5_leaf_10 15 rfl rfl)
theorem dX5_leaf_247 : decode cX5_leaf 247 = .ok (.iload_n 1, 1) := dk_27 (dk_at dksX5_leaf_10 16 rfl rfl)
theorem dX5_leaf_248 : decode cX5_leaf 248 = .ok (.ireturn, 1) := dk_172 (dk_at dksX5_leaf_10 17 rfl rfl)
abbrev cX5_newNode : ByteArray := prog_20_method_37_code
def yX5_newNode : MethodName := ⟨RX5, "newNode", "()I"⟩
def dkwX5_newNode_2 : List UInt8 := [180, 0, 96, 104, 27, 96, 42, 180, 1, 81, 79, 27, 172]
abbrev dktX5_newNode_2 : List UInt8 := dkwX5_newNode_2 ++ []
def dkwX5_newNode_1 : List UInt8 := [180, 0, 13, 16, 7, 42, 180, 0, 96, 104, 7, 96, 92, 46, 4, 96, 79, 42, 180, 0, 77, 16, 40, 42]
abbrev dktX5_newNode_1 : List UInt8 := dkwX5_newNode_1 ++ dktX5_newNode_2
def dkwX5_newNode_0 : List UInt8 := [42, 42, 180, 0, 96, 182, 1, 87, 60, 27, 16, 40, 160, 0, 10, 42, 7, 182, 0, 237, 3, 172, 42]
abbrev dktX5_newNode_0 : List UInt8 := dkwX5_newNode_0 ++ dktX5_newNode_1
theorem dksX5_newNode_0 : cX5_newNode.data.toList.drop 0 = dktX5_newNode_0 := by decide +kernel
theorem dksX5_newNode_1 : cX5_newNode.data.toList.drop 23 = dktX5_newNode_1 := dk_seg dksX5_newNode_0 23 rfl rfl
theorem dksX5_newNode_2 : cX5_newNode.data.toList.drop 47 = dktX5_newNode_2 := dk_seg dksX5_newNode_1 24 rfl rfl
theorem dX5_newNode_0 : decode cX5_newNode 0 = .ok (.aload_n 0, 1) := dk_42 (dk_at dksX5_newNode_0 0 rfl rfl)
theorem dX5_newNode_1 : decode cX5_newNode 1 = .ok (.aload_n 0, 1) := dk_42 (dk_at dksX5_newNode_0 1 rfl rfl)
theorem dX5_newNode_2 : decode cX5_newNode 2 = .ok (.getfield 96, 3) := dk_180 0 96 (dk_at dksX5_newNode_0 2 rfl rfl)
theorem dX5_newNode_5 : decode cX5_newNode 5 = .ok (.invokevirtual 343, 3) := dk_182 1 87 (dk_at dksX5_newNode_0 5 rfl rfl)
theorem dX5_newNode_8 : decode cX5_newNode 8 = .ok (.istore_n 1, 1) := dk_60 (dk_at dksX5_newNode_0 8 rfl rfl)
theorem dX5_newNode_9 : decode cX5_newNode 9 = .ok (.iload_n 1, 1) := dk_27 (dk_at dksX5_newNode_0 9 rfl rfl)
theorem dX5_newNode_10 : decode cX5_newNode 10 = .ok (.bipush 40, 2) := dk_16 40 (dk_at dksX5_newNode_0 10 rfl rfl)
theorem dX5_newNode_12 : decode cX5_newNode 12 = .ok (.if_icmp .ne 10, 3) := dk_160 0 10 (dk_at dksX5_newNode_0 12 rfl rfl)
theorem dX5_newNode_15 : decode cX5_newNode 15 = .ok (.aload_n 0, 1) := dk_42 (dk_at dksX5_newNode_0 15 rfl rfl)
theorem dX5_newNode_16 : decode cX5_newNode 16 = .ok (.iconst 4, 1) := dk_7 (dk_at dksX5_newNode_0 16 rfl rfl)
theorem dX5_newNode_17 : decode cX5_newNode 17 = .ok (.invokevirtual 237, 3) := dk_182 0 237 (dk_at dksX5_newNode_0 17 rfl rfl)
theorem dX5_newNode_20 : decode cX5_newNode 20 = .ok (.iconst 0, 1) := dk_3 (dk_at dksX5_newNode_0 20 rfl rfl)
theorem dX5_newNode_21 : decode cX5_newNode 21 = .ok (.ireturn, 1) := dk_172 (dk_at dksX5_newNode_0 21 rfl rfl)
theorem dX5_newNode_22 : decode cX5_newNode 22 = .ok (.aload_n 0, 1) := dk_42 (dk_at dksX5_newNode_0 22 rfl rfl)
theorem dX5_newNode_23 : decode cX5_newNode 23 = .ok (.getfield 13, 3) := dk_180 0 13 (dk_at dksX5_newNode_1 0 rfl rfl)
theorem dX5_newNode_26 : decode cX5_newNode 26 = .ok (.bipush 7, 2) := dk_16 7 (dk_at dksX5_newNode_1 3 rfl rfl)
theorem dX5_newNode_28 : decode cX5_newNode 28 = .ok (.aload_n 0, 1) := dk_42 (dk_at dksX5_newNode_1 5 rfl rfl)
theorem dX5_newNode_29 : decode cX5_newNode 29 = .ok (.getfield 96, 3) := dk_180 0 96 (dk_at dksX5_newNode_1 6 rfl rfl)
theorem dX5_newNode_32 : decode cX5_newNode 32 = .ok (.imul, 1) := dk_104 (dk_at dksX5_newNode_1 9 rfl rfl)
theorem dX5_newNode_33 : decode cX5_newNode 33 = .ok (.iconst 4, 1) := dk_7 (dk_at dksX5_newNode_1 10 rfl rfl)
theorem dX5_newNode_34 : decode cX5_newNode 34 = .ok (.iadd, 1) := dk_96 (dk_at dksX5_newNode_1 11 rfl rfl)
theorem dX5_newNode_35 : decode cX5_newNode 35 = .ok (.dup2, 1) := dk_92 (dk_at dksX5_newNode_1 12 rfl rfl)
theorem dX5_newNode_36 : decode cX5_newNode 36 = .ok (.iaload, 1) := dk_46 (dk_at dksX5_newNode_1 13 rfl rfl)
theorem dX5_newNode_37 : decode cX5_newNode 37 = .ok (.iconst 1, 1) := dk_4 (dk_at dksX5_newNode_1 14 rfl rfl)
theorem dX5_newNode_38 : decode cX5_newNode 38 = .ok (.iadd, 1) := dk_96 (dk_at dksX5_newNode_1 15 rfl rfl)
theorem dX5_newNode_39 : decode cX5_newNode 39 = .ok (.iastore, 1) := dk_79 (dk_at dksX5_newNode_1 16 rfl rfl)
theorem dX5_newNode_40 : decode cX5_newNode 40 = .ok (.aload_n 0, 1) := dk_42 (dk_at dksX5_newNode_1 17 rfl rfl)
theorem dX5_newNode_41 : decode cX5_newNode 41 = .ok (.getfield 77, 3) := dk_180 0 77 (dk_at dksX5_newNode_1 18 rfl rfl)
theorem dX5_newNode_44 : decode cX5_newNode 44 = .ok (.bipush 40, 2) := dk_16 40 (dk_at dksX5_newNode_1 21 rfl rfl)
theorem dX5_newNode_46 : decode cX5_newNode 46 = .ok (.aload_n 0, 1) := dk_42 (dk_at dksX5_newNode_1 23 rfl rfl)
theorem dX5_newNode_47 : decode cX5_newNode 47 = .ok (.getfield 96, 3) := dk_180 0 96 (dk_at dksX5_newNode_2 0 rfl rfl)
theorem dX5_newNode_50 : decode cX5_newNode 50 = .ok (.imul, 1) := dk_104 (dk_at dksX5_newNode_2 3 rfl rfl)
theorem dX5_newNode_51 : decode cX5_newNode 51 = .ok (.iload_n 1, 1) := dk_27 (dk_at dksX5_newNode_2 4 rfl rfl)
theorem dX5_newNode_52 : decode cX5_newNode 52 = .ok (.iadd, 1) := dk_96 (dk_at dksX5_newNode_2 5 rfl rfl)
theorem dX5_newNode_53 : decode cX5_newNode 53 = .ok (.aload_n 0, 1) := dk_42 (dk_at dksX5_newNode_2 6 rfl rfl)
theorem dX5_newNode_54 : decode cX5_newNode 54 = .ok (.getfield 337, 3) := dk_180 1 81 (dk_at dksX5_newNode_2 7 rfl rfl)
theorem dX5_newNode_57 : decode cX5_newNode 57 = .ok (.iastore, 1) := dk_79 (dk_at dksX5_newNode_2 10 rfl rfl)
theorem dX5_newNode_58 : decode cX5_newNode 58 = .ok (.iload_n 1, 1) := dk_27 (dk_at dksX5_newNode_2 11 rfl rfl)
theorem dX5_newNode_59 : decode cX5_newNode 59 = .ok (.ireturn, 1) := dk_172 (dk_at dksX5_newNode_2 12 rfl rfl)
abbrev cX5_nodes : ByteArray := prog_20_method_8_code
def yX5_nodes : MethodName := ⟨RX5, "nodes", "(I)I"⟩
def dkwX5_nodes_0 : List UInt8 := [42, 180, 0, 13, 16, 7, 27, 104, 7, 96, 46, 172]
abbrev dktX5_nodes_0 : List UInt8 := dkwX5_nodes_0 ++ []
theorem dksX5_nodes_0 : cX5_nodes.data.toList.drop 0 = dktX5_nodes_0 := by decide +kernel
theorem dX5_nodes_0 : decode cX5_nodes 0 = .ok (.aload_n 0, 1) := dk_42 (dk_at dksX5_nodes_0 0 rfl rfl)
theorem dX5_nodes_1 : decode cX5_nodes 1 = .ok (.getfield 13, 3) := dk_180 0 13 (dk_at dksX5_nodes_0 1 rfl rfl)
theorem dX5_nodes_4 : decode cX5_nodes 4 = .ok (.bipush 7, 2) := dk_16 7 (dk_at dksX5_nodes_0 4 rfl rfl)
theorem dX5_nodes_6 : decode cX5_nodes 6 = .ok (.iload_n 1, 1) := dk_27 (dk_at dksX5_nodes_0 6 rfl rfl)
theorem dX5_nodes_7 : decode cX5_nodes 7 = .ok (.imul, 1) := dk_104 (dk_at dksX5_nodes_0 7 rfl rfl)
theorem dX5_nodes_8 : decode cX5_nodes 8 = .ok (.iconst 4, 1) := dk_7 (dk_at dksX5_nodes_0 8 rfl rfl)
theorem dX5_nodes_9 : decode cX5_nodes 9 = .ok (.iadd, 1) := dk_96 (dk_at dksX5_nodes_0 9 rfl rfl)
theorem dX5_nodes_10 : decode cX5_nodes 10 = .ok (.iaload, 1) := dk_46 (dk_at dksX5_nodes_0 10 rfl rfl)
theorem dX5_nodes_11 : decode cX5_nodes 11 = .ok (.ireturn, 1) := dk_172 (dk_at dksX5_nodes_0 11 rfl rfl)
abbrev cX5_classOf : ByteArray := prog_20_method_39_code
def yX5_classOf : MethodName := ⟨RX5, "classOf", "(IJ)I"⟩
def dkwX5_classOf_1 : List UInt8 := [47, 32, 148, 154, 0, 6, 21, 4, 172, 132, 4, 1, 167, 255, 223, 2, 172]
abbrev dktX5_classOf_1 : List UInt8 := dkwX5_classOf_1 ++ []
def dkwX5_classOf_0 : List UInt8 := [3, 54, 4, 21, 4, 42, 27, 182, 1, 109, 162, 0, 29, 42, 180, 0, 59, 16, 16, 27, 104, 21, 4, 96]
abbrev dktX5_classOf_0 : List UInt8 := dkwX5_classOf_0 ++ dktX5_classOf_1
theorem dksX5_classOf_0 : cX5_classOf.data.toList.drop 0 = dktX5_classOf_0 := by decide +kernel
theorem dksX5_classOf_1 : cX5_classOf.data.toList.drop 24 = dktX5_classOf_1 := dk_seg dksX5_classOf_0 24 rfl rfl
theorem dX5_classOf_0 : decode cX5_classOf 0 = .ok (.iconst 0, 1) := dk_3 (dk_at dksX5_classOf_0 0 rfl rfl)
theorem dX5_classOf_1 : decode cX5_classOf 1 = .ok (.istore 4, 2) := dk_54 4 (dk_at dksX5_classOf_0 1 rfl rfl)
theorem dX5_classOf_3 : decode cX5_classOf 3 = .ok (.iload 4, 2) := dk_21 4 (dk_at dksX5_classOf_0 3 rfl rfl)
theorem dX5_classOf_5 : decode cX5_classOf 5 = .ok (.aload_n 0, 1) := dk_42 (dk_at dksX5_classOf_0 5 rfl rfl)
theorem dX5_classOf_6 : decode cX5_classOf 6 = .ok (.iload_n 1, 1) := dk_27 (dk_at dksX5_classOf_0 6 rfl rfl)
theorem dX5_classOf_7 : decode cX5_classOf 7 = .ok (.invokevirtual 365, 3) := dk_182 1 109 (dk_at dksX5_classOf_0 7 rfl rfl)
theorem dX5_classOf_10 : decode cX5_classOf 10 = .ok (.if_icmp .ge 29, 3) := dk_162 0 29 (dk_at dksX5_classOf_0 10 rfl rfl)
theorem dX5_classOf_13 : decode cX5_classOf 13 = .ok (.aload_n 0, 1) := dk_42 (dk_at dksX5_classOf_0 13 rfl rfl)
theorem dX5_classOf_14 : decode cX5_classOf 14 = .ok (.getfield 59, 3) := dk_180 0 59 (dk_at dksX5_classOf_0 14 rfl rfl)
theorem dX5_classOf_17 : decode cX5_classOf 17 = .ok (.bipush 16, 2) := dk_16 16 (dk_at dksX5_classOf_0 17 rfl rfl)
theorem dX5_classOf_19 : decode cX5_classOf 19 = .ok (.iload_n 1, 1) := dk_27 (dk_at dksX5_classOf_0 19 rfl rfl)
theorem dX5_classOf_20 : decode cX5_classOf 20 = .ok (.imul, 1) := dk_104 (dk_at dksX5_classOf_0 20 rfl rfl)
theorem dX5_classOf_21 : decode cX5_classOf 21 = .ok (.iload 4, 2) := dk_21 4 (dk_at dksX5_classOf_0 21 rfl rfl)
theorem dX5_classOf_23 : decode cX5_classOf 23 = .ok (.iadd, 1) := dk_96 (dk_at dksX5_classOf_0 23 rfl rfl)
theorem dX5_classOf_24 : decode cX5_classOf 24 = .ok (.laload, 1) := dk_47 (dk_at dksX5_classOf_1 0 rfl rfl)
theorem dX5_classOf_25 : decode cX5_classOf 25 = .ok (.lload_n 2, 1) := dk_32 (dk_at dksX5_classOf_1 1 rfl rfl)
theorem dX5_classOf_26 : decode cX5_classOf 26 = .ok (.lcmp, 1) := dk_148 (dk_at dksX5_classOf_1 2 rfl rfl)
theorem dX5_classOf_27 : decode cX5_classOf 27 = .ok (.ifCond .ne 6, 3) := dk_154 0 6 (dk_at dksX5_classOf_1 3 rfl rfl)
theorem dX5_classOf_30 : decode cX5_classOf 30 = .ok (.iload 4, 2) := dk_21 4 (dk_at dksX5_classOf_1 6 rfl rfl)
theorem dX5_classOf_32 : decode cX5_classOf 32 = .ok (.ireturn, 1) := dk_172 (dk_at dksX5_classOf_1 8 rfl rfl)
theorem dX5_classOf_33 : decode cX5_classOf 33 = .ok (.iinc 4 1, 3) := dk_132 4 1 (dk_at dksX5_classOf_1 9 rfl rfl)
theorem dX5_classOf_36 : decode cX5_classOf 36 = .ok (.goto (-33), 3) := dk_167 255 223 (dk_at dksX5_classOf_1 12 rfl rfl)
theorem dX5_classOf_39 : decode cX5_classOf 39 = .ok (.iconst (-1), 1) := dk_2 (dk_at dksX5_classOf_1 15 rfl rfl)
theorem dX5_classOf_40 : decode cX5_classOf 40 = .ok (.ireturn, 1) := dk_172 (dk_at dksX5_classOf_1 16 rfl rfl)
abbrev cX5_classes : ByteArray := prog_20_method_7_code
def yX5_classes : MethodName := ⟨RX5, "classes", "(I)I"⟩
def dkwX5_classes_0 : List UInt8 := [42, 180, 0, 13, 16, 7, 27, 104, 6, 96, 46, 172]
abbrev dktX5_classes_0 : List UInt8 := dkwX5_classes_0 ++ []
theorem dksX5_classes_0 : cX5_classes.data.toList.drop 0 = dktX5_classes_0 := by decide +kernel
theorem dX5_classes_0 : decode cX5_classes 0 = .ok (.aload_n 0, 1) := dk_42 (dk_at dksX5_classes_0 0 rfl rfl)
theorem dX5_classes_1 : decode cX5_classes 1 = .ok (.getfield 13, 3) := dk_180 0 13 (dk_at dksX5_classes_0 1 rfl rfl)
theorem dX5_classes_4 : decode cX5_classes 4 = .ok (.bipush 7, 2) := dk_16 7 (dk_at dksX5_classes_0 4 rfl rfl)
theorem dX5_classes_6 : decode cX5_classes 6 = .ok (.iload_n 1, 1) := dk_27 (dk_at dksX5_classes_0 6 rfl rfl)
theorem dX5_classes_7 : decode cX5_classes 7 = .ok (.imul, 1) := dk_104 (dk_at dksX5_classes_0 7 rfl rfl)
theorem dX5_classes_8 : decode cX5_classes 8 = .ok (.iconst 3, 1) := dk_6 (dk_at dksX5_classes_0 8 rfl rfl)
theorem dX5_classes_9 : decode cX5_classes 9 = .ok (.iadd, 1) := dk_96 (dk_at dksX5_classes_0 9 rfl rfl)
theorem dX5_classes_10 : decode cX5_classes 10 = .ok (.iaload, 1) := dk_46 (dk_at dksX5_classes_0 10 rfl rfl)
theorem dX5_classes_11 : decode cX5_classes 11 = .ok (.ireturn, 1) := dk_172 (dk_at dksX5_classes_0 11 rfl rfl)
abbrev cX5_cond : ByteArray := prog_20_method_42_code
def yX5_cond : MethodName := ⟨RX5, "cond", "()I"⟩
def dkwX5_cond_1 : List UInt8 := [42, 180, 0, 177, 154, 0, 12, 42, 3, 27, 28, 2, 182, 1, 119, 60, 167, 255, 221, 27, 172]
abbrev dktX5_cond_1 : List UInt8 := dkwX5_cond_1 ++ []
def dkwX5_cond_0 : List UInt8 := [42, 182, 1, 116, 60, 42, 19, 1, 7, 182, 0, 243, 153, 0, 31, 42, 182, 0, 240, 42, 182, 1, 116, 61]
abbrev dktX5_cond_0 : List UInt8 := dkwX5_cond_0 ++ dktX5_cond_1
theorem dksX5_cond_0 : cX5_cond.data.toList.drop 0 = dktX5_cond_0 := by decide +kernel
theorem dksX5_cond_1 : cX5_cond.data.toList.drop 24 = dktX5_cond_1 := dk_seg dksX5_cond_0 24 rfl rfl
theorem dX5_cond_0 : decode cX5_cond 0 = .ok (.aload_n 0, 1) := dk_42 (dk_at dksX5_cond_0 0 rfl rfl)
theorem dX5_cond_1 : decode cX5_cond 1 = .ok (.invokevirtual 372, 3) := dk_182 1 116 (dk_at dksX5_cond_0 1 rfl rfl)
theorem dX5_cond_4 : decode cX5_cond 4 = .ok (.istore_n 1, 1) := dk_60 (dk_at dksX5_cond_0 4 rfl rfl)
theorem dX5_cond_5 : decode cX5_cond 5 = .ok (.aload_n 0, 1) := dk_42 (dk_at dksX5_cond_0 5 rfl rfl)
theorem dX5_cond_6 : decode cX5_cond 6 = .ok (.ldc_w 263, 3) := dk_19 1 7 (dk_at dksX5_cond_0 6 rfl rfl)
theorem dX5_cond_9 : decode cX5_cond 9 = .ok (.invokevirtual 243, 3) := dk_182 0 243 (dk_at dksX5_cond_0 9 rfl rfl)
theorem dX5_cond_12 : decode cX5_cond 12 = .ok (.ifCond .eq 31, 3) := dk_153 0 31 (dk_at dksX5_cond_0 12 rfl rfl)
theorem dX5_cond_15 : decode cX5_cond 15 = .ok (.aload_n 0, 1) := dk_42 (dk_at dksX5_cond_0 15 rfl rfl)
theorem dX5_cond_16 : decode cX5_cond 16 = .ok (.invokevirtual 240, 3) := dk_182 0 240 (dk_at dksX5_cond_0 16 rfl rfl)
theorem dX5_cond_19 : decode cX5_cond 19 = .ok (.aload_n 0, 1) := dk_42 (dk_at dksX5_cond_0 19 rfl rfl)
theorem dX5_cond_20 : decode cX5_cond 20 = .ok (.invokevirtual 372, 3) := dk_182 1 116 (dk_at dksX5_cond_0 20 rfl rfl)
theorem dX5_cond_23 : decode cX5_cond 23 = .ok (.istore_n 2, 1) := dk_61 (dk_at dksX5_cond_0 23 rfl rfl)
theorem dX5_cond_24 : decode cX5_cond 24 = .ok (.aload_n 0, 1) := dk_42 (dk_at dksX5_cond_1 0 rfl rfl)
theorem dX5_cond_25 : decode cX5_cond 25 = .ok (.getfield 177, 3) := dk_180 0 177 (dk_at dksX5_cond_1 1 rfl rfl)
theorem dX5_cond_28 : decode cX5_cond 28 = .ok (.ifCond .ne 12, 3) := dk_154 0 12 (dk_at dksX5_cond_1 4 rfl rfl)
theorem dX5_cond_31 : decode cX5_cond 31 = .ok (.aload_n 0, 1) := dk_42 (dk_at dksX5_cond_1 7 rfl rfl)
theorem dX5_cond_32 : decode cX5_cond 32 = .ok (.iconst 0, 1) := dk_3 (dk_at dksX5_cond_1 8 rfl rfl)
theorem dX5_cond_33 : decode cX5_cond 33 = .ok (.iload_n 1, 1) := dk_27 (dk_at dksX5_cond_1 9 rfl rfl)
theorem dX5_cond_34 : decode cX5_cond 34 = .ok (.iload_n 2, 1) := dk_28 (dk_at dksX5_cond_1 10 rfl rfl)
theorem dX5_cond_35 : decode cX5_cond 35 = .ok (.iconst (-1), 1) := dk_2 (dk_at dksX5_cond_1 11 rfl rfl)
theorem dX5_cond_36 : decode cX5_cond 36 = .ok (.invokevirtual 375, 3) := dk_182 1 119 (dk_at dksX5_cond_1 12 rfl rfl)
theorem dX5_cond_39 : decode cX5_cond 39 = .ok (.istore_n 1, 1) := dk_60 (dk_at dksX5_cond_1 15 rfl rfl)
theorem dX5_cond_40 : decode cX5_cond 40 = .ok (.goto (-35), 3) := dk_167 255 221 (dk_at dksX5_cond_1 16 rfl rfl)
theorem dX5_cond_43 : decode cX5_cond 43 = .ok (.iload_n 1, 1) := dk_27 (dk_at dksX5_cond_1 19 rfl rfl)
theorem dX5_cond_44 : decode cX5_cond 44 = .ok (.ireturn, 1) := dk_172 (dk_at dksX5_cond_1 20 rfl rfl)
abbrev cX5_all : ByteArray := prog_20_method_43_code
def yX5_all : MethodName := ⟨RX5, "all", "()I"⟩
def dkwX5_all_1 : List UInt8 := [42, 180, 0, 177, 154, 0, 12, 42, 4, 27, 28, 2, 182, 1, 119, 60, 167, 255, 221, 27, 172]
abbrev dktX5_all_1 : List UInt8 := dkwX5_all_1 ++ []
def dkwX5_all_0 : List UInt8 := [42, 182, 1, 123, 60, 42, 19, 1, 9, 182, 0, 243, 153, 0, 31, 42, 182, 0, 240, 42, 182, 1, 123, 61]
abbrev dktX5_all_0 : List UInt8 := dkwX5_all_0 ++ dktX5_all_1
theorem dksX5_all_0 : cX5_all.data.toList.drop 0 = dktX5_all_0 := by decide +kernel
theorem dksX5_all_1 : cX5_all.data.toList.drop 24 = dktX5_all_1 := dk_seg dksX5_all_0 24 rfl rfl
theorem dX5_all_0 : decode cX5_all 0 = .ok (.aload_n 0, 1) := dk_42 (dk_at dksX5_all_0 0 rfl rfl)
theorem dX5_all_1 : decode cX5_all 1 = .ok (.invokevirtual 379, 3) := dk_182 1 123 (dk_at dksX5_all_0 1 rfl rfl)
theorem dX5_all_4 : decode cX5_all 4 = .ok (.istore_n 1, 1) := dk_60 (dk_at dksX5_all_0 4 rfl rfl)
theorem dX5_all_5 : decode cX5_all 5 = .ok (.aload_n 0, 1) := dk_42 (dk_at dksX5_all_0 5 rfl rfl)
theorem dX5_all_6 : decode cX5_all 6 = .ok (.ldc_w 265, 3) := dk_19 1 9 (dk_at dksX5_all_0 6 rfl rfl)
theorem dX5_all_9 : decode cX5_all 9 = .ok (.invokevirtual 243, 3) := dk_182 0 243 (dk_at dksX5_all_0 9 rfl rfl)
theorem dX5_all_12 : decode cX5_all 12 = .ok (.ifCond .eq 31, 3) := dk_153 0 31 (dk_at dksX5_all_0 12 rfl rfl)
theorem dX5_all_15 : decode cX5_all 15 = .ok (.aload_n 0, 1) := dk_42 (dk_at dksX5_all_0 15 rfl rfl)
theorem dX5_all_16 : decode cX5_all 16 = .ok (.invokevirtual 240, 3) := dk_182 0 240 (dk_at dksX5_all_0 16 rfl rfl)
theorem dX5_all_19 : decode cX5_all 19 = .ok (.aload_n 0, 1) := dk_42 (dk_at dksX5_all_0 19 rfl rfl)
theorem dX5_all_20 : decode cX5_all 20 = .ok (.invokevirtual 379, 3) := dk_182 1 123 (dk_at dksX5_all_0 20 rfl rfl)
theorem dX5_all_23 : decode cX5_all 23 = .ok (.istore_n 2, 1) := dk_61 (dk_at dksX5_all_0 23 rfl rfl)
theorem dX5_all_24 : decode cX5_all 24 = .ok (.aload_n 0, 1) := dk_42 (dk_at dksX5_all_1 0 rfl rfl)
theorem dX5_all_25 : decode cX5_all 25 = .ok (.getfield 177, 3) := dk_180 0 177 (dk_at dksX5_all_1 1 rfl rfl)
theorem dX5_all_28 : decode cX5_all 28 = .ok (.ifCond .ne 12, 3) := dk_154 0 12 (dk_at dksX5_all_1 4 rfl rfl)
theorem dX5_all_31 : decode cX5_all 31 = .ok (.aload_n 0, 1) := dk_42 (dk_at dksX5_all_1 7 rfl rfl)
theorem dX5_all_32 : decode cX5_all 32 = .ok (.iconst 1, 1) := dk_4 (dk_at dksX5_all_1 8 rfl rfl)
theorem dX5_all_33 : decode cX5_all 33 = .ok (.iload_n 1, 1) := dk_27 (dk_at dksX5_all_1 9 rfl rfl)
theorem dX5_all_34 : decode cX5_all 34 = .ok (.iload_n 2, 1) := dk_28 (dk_at dksX5_all_1 10 rfl rfl)
theorem dX5_all_35 : decode cX5_all 35 = .ok (.iconst (-1), 1) := dk_2 (dk_at dksX5_all_1 11 rfl rfl)
theorem dX5_all_36 : decode cX5_all 36 = .ok (.invokevirtual 375, 3) := dk_182 1 119 (dk_at dksX5_all_1 12 rfl rfl)
theorem dX5_all_39 : decode cX5_all 39 = .ok (.istore_n 1, 1) := dk_60 (dk_at dksX5_all_1 15 rfl rfl)
theorem dX5_all_40 : decode cX5_all 40 = .ok (.goto (-35), 3) := dk_167 255 221 (dk_at dksX5_all_1 16 rfl rfl)
theorem dX5_all_43 : decode cX5_all 43 = .ok (.iload_n 1, 1) := dk_27 (dk_at dksX5_all_1 19 rfl rfl)
theorem dX5_all_44 : decode cX5_all 44 = .ok (.ireturn, 1) := dk_172 (dk_at dksX5_all_1 20 rfl rfl)
abbrev cX5_one : ByteArray := prog_20_method_44_code
def yX5_one : MethodName := ⟨RX5, "one", "()I"⟩
def dkwX5_one_9 : List UInt8 := [42, 27, 182, 1, 129, 172, 42, 4, 182, 0, 237, 3, 172]
abbrev dktX5_one_9 : List UInt8 := dkwX5_one_9 ++ []
def dkwX5_one_8 : List UInt8 := [167, 0, 19, 42, 19, 1, 26, 182, 0, 243, 153, 0, 8, 16, 9, 167, 0, 4, 2, 60, 27, 155, 0, 9]
abbrev dktX5_one_8 : List UInt8 := dkwX5_one_8 ++ dktX5_one_9
def dkwX5_one_7 : List UInt8 := [182, 0, 243, 153, 0, 8, 16, 7, 167, 0, 34, 42, 19, 1, 24, 182, 0, 243, 153, 0, 8, 16, 8]
abbrev dktX5_one_7 : List UInt8 := dkwX5_one_7 ++ dktX5_one_8
def dkwX5_one_6 : List UInt8 := [182, 1, 126, 172, 42, 19, 1, 22, 182, 0, 243, 153, 0, 8, 16, 6, 167, 0, 49, 42, 19, 1, 23]
abbrev dktX5_one_6 : List UInt8 := dkwX5_one_6 ++ dktX5_one_7
def dkwX5_one_5 : List UInt8 := [182, 0, 243, 153, 0, 9, 42, 7, 182, 1, 126, 172, 42, 19, 1, 16, 182, 0, 243, 153, 0, 9, 42, 8]
abbrev dktX5_one_5 : List UInt8 := dkwX5_one_5 ++ dktX5_one_6
def dkwX5_one_4 : List UInt8 := [27, 172, 42, 19, 1, 13, 182, 0, 243, 153, 0, 9, 42, 6, 182, 1, 126, 172, 42, 19, 1, 15]
abbrev dktX5_one_4 : List UInt8 := dkwX5_one_4 ++ dktX5_one_5
def dkwX5_one_3 : List UInt8 := [182, 1, 90, 42, 182, 1, 102, 60, 42, 16, 41, 182, 1, 93, 42, 89, 180, 1, 78, 4, 100, 181, 1, 78]
abbrev dktX5_one_3 : List UInt8 := dkwX5_one_3 ++ dktX5_one_4
def dkwX5_one_2 : List UInt8 := [167, 0, 11, 42, 5, 27, 2, 2, 182, 1, 119, 172, 42, 16, 40, 182, 0, 234, 153, 0, 30, 42]
abbrev dktX5_one_2 : List UInt8 := dkwX5_one_2 ++ dktX5_one_3
def dkwX5_one_1 : List UInt8 := [182, 1, 123, 60, 42, 89, 180, 1, 78, 4, 100, 181, 1, 78, 42, 180, 0, 177, 158, 0, 7, 3]
abbrev dktX5_one_1 : List UInt8 := dkwX5_one_1 ++ dktX5_one_2
def dkwX5_one_0 : List UInt8 := [42, 180, 0, 177, 158, 0, 5, 3, 172, 42, 19, 1, 11, 182, 0, 243, 153, 0, 42, 42, 182, 1, 90, 42]
abbrev dktX5_one_0 : List UInt8 := dkwX5_one_0 ++ dktX5_one_1
theorem dksX5_one_0 : cX5_one.data.toList.drop 0 = dktX5_one_0 := by decide +kernel
theorem dksX5_one_1 : cX5_one.data.toList.drop 24 = dktX5_one_1 := dk_seg dksX5_one_0 24 rfl rfl
theorem dksX5_one_2 : cX5_one.data.toList.drop 46 = dktX5_one_2 := dk_seg dksX5_one_1 22 rfl rfl
theorem dksX5_one_3 : cX5_one.data.toList.drop 68 = dktX5_one_3 := dk_seg dksX5_one_2 22 rfl rfl
theorem dksX5_one_4 : cX5_one.data.toList.drop 92 = dktX5_one_4 := dk_seg dksX5_one_3 24 rfl rfl
theorem dksX5_one_5 : cX5_one.data.toList.drop 114 = dktX5_one_5 := dk_seg dksX5_one_4 22 rfl rfl
theorem dksX5_one_6 : cX5_one.data.toList.drop 138 = dktX5_one_6 := dk_seg dksX5_one_5 24 rfl rfl
theorem dksX5_one_7 : cX5_one.data.toList.drop 161 = dktX5_one_7 := dk_seg dksX5_one_6 23 rfl rfl
theorem dksX5_one_8 : cX5_one.data.toList.drop 184 = dktX5_one_8 := dk_seg dksX5_one_7 23 rfl rfl
theorem dksX5_one_9 : cX5_one.data.toList.drop 208 = dktX5_one_9 := dk_seg dksX5_one_8 24 rfl rfl
theorem dX5_one_0 : decode cX5_one 0 = .ok (.aload_n 0, 1) := dk_42 (dk_at dksX5_one_0 0 rfl rfl)
theorem dX5_one_1 : decode cX5_one 1 = .ok (.getfield 177, 3) := dk_180 0 177 (dk_at dksX5_one_0 1 rfl rfl)
theorem dX5_one_4 : decode cX5_one 4 = .ok (.ifCond .le 5, 3) := dk_158 0 5 (dk_at dksX5_one_0 4 rfl rfl)
theorem dX5_one_7 : decode cX5_one 7 = .ok (.iconst 0, 1) := dk_3 (dk_at dksX5_one_0 7 rfl rfl)
theorem dX5_one_8 : decode cX5_one 8 = .ok (.ireturn, 1) := dk_172 (dk_at dksX5_one_0 8 rfl rfl)
theorem dX5_one_9 : decode cX5_one 9 = .ok (.aload_n 0, 1) := dk_42 (dk_at dksX5_one_0 9 rfl rfl)
theorem dX5_one_10 : decode cX5_one 10 = .ok (.ldc_w 267, 3) := dk_19 1 11 (dk_at dksX5_one_0 10 rfl rfl)
theorem dX5_one_13 : decode cX5_one 13 = .ok (.invokevirtual 243, 3) := dk_182 0 243 (dk_at dksX5_one_0 13 rfl rfl)
theorem dX5_one_16 : decode cX5_one 16 = .ok (.ifCond .eq 42, 3) := dk_153 0 42 (dk_at dksX5_one_0 16 rfl rfl)
theorem dX5_one_19 : decode cX5_one 19 = .ok (.aload_n 0, 1) := dk_42 (dk_at dksX5_one_0 19 rfl rfl)
theorem dX5_one_20 : decode cX5_one 20 = .ok (.invokevirtual 346, 3) := dk_182 1 90 (dk_at dksX5_one_0 20 rfl rfl)
theorem dX5_one_23 : decode cX5_one 23 = .ok (.aload_n 0, 1) := dk_42 (dk_at dksX5_one_0 23 rfl rfl)
theorem dX5_one_24 : decode cX5_one 24 = .ok (.invokevirtual 379, 3) := dk_182 1 123 (dk_at dksX5_one_1 0 rfl rfl)
theorem dX5_one_27 : decode cX5_one 27 = .ok (.istore_n 1, 1) := dk_60 (dk_at dksX5_one_1 3 rfl rfl)
theorem dX5_one_28 : decode cX5_one 28 = .ok (.aload_n 0, 1) := dk_42 (dk_at dksX5_one_1 4 rfl rfl)
theorem dX5_one_29 : decode cX5_one 29 = .ok (.dup, 1) := dk_89 (dk_at dksX5_one_1 5 rfl rfl)
theorem dX5_one_30 : decode cX5_one 30 = .ok (.getfield 334, 3) := dk_180 1 78 (dk_at dksX5_one_1 6 rfl rfl)
theorem dX5_one_33 : decode cX5_one 33 = .ok (.iconst 1, 1) := dk_4 (dk_at dksX5_one_1 9 rfl rfl)
theorem dX5_one_34 : decode cX5_one 34 = .ok (.isub, 1) := dk_100 (dk_at dksX5_one_1 10 rfl rfl)
theorem dX5_one_35 : decode cX5_one 35 = .ok (.putfield 334, 3) := dk_181 1 78 (dk_at dksX5_one_1 11 rfl rfl)
theorem dX5_one_38 : decode cX5_one 38 = .ok (.aload_n 0, 1) := dk_42 (dk_at dksX5_one_1 14 rfl rfl)
theorem dX5_one_39 : decode cX5_one 39 = .ok (.getfield 177, 3) := dk_180 0 177 (dk_at dksX5_one_1 15 rfl rfl)
theorem dX5_one_42 : decode cX5_one 42 = .ok (.ifCond .le 7, 3) := dk_158 0 7 (dk_at dksX5_one_1 18 rfl rfl)
theorem dX5_one_45 : decode cX5_one 45 = .ok (.iconst 0, 1) := dk_3 (dk_at dksX5_one_1 21 rfl rfl)
theorem dX5_one_46 : decode cX5_one 46 = .ok (.goto 11, 3) := dk_167 0 11 (dk_at dksX5_one_2 0 rfl rfl)
theorem dX5_one_49 : decode cX5_one 49 = .ok (.aload_n 0, 1) := dk_42 (dk_at dksX5_one_2 3 rfl rfl)
theorem dX5_one_50 : decode cX5_one 50 = .ok (.iconst 2, 1) := dk_5 (dk_at dksX5_one_2 4 rfl rfl)
theorem dX5_one_51 : decode cX5_one 51 = .ok (.iload_n 1, 1) := dk_27 (dk_at dksX5_one_2 5 rfl rfl)
theorem dX5_one_52 : decode cX5_one 52 = .ok (.iconst (-1), 1) := dk_2 (dk_at dksX5_one_2 6 rfl rfl)
theorem dX5_one_53 : decode cX5_one 53 = .ok (.iconst (-1), 1) := dk_2 (dk_at dksX5_one_2 7 rfl rfl)
theorem dX5_one_54 : decode cX5_one 54 = .ok (.invokevirtual 375, 3) := dk_182 1 119 (dk_at dksX5_one_2 8 rfl rfl)
theorem dX5_one_57 : decode cX5_one 57 = .ok (.ireturn, 1) := dk_172 (dk_at dksX5_one_2 11 rfl rfl)
theorem dX5_one_58 : decode cX5_one 58 = .ok (.aload_n 0, 1) := dk_42 (dk_at dksX5_one_2 12 rfl rfl)
theorem dX5_one_59 : decode cX5_one 59 = .ok (.bipush 40, 2) := dk_16 40 (dk_at dksX5_one_2 13 rfl rfl)
theorem dX5_one_61 : decode cX5_one 61 = .ok (.invokevirtual 234, 3) := dk_182 0 234 (dk_at dksX5_one_2 15 rfl rfl)
theorem dX5_one_64 : decode cX5_one 64 = .ok (.ifCond .eq 30, 3) := dk_153 0 30 (dk_at dksX5_one_2 18 rfl rfl)
theorem dX5_one_67 : decode cX5_one 67 = .ok (.aload_n 0, 1) := dk_42 (dk_at dksX5_one_2 21 rfl rfl)
theorem dX5_one_68 : decode cX5_one 68 = .ok (.invokevirtual 346, 3) := dk_182 1 90 (dk_at dksX5_one_3 0 rfl rfl)
theorem dX5_one_71 : decode cX5_one 71 = .ok (.aload_n 0, 1) := dk_42 (dk_at dksX5_one_3 3 rfl rfl)
theorem dX5_one_72 : decode cX5_one 72 = .ok (.invokevirtual 358, 3) := dk_182 1 102 (dk_at dksX5_one_3 4 rfl rfl)
theorem dX5_one_75 : decode cX5_one 75 = .ok (.istore_n 1, 1) := dk_60 (dk_at dksX5_one_3 7 rfl rfl)
theorem dX5_one_76 : decode cX5_one 76 = .ok (.aload_n 0, 1) := dk_42 (dk_at dksX5_one_3 8 rfl rfl)
theorem dX5_one_77 : decode cX5_one 77 = .ok (.bipush 41, 2) := dk_16 41 (dk_at dksX5_one_3 9 rfl rfl)
theorem dX5_one_79 : decode cX5_one 79 = .ok (.invokevirtual 349, 3) := dk_182 1 93 (dk_at dksX5_one_3 11 rfl rfl)
theorem dX5_one_82 : decode cX5_one 82 = .ok (.aload_n 0, 1) := dk_42 (dk_at dksX5_one_3 14 rfl rfl)
theorem dX5_one_83 : decode cX5_one 83 = .ok (.dup, 1) := dk_89 (dk_at dksX5_one_3 15 rfl rfl)
theorem dX5_one_84 : decode cX5_one 84 = .ok (.getfield 334, 3) := dk_180 1 78 (dk_at dksX5_one_3 16 rfl rfl)
theorem dX5_one_87 : decode cX5_one 87 = .ok (.iconst 1, 1) := dk_4 (dk_at dksX5_one_3 19 rfl rfl)
theorem dX5_one_88 : decode cX5_one 88 = .ok (.isub, 1) := dk_100 (dk_at dksX5_one_3 20 rfl rfl)
theorem dX5_one_89 : decode cX5_one 89 = .ok (.putfield 334, 3) := dk_181 1 78 (dk_at dksX5_one_3 21 rfl rfl)
theorem dX5_one_92 : decode cX5_one 92 = .ok (.iload_n 1, 1) := dk_27 (dk_at dksX5_one_4 0 rfl rfl)
theorem dX5_one_93 : decode cX5_one 93 = .ok (.ireturn, 1) := dk_172 (dk_at dksX5_one_4 1 rfl rfl)
theorem dX5_one_94 : decode cX5_one 94 = .ok (.aload_n 0, 1) := dk_42 (dk_at dksX5_one_4 2 rfl rfl)
theorem dX5_one_95 : decode cX5_one 95 = .ok (.ldc_w 269, 3) := dk_19 1 13 (dk_at dksX5_one_4 3 rfl rfl)
theorem dX5_one_98 : decode cX5_one 98 = .ok (.invokevirtual 243, 3) := dk_182 0 243 (dk_at dksX5_one_4 6 rfl rfl)
theorem dX5_one_101 : decode cX5_one 101 = .ok (.ifCond .eq 9, 3) := dk_153 0 9 (dk_at dksX5_one_4 9 rfl rfl)
theorem dX5_one_104 : decode cX5_one 104 = .ok (.aload_n 0, 1) := dk_42 (dk_at dksX5_one_4 12 rfl rfl)
theorem dX5_one_105 : decode cX5_one 105 = .ok (.iconst 3, 1) := dk_6 (dk_at dksX5_one_4 13 rfl rfl)
theorem dX5_one_106 : decode cX5_one 106 = .ok (.invokevirtual 382, 3) := dk_182 1 126 (dk_at dksX5_one_4 14 rfl rfl)
theorem dX5_one_109 : decode cX5_one 109 = .ok (.ireturn, 1) := dk_172 (dk_at dksX5_one_4 17 rfl rfl)
theorem dX5_one_110 : decode cX5_one 110 = .ok (.aload_n 0, 1) := dk_42 (dk_at dksX5_one_4 18 rfl rfl)
theorem dX5_one_111 : decode cX5_one 111 = .ok (.ldc_w 271, 3) := dk_19 1 15 (dk_at dksX5_one_4 19 rfl rfl)
theorem dX5_one_114 : decode cX5_one 114 = .ok (.invokevirtual 243, 3) := dk_182 0 243 (dk_at dksX5_one_5 0 rfl rfl)
theorem dX5_one_117 : decode cX5_one 117 = .ok (.ifCond .eq 9, 3) := dk_153 0 9 (dk_at dksX5_one_5 3 rfl rfl)
theorem dX5_one_120 : decode cX5_one 120 = .ok (.aload_n 0, 1) := dk_42 (dk_at dksX5_one_5 6 rfl rfl)
theorem dX5_one_121 : decode cX5_one 121 = .ok (.iconst 4, 1) := dk_7 (dk_at dksX5_one_5 7 rfl rfl)
theorem dX5_one_122 : decode cX5_one 122 = .ok (.invokevirtual 382, 3) := dk_182 1 126 (dk_at dksX5_one_5 8 rfl rfl)
theorem dX5_one_125 : decode cX5_one 125 = .ok (.ireturn, 1) := dk_172 (dk_at dksX5_one_5 11 rfl rfl)
theorem dX5_one_126 : decode cX5_one 126 = .ok (.aload_n 0, 1) := dk_42 (dk_at dksX5_one_5 12 rfl rfl)
theorem dX5_one_127 : decode cX5_one 127 = .ok (.ldc_w 272, 3) := dk_19 1 16 (dk_at dksX5_one_5 13 rfl rfl)
theorem dX5_one_130 : decode cX5_one 130 = .ok (.invokevirtual 243, 3) := dk_182 0 243 (dk_at dksX5_one_5 16 rfl rfl)
theorem dX5_one_133 : decode cX5_one 133 = .ok (.ifCond .eq 9, 3) := dk_153 0 9 (dk_at dksX5_one_5 19 rfl rfl)
theorem dX5_one_136 : decode cX5_one 136 = .ok (.aload_n 0, 1) := dk_42 (dk_at dksX5_one_5 22 rfl rfl)
theorem dX5_one_137 : decode cX5_one 137 = .ok (.iconst 5, 1) := dk_8 (dk_at dksX5_one_5 23 rfl rfl)
theorem dX5_one_138 : decode cX5_one 138 = .ok (.invokevirtual 382, 3) := dk_182 1 126 (dk_at dksX5_one_6 0 rfl rfl)
theorem dX5_one_141 : decode cX5_one 141 = .ok (.ireturn, 1) := dk_172 (dk_at dksX5_one_6 3 rfl rfl)
theorem dX5_one_142 : decode cX5_one 142 = .ok (.aload_n 0, 1) := dk_42 (dk_at dksX5_one_6 4 rfl rfl)
theorem dX5_one_143 : decode cX5_one 143 = .ok (.ldc_w 278, 3) := dk_19 1 22 (dk_at dksX5_one_6 5 rfl rfl)
theorem dX5_one_146 : decode cX5_one 146 = .ok (.invokevirtual 243, 3) := dk_182 0 243 (dk_at dksX5_one_6 8 rfl rfl)
theorem dX5_one_149 : decode cX5_one 149 = .ok (.ifCond .eq 8, 3) := dk_153 0 8 (dk_at dksX5_one_6 11 rfl rfl)
theorem dX5_one_152 : decode cX5_one 152 = .ok (.bipush 6, 2) := dk_16 6 (dk_at dksX5_one_6 14 rfl rfl)
theorem dX5_one_154 : decode cX5_one 154 = .ok (.goto 49, 3) := dk_167 0 49 (dk_at dksX5_one_6 16 rfl rfl)
theorem dX5_one_157 : decode cX5_one 157 = .ok (.aload_n 0, 1) := dk_42 (dk_at dksX5_one_6 19 rfl rfl)
theorem dX5_one_158 : decode cX5_one 158 = .ok (.ldc_w 279, 3) := dk_19 1 23 (dk_at dksX5_one_6 20 rfl rfl)
theorem dX5_one_161 : decode cX5_one 161 = .ok (.invokevirtual 243, 3) := dk_182 0 243 (dk_at dksX5_one_7 0 rfl rfl)
theorem dX5_one_164 : decode cX5_one 164 = .ok (.ifCond .eq 8, 3) := dk_153 0 8 (dk_at dksX5_one_7 3 rfl rfl)
theorem dX5_one_167 : decode cX5_one 167 = .ok (.bipush 7, 2) := dk_16 7 (dk_at dksX5_one_7 6 rfl rfl)
theorem dX5_one_169 : decode cX5_one 169 = .ok (.goto 34, 3) := dk_167 0 34 (dk_at dksX5_one_7 8 rfl rfl)
theorem dX5_one_172 : decode cX5_one 172 = .ok (.aload_n 0, 1) := dk_42 (dk_at dksX5_one_7 11 rfl rfl)
theorem dX5_one_173 : decode cX5_one 173 = .ok (.ldc_w 280, 3) := dk_19 1 24 (dk_at dksX5_one_7 12 rfl rfl)
theorem dX5_one_176 : decode cX5_one 176 = .ok (.invokevirtual 243, 3) := dk_182 0 243 (dk_at dksX5_one_7 15 rfl rfl)
theorem dX5_one_179 : decode cX5_one 179 = .ok (.ifCond .eq 8, 3) := dk_153 0 8 (dk_at dksX5_one_7 18 rfl rfl)
theorem dX5_one_182 : decode cX5_one 182 = .ok (.bipush 8, 2) := dk_16 8 (dk_at dksX5_one_7 21 rfl rfl)
theorem dX5_one_184 : decode cX5_one 184 = .ok (.goto 19, 3) := dk_167 0 19 (dk_at dksX5_one_8 0 rfl rfl)
theorem dX5_one_187 : decode cX5_one 187 = .ok (.aload_n 0, 1) := dk_42 (dk_at dksX5_one_8 3 rfl rfl)
theorem dX5_one_188 : decode cX5_one 188 = .ok (.ldc_w 282, 3) := dk_19 1 26 (dk_at dksX5_one_8 4 rfl rfl)
theorem dX5_one_191 : decode cX5_one 191 = .ok (.invokevirtual 243, 3) := dk_182 0 243 (dk_at dksX5_one_8 7 rfl rfl)
theorem dX5_one_194 : decode cX5_one 194 = .ok (.ifCond .eq 8, 3) := dk_153 0 8 (dk_at dksX5_one_8 10 rfl rfl)
theorem dX5_one_197 : decode cX5_one 197 = .ok (.bipush 9, 2) := dk_16 9 (dk_at dksX5_one_8 13 rfl rfl)
theorem dX5_one_199 : decode cX5_one 199 = .ok (.goto 4, 3) := dk_167 0 4 (dk_at dksX5_one_8 15 rfl rfl)
theorem dX5_one_202 : decode cX5_one 202 = .ok (.iconst (-1), 1) := dk_2 (dk_at dksX5_one_8 18 rfl rfl)
theorem dX5_one_203 : decode cX5_one 203 = .ok (.istore_n 1, 1) := dk_60 (dk_at dksX5_one_8 19 rfl rfl)
theorem dX5_one_204 : decode cX5_one 204 = .ok (.iload_n 1, 1) := dk_27 (dk_at dksX5_one_8 20 rfl rfl)
theorem dX5_one_205 : decode cX5_one 205 = .ok (.ifCond .lt 9, 3) := dk_155 0 9 (dk_at dksX5_one_8 21 rfl rfl)
theorem dX5_one_208 : decode cX5_one 208 = .ok (.aload_n 0, 1) := dk_42 (dk_at dksX5_one_9 0 rfl rfl)
theorem dX5_one_209 : decode cX5_one 209 = .ok (.iload_n 1, 1) := dk_27 (dk_at dksX5_one_9 1 rfl rfl)
theorem dX5_one_210 : decode cX5_one 210 = .ok (.invokevirtual 385, 3) := dk_182 1 129 (dk_at dksX5_one_9 2 rfl rfl)
theorem dX5_one_213 : decode cX5_one 213 = .ok (.ireturn, 1) := dk_172 (dk_at dksX5_one_9 5 rfl rfl)
theorem dX5_one_214 : decode cX5_one 214 = .ok (.aload_n 0, 1) := dk_42 (dk_at dksX5_one_9 6 rfl rfl)
theorem dX5_one_215 : decode cX5_one 215 = .ok (.iconst 1, 1) := dk_4 (dk_at dksX5_one_9 7 rfl rfl)
theorem dX5_one_216 : decode cX5_one 216 = .ok (.invokevirtual 237, 3) := dk_182 0 237 (dk_at dksX5_one_9 8 rfl rfl)
theorem dX5_one_219 : decode cX5_one 219 = .ok (.iconst 0, 1) := dk_3 (dk_at dksX5_one_9 11 rfl rfl)
theorem dX5_one_220 : decode cX5_one 220 = .ok (.ireturn, 1) := dk_172 (dk_at dksX5_one_9 12 rfl rfl)
abbrev cX5_newCond : ByteArray := prog_20_method_41_code
def yX5_newCond : MethodName := ⟨RX5, "newCond", "(IIII)I"⟩
def dkwX5_newCond_3 : List UInt8 := [180, 0, 96, 104, 8, 96, 92, 46, 4, 96, 79, 21, 5, 172]
abbrev dktX5_newCond_3 : List UInt8 := dkwX5_newCond_3 ++ []
def dkwX5_newCond_2 : List UInt8 := [180, 0, 86, 21, 6, 29, 79, 42, 180, 0, 89, 21, 6, 21, 4, 79, 42, 180, 0, 13, 16, 7, 42]
abbrev dktX5_newCond_2 : List UInt8 := dkwX5_newCond_2 ++ dktX5_newCond_3
def dkwX5_newCond_1 : List UInt8 := [21, 5, 96, 54, 6, 42, 180, 0, 80, 21, 6, 27, 79, 42, 180, 0, 83, 21, 6, 28, 79, 42]
abbrev dktX5_newCond_1 : List UInt8 := dkwX5_newCond_1 ++ dktX5_newCond_2
def dkwX5_newCond_0 : List UInt8 := [42, 180, 0, 13, 16, 7, 42, 180, 0, 96, 104, 8, 96, 46, 54, 5, 17, 1, 144, 42, 180, 0, 96, 104]
abbrev dktX5_newCond_0 : List UInt8 := dkwX5_newCond_0 ++ dktX5_newCond_1
theorem dksX5_newCond_0 : cX5_newCond.data.toList.drop 0 = dktX5_newCond_0 := by decide +kernel
theorem dksX5_newCond_1 : cX5_newCond.data.toList.drop 24 = dktX5_newCond_1 := dk_seg dksX5_newCond_0 24 rfl rfl
theorem dksX5_newCond_2 : cX5_newCond.data.toList.drop 46 = dktX5_newCond_2 := dk_seg dksX5_newCond_1 22 rfl rfl
theorem dksX5_newCond_3 : cX5_newCond.data.toList.drop 69 = dktX5_newCond_3 := dk_seg dksX5_newCond_2 23 rfl rfl
theorem dX5_newCond_0 : decode cX5_newCond 0 = .ok (.aload_n 0, 1) := dk_42 (dk_at dksX5_newCond_0 0 rfl rfl)
theorem dX5_newCond_1 : decode cX5_newCond 1 = .ok (.getfield 13, 3) := dk_180 0 13 (dk_at dksX5_newCond_0 1 rfl rfl)
theorem dX5_newCond_4 : decode cX5_newCond 4 = .ok (.bipush 7, 2) := dk_16 7 (dk_at dksX5_newCond_0 4 rfl rfl)
theorem dX5_newCond_6 : decode cX5_newCond 6 = .ok (.aload_n 0, 1) := dk_42 (dk_at dksX5_newCond_0 6 rfl rfl)
theorem dX5_newCond_7 : decode cX5_newCond 7 = .ok (.getfield 96, 3) := dk_180 0 96 (dk_at dksX5_newCond_0 7 rfl rfl)
theorem dX5_newCond_10 : decode cX5_newCond 10 = .ok (.imul, 1) := dk_104 (dk_at dksX5_newCond_0 10 rfl rfl)
theorem dX5_newCond_11 : decode cX5_newCond 11 = .ok (.iconst 5, 1) := dk_8 (dk_at dksX5_newCond_0 11 rfl rfl)
theorem dX5_newCond_12 : decode cX5_newCond 12 = .ok (.iadd, 1) := dk_96 (dk_at dksX5_newCond_0 12 rfl rfl)
theorem dX5_newCond_13 : decode cX5_newCond 13 = .ok (.iaload, 1) := dk_46 (dk_at dksX5_newCond_0 13 rfl rfl)
theorem dX5_newCond_14 : decode cX5_newCond 14 = .ok (.istore 5, 2) := dk_54 5 (dk_at dksX5_newCond_0 14 rfl rfl)
theorem dX5_newCond_16 : decode cX5_newCond 16 = .ok (.sipush 400, 3) := dk_17 1 144 (dk_at dksX5_newCond_0 16 rfl rfl)
theorem dX5_newCond_19 : decode cX5_newCond 19 = .ok (.aload_n 0, 1) := dk_42 (dk_at dksX5_newCond_0 19 rfl rfl)
theorem dX5_newCond_20 : decode cX5_newCond 20 = .ok (.getfield 96, 3) := dk_180 0 96 (dk_at dksX5_newCond_0 20 rfl rfl)
theorem dX5_newCond_23 : decode cX5_newCond 23 = .ok (.imul, 1) := dk_104 (dk_at dksX5_newCond_0 23 rfl rfl)
theorem dX5_newCond_24 : decode cX5_newCond 24 = .ok (.iload 5, 2) := dk_21 5 (dk_at dksX5_newCond_1 0 rfl rfl)
theorem dX5_newCond_26 : decode cX5_newCond 26 = .ok (.iadd, 1) := dk_96 (dk_at dksX5_newCond_1 2 rfl rfl)
theorem dX5_newCond_27 : decode cX5_newCond 27 = .ok (.istore 6, 2) := dk_54 6 (dk_at dksX5_newCond_1 3 rfl rfl)
theorem dX5_newCond_29 : decode cX5_newCond 29 = .ok (.aload_n 0, 1) := dk_42 (dk_at dksX5_newCond_1 5 rfl rfl)
theorem dX5_newCond_30 : decode cX5_newCond 30 = .ok (.getfield 80, 3) := dk_180 0 80 (dk_at dksX5_newCond_1 6 rfl rfl)
theorem dX5_newCond_33 : decode cX5_newCond 33 = .ok (.iload 6, 2) := dk_21 6 (dk_at dksX5_newCond_1 9 rfl rfl)
theorem dX5_newCond_35 : decode cX5_newCond 35 = .ok (.iload_n 1, 1) := dk_27 (dk_at dksX5_newCond_1 11 rfl rfl)
theorem dX5_newCond_36 : decode cX5_newCond 36 = .ok (.iastore, 1) := dk_79 (dk_at dksX5_newCond_1 12 rfl rfl)
theorem dX5_newCond_37 : decode cX5_newCond 37 = .ok (.aload_n 0, 1) := dk_42 (dk_at dksX5_newCond_1 13 rfl rfl)
theorem dX5_newCond_38 : decode cX5_newCond 38 = .ok (.getfield 83, 3) := dk_180 0 83 (dk_at dksX5_newCond_1 14 rfl rfl)
theorem dX5_newCond_41 : decode cX5_newCond 41 = .ok (.iload 6, 2) := dk_21 6 (dk_at dksX5_newCond_1 17 rfl rfl)
theorem dX5_newCond_43 : decode cX5_newCond 43 = .ok (.iload_n 2, 1) := dk_28 (dk_at dksX5_newCond_1 19 rfl rfl)
theorem dX5_newCond_44 : decode cX5_newCond 44 = .ok (.iastore, 1) := dk_79 (dk_at dksX5_newCond_1 20 rfl rfl)
theorem dX5_newCond_45 : decode cX5_newCond 45 = .ok (.aload_n 0, 1) := dk_42 (dk_at dksX5_newCond_1 21 rfl rfl)
theorem dX5_newCond_46 : decode cX5_newCond 46 = .ok (.getfield 86, 3) := dk_180 0 86 (dk_at dksX5_newCond_2 0 rfl rfl)
theorem dX5_newCond_49 : decode cX5_newCond 49 = .ok (.iload 6, 2) := dk_21 6 (dk_at dksX5_newCond_2 3 rfl rfl)
theorem dX5_newCond_51 : decode cX5_newCond 51 = .ok (.iload_n 3, 1) := dk_29 (dk_at dksX5_newCond_2 5 rfl rfl)
theorem dX5_newCond_52 : decode cX5_newCond 52 = .ok (.iastore, 1) := dk_79 (dk_at dksX5_newCond_2 6 rfl rfl)
theorem dX5_newCond_53 : decode cX5_newCond 53 = .ok (.aload_n 0, 1) := dk_42 (dk_at dksX5_newCond_2 7 rfl rfl)
theorem dX5_newCond_54 : decode cX5_newCond 54 = .ok (.getfield 89, 3) := dk_180 0 89 (dk_at dksX5_newCond_2 8 rfl rfl)
theorem dX5_newCond_57 : decode cX5_newCond 57 = .ok (.iload 6, 2) := dk_21 6 (dk_at dksX5_newCond_2 11 rfl rfl)
theorem dX5_newCond_59 : decode cX5_newCond 59 = .ok (.iload 4, 2) := dk_21 4 (dk_at dksX5_newCond_2 13 rfl rfl)
theorem dX5_newCond_61 : decode cX5_newCond 61 = .ok (.iastore, 1) := dk_79 (dk_at dksX5_newCond_2 15 rfl rfl)
theorem dX5_newCond_62 : decode cX5_newCond 62 = .ok (.aload_n 0, 1) := dk_42 (dk_at dksX5_newCond_2 16 rfl rfl)
theorem dX5_newCond_63 : decode cX5_newCond 63 = .ok (.getfield 13, 3) := dk_180 0 13 (dk_at dksX5_newCond_2 17 rfl rfl)
theorem dX5_newCond_66 : decode cX5_newCond 66 = .ok (.bipush 7, 2) := dk_16 7 (dk_at dksX5_newCond_2 20 rfl rfl)
theorem dX5_newCond_68 : decode cX5_newCond 68 = .ok (.aload_n 0, 1) := dk_42 (dk_at dksX5_newCond_2 22 rfl rfl)
theorem dX5_newCond_69 : decode cX5_newCond 69 = .ok (.getfield 96, 3) := dk_180 0 96 (dk_at dksX5_newCond_3 0 rfl rfl)
theorem dX5_newCond_72 : decode cX5_newCond 72 = .ok (.imul, 1) := dk_104 (dk_at dksX5_newCond_3 3 rfl rfl)
theorem dX5_newCond_73 : decode cX5_newCond 73 = .ok (.iconst 5, 1) := dk_8 (dk_at dksX5_newCond_3 4 rfl rfl)
theorem dX5_newCond_74 : decode cX5_newCond 74 = .ok (.iadd, 1) := dk_96 (dk_at dksX5_newCond_3 5 rfl rfl)
theorem dX5_newCond_75 : decode cX5_newCond 75 = .ok (.dup2, 1) := dk_92 (dk_at dksX5_newCond_3 6 rfl rfl)
theorem dX5_newCond_76 : decode cX5_newCond 76 = .ok (.iaload, 1) := dk_46 (dk_at dksX5_newCond_3 7 rfl rfl)
theorem dX5_newCond_77 : decode cX5_newCond 77 = .ok (.iconst 1, 1) := dk_4 (dk_at dksX5_newCond_3 8 rfl rfl)
theorem dX5_newCond_78 : decode cX5_newCond 78 = .ok (.iadd, 1) := dk_96 (dk_at dksX5_newCond_3 9 rfl rfl)
theorem dX5_newCond_79 : decode cX5_newCond 79 = .ok (.iastore, 1) := dk_79 (dk_at dksX5_newCond_3 10 rfl rfl)
theorem dX5_newCond_80 : decode cX5_newCond 80 = .ok (.iload 5, 2) := dk_21 5 (dk_at dksX5_newCond_3 11 rfl rfl)
theorem dX5_newCond_82 : decode cX5_newCond 82 = .ok (.ireturn, 1) := dk_172 (dk_at dksX5_newCond_3 13 rfl rfl)
abbrev cX5_spanCond : ByteArray := prog_20_method_45_code
def yX5_spanCond : MethodName := ⟨RX5, "spanCond", "(I)I"⟩
def dkwX5_spanCond_6 : List UInt8 := [181, 1, 72, 42, 27, 42, 180, 1, 39, 42, 180, 1, 42, 28, 182, 1, 119, 172]
abbrev dktX5_spanCond_6 : List UInt8 := dkwX5_spanCond_6 ++ []
def dkwX5_spanCond_5 : List UInt8 := [28, 42, 180, 1, 39, 79, 42, 180, 0, 129, 28, 42, 180, 1, 42, 79, 42, 89, 180, 1, 72, 4, 96]
abbrev dktX5_spanCond_5 : List UInt8 := dkwX5_spanCond_5 ++ dktX5_spanCond_6
def dkwX5_spanCond_4 : List UInt8 := [182, 0, 216, 3, 172, 28, 42, 180, 1, 72, 160, 0, 40, 42, 180, 0, 123, 28, 27, 79, 42, 180, 0, 126]
abbrev dktX5_spanCond_4 : List UInt8 := dkwX5_spanCond_4 ++ dktX5_spanCond_5
def dkwX5_spanCond_3 : List UInt8 := [180, 1, 42, 159, 0, 9, 132, 2, 1, 167, 255, 209, 28, 16, 6, 160, 0, 14, 42, 7, 42, 180, 1, 36]
abbrev dktX5_spanCond_3 : List UInt8 := dkwX5_spanCond_3 ++ dktX5_spanCond_4
def dkwX5_spanCond_2 : List UInt8 := [160, 0, 29, 42, 180, 0, 126, 28, 46, 42, 180, 1, 39, 160, 0, 16, 42, 180, 0, 129, 28, 46, 42]
abbrev dktX5_spanCond_2 : List UInt8 := dkwX5_spanCond_2 ++ dktX5_spanCond_3
def dkwX5_spanCond_1 : List UInt8 := [158, 0, 5, 3, 172, 3, 61, 28, 42, 180, 1, 72, 162, 0, 45, 42, 180, 0, 123, 28, 46, 27]
abbrev dktX5_spanCond_1 : List UInt8 := dkwX5_spanCond_1 ++ dktX5_spanCond_2
def dkwX5_spanCond_0 : List UInt8 := [42, 182, 0, 240, 42, 27, 8, 160, 0, 7, 4, 167, 0, 4, 3, 3, 182, 1, 55, 42, 180, 0, 177]
abbrev dktX5_spanCond_0 : List UInt8 := dkwX5_spanCond_0 ++ dktX5_spanCond_1
theorem dksX5_spanCond_0 : cX5_spanCond.data.toList.drop 0 = dktX5_spanCond_0 := by decide +kernel
theorem dksX5_spanCond_1 : cX5_spanCond.data.toList.drop 23 = dktX5_spanCond_1 := dk_seg dksX5_spanCond_0 23 rfl rfl
theorem dksX5_spanCond_2 : cX5_spanCond.data.toList.drop 45 = dktX5_spanCond_2 := dk_seg dksX5_spanCond_1 22 rfl rfl
theorem dksX5_spanCond_3 : cX5_spanCond.data.toList.drop 68 = dktX5_spanCond_3 := dk_seg dksX5_spanCond_2 23 rfl rfl
theorem dksX5_spanCond_4 : cX5_spanCond.data.toList.drop 92 = dktX5_spanCond_4 := dk_seg dksX5_spanCond_3 24 rfl rfl
theorem dksX5_spanCond_5 : cX5_spanCond.data.toList.drop 116 = dktX5_spanCond_5 := dk_seg dksX5_spanCond_4 24 rfl rfl
theorem dksX5_spanCond_6 : cX5_spanCond.data.toList.drop 139 = dktX5_spanCond_6 := dk_seg dksX5_spanCond_5 23 rfl rfl
theorem dX5_spanCond_0 : decode cX5_spanCond 0 = .ok (.aload_n 0, 1) := dk_42 (dk_at dksX5_spanCond_0 0 rfl rfl)
theorem dX5_spanCond_1 : decode cX5_spanCond 1 = .ok (.invokevirtual 240, 3) := dk_182 0 240 (dk_at dksX5_spanCond_0 1 rfl rfl)
theorem dX5_spanCond_4 : decode cX5_spanCond 4 = .ok (.aload_n 0, 1) := dk_42 (dk_at dksX5_spanCond_0 4 rfl rfl)
theorem dX5_spanCond_5 : decode cX5_spanCond 5 = .ok (.iload_n 1, 1) := dk_27 (dk_at dksX5_spanCond_0 5 rfl rfl)
theorem dX5_spanCond_6 : decode cX5_spanCond 6 = .ok (.iconst 5, 1) := dk_8 (dk_at dksX5_spanCond_0 6 rfl rfl)
theorem dX5_spanCond_7 : decode cX5_spanCond 7 = .ok (.if_icmp .ne 7, 3) := dk_160 0 7 (dk_at dksX5_spanCond_0 7 rfl rfl)
theorem dX5_spanCond_10 : decode cX5_spanCond 10 = .ok (.iconst 1, 1) := dk_4 (dk_at dksX5_spanCond_0 10 rfl rfl)
theorem dX5_spanCond_11 : decode cX5_spanCond 11 = .ok (.goto 4, 3) := dk_167 0 4 (dk_at dksX5_spanCond_0 11 rfl rfl)
theorem dX5_spanCond_14 : decode cX5_spanCond 14 = .ok (.iconst 0, 1) := dk_3 (dk_at dksX5_spanCond_0 14 rfl rfl)
theorem dX5_spanCond_15 : decode cX5_spanCond 15 = .ok (.iconst 0, 1) := dk_3 (dk_at dksX5_spanCond_0 15 rfl rfl)
theorem dX5_spanCond_16 : decode cX5_spanCond 16 = .ok (.invokevirtual 311, 3) := dk_182 1 55 (dk_at dksX5_spanCond_0 16 rfl rfl)
theorem dX5_spanCond_19 : decode cX5_spanCond 19 = .ok (.aload_n 0, 1) := dk_42 (dk_at dksX5_spanCond_0 19 rfl rfl)
theorem dX5_spanCond_20 : decode cX5_spanCond 20 = .ok (.getfield 177, 3) := dk_180 0 177 (dk_at dksX5_spanCond_0 20 rfl rfl)
theorem dX5_spanCond_23 : decode cX5_spanCond 23 = .ok (.ifCond .le 5, 3) := dk_158 0 5 (dk_at dksX5_spanCond_1 0 rfl rfl)
theorem dX5_spanCond_26 : decode cX5_spanCond 26 = .ok (.iconst 0, 1) := dk_3 (dk_at dksX5_spanCond_1 3 rfl rfl)
theorem dX5_spanCond_27 : decode cX5_spanCond 27 = .ok (.ireturn, 1) := dk_172 (dk_at dksX5_spanCond_1 4 rfl rfl)
theorem dX5_spanCond_28 : decode cX5_spanCond 28 = .ok (.iconst 0, 1) := dk_3 (dk_at dksX5_spanCond_1 5 rfl rfl)
theorem dX5_spanCond_29 : decode cX5_spanCond 29 = .ok (.istore_n 2, 1) := dk_61 (dk_at dksX5_spanCond_1 6 rfl rfl)
theorem dX5_spanCond_30 : decode cX5_spanCond 30 = .ok (.iload_n 2, 1) := dk_28 (dk_at dksX5_spanCond_1 7 rfl rfl)
theorem dX5_spanCond_31 : decode cX5_spanCond 31 = .ok (.aload_n 0, 1) := dk_42 (dk_at dksX5_spanCond_1 8 rfl rfl)
theorem dX5_spanCond_32 : decode cX5_spanCond 32 = .ok (.getfield 328, 3) := dk_180 1 72 (dk_at dksX5_spanCond_1 9 rfl rfl)
theorem dX5_spanCond_35 : decode cX5_spanCond 35 = .ok (.if_icmp .ge 45, 3) := dk_162 0 45 (dk_at dksX5_spanCond_1 12 rfl rfl)
theorem dX5_spanCond_38 : decode cX5_spanCond 38 = .ok (.aload_n 0, 1) := dk_42 (dk_at dksX5_spanCond_1 15 rfl rfl)
theorem dX5_spanCond_39 : decode cX5_spanCond 39 = .ok (.getfield 123, 3) := dk_180 0 123 (dk_at dksX5_spanCond_1 16 rfl rfl)
theorem dX5_spanCond_42 : decode cX5_spanCond 42 = .ok (.iload_n 2, 1) := dk_28 (dk_at dksX5_spanCond_1 19 rfl rfl)
theorem dX5_spanCond_43 : decode cX5_spanCond 43 = .ok (.iaload, 1) := dk_46 (dk_at dksX5_spanCond_1 20 rfl rfl)
theorem dX5_spanCond_44 : decode cX5_spanCond 44 = .ok (.iload_n 1, 1) := dk_27 (dk_at dksX5_spanCond_1 21 rfl rfl)
theorem dX5_spanCond_45 : decode cX5_spanCond 45 = .ok (.if_icmp .ne 29, 3) := dk_160 0 29 (dk_at dksX5_spanCond_2 0 rfl rfl)
theorem dX5_spanCond_48 : decode cX5_spanCond 48 = .ok (.aload_n 0, 1) := dk_42 (dk_at dksX5_spanCond_2 3 rfl rfl)
theorem dX5_spanCond_49 : decode cX5_spanCond 49 = .ok (.getfield 126, 3) := dk_180 0 126 (dk_at dksX5_spanCond_2 4 rfl rfl)
theorem dX5_spanCond_52 : decode cX5_spanCond 52 = .ok (.iload_n 2, 1) := dk_28 (dk_at dksX5_spanCond_2 7 rfl rfl)
theorem dX5_spanCond_53 : decode cX5_spanCond 53 = .ok (.iaload, 1) := dk_46 (dk_at dksX5_spanCond_2 8 rfl rfl)
theorem dX5_spanCond_54 : decode cX5_spanCond 54 = .ok (.aload_n 0, 1) := dk_42 (dk_at dksX5_spanCond_2 9 rfl rfl)
theorem dX5_spanCond_55 : decode cX5_spanCond 55 = .ok (.getfield 295, 3) := dk_180 1 39 (dk_at dksX5_spanCond_2 10 rfl rfl)
theorem dX5_spanCond_58 : decode cX5_spanCond 58 = .ok (.if_icmp .ne 16, 3) := dk_160 0 16 (dk_at dksX5_spanCond_2 13 rfl rfl)
theorem dX5_spanCond_61 : decode cX5_spanCond 61 = .ok (.aload_n 0, 1) := dk_42 (dk_at dksX5_spanCond_2 16 rfl rfl)
theorem dX5_spanCond_62 : decode cX5_spanCond 62 = .ok (.getfield 129, 3) := dk_180 0 129 (dk_at dksX5_spanCond_2 17 rfl rfl)
theorem dX5_spanCond_65 : decode cX5_spanCond 65 = .ok (.iload_n 2, 1) := dk_28 (dk_at dksX5_spanCond_2 20 rfl rfl)
theorem dX5_spanCond_66 : decode cX5_spanCond 66 = .ok (.iaload, 1) := dk_46 (dk_at dksX5_spanCond_2 21 rfl rfl)
theorem dX5_spanCond_67 : decode cX5_spanCond 67 = .ok (.aload_n 0, 1) := dk_42 (dk_at dksX5_spanCond_2 22 rfl rfl)
theorem dX5_spanCond_68 : decode cX5_spanCond 68 = .ok (.getfield 298, 3) := dk_180 1 42 (dk_at dksX5_spanCond_3 0 rfl rfl)
theorem dX5_spanCond_71 : decode cX5_spanCond 71 = .ok (.if_icmp .eq 9, 3) := dk_159 0 9 (dk_at dksX5_spanCond_3 3 rfl rfl)
theorem dX5_spanCond_74 : decode cX5_spanCond 74 = .ok (.iinc 2 1, 3) := dk_132 2 1 (dk_at dksX5_spanCond_3 6 rfl rfl)
theorem dX5_spanCond_77 : decode cX5_spanCond 77 = .ok (.goto (-47), 3) := dk_167 255 209 (dk_at dksX5_spanCond_3 9 rfl rfl)
theorem dX5_spanCond_80 : decode cX5_spanCond 80 = .ok (.iload_n 2, 1) := dk_28 (dk_at dksX5_spanCond_3 12 rfl rfl)
theorem dX5_spanCond_81 : decode cX5_spanCond 81 = .ok (.bipush 6, 2) := dk_16 6 (dk_at dksX5_spanCond_3 13 rfl rfl)
theorem dX5_spanCond_83 : decode cX5_spanCond 83 = .ok (.if_icmp .ne 14, 3) := dk_160 0 14 (dk_at dksX5_spanCond_3 15 rfl rfl)
theorem dX5_spanCond_86 : decode cX5_spanCond 86 = .ok (.aload_n 0, 1) := dk_42 (dk_at dksX5_spanCond_3 18 rfl rfl)
theorem dX5_spanCond_87 : decode cX5_spanCond 87 = .ok (.iconst 4, 1) := dk_7 (dk_at dksX5_spanCond_3 19 rfl rfl)
theorem dX5_spanCond_88 : decode cX5_spanCond 88 = .ok (.aload_n 0, 1) := dk_42 (dk_at dksX5_spanCond_3 20 rfl rfl)
theorem dX5_spanCond_89 : decode cX5_spanCond 89 = .ok (.getfield 292, 3) := dk_180 1 36 (dk_at dksX5_spanCond_3 21 rfl rfl)
theorem dX5_spanCond_92 : decode cX5_spanCond 92 = .ok (.invokevirtual 216, 3) := dk_182 0 216 (dk_at dksX5_spanCond_4 0 rfl rfl)
theorem dX5_spanCond_95 : decode cX5_spanCond 95 = .ok (.iconst 0, 1) := dk_3 (dk_at dksX5_spanCond_4 3 rfl rfl)
theorem dX5_spanCond_96 : decode cX5_spanCond 96 = .ok (.ireturn, 1) := dk_172 (dk_at dksX5_spanCond_4 4 rfl rfl)
theorem dX5_spanCond_97 : decode cX5_spanCond 97 = .ok (.iload_n 2, 1) := dk_28 (dk_at dksX5_spanCond_4 5 rfl rfl)
theorem dX5_spanCond_98 : decode cX5_spanCond 98 = .ok (.aload_n 0, 1) := dk_42 (dk_at dksX5_spanCond_4 6 rfl rfl)
theorem dX5_spanCond_99 : decode cX5_spanCond 99 = .ok (.getfield 328, 3) := dk_180 1 72 (dk_at dksX5_spanCond_4 7 rfl rfl)
theorem dX5_spanCond_102 : decode cX5_spanCond 102 = .ok (.if_icmp .ne 40, 3) := dk_160 0 40 (dk_at dksX5_spanCond_4 10 rfl rfl)
theorem dX5_spanCond_105 : decode cX5_spanCond 105 = .ok (.aload_n 0, 1) := dk_42 (dk_at dksX5_spanCond_4 13 rfl rfl)
theorem dX5_spanCond_106 : decode cX5_spanCond 106 = .ok (.getfield 123, 3) := dk_180 0 123 (dk_at dksX5_spanCond_4 14 rfl rfl)
theorem dX5_spanCond_109 : decode cX5_spanCond 109 = .ok (.iload_n 2, 1) := dk_28 (dk_at dksX5_spanCond_4 17 rfl rfl)
theorem dX5_spanCond_110 : decode cX5_spanCond 110 = .ok (.iload_n 1, 1) := dk_27 (dk_at dksX5_spanCond_4 18 rfl rfl)
theorem dX5_spanCond_111 : decode cX5_spanCond 111 = .ok (.iastore, 1) := dk_79 (dk_at dksX5_spanCond_4 19 rfl rfl)
theorem dX5_spanCond_112 : decode cX5_spanCond 112 = .ok (.aload_n 0, 1) := dk_42 (dk_at dksX5_spanCond_4 20 rfl rfl)
theorem dX5_spanCond_113 : decode cX5_spanCond 113 = .ok (.getfield 126, 3) := dk_180 0 126 (dk_at dksX5_spanCond_4 21 rfl rfl)
theorem dX5_spanCond_116 : decode cX5_spanCond 116 = .ok (.iload_n 2, 1) := dk_28 (dk_at dksX5_spanCond_5 0 rfl rfl)
theorem dX5_spanCond_117 : decode cX5_spanCond 117 = .ok (.aload_n 0, 1) := dk_42 (dk_at dksX5_spanCond_5 1 rfl rfl)
theorem dX5_spanCond_118 : decode cX5_spanCond 118 = .ok (.getfield 295, 3) := dk_180 1 39 (dk_at dksX5_spanCond_5 2 rfl rfl)
theorem dX5_spanCond_121 : decode cX5_spanCond 121 = .ok (.iastore, 1) := dk_79 (dk_at dksX5_spanCond_5 5 rfl rfl)
theorem dX5_spanCond_122 : decode cX5_spanCond 122 = .ok (.aload_n 0, 1) := dk_42 (dk_at dksX5_spanCond_5 6 rfl rfl)
theorem dX5_spanCond_123 : decode cX5_spanCond 123 = .ok (.getfield 129, 3) := dk_180 0 129 (dk_at dksX5_spanCond_5 7 rfl rfl)
theorem dX5_spanCond_126 : decode cX5_spanCond 126 = .ok (.iload_n 2, 1) := dk_28 (dk_at dksX5_spanCond_5 10 rfl rfl)
theorem dX5_spanCond_127 : decode cX5_spanCond 127 = .ok (.aload_n 0, 1) := dk_42 (dk_at dksX5_spanCond_5 11 rfl rfl)
theorem dX5_spanCond_128 : decode cX5_spanCond 128 = .ok (.getfield 298, 3) := dk_180 1 42 (dk_at dksX5_spanCond_5 12 rfl rfl)
theorem dX5_spanCond_131 : decode cX5_spanCond 131 = .ok (.iastore, 1) := dk_79 (dk_at dksX5_spanCond_5 15 rfl rfl)
theorem dX5_spanCond_132 : decode cX5_spanCond 132 = .ok (.aload_n 0, 1) := dk_42 (dk_at dksX5_spanCond_5 16 rfl rfl)
theorem dX5_spanCond_133 : decode cX5_spanCond 133 = .ok (.dup, 1) := dk_89 (dk_at dksX5_spanCond_5 17 rfl rfl)
theorem dX5_spanCond_134 : decode cX5_spanCond 134 = .ok (.getfield 328, 3) := dk_180 1 72 (dk_at dksX5_spanCond_5 18 rfl rfl)
theorem dX5_spanCond_137 : decode cX5_spanCond 137 = .ok (.iconst 1, 1) := dk_4 (dk_at dksX5_spanCond_5 21 rfl rfl)
theorem dX5_spanCond_138 : decode cX5_spanCond 138 = .ok (.iadd, 1) := dk_96 (dk_at dksX5_spanCond_5 22 rfl rfl)
theorem dX5_spanCond_139 : decode cX5_spanCond 139 = .ok (.putfield 328, 3) := dk_181 1 72 (dk_at dksX5_spanCond_6 0 rfl rfl)
theorem dX5_spanCond_142 : decode cX5_spanCond 142 = .ok (.aload_n 0, 1) := dk_42 (dk_at dksX5_spanCond_6 3 rfl rfl)
theorem dX5_spanCond_143 : decode cX5_spanCond 143 = .ok (.iload_n 1, 1) := dk_27 (dk_at dksX5_spanCond_6 4 rfl rfl)
theorem dX5_spanCond_144 : decode cX5_spanCond 144 = .ok (.aload_n 0, 1) := dk_42 (dk_at dksX5_spanCond_6 5 rfl rfl)
theorem dX5_spanCond_145 : decode cX5_spanCond 145 = .ok (.getfield 295, 3) := dk_180 1 39 (dk_at dksX5_spanCond_6 6 rfl rfl)
theorem dX5_spanCond_148 : decode cX5_spanCond 148 = .ok (.aload_n 0, 1) := dk_42 (dk_at dksX5_spanCond_6 9 rfl rfl)
theorem dX5_spanCond_149 : decode cX5_spanCond 149 = .ok (.getfield 298, 3) := dk_180 1 42 (dk_at dksX5_spanCond_6 10 rfl rfl)
theorem dX5_spanCond_152 : decode cX5_spanCond 152 = .ok (.iload_n 2, 1) := dk_28 (dk_at dksX5_spanCond_6 13 rfl rfl)
theorem dX5_spanCond_153 : decode cX5_spanCond 153 = .ok (.invokevirtual 375, 3) := dk_182 1 119 (dk_at dksX5_spanCond_6 14 rfl rfl)
theorem dX5_spanCond_156 : decode cX5_spanCond 156 = .ok (.ireturn, 1) := dk_172 (dk_at dksX5_spanCond_6 17 rfl rfl)
abbrev cX5_comparison : ByteArray := prog_20_method_46_code
def yX5_comparison : MethodName := ⟨RX5, "comparison", "(I)I"⟩
def dkwX5_comparison_8 : List UInt8 := [21, 5, 182, 1, 119, 172]
abbrev dktX5_comparison_8 : List UInt8 := dkwX5_comparison_8 ++ []
def dkwX5_comparison_7 : List UInt8 := [180, 0, 138, 21, 5, 21, 4, 79, 42, 89, 180, 1, 75, 4, 96, 181, 1, 75, 42, 27, 29, 21, 4]
abbrev dktX5_comparison_7 : List UInt8 := dkwX5_comparison_7 ++ dktX5_comparison_8
def dkwX5_comparison_6 : List UInt8 := [180, 1, 75, 160, 0, 38, 42, 180, 0, 132, 21, 5, 27, 79, 42, 180, 0, 135, 21, 5, 29, 79, 42]
abbrev dktX5_comparison_6 : List UInt8 := dkwX5_comparison_6 ++ dktX5_comparison_7
def dkwX5_comparison_5 : List UInt8 := [132, 5, 1, 167, 255, 210, 21, 5, 16, 6, 160, 0, 11, 42, 7, 28, 182, 0, 216, 3, 172, 21, 5, 42]
abbrev dktX5_comparison_5 : List UInt8 := dkwX5_comparison_5 ++ dktX5_comparison_6
def dkwX5_comparison_4 : List UInt8 := [180, 0, 135, 21, 5, 46, 29, 160, 0, 15, 42, 180, 0, 138, 21, 5, 46, 21, 4, 159, 0, 9]
abbrev dktX5_comparison_4 : List UInt8 := dkwX5_comparison_4 ++ dktX5_comparison_5
def dkwX5_comparison_3 : List UInt8 := [54, 5, 21, 5, 42, 180, 1, 75, 162, 0, 43, 42, 180, 0, 132, 21, 5, 46, 27, 160, 0, 26, 42]
abbrev dktX5_comparison_3 : List UInt8 := dkwX5_comparison_3 ++ dktX5_comparison_4
def dkwX5_comparison_2 : List UInt8 := [182, 0, 240, 42, 3, 17, 3, 231, 182, 1, 65, 54, 4, 42, 180, 0, 177, 158, 0, 5, 3, 172, 3]
abbrev dktX5_comparison_2 : List UInt8 := dkwX5_comparison_2 ++ dktX5_comparison_3
def dkwX5_comparison_1 : List UInt8 := [16, 62, 182, 0, 234, 153, 0, 7, 4, 167, 0, 4, 2, 62, 29, 156, 0, 8, 42, 4, 182, 0, 237, 42]
abbrev dktX5_comparison_1 : List UInt8 := dkwX5_comparison_1 ++ dktX5_comparison_2
def dkwX5_comparison_0 : List UInt8 := [42, 180, 0, 187, 61, 42, 182, 0, 240, 42, 16, 60, 182, 0, 234, 153, 0, 7, 3, 167, 0, 17, 42]
abbrev dktX5_comparison_0 : List UInt8 := dkwX5_comparison_0 ++ dktX5_comparison_1
theorem dksX5_comparison_0 : cX5_comparison.data.toList.drop 0 = dktX5_comparison_0 := by decide +kernel
theorem dksX5_comparison_1 : cX5_comparison.data.toList.drop 23 = dktX5_comparison_1 := dk_seg dksX5_comparison_0 23 rfl rfl
theorem dksX5_comparison_2 : cX5_comparison.data.toList.drop 47 = dktX5_comparison_2 := dk_seg dksX5_comparison_1 24 rfl rfl
theorem dksX5_comparison_3 : cX5_comparison.data.toList.drop 70 = dktX5_comparison_3 := dk_seg dksX5_comparison_2 23 rfl rfl
theorem dksX5_comparison_4 : cX5_comparison.data.toList.drop 93 = dktX5_comparison_4 := dk_seg dksX5_comparison_3 23 rfl rfl
theorem dksX5_comparison_5 : cX5_comparison.data.toList.drop 115 = dktX5_comparison_5 := dk_seg dksX5_comparison_4 22 rfl rfl
theorem dksX5_comparison_6 : cX5_comparison.data.toList.drop 139 = dktX5_comparison_6 := dk_seg dksX5_comparison_5 24 rfl rfl
theorem dksX5_comparison_7 : cX5_comparison.data.toList.drop 162 = dktX5_comparison_7 := dk_seg dksX5_comparison_6 23 rfl rfl
theorem dksX5_comparison_8 : cX5_comparison.data.toList.drop 185 = dktX5_comparison_8 := dk_seg dksX5_comparison_7 23 rfl rfl
theorem dX5_comparison_0 : decode cX5_comparison 0 = .ok (.aload_n 0, 1) := dk_42 (dk_at dksX5_comparison_0 0 rfl rfl)
theorem dX5_comparison_1 : decode cX5_comparison 1 = .ok (.getfield 187, 3) := dk_180 0 187 (dk_at dksX5_comparison_0 1 rfl rfl)
theorem dX5_comparison_4 : decode cX5_comparison 4 = .ok (.istore_n 2, 1) := dk_61 (dk_at dksX5_comparison_0 4 rfl rfl)
theorem dX5_comparison_5 : decode cX5_comparison 5 = .ok (.aload_n 0, 1) := dk_42 (dk_at dksX5_comparison_0 5 rfl rfl)
theorem dX5_comparison_6 : decode cX5_comparison 6 = .ok (.invokevirtual 240, 3) := dk_182 0 240 (dk_at dksX5_comparison_0 6 rfl rfl)
theorem dX5_comparison_9 : decode cX5_comparison 9 = .ok (.aload_n 0, 1) := dk_42 (dk_at dksX5_comparison_0 9 rfl rfl)
theorem dX5_comparison_10 : decode cX5_comparison 10 = .ok (.bipush 60, 2) := dk_16 60 (dk_at dksX5_comparison_0 10 rfl rfl)
theorem dX5_comparison_12 : decode cX5_comparison 12 = .ok (.invokevirtual 234, 3) := dk_182 0 234 (dk_at dksX5_comparison_0 12 rfl rfl)
theorem dX5_comparison_15 : decode cX5_comparison 15 = .ok (.ifCond .eq 7, 3) := dk_153 0 7 (dk_at dksX5_comparison_0 15 rfl rfl)
theorem dX5_comparison_18 : decode cX5_comparison 18 = .ok (.iconst 0, 1) := dk_3 (dk_at dksX5_comparison_0 18 rfl rfl)
theorem dX5_comparison_19 : decode cX5_comparison 19 = .ok (.goto 17, 3) := dk_167 0 17 (dk_at dksX5_comparison_0 19 rfl rfl)
theorem dX5_comparison_22 : decode cX5_comparison 22 = .ok (.aload_n 0, 1) := dk_42 (dk_at dksX5_comparison_0 22 rfl rfl)
theorem dX5_comparison_23 : decode cX5_comparison 23 = .ok (.bipush 62, 2) := dk_16 62 (dk_at dksX5_comparison_1 0 rfl rfl)
theorem dX5_comparison_25 : decode cX5_comparison 25 = .ok (.invokevirtual 234, 3) := dk_182 0 234 (dk_at dksX5_comparison_1 2 rfl rfl)
theorem dX5_comparison_28 : decode cX5_comparison 28 = .ok (.ifCond .eq 7, 3) := dk_153 0 7 (dk_at dksX5_comparison_1 5 rfl rfl)
theorem dX5_comparison_31 : decode cX5_comparison 31 = .ok (.iconst 1, 1) := dk_4 (dk_at dksX5_comparison_1 8 rfl rfl)
theorem dX5_comparison_32 : decode cX5_comparison 32 = .ok (.goto 4, 3) := dk_167 0 4 (dk_at dksX5_comparison_1 9 rfl rfl)
theorem dX5_comparison_35 : decode cX5_comparison 35 = .ok (.iconst (-1), 1) := dk_2 (dk_at dksX5_comparison_1 12 rfl rfl)
theorem dX5_comparison_36 : decode cX5_comparison 36 = .ok (.istore_n 3, 1) := dk_62 (dk_at dksX5_comparison_1 13 rfl rfl)
theorem dX5_comparison_37 : decode cX5_comparison 37 = .ok (.iload_n 3, 1) := dk_29 (dk_at dksX5_comparison_1 14 rfl rfl)
theorem dX5_comparison_38 : decode cX5_comparison 38 = .ok (.ifCond .ge 8, 3) := dk_156 0 8 (dk_at dksX5_comparison_1 15 rfl rfl)
theorem dX5_comparison_41 : decode cX5_comparison 41 = .ok (.aload_n 0, 1) := dk_42 (dk_at dksX5_comparison_1 18 rfl rfl)
theorem dX5_comparison_42 : decode cX5_comparison 42 = .ok (.iconst 1, 1) := dk_4 (dk_at dksX5_comparison_1 19 rfl rfl)
theorem dX5_comparison_43 : decode cX5_comparison 43 = .ok (.invokevirtual 237, 3) := dk_182 0 237 (dk_at dksX5_comparison_1 20 rfl rfl)
theorem dX5_comparison_46 : decode cX5_comparison 46 = .ok (.aload_n 0, 1) := dk_42 (dk_at dksX5_comparison_1 23 rfl rfl)
theorem dX5_comparison_47 : decode cX5_comparison 47 = .ok (.invokevirtual 240, 3) := dk_182 0 240 (dk_at dksX5_comparison_2 0 rfl rfl)
theorem dX5_comparison_50 : decode cX5_comparison 50 = .ok (.aload_n 0, 1) := dk_42 (dk_at dksX5_comparison_2 3 rfl rfl)
theorem dX5_comparison_51 : decode cX5_comparison 51 = .ok (.iconst 0, 1) := dk_3 (dk_at dksX5_comparison_2 4 rfl rfl)
theorem dX5_comparison_52 : decode cX5_comparison 52 = .ok (.sipush 999, 3) := dk_17 3 231 (dk_at dksX5_comparison_2 5 rfl rfl)
theorem dX5_comparison_55 : decode cX5_comparison 55 = .ok (.invokevirtual 321, 3) := dk_182 1 65 (dk_at dksX5_comparison_2 8 rfl rfl)
theorem dX5_comparison_58 : decode cX5_comparison 58 = .ok (.istore 4, 2) := dk_54 4 (dk_at dksX5_comparison_2 11 rfl rfl)
theorem dX5_comparison_60 : decode cX5_comparison 60 = .ok (.aload_n 0, 1) := dk_42 (dk_at dksX5_comparison_2 13 rfl rfl)
theorem dX5_comparison_61 : decode cX5_comparison 61 = .ok (.getfield 177, 3) := dk_180 0 177 (dk_at dksX5_comparison_2 14 rfl rfl)
theorem dX5_comparison_64 : decode cX5_comparison 64 = .ok (.ifCond .le 5, 3) := dk_158 0 5 (dk_at dksX5_comparison_2 17 rfl rfl)
theorem dX5_comparison_67 : decode cX5_comparison 67 = .ok (.iconst 0, 1) := dk_3 (dk_at dksX5_comparison_2 20 rfl rfl)
theorem dX5_comparison_68 : decode cX5_comparison 68 = .ok (.ireturn, 1) := dk_172 (dk_at dksX5_comparison_2 21 rfl rfl)
theorem dX5_comparison_69 : decode cX5_comparison 69 = .ok (.iconst 0, 1) := dk_3 (dk_at dksX5_comparison_2 22 rfl rfl)
theorem dX5_comparison_70 : decode cX5_comparison 70 = .ok (.istore 5, 2) := dk_54 5 (dk_at dksX5_comparison_3 0 rfl rfl)
theorem dX5_comparison_72 : decode cX5_comparison 72 = .ok (.iload 5, 2) := dk_21 5 (dk_at dksX5_comparison_3 2 rfl rfl)
theorem dX5_comparison_74 : decode cX5_comparison 74 = .ok (.aload_n 0, 1) := dk_42 (dk_at dksX5_comparison_3 4 rfl rfl)
theorem dX5_comparison_75 : decode cX5_comparison 75 = .ok (.getfield 331, 3) := dk_180 1 75 (dk_at dksX5_comparison_3 5 rfl rfl)
theorem dX5_comparison_78 : decode cX5_comparison 78 = .ok (.if_icmp .ge 43, 3) := dk_162 0 43 (dk_at dksX5_comparison_3 8 rfl rfl)
theorem dX5_comparison_81 : decode cX5_comparison 81 = .ok (.aload_n 0, 1) := dk_42 (dk_at dksX5_comparison_3 11 rfl rfl)
theorem dX5_comparison_82 : decode cX5_comparison 82 = .ok (.getfield 132, 3) := dk_180 0 132 (dk_at dksX5_comparison_3 12 rfl rfl)
theorem dX5_comparison_85 : decode cX5_comparison 85 = .ok (.iload 5, 2) := dk_21 5 (dk_at dksX5_comparison_3 15 rfl rfl)
theorem dX5_comparison_87 : decode cX5_comparison 87 = .ok (.iaload, 1) := dk_46 (dk_at dksX5_comparison_3 17 rfl rfl)
theorem dX5_comparison_88 : decode cX5_comparison 88 = .ok (.iload_n 1, 1) := dk_27 (dk_at dksX5_comparison_3 18 rfl rfl)
theorem dX5_comparison_89 : decode cX5_comparison 89 = .ok (.if_icmp .ne 26, 3) := dk_160 0 26 (dk_at dksX5_comparison_3 19 rfl rfl)
theorem dX5_comparison_92 : decode cX5_comparison 92 = .ok (.aload_n 0, 1) := dk_42 (dk_at dksX5_comparison_3 22 rfl rfl)
theorem dX5_comparison_93 : decode cX5_comparison 93 = .ok (.getfield 135, 3) := dk_180 0 135 (dk_at dksX5_comparison_4 0 rfl rfl)
theorem dX5_comparison_96 : decode cX5_comparison 96 = .ok (.iload 5, 2) := dk_21 5 (dk_at dksX5_comparison_4 3 rfl rfl)
theorem dX5_comparison_98 : decode cX5_comparison 98 = .ok (.iaload, 1) := dk_46 (dk_at dksX5_comparison_4 5 rfl rfl)
theorem dX5_comparison_99 : decode cX5_comparison 99 = .ok (.iload_n 3, 1) := dk_29 (dk_at dksX5_comparison_4 6 rfl rfl)
theorem dX5_comparison_100 : decode cX5_comparison 100 = .ok (.if_icmp .ne 15, 3) := dk_160 0 15 (dk_at dksX5_comparison_4 7 rfl rfl)
theorem dX5_comparison_103 : decode cX5_comparison 103 = .ok (.aload_n 0, 1) := dk_42 (dk_at dksX5_comparison_4 10 rfl rfl)
theorem dX5_comparison_104 : decode cX5_comparison 104 = .ok (.getfield 138, 3) := dk_180 0 138 (dk_at dksX5_comparison_4 11 rfl rfl)
theorem dX5_comparison_107 : decode cX5_comparison 107 = .ok (.iload 5, 2) := dk_21 5 (dk_at dksX5_comparison_4 14 rfl rfl)
theorem dX5_comparison_109 : decode cX5_comparison 109 = .ok (.iaload, 1) := dk_46 (dk_at dksX5_comparison_4 16 rfl rfl)
theorem dX5_comparison_110 : decode cX5_comparison 110 = .ok (.iload 4, 2) := dk_21 4 (dk_at dksX5_comparison_4 17 rfl rfl)
theorem dX5_comparison_112 : decode cX5_comparison 112 = .ok (.if_icmp .eq 9, 3) := dk_159 0 9 (dk_at dksX5_comparison_4 19 rfl rfl)
theorem dX5_comparison_115 : decode cX5_comparison 115 = .ok (.iinc 5 1, 3) := dk_132 5 1 (dk_at dksX5_comparison_5 0 rfl rfl)
theorem dX5_comparison_118 : decode cX5_comparison 118 = .ok (.goto (-46), 3) := dk_167 255 210 (dk_at dksX5_comparison_5 3 rfl rfl)
theorem dX5_comparison_121 : decode cX5_comparison 121 = .ok (.iload 5, 2) := dk_21 5 (dk_at dksX5_comparison_5 6 rfl rfl)
theorem dX5_comparison_123 : decode cX5_comparison 123 = .ok (.bipush 6, 2) := dk_16 6 (dk_at dksX5_comparison_5 8 rfl rfl)
theorem dX5_comparison_125 : decode cX5_comparison 125 = .ok (.if_icmp .ne 11, 3) := dk_160 0 11 (dk_at dksX5_comparison_5 10 rfl rfl)
theorem dX5_comparison_128 : decode cX5_comparison 128 = .ok (.aload_n 0, 1) := dk_42 (dk_at dksX5_comparison_5 13 rfl rfl)
theorem dX5_comparison_129 : decode cX5_comparison 129 = .ok (.iconst 4, 1) := dk_7 (dk_at dksX5_comparison_5 14 rfl rfl)
theorem dX5_comparison_130 : decode cX5_comparison 130 = .ok (.iload_n 2, 1) := dk_28 (dk_at dksX5_comparison_5 15 rfl rfl)
theorem dX5_comparison_131 : decode cX5_comparison 131 = .ok (.invokevirtual 216, 3) := dk_182 0 216 (dk_at dksX5_comparison_5 16 rfl rfl)
theorem dX5_comparison_134 : decode cX5_comparison 134 = .ok (.iconst 0, 1) := dk_3 (dk_at dksX5_comparison_5 19 rfl rfl)
theorem dX5_comparison_135 : decode cX5_comparison 135 = .ok (.ireturn, 1) := dk_172 (dk_at dksX5_comparison_5 20 rfl rfl)
theorem dX5_comparison_136 : decode cX5_comparison 136 = .ok (.iload 5, 2) := dk_21 5 (dk_at dksX5_comparison_5 21 rfl rfl)
theorem dX5_comparison_138 : decode cX5_comparison 138 = .ok (.aload_n 0, 1) := dk_42 (dk_at dksX5_comparison_5 23 rfl rfl)
theorem dX5_comparison_139 : decode cX5_comparison 139 = .ok (.getfield 331, 3) := dk_180 1 75 (dk_at dksX5_comparison_6 0 rfl rfl)
theorem dX5_comparison_142 : decode cX5_comparison 142 = .ok (.if_icmp .ne 38, 3) := dk_160 0 38 (dk_at dksX5_comparison_6 3 rfl rfl)
theorem dX5_comparison_145 : decode cX5_comparison 145 = .ok (.aload_n 0, 1) := dk_42 (dk_at dksX5_comparison_6 6 rfl rfl)
theorem dX5_comparison_146 : decode cX5_comparison 146 = .ok (.getfield 132, 3) := dk_180 0 132 (dk_at dksX5_comparison_6 7 rfl rfl)
theorem dX5_comparison_149 : decode cX5_comparison 149 = .ok (.iload 5, 2) := dk_21 5 (dk_at dksX5_comparison_6 10 rfl rfl)
theorem dX5_comparison_151 : decode cX5_comparison 151 = .ok (.iload_n 1, 1) := dk_27 (dk_at dksX5_comparison_6 12 rfl rfl)
theorem dX5_comparison_152 : decode cX5_comparison 152 = .ok (.iastore, 1) := dk_79 (dk_at dksX5_comparison_6 13 rfl rfl)
theorem dX5_comparison_153 : decode cX5_comparison 153 = .ok (.aload_n 0, 1) := dk_42 (dk_at dksX5_comparison_6 14 rfl rfl)
theorem dX5_comparison_154 : decode cX5_comparison 154 = .ok (.getfield 135, 3) := dk_180 0 135 (dk_at dksX5_comparison_6 15 rfl rfl)
theorem dX5_comparison_157 : decode cX5_comparison 157 = .ok (.iload 5, 2) := dk_21 5 (dk_at dksX5_comparison_6 18 rfl rfl)
theorem dX5_comparison_159 : decode cX5_comparison 159 = .ok (.iload_n 3, 1) := dk_29 (dk_at dksX5_comparison_6 20 rfl rfl)
theorem dX5_comparison_160 : decode cX5_comparison 160 = .ok (.iastore, 1) := dk_79 (dk_at dksX5_comparison_6 21 rfl rfl)
theorem dX5_comparison_161 : decode cX5_comparison 161 = .ok (.aload_n 0, 1) := dk_42 (dk_at dksX5_comparison_6 22 rfl rfl)
theorem dX5_comparison_162 : decode cX5_comparison 162 = .ok (.getfield 138, 3) := dk_180 0 138 (dk_at dksX5_comparison_7 0 rfl rfl)
theorem dX5_comparison_165 : decode cX5_comparison 165 = .ok (.iload 5, 2) := dk_21 5 (dk_at dksX5_comparison_7 3 rfl rfl)
theorem dX5_comparison_167 : decode cX5_comparison 167 = .ok (.iload 4, 2) := dk_21 4 (dk_at dksX5_comparison_7 5 rfl rfl)
theorem dX5_comparison_169 : decode cX5_comparison 169 = .ok (.iastore, 1) := dk_79 (dk_at dksX5_comparison_7 7 rfl rfl)
theorem dX5_comparison_170 : decode cX5_comparison 170 = .ok (.aload_n 0, 1) := dk_42 (dk_at dksX5_comparison_7 8 rfl rfl)
theorem dX5_comparison_171 : decode cX5_comparison 171 = .ok (.dup, 1) := dk_89 (dk_at dksX5_comparison_7 9 rfl rfl)
theorem dX5_comparison_172 : decode cX5_comparison 172 = .ok (.getfield 331, 3) := dk_180 1 75 (dk_at dksX5_comparison_7 10 rfl rfl)
theorem dX5_comparison_175 : decode cX5_comparison 175 = .ok (.iconst 1, 1) := dk_4 (dk_at dksX5_comparison_7 13 rfl rfl)
theorem dX5_comparison_176 : decode cX5_comparison 176 = .ok (.iadd, 1) := dk_96 (dk_at dksX5_comparison_7 14 rfl rfl)
theorem dX5_comparison_177 : decode cX5_comparison 177 = .ok (.putfield 331, 3) := dk_181 1 75 (dk_at dksX5_comparison_7 15 rfl rfl)
theorem dX5_comparison_180 : decode cX5_comparison 180 = .ok (.aload_n 0, 1) := dk_42 (dk_at dksX5_comparison_7 18 rfl rfl)
theorem dX5_comparison_181 : decode cX5_comparison 181 = .ok (.iload_n 1, 1) := dk_27 (dk_at dksX5_comparison_7 19 rfl rfl)
theorem dX5_comparison_182 : decode cX5_comparison 182 = .ok (.iload_n 3, 1) := dk_29 (dk_at dksX5_comparison_7 20 rfl rfl)
theorem dX5_comparison_183 : decode cX5_comparison 183 = .ok (.iload 4, 2) := dk_21 4 (dk_at dksX5_comparison_7 21 rfl rfl)
theorem dX5_comparison_185 : decode cX5_comparison 185 = .ok (.iload 5, 2) := dk_21 5 (dk_at dksX5_comparison_8 0 rfl rfl)
theorem dX5_comparison_187 : decode cX5_comparison 187 = .ok (.invokevirtual 375, 3) := dk_182 1 119 (dk_at dksX5_comparison_8 2 rfl rfl)
theorem dX5_comparison_190 : decode cX5_comparison 190 = .ok (.ireturn, 1) := dk_172 (dk_at dksX5_comparison_8 5 rfl rfl)
abbrev cX5_mustWord : ByteArray := prog_20_method_24_code
def yX5_mustWord : MethodName := ⟨RX5, "mustWord", "(Ljava/lang/String;)V"⟩
def dkwX5_mustWord_1 : List UInt8 := [177]
abbrev dktX5_mustWord_1 : List UInt8 := dkwX5_mustWord_1 ++ []
def dkwX5_mustWord_0 : List UInt8 := [42, 180, 0, 177, 154, 0, 16, 42, 43, 182, 0, 243, 154, 0, 8, 42, 4, 182, 0, 237, 42, 182, 0, 240]
abbrev dktX5_mustWord_0 : List UInt8 := dkwX5_mustWord_0 ++ dktX5_mustWord_1
theorem dksX5_mustWord_0 : cX5_mustWord.data.toList.drop 0 = dktX5_mustWord_0 := by decide +kernel
theorem dksX5_mustWord_1 : cX5_mustWord.data.toList.drop 24 = dktX5_mustWord_1 := dk_seg dksX5_mustWord_0 24 rfl rfl
theorem dX5_mustWord_0 : decode cX5_mustWord 0 = .ok (.aload_n 0, 1) := dk_42 (dk_at dksX5_mustWord_0 0 rfl rfl)
theorem dX5_mustWord_1 : decode cX5_mustWord 1 = .ok (.getfield 177, 3) := dk_180 0 177 (dk_at dksX5_mustWord_0 1 rfl rfl)
theorem dX5_mustWord_4 : decode cX5_mustWord 4 = .ok (.ifCond .ne 16, 3) := dk_154 0 16 (dk_at dksX5_mustWord_0 4 rfl rfl)
theorem dX5_mustWord_7 : decode cX5_mustWord 7 = .ok (.aload_n 0, 1) := dk_42 (dk_at dksX5_mustWord_0 7 rfl rfl)
theorem dX5_mustWord_8 : decode cX5_mustWord 8 = .ok (.aload_n 1, 1) := dk_43 (dk_at dksX5_mustWord_0 8 rfl rfl)
theorem dX5_mustWord_9 : decode cX5_mustWord 9 = .ok (.invokevirtual 243, 3) := dk_182 0 243 (dk_at dksX5_mustWord_0 9 rfl rfl)
theorem dX5_mustWord_12 : decode cX5_mustWord 12 = .ok (.ifCond .ne 8, 3) := dk_154 0 8 (dk_at dksX5_mustWord_0 12 rfl rfl)
theorem dX5_mustWord_15 : decode cX5_mustWord 15 = .ok (.aload_n 0, 1) := dk_42 (dk_at dksX5_mustWord_0 15 rfl rfl)
theorem dX5_mustWord_16 : decode cX5_mustWord 16 = .ok (.iconst 1, 1) := dk_4 (dk_at dksX5_mustWord_0 16 rfl rfl)
theorem dX5_mustWord_17 : decode cX5_mustWord 17 = .ok (.invokevirtual 237, 3) := dk_182 0 237 (dk_at dksX5_mustWord_0 17 rfl rfl)
theorem dX5_mustWord_20 : decode cX5_mustWord 20 = .ok (.aload_n 0, 1) := dk_42 (dk_at dksX5_mustWord_0 20 rfl rfl)
theorem dX5_mustWord_21 : decode cX5_mustWord 21 = .ok (.invokevirtual 240, 3) := dk_182 0 240 (dk_at dksX5_mustWord_0 21 rfl rfl)
theorem dX5_mustWord_24 : decode cX5_mustWord 24 = .ok (.return_, 1) := dk_177 (dk_at dksX5_mustWord_1 0 rfl rfl)
abbrev cX5_laysLeaves : ByteArray := prog_20_method_73_code
def yX5_laysLeaves : MethodName := ⟨RX5, "laysLeaves", "()V"⟩
def dkwX5_laysLeaves_9 : List UInt8 := [132, 1, 1, 167, 255, 236, 177]
abbrev dktX5_laysLeaves_9 : List UInt8 := dkwX5_laysLeaves_9 ++ []
def dkwX5_laysLeaves_8 : List UInt8 := [167, 255, 192, 3, 60, 27, 42, 42, 180, 1, 144, 182, 1, 44, 162, 0, 14, 42, 27, 182, 1, 223]
abbrev dktX5_laysLeaves_8 : List UInt8 := dkwX5_laysLeaves_8 ++ dktX5_laysLeaves_9
def dkwX5_laysLeaves_7 : List UInt8 := [104, 27, 96, 46, 42, 180, 0, 68, 16, 40, 42, 180, 1, 144, 104, 27, 96, 46, 182, 1, 220, 132, 1, 1]
abbrev dktX5_laysLeaves_7 : List UInt8 := dkwX5_laysLeaves_7 ++ dktX5_laysLeaves_8
def dkwX5_laysLeaves_6 : List UInt8 := [16, 40, 42, 180, 1, 144, 104, 27, 96, 46, 156, 0, 35, 42, 42, 180, 0, 77, 16, 40, 42, 180, 1, 144]
abbrev dktX5_laysLeaves_6 : List UInt8 := dkwX5_laysLeaves_6 ++ dktX5_laysLeaves_7
def dkwX5_laysLeaves_5 : List UInt8 := [132, 1, 1, 167, 255, 240, 3, 60, 27, 42, 42, 180, 1, 144, 182, 1, 87, 162, 0, 58, 42, 180, 0, 65]
abbrev dktX5_laysLeaves_5 : List UInt8 := dkwX5_laysLeaves_5 ++ dktX5_laysLeaves_6
def dkwX5_laysLeaves_4 : List UInt8 := [167, 255, 183, 132, 1, 1, 167, 255, 163, 3, 60, 27, 16, 40, 162, 0, 16, 42, 180, 0, 147, 27, 3, 84]
abbrev dktX5_laysLeaves_4 : List UInt8 := dkwX5_laysLeaves_4 ++ dktX5_laysLeaves_5
def dkwX5_laysLeaves_3 : List UInt8 := [42, 180, 0, 144, 42, 180, 1, 217, 28, 79, 42, 89, 180, 1, 217, 4, 96, 181, 1, 217, 132, 2, 1]
abbrev dktX5_laysLeaves_3 : List UInt8 := dkwX5_laysLeaves_3 ++ dktX5_laysLeaves_4
def dkwX5_laysLeaves_2 : List UInt8 := [155, 0, 44, 42, 180, 0, 77, 16, 40, 42, 180, 1, 144, 104, 28, 96, 46, 27, 159, 0, 6, 167, 0, 23]
abbrev dktX5_laysLeaves_2 : List UInt8 := dkwX5_laysLeaves_2 ++ dktX5_laysLeaves_3
def dkwX5_laysLeaves_1 : List UInt8 := [180, 1, 144, 182, 1, 87, 162, 0, 67, 42, 180, 0, 65, 16, 40, 42, 180, 1, 144, 104, 28, 96, 46]
abbrev dktX5_laysLeaves_1 : List UInt8 := dkwX5_laysLeaves_1 ++ dktX5_laysLeaves_2
def dkwX5_laysLeaves_0 : List UInt8 := [42, 3, 181, 1, 217, 3, 60, 27, 42, 42, 180, 1, 144, 182, 1, 44, 162, 0, 87, 3, 61, 28, 42, 42]
abbrev dktX5_laysLeaves_0 : List UInt8 := dkwX5_laysLeaves_0 ++ dktX5_laysLeaves_1
theorem dksX5_laysLeaves_0 : cX5_laysLeaves.data.toList.drop 0 = dktX5_laysLeaves_0 := by decide +kernel
theorem dksX5_laysLeaves_1 : cX5_laysLeaves.data.toList.drop 24 = dktX5_laysLeaves_1 := dk_seg dksX5_laysLeaves_0 24 rfl rfl
theorem dksX5_laysLeaves_2 : cX5_laysLeaves.data.toList.drop 47 = dktX5_laysLeaves_2 := dk_seg dksX5_laysLeaves_1 23 rfl rfl
theorem dksX5_laysLeaves_3 : cX5_laysLeaves.data.toList.drop 71 = dktX5_laysLeaves_3 := dk_seg dksX5_laysLeaves_2 24 rfl rfl
theorem dksX5_laysLeaves_4 : cX5_laysLeaves.data.toList.drop 94 = dktX5_laysLeaves_4 := dk_seg dksX5_laysLeaves_3 23 rfl rfl
theorem dksX5_laysLeaves_5 : cX5_laysLeaves.data.toList.drop 118 = dktX5_laysLeaves_5 := dk_seg dksX5_laysLeaves_4 24 rfl rfl
theorem dksX5_laysLeaves_6 : cX5_laysLeaves.data.toList.drop 142 = dktX5_laysLeaves_6 := dk_seg dksX5_laysLeaves_5 24 rfl rfl
theorem dksX5_laysLeaves_7 : cX5_laysLeaves.data.toList.drop 166 = dktX5_laysLeaves_7 := dk_seg dksX5_laysLeaves_6 24 rfl rfl
theorem dksX5_laysLeaves_8 : cX5_laysLeaves.data.toList.drop 190 = dktX5_laysLeaves_8 := dk_seg dksX5_laysLeaves_7 24 rfl rfl
theorem dksX5_laysLeaves_9 : cX5_laysLeaves.data.toList.drop 212 = dktX5_laysLeaves_9 := dk_seg dksX5_laysLeaves_8 22 rfl rfl
theorem dX5_laysLeaves_0 : decode cX5_laysLeaves 0 = .ok (.aload_n 0, 1) := dk_42 (dk_at dksX5_laysLeaves_0 0 rfl rfl)
theorem dX5_laysLeaves_1 : decode cX5_laysLeaves 1 = .ok (.iconst 0, 1) := dk_3 (dk_at dksX5_laysLeaves_0 1 rfl rfl)
theorem dX5_laysLeaves_2 : decode cX5_laysLeaves 2 = .ok (.putfield 473, 3) := dk_181 1 217 (dk_at dksX5_laysLeaves_0 2 rfl rfl)
theorem dX5_laysLeaves_5 : decode cX5_laysLeaves 5 = .ok (.iconst 0, 1) := dk_3 (dk_at dksX5_laysLeaves_0 5 rfl rfl)
theorem dX5_laysLeaves_6 : decode cX5_laysLeaves 6 = .ok (.istore_n 1, 1) := dk_60 (dk_at dksX5_laysLeaves_0 6 rfl rfl)
theorem dX5_laysLeaves_7 : decode cX5_laysLeaves 7 = .ok (.iload_n 1, 1) := dk_27 (dk_at dksX5_laysLeaves_0 7 rfl rfl)
theorem dX5_laysLeaves_8 : decode cX5_laysLeaves 8 = .ok (.aload_n 0, 1) := dk_42 (dk_at dksX5_laysLeaves_0 8 rfl rfl)
theorem dX5_laysLeaves_9 : decode cX5_laysLeaves 9 = .ok (.aload_n 0, 1) := dk_42 (dk_at dksX5_laysLeaves_0 9 rfl rfl)
theorem dX5_laysLeaves_10 : decode cX5_laysLeaves 10 = .ok (.getfield 400, 3) := dk_180 1 144 (dk_at dksX5_laysLeaves_0 10 rfl rfl)
theorem dX5_laysLeaves_13 : decode cX5_laysLeaves 13 = .ok (.invokevirtual 300, 3) := dk_182 1 44 (dk_at dksX5_laysLeaves_0 13 rfl rfl)
theorem dX5_laysLeaves_16 : decode cX5_laysLeaves 16 = .ok (.if_icmp .ge 87, 3) := dk_162 0 87 (dk_at dksX5_laysLeaves_0 16 rfl rfl)
theorem dX5_laysLeaves_19 : decode cX5_laysLeaves 19 = .ok (.iconst 0, 1) := dk_3 (dk_at dksX5_laysLeaves_0 19 rfl rfl)
theorem dX5_laysLeaves_20 : decode cX5_laysLeaves 20 = .ok (.istore_n 2, 1) := dk_61 (dk_at dksX5_laysLeaves_0 20 rfl rfl)
theorem dX5_laysLeaves_21 : decode cX5_laysLeaves 21 = .ok (.iload_n 2, 1) := dk_28 (dk_at dksX5_laysLeaves_0 21 rfl rfl)
theorem dX5_laysLeaves_22 : decode cX5_laysLeaves 22 = .ok (.aload_n 0, 1) := dk_42 (dk_at dksX5_laysLeaves_0 22 rfl rfl)
theorem dX5_laysLeaves_23 : decode cX5_laysLeaves 23 = .ok (.aload_n 0, 1) := dk_42 (dk_at dksX5_laysLeaves_0 23 rfl rfl)
theorem dX5_laysLeaves_24 : decode cX5_laysLeaves 24 = .ok (.getfield 400, 3) := dk_180 1 144 (dk_at dksX5_laysLeaves_1 0 rfl rfl)
theorem dX5_laysLeaves_27 : decode cX5_laysLeaves 27 = .ok (.invokevirtual 343, 3) := dk_182 1 87 (dk_at dksX5_laysLeaves_1 3 rfl rfl)
theorem dX5_laysLeaves_30 : decode cX5_laysLeaves 30 = .ok (.if_icmp .ge 67, 3) := dk_162 0 67 (dk_at dksX5_laysLeaves_1 6 rfl rfl)
theorem dX5_laysLeaves_33 : decode cX5_laysLeaves 33 = .ok (.aload_n 0, 1) := dk_42 (dk_at dksX5_laysLeaves_1 9 rfl rfl)
theorem dX5_laysLeaves_34 : decode cX5_laysLeaves 34 = .ok (.getfield 65, 3) := dk_180 0 65 (dk_at dksX5_laysLeaves_1 10 rfl rfl)
theorem dX5_laysLeaves_37 : decode cX5_laysLeaves 37 = .ok (.bipush 40, 2) := dk_16 40 (dk_at dksX5_laysLeaves_1 13 rfl rfl)
theorem dX5_laysLeaves_39 : decode cX5_laysLeaves 39 = .ok (.aload_n 0, 1) := dk_42 (dk_at dksX5_laysLeaves_1 15 rfl rfl)
theorem dX5_laysLeaves_40 : decode cX5_laysLeaves 40 = .ok (.getfield 400, 3) := dk_180 1 144 (dk_at dksX5_laysLeaves_1 16 rfl rfl)
theorem dX5_laysLeaves_43 : decode cX5_laysLeaves 43 = .ok (.imul, 1) := dk_104 (dk_at dksX5_laysLeaves_1 19 rfl rfl)
theorem dX5_laysLeaves_44 : decode cX5_laysLeaves 44 = .ok (.iload_n 2, 1) := dk_28 (dk_at dksX5_laysLeaves_1 20 rfl rfl)
theorem dX5_laysLeaves_45 : decode cX5_laysLeaves 45 = .ok (.iadd, 1) := dk_96 (dk_at dksX5_laysLeaves_1 21 rfl rfl)
theorem dX5_laysLeaves_46 : decode cX5_laysLeaves 46 = .ok (.iaload, 1) := dk_46 (dk_at dksX5_laysLeaves_1 22 rfl rfl)
theorem dX5_laysLeaves_47 : decode cX5_laysLeaves 47 = .ok (.ifCond .lt 44, 3) := dk_155 0 44 (dk_at dksX5_laysLeaves_2 0 rfl rfl)
theorem dX5_laysLeaves_50 : decode cX5_laysLeaves 50 = .ok (.aload_n 0, 1) := dk_42 (dk_at dksX5_laysLeaves_2 3 rfl rfl)
theorem dX5_laysLeaves_51 : decode cX5_laysLeaves 51 = .ok (.getfield 77, 3) := dk_180 0 77 (dk_at dksX5_laysLeaves_2 4 rfl rfl)
theorem dX5_laysLeaves_54 : decode cX5_laysLeaves 54 = .ok (.bipush 40, 2) := dk_16 40 (dk_at dksX5_laysLeaves_2 7 rfl rfl)
theorem dX5_laysLeaves_56 : decode cX5_laysLeaves 56 = .ok (.aload_n 0, 1) := dk_42 (dk_at dksX5_laysLeaves_2 9 rfl rfl)
theorem dX5_laysLeaves_57 : decode cX5_laysLeaves 57 = .ok (.getfield 400, 3) := dk_180 1 144 (dk_at dksX5_laysLeaves_2 10 rfl rfl)
theorem dX5_laysLeaves_60 : decode cX5_laysLeaves 60 = .ok (.imul, 1) := dk_104 (dk_at dksX5_laysLeaves_2 13 rfl rfl)
theorem dX5_laysLeaves_61 : decode cX5_laysLeaves 61 = .ok (.iload_n 2, 1) := dk_28 (dk_at dksX5_laysLeaves_2 14 rfl rfl)
theorem dX5_laysLeaves_62 : decode cX5_laysLeaves 62 = .ok (.iadd, 1) := dk_96 (dk_at dksX5_laysLeaves_2 15 rfl rfl)
theorem dX5_laysLeaves_63 : decode cX5_laysLeaves 63 = .ok (.iaload, 1) := dk_46 (dk_at dksX5_laysLeaves_2 16 rfl rfl)
theorem dX5_laysLeaves_64 : decode cX5_laysLeaves 64 = .ok (.iload_n 1, 1) := dk_27 (dk_at dksX5_laysLeaves_2 17 rfl rfl)
theorem dX5_laysLeaves_65 : decode cX5_laysLeaves 65 = .ok (.if_icmp .eq 6, 3) := dk_159 0 6 (dk_at dksX5_laysLeaves_2 18 rfl rfl)
theorem dX5_laysLeaves_68 : decode cX5_laysLeaves 68 = .ok (.goto 23, 3) := dk_167 0 23 (dk_at dksX5_laysLeaves_2 21 rfl rfl)
theorem dX5_laysLeaves_71 : decode cX5_laysLeaves 71 = .ok (.aload_n 0, 1) := dk_42 (dk_at dksX5_laysLeaves_3 0 rfl rfl)
theorem dX5_laysLeaves_72 : decode cX5_laysLeaves 72 = .ok (.getfield 144, 3) := dk_180 0 144 (dk_at dksX5_laysLeaves_3 1 rfl rfl)
theorem dX5_laysLeaves_75 : decode cX5_laysLeaves 75 = .ok (.aload_n 0, 1) := dk_42 (dk_at dksX5_laysLeaves_3 4 rfl rfl)
theorem dX5_laysLeaves_76 : decode cX5_laysLeaves 76 = .ok (.getfield 473, 3) := dk_180 1 217 (dk_at dksX5_laysLeaves_3 5 rfl rfl)
theorem dX5_laysLeaves_79 : decode cX5_laysLeaves 79 = .ok (.iload_n 2, 1) := dk_28 (dk_at dksX5_laysLeaves_3 8 rfl rfl)
theorem dX5_laysLeaves_80 : decode cX5_laysLeaves 80 = .ok (.iastore, 1) := dk_79 (dk_at dksX5_laysLeaves_3 9 rfl rfl)
theorem dX5_laysLeaves_81 : decode cX5_laysLeaves 81 = .ok (.aload_n 0, 1) := dk_42 (dk_at dksX5_laysLeaves_3 10 rfl rfl)
theorem dX5_laysLeaves_82 : decode cX5_laysLeaves 82 = .ok (.dup, 1) := dk_89 (dk_at dksX5_laysLeaves_3 11 rfl rfl)
theorem dX5_laysLeaves_83 : decode cX5_laysLeaves 83 = .ok (.getfield 473, 3) := dk_180 1 217 (dk_at dksX5_laysLeaves_3 12 rfl rfl)
theorem dX5_laysLeaves_86 : decode cX5_laysLeaves 86 = .ok (.iconst 1, 1) := dk_4 (dk_at dksX5_laysLeaves_3 15 rfl rfl)
theorem dX5_laysLeaves_87 : decode cX5_laysLeaves 87 = .ok (.iadd, 1) := dk_96 (dk_at dksX5_laysLeaves_3 16 rfl rfl)
theorem dX5_laysLeaves_88 : decode cX5_laysLeaves 88 = .ok (.putfield 473, 3) := dk_181 1 217 (dk_at dksX5_laysLeaves_3 17 rfl rfl)
theorem dX5_laysLeaves_91 : decode cX5_laysLeaves 91 = .ok (.iinc 2 1, 3) := dk_132 2 1 (dk_at dksX5_laysLeaves_3 20 rfl rfl)
theorem dX5_laysLeaves_94 : decode cX5_laysLeaves 94 = .ok (.goto (-73), 3) := dk_167 255 183 (dk_at dksX5_laysLeaves_4 0 rfl rfl)
theorem dX5_laysLeaves_97 : decode cX5_laysLeaves 97 = .ok (.iinc 1 1, 3) := dk_132 1 1 (dk_at dksX5_laysLeaves_4 3 rfl rfl)
theorem dX5_laysLeaves_100 : decode cX5_laysLeaves 100 = .ok (.goto (-93), 3) := dk_167 255 163 (dk_at dksX5_laysLeaves_4 6 rfl rfl)
theorem dX5_laysLeaves_103 : decode cX5_laysLeaves 103 = .ok (.iconst 0, 1) := dk_3 (dk_at dksX5_laysLeaves_4 9 rfl rfl)
theorem dX5_laysLeaves_104 : decode cX5_laysLeaves 104 = .ok (.istore_n 1, 1) := dk_60 (dk_at dksX5_laysLeaves_4 10 rfl rfl)
theorem dX5_laysLeaves_105 : decode cX5_laysLeaves 105 = .ok (.iload_n 1, 1) := dk_27 (dk_at dksX5_laysLeaves_4 11 rfl rfl)
theorem dX5_laysLeaves_106 : decode cX5_laysLeaves 106 = .ok (.bipush 40, 2) := dk_16 40 (dk_at dksX5_laysLeaves_4 12 rfl rfl)
theorem dX5_laysLeaves_108 : decode cX5_laysLeaves 108 = .ok (.if_icmp .ge 16, 3) := dk_162 0 16 (dk_at dksX5_laysLeaves_4 14 rfl rfl)
theorem dX5_laysLeaves_111 : decode cX5_laysLeaves 111 = .ok (.aload_n 0, 1) := dk_42 (dk_at dksX5_laysLeaves_4 17 rfl rfl)
theorem dX5_laysLeaves_112 : decode cX5_laysLeaves 112 = .ok (.getfield 147, 3) := dk_180 0 147 (dk_at dksX5_laysLeaves_4 18 rfl rfl)
theorem dX5_laysLeaves_115 : decode cX5_laysLeaves 115 = .ok (.iload_n 1, 1) := dk_27 (dk_at dksX5_laysLeaves_4 21 rfl rfl)
theorem dX5_laysLeaves_116 : decode cX5_laysLeaves 116 = .ok (.iconst 0, 1) := dk_3 (dk_at dksX5_laysLeaves_4 22 rfl rfl)
theorem dX5_laysLeaves_117 : decode cX5_laysLeaves 117 = .ok (.bastore, 1) := dk_84 (dk_at dksX5_laysLeaves_4 23 rfl rfl)
theorem dX5_laysLeaves_118 : decode cX5_laysLeaves 118 = .ok (.iinc 1 1, 3) := dk_132 1 1 (dk_at dksX5_laysLeaves_5 0 rfl rfl)
theorem dX5_laysLeaves_121 : decode cX5_laysLeaves 121 = .ok (.goto (-16), 3) := dk_167 255 240 (dk_at dksX5_laysLeaves_5 3 rfl rfl)
theorem dX5_laysLeaves_124 : decode cX5_laysLeaves 124 = .ok (.iconst 0, 1) := dk_3 (dk_at dksX5_laysLeaves_5 6 rfl rfl)
theorem dX5_laysLeaves_125 : decode cX5_laysLeaves 125 = .ok (.istore_n 1, 1) := dk_60 (dk_at dksX5_laysLeaves_5 7 rfl rfl)
theorem dX5_laysLeaves_126 : decode cX5_laysLeaves 126 = .ok (.iload_n 1, 1) := dk_27 (dk_at dksX5_laysLeaves_5 8 rfl rfl)
theorem dX5_laysLeaves_127 : decode cX5_laysLeaves 127 = .ok (.aload_n 0, 1) := dk_42 (dk_at dksX5_laysLeaves_5 9 rfl rfl)
theorem dX5_laysLeaves_128 : decode cX5_laysLeaves 128 = .ok (.aload_n 0, 1) := dk_42 (dk_at dksX5_laysLeaves_5 10 rfl rfl)
theorem dX5_laysLeaves_129 : decode cX5_laysLeaves 129 = .ok (.getfield 400, 3) := dk_180 1 144 (dk_at dksX5_laysLeaves_5 11 rfl rfl)
theorem dX5_laysLeaves_132 : decode cX5_laysLeaves 132 = .ok (.invokevirtual 343, 3) := dk_182 1 87 (dk_at dksX5_laysLeaves_5 14 rfl rfl)
theorem dX5_laysLeaves_135 : decode cX5_laysLeaves 135 = .ok (.if_icmp .ge 58, 3) := dk_162 0 58 (dk_at dksX5_laysLeaves_5 17 rfl rfl)
theorem dX5_laysLeaves_138 : decode cX5_laysLeaves 138 = .ok (.aload_n 0, 1) := dk_42 (dk_at dksX5_laysLeaves_5 20 rfl rfl)
theorem dX5_laysLeaves_139 : decode cX5_laysLeaves 139 = .ok (.getfield 65, 3) := dk_180 0 65 (dk_at dksX5_laysLeaves_5 21 rfl rfl)
theorem dX5_laysLeaves_142 : decode cX5_laysLeaves 142 = .ok (.bipush 40, 2) := dk_16 40 (dk_at dksX5_laysLeaves_6 0 rfl rfl)
theorem dX5_laysLeaves_144 : decode cX5_laysLeaves 144 = .ok (.aload_n 0, 1) := dk_42 (dk_at dksX5_laysLeaves_6 2 rfl rfl)
theorem dX5_laysLeaves_145 : decode cX5_laysLeaves 145 = .ok (.getfield 400, 3) := dk_180 1 144 (dk_at dksX5_laysLeaves_6 3 rfl rfl)
theorem dX5_laysLeaves_148 : decode cX5_laysLeaves 148 = .ok (.imul, 1) := dk_104 (dk_at dksX5_laysLeaves_6 6 rfl rfl)
theorem dX5_laysLeaves_149 : decode cX5_laysLeaves 149 = .ok (.iload_n 1, 1) := dk_27 (dk_at dksX5_laysLeaves_6 7 rfl rfl)
theorem dX5_laysLeaves_150 : decode cX5_laysLeaves 150 = .ok (.iadd, 1) := dk_96 (dk_at dksX5_laysLeaves_6 8 rfl rfl)
theorem dX5_laysLeaves_151 : decode cX5_laysLeaves 151 = .ok (.iaload, 1) := dk_46 (dk_at dksX5_laysLeaves_6 9 rfl rfl)
theorem dX5_laysLeaves_152 : decode cX5_laysLeaves 152 = .ok (.ifCond .ge 35, 3) := dk_156 0 35 (dk_at dksX5_laysLeaves_6 10 rfl rfl)
theorem dX5_laysLeaves_155 : decode cX5_laysLeaves 155 = .ok (.aload_n 0, 1) := dk_42 (dk_at dksX5_laysLeaves_6 13 rfl rfl)
theorem dX5_laysLeaves_156 : decode cX5_laysLeaves 156 = .ok (.aload_n 0, 1) := dk_42 (dk_at dksX5_laysLeaves_6 14 rfl rfl)
theorem dX5_laysLeaves_157 : decode cX5_laysLeaves 157 = .ok (.getfield 77, 3) := dk_180 0 77 (dk_at dksX5_laysLeaves_6 15 rfl rfl)
theorem dX5_laysLeaves_160 : decode cX5_laysLeaves 160 = .ok (.bipush 40, 2) := dk_16 40 (dk_at dksX5_laysLeaves_6 18 rfl rfl)
theorem dX5_laysLeaves_162 : decode cX5_laysLeaves 162 = .ok (.aload_n 0, 1) := dk_42 (dk_at dksX5_laysLeaves_6 20 rfl rfl)
theorem dX5_laysLeaves_163 : decode cX5_laysLeaves 163 = .ok (.getfield 400, 3) := dk_180 1 144 (dk_at dksX5_laysLeaves_6 21 rfl rfl)
theorem dX5_laysLeaves_166 : decode cX5_laysLeaves 166 = .ok (.imul, 1) := dk_104 (dk_at dksX5_laysLeaves_7 0 rfl rfl)
theorem dX5_laysLeaves_167 : decode cX5_laysLeaves 167 = .ok (.iload_n 1, 1) := dk_27 (dk_at dksX5_laysLeaves_7 1 rfl rfl)
theorem dX5_laysLeaves_168 : decode cX5_laysLeaves 168 = .ok (.iadd, 1) := dk_96 (dk_at dksX5_laysLeaves_7 2 rfl rfl)
theorem dX5_laysLeaves_169 : decode cX5_laysLeaves 169 = .ok (.iaload, 1) := dk_46 (dk_at dksX5_laysLeaves_7 3 rfl rfl)
theorem dX5_laysLeaves_170 : decode cX5_laysLeaves 170 = .ok (.aload_n 0, 1) := dk_42 (dk_at dksX5_laysLeaves_7 4 rfl rfl)
theorem dX5_laysLeaves_171 : decode cX5_laysLeaves 171 = .ok (.getfield 68, 3) := dk_180 0 68 (dk_at dksX5_laysLeaves_7 5 rfl rfl)
theorem dX5_laysLeaves_174 : decode cX5_laysLeaves 174 = .ok (.bipush 40, 2) := dk_16 40 (dk_at dksX5_laysLeaves_7 8 rfl rfl)
theorem dX5_laysLeaves_176 : decode cX5_laysLeaves 176 = .ok (.aload_n 0, 1) := dk_42 (dk_at dksX5_laysLeaves_7 10 rfl rfl)
theorem dX5_laysLeaves_177 : decode cX5_laysLeaves 177 = .ok (.getfield 400, 3) := dk_180 1 144 (dk_at dksX5_laysLeaves_7 11 rfl rfl)
theorem dX5_laysLeaves_180 : decode cX5_laysLeaves 180 = .ok (.imul, 1) := dk_104 (dk_at dksX5_laysLeaves_7 14 rfl rfl)
theorem dX5_laysLeaves_181 : decode cX5_laysLeaves 181 = .ok (.iload_n 1, 1) := dk_27 (dk_at dksX5_laysLeaves_7 15 rfl rfl)
theorem dX5_laysLeaves_182 : decode cX5_laysLeaves 182 = .ok (.iadd, 1) := dk_96 (dk_at dksX5_laysLeaves_7 16 rfl rfl)
theorem dX5_laysLeaves_183 : decode cX5_laysLeaves 183 = .ok (.iaload, 1) := dk_46 (dk_at dksX5_laysLeaves_7 17 rfl rfl)
theorem dX5_laysLeaves_184 : decode cX5_laysLeaves 184 = .ok (.invokevirtual 476, 3) := dk_182 1 220 (dk_at dksX5_laysLeaves_7 18 rfl rfl)
theorem dX5_laysLeaves_187 : decode cX5_laysLeaves 187 = .ok (.iinc 1 1, 3) := dk_132 1 1 (dk_at dksX5_laysLeaves_7 21 rfl rfl)
theorem dX5_laysLeaves_190 : decode cX5_laysLeaves 190 = .ok (.goto (-64), 3) := dk_167 255 192 (dk_at dksX5_laysLeaves_8 0 rfl rfl)
theorem dX5_laysLeaves_193 : decode cX5_laysLeaves 193 = .ok (.iconst 0, 1) := dk_3 (dk_at dksX5_laysLeaves_8 3 rfl rfl)
theorem dX5_laysLeaves_194 : decode cX5_laysLeaves 194 = .ok (.istore_n 1, 1) := dk_60 (dk_at dksX5_laysLeaves_8 4 rfl rfl)
theorem dX5_laysLeaves_195 : decode cX5_laysLeaves 195 = .ok (.iload_n 1, 1) := dk_27 (dk_at dksX5_laysLeaves_8 5 rfl rfl)
theorem dX5_laysLeaves_196 : decode cX5_laysLeaves 196 = .ok (.aload_n 0, 1) := dk_42 (dk_at dksX5_laysLeaves_8 6 rfl rfl)
theorem dX5_laysLeaves_197 : decode cX5_laysLeaves 197 = .ok (.aload_n 0, 1) := dk_42 (dk_at dksX5_laysLeaves_8 7 rfl rfl)
theorem dX5_laysLeaves_198 : decode cX5_laysLeaves 198 = .ok (.getfield 400, 3) := dk_180 1 144 (dk_at dksX5_laysLeaves_8 8 rfl rfl)
theorem dX5_laysLeaves_201 : decode cX5_laysLeaves 201 = .ok (.invokevirtual 300, 3) := dk_182 1 44 (dk_at dksX5_laysLeaves_8 11 rfl rfl)
theorem dX5_laysLeaves_204 : decode cX5_laysLeaves 204 = .ok (.if_icmp .ge 14, 3) := dk_162 0 14 (dk_at dksX5_laysLeaves_8 14 rfl rfl)
theorem dX5_laysLeaves_207 : decode cX5_laysLeaves 207 = .ok (.aload_n 0, 1) := dk_42 (dk_at dksX5_laysLeaves_8 17 rfl rfl)
theorem dX5_laysLeaves_208 : decode cX5_laysLeaves 208 = .ok (.iload_n 1, 1) := dk_27 (dk_at dksX5_laysLeaves_8 18 rfl rfl)
theorem dX5_laysLeaves_209 : decode cX5_laysLeaves 209 = .ok (.invokevirtual 479, 3) := dk_182 1 223 (dk_at dksX5_laysLeaves_8 19 rfl rfl)
theorem dX5_laysLeaves_212 : decode cX5_laysLeaves 212 = .ok (.iinc 1 1, 3) := dk_132 1 1 (dk_at dksX5_laysLeaves_9 0 rfl rfl)
theorem dX5_laysLeaves_215 : decode cX5_laysLeaves 215 = .ok (.goto (-20), 3) := dk_167 255 236 (dk_at dksX5_laysLeaves_9 3 rfl rfl)
theorem dX5_laysLeaves_218 : decode cX5_laysLeaves 218 = .ok (.return_, 1) := dk_177 (dk_at dksX5_laysLeaves_9 6 rfl rfl)
abbrev cX5_marks : ByteArray := prog_20_method_75_code
def yX5_marks : MethodName := ⟨RX5, "marks", "(II)V"⟩
def dkwX5_marks_3 : List UInt8 := [160, 0, 14, 42, 27, 42, 180, 0, 83, 29, 46, 182, 1, 220, 177]
abbrev dktX5_marks_3 : List UInt8 := dkwX5_marks_3 ++ []
def dkwX5_marks_2 : List UInt8 := [180, 0, 83, 29, 46, 96, 62, 42, 180, 0, 157, 29, 27, 79, 167, 255, 212, 42, 180, 0, 80, 29, 46, 5]
abbrev dktX5_marks_2 : List UInt8 := dkwX5_marks_2 ++ dktX5_marks_3
def dkwX5_marks_1 : List UInt8 := [4, 163, 0, 40, 42, 27, 42, 180, 0, 86, 29, 46, 182, 1, 220, 17, 1, 144, 42, 180, 1, 144, 104, 42]
abbrev dktX5_marks_1 : List UInt8 := dkwX5_marks_1 ++ dktX5_marks_2
def dkwX5_marks_0 : List UInt8 := [17, 1, 144, 42, 180, 1, 144, 104, 28, 96, 62, 42, 180, 0, 157, 29, 27, 79, 42, 180, 0, 80, 29, 46]
abbrev dktX5_marks_0 : List UInt8 := dkwX5_marks_0 ++ dktX5_marks_1
theorem dksX5_marks_0 : cX5_marks.data.toList.drop 0 = dktX5_marks_0 := by decide +kernel
theorem dksX5_marks_1 : cX5_marks.data.toList.drop 24 = dktX5_marks_1 := dk_seg dksX5_marks_0 24 rfl rfl
theorem dksX5_marks_2 : cX5_marks.data.toList.drop 48 = dktX5_marks_2 := dk_seg dksX5_marks_1 24 rfl rfl
theorem dksX5_marks_3 : cX5_marks.data.toList.drop 72 = dktX5_marks_3 := dk_seg dksX5_marks_2 24 rfl rfl
theorem dX5_marks_0 : decode cX5_marks 0 = .ok (.sipush 400, 3) := dk_17 1 144 (dk_at dksX5_marks_0 0 rfl rfl)
theorem dX5_marks_3 : decode cX5_marks 3 = .ok (.aload_n 0, 1) := dk_42 (dk_at dksX5_marks_0 3 rfl rfl)
theorem dX5_marks_4 : decode cX5_marks 4 = .ok (.getfield 400, 3) := dk_180 1 144 (dk_at dksX5_marks_0 4 rfl rfl)
theorem dX5_marks_7 : decode cX5_marks 7 = .ok (.imul, 1) := dk_104 (dk_at dksX5_marks_0 7 rfl rfl)
theorem dX5_marks_8 : decode cX5_marks 8 = .ok (.iload_n 2, 1) := dk_28 (dk_at dksX5_marks_0 8 rfl rfl)
theorem dX5_marks_9 : decode cX5_marks 9 = .ok (.iadd, 1) := dk_96 (dk_at dksX5_marks_0 9 rfl rfl)
theorem dX5_marks_10 : decode cX5_marks 10 = .ok (.istore_n 3, 1) := dk_62 (dk_at dksX5_marks_0 10 rfl rfl)
theorem dX5_marks_11 : decode cX5_marks 11 = .ok (.aload_n 0, 1) := dk_42 (dk_at dksX5_marks_0 11 rfl rfl)
theorem dX5_marks_12 : decode cX5_marks 12 = .ok (.getfield 157, 3) := dk_180 0 157 (dk_at dksX5_marks_0 12 rfl rfl)
theorem dX5_marks_15 : decode cX5_marks 15 = .ok (.iload_n 3, 1) := dk_29 (dk_at dksX5_marks_0 15 rfl rfl)
theorem dX5_marks_16 : decode cX5_marks 16 = .ok (.iload_n 1, 1) := dk_27 (dk_at dksX5_marks_0 16 rfl rfl)
theorem dX5_marks_17 : decode cX5_marks 17 = .ok (.iastore, 1) := dk_79 (dk_at dksX5_marks_0 17 rfl rfl)
theorem dX5_marks_18 : decode cX5_marks 18 = .ok (.aload_n 0, 1) := dk_42 (dk_at dksX5_marks_0 18 rfl rfl)
theorem dX5_marks_19 : decode cX5_marks 19 = .ok (.getfield 80, 3) := dk_180 0 80 (dk_at dksX5_marks_0 19 rfl rfl)
theorem dX5_marks_22 : decode cX5_marks 22 = .ok (.iload_n 3, 1) := dk_29 (dk_at dksX5_marks_0 22 rfl rfl)
theorem dX5_marks_23 : decode cX5_marks 23 = .ok (.iaload, 1) := dk_46 (dk_at dksX5_marks_0 23 rfl rfl)
theorem dX5_marks_24 : decode cX5_marks 24 = .ok (.iconst 1, 1) := dk_4 (dk_at dksX5_marks_1 0 rfl rfl)
theorem dX5_marks_25 : decode cX5_marks 25 = .ok (.if_icmp .gt 40, 3) := dk_163 0 40 (dk_at dksX5_marks_1 1 rfl rfl)
theorem dX5_marks_28 : decode cX5_marks 28 = .ok (.aload_n 0, 1) := dk_42 (dk_at dksX5_marks_1 4 rfl rfl)
theorem dX5_marks_29 : decode cX5_marks 29 = .ok (.iload_n 1, 1) := dk_27 (dk_at dksX5_marks_1 5 rfl rfl)
theorem dX5_marks_30 : decode cX5_marks 30 = .ok (.aload_n 0, 1) := dk_42 (dk_at dksX5_marks_1 6 rfl rfl)
theorem dX5_marks_31 : decode cX5_marks 31 = .ok (.getfield 86, 3) := dk_180 0 86 (dk_at dksX5_marks_1 7 rfl rfl)
theorem dX5_marks_34 : decode cX5_marks 34 = .ok (.iload_n 3, 1) := dk_29 (dk_at dksX5_marks_1 10 rfl rfl)
theorem dX5_marks_35 : decode cX5_marks 35 = .ok (.iaload, 1) := dk_46 (dk_at dksX5_marks_1 11 rfl rfl)
theorem dX5_marks_36 : decode cX5_marks 36 = .ok (.invokevirtual 476, 3) := dk_182 1 220 (dk_at dksX5_marks_1 12 rfl rfl)
theorem dX5_marks_39 : decode cX5_marks 39 = .ok (.sipush 400, 3) := dk_17 1 144 (dk_at dksX5_marks_1 15 rfl rfl)
theorem dX5_marks_42 : decode cX5_marks 42 = .ok (.aload_n 0, 1) := dk_42 (dk_at dksX5_marks_1 18 rfl rfl)
theorem dX5_marks_43 : decode cX5_marks 43 = .ok (.getfield 400, 3) := dk_180 1 144 (dk_at dksX5_marks_1 19 rfl rfl)
theorem dX5_marks_46 : decode cX5_marks 46 = .ok (.imul, 1) := dk_104 (dk_at dksX5_marks_1 22 rfl rfl)
theorem dX5_marks_47 : decode cX5_marks 47 = .ok (.aload_n 0, 1) := dk_42 (dk_at dksX5_marks_1 23 rfl rfl)
theorem dX5_marks_48 : decode cX5_marks 48 = .ok (.getfield 83, 3) := dk_180 0 83 (dk_at dksX5_marks_2 0 rfl rfl)
theorem dX5_marks_51 : decode cX5_marks 51 = .ok (.iload_n 3, 1) := dk_29 (dk_at dksX5_marks_2 3 rfl rfl)
theorem dX5_marks_52 : decode cX5_marks 52 = .ok (.iaload, 1) := dk_46 (dk_at dksX5_marks_2 4 rfl rfl)
theorem dX5_marks_53 : decode cX5_marks 53 = .ok (.iadd, 1) := dk_96 (dk_at dksX5_marks_2 5 rfl rfl)
theorem dX5_marks_54 : decode cX5_marks 54 = .ok (.istore_n 3, 1) := dk_62 (dk_at dksX5_marks_2 6 rfl rfl)
theorem dX5_marks_55 : decode cX5_marks 55 = .ok (.aload_n 0, 1) := dk_42 (dk_at dksX5_marks_2 7 rfl rfl)
theorem dX5_marks_56 : decode cX5_marks 56 = .ok (.getfield 157, 3) := dk_180 0 157 (dk_at dksX5_marks_2 8 rfl rfl)
theorem dX5_marks_59 : decode cX5_marks 59 = .ok (.iload_n 3, 1) := dk_29 (dk_at dksX5_marks_2 11 rfl rfl)
theorem dX5_marks_60 : decode cX5_marks 60 = .ok (.iload_n 1, 1) := dk_27 (dk_at dksX5_marks_2 12 rfl rfl)
theorem dX5_marks_61 : decode cX5_marks 61 = .ok (.iastore, 1) := dk_79 (dk_at dksX5_marks_2 13 rfl rfl)
theorem dX5_marks_62 : decode cX5_marks 62 = .ok (.goto (-44), 3) := dk_167 255 212 (dk_at dksX5_marks_2 14 rfl rfl)
theorem dX5_marks_65 : decode cX5_marks 65 = .ok (.aload_n 0, 1) := dk_42 (dk_at dksX5_marks_2 17 rfl rfl)
theorem dX5_marks_66 : decode cX5_marks 66 = .ok (.getfield 80, 3) := dk_180 0 80 (dk_at dksX5_marks_2 18 rfl rfl)
theorem dX5_marks_69 : decode cX5_marks 69 = .ok (.iload_n 3, 1) := dk_29 (dk_at dksX5_marks_2 21 rfl rfl)
theorem dX5_marks_70 : decode cX5_marks 70 = .ok (.iaload, 1) := dk_46 (dk_at dksX5_marks_2 22 rfl rfl)
theorem dX5_marks_71 : decode cX5_marks 71 = .ok (.iconst 2, 1) := dk_5 (dk_at dksX5_marks_2 23 rfl rfl)
theorem dX5_marks_72 : decode cX5_marks 72 = .ok (.if_icmp .ne 14, 3) := dk_160 0 14 (dk_at dksX5_marks_3 0 rfl rfl)
theorem dX5_marks_75 : decode cX5_marks 75 = .ok (.aload_n 0, 1) := dk_42 (dk_at dksX5_marks_3 3 rfl rfl)
theorem dX5_marks_76 : decode cX5_marks 76 = .ok (.iload_n 1, 1) := dk_27 (dk_at dksX5_marks_3 4 rfl rfl)
theorem dX5_marks_77 : decode cX5_marks 77 = .ok (.aload_n 0, 1) := dk_42 (dk_at dksX5_marks_3 5 rfl rfl)
theorem dX5_marks_78 : decode cX5_marks 78 = .ok (.getfield 83, 3) := dk_180 0 83 (dk_at dksX5_marks_3 6 rfl rfl)
theorem dX5_marks_81 : decode cX5_marks 81 = .ok (.iload_n 3, 1) := dk_29 (dk_at dksX5_marks_3 9 rfl rfl)
theorem dX5_marks_82 : decode cX5_marks 82 = .ok (.iaload, 1) := dk_46 (dk_at dksX5_marks_3 10 rfl rfl)
theorem dX5_marks_83 : decode cX5_marks 83 = .ok (.invokevirtual 476, 3) := dk_182 1 220 (dk_at dksX5_marks_3 11 rfl rfl)
theorem dX5_marks_86 : decode cX5_marks 86 = .ok (.return_, 1) := dk_177 (dk_at dksX5_marks_3 14 rfl rfl)
abbrev cX5_laysReached : ByteArray := prog_20_method_76_code
def yX5_laysReached : MethodName := ⟨RX5, "laysReached", "(I)V"⟩
def dkwX5_laysReached_4 : List UInt8 := [16, 64, 162, 0, 17, 42, 27, 28, 3, 3, 182, 1, 233, 132, 2, 1, 167, 255, 239, 177]
abbrev dktX5_laysReached_4 : List UInt8 := dkwX5_laysReached_4 ++ []
def dkwX5_laysReached_3 : List UInt8 := [79, 42, 27, 16, 9, 3, 16, 9, 182, 1, 229, 42, 180, 0, 154, 7, 42, 180, 1, 226, 79, 3, 61, 28]
abbrev dktX5_laysReached_3 : List UInt8 := dkwX5_laysReached_3 ++ dktX5_laysReached_4
def dkwX5_laysReached_2 : List UInt8 := [5, 42, 180, 1, 226, 79, 42, 27, 16, 8, 3, 6, 182, 1, 229, 42, 180, 0, 154, 6, 42, 180, 1, 226]
abbrev dktX5_laysReached_2 : List UInt8 := dkwX5_laysReached_2 ++ dktX5_laysReached_3
def dkwX5_laysReached_1 : List UInt8 := [180, 0, 154, 4, 42, 180, 1, 226, 79, 42, 27, 16, 7, 4, 17, 1, 144, 182, 1, 229, 42, 180, 0, 154]
abbrev dktX5_laysReached_1 : List UInt8 := dkwX5_laysReached_1 ++ dktX5_laysReached_2
def dkwX5_laysReached_0 : List UInt8 := [42, 3, 181, 1, 226, 42, 180, 0, 154, 3, 3, 79, 42, 27, 16, 6, 3, 16, 120, 182, 1, 229, 42]
abbrev dktX5_laysReached_0 : List UInt8 := dkwX5_laysReached_0 ++ dktX5_laysReached_1
theorem dksX5_laysReached_0 : cX5_laysReached.data.toList.drop 0 = dktX5_laysReached_0 := by decide +kernel
theorem dksX5_laysReached_1 : cX5_laysReached.data.toList.drop 23 = dktX5_laysReached_1 := dk_seg dksX5_laysReached_0 23 rfl rfl
theorem dksX5_laysReached_2 : cX5_laysReached.data.toList.drop 47 = dktX5_laysReached_2 := dk_seg dksX5_laysReached_1 24 rfl rfl
theorem dksX5_laysReached_3 : cX5_laysReached.data.toList.drop 71 = dktX5_laysReached_3 := dk_seg dksX5_laysReached_2 24 rfl rfl
theorem dksX5_laysReached_4 : cX5_laysReached.data.toList.drop 95 = dktX5_laysReached_4 := dk_seg dksX5_laysReached_3 24 rfl rfl
theorem dX5_laysReached_0 : decode cX5_laysReached 0 = .ok (.aload_n 0, 1) := dk_42 (dk_at dksX5_laysReached_0 0 rfl rfl)
theorem dX5_laysReached_1 : decode cX5_laysReached 1 = .ok (.iconst 0, 1) := dk_3 (dk_at dksX5_laysReached_0 1 rfl rfl)
theorem dX5_laysReached_2 : decode cX5_laysReached 2 = .ok (.putfield 482, 3) := dk_181 1 226 (dk_at dksX5_laysReached_0 2 rfl rfl)
theorem dX5_laysReached_5 : decode cX5_laysReached 5 = .ok (.aload_n 0, 1) := dk_42 (dk_at dksX5_laysReached_0 5 rfl rfl)
theorem dX5_laysReached_6 : decode cX5_laysReached 6 = .ok (.getfield 154, 3) := dk_180 0 154 (dk_at dksX5_laysReached_0 6 rfl rfl)
theorem dX5_laysReached_9 : decode cX5_laysReached 9 = .ok (.iconst 0, 1) := dk_3 (dk_at dksX5_laysReached_0 9 rfl rfl)
theorem dX5_laysReached_10 : decode cX5_laysReached 10 = .ok (.iconst 0, 1) := dk_3 (dk_at dksX5_laysReached_0 10 rfl rfl)
theorem dX5_laysReached_11 : decode cX5_laysReached 11 = .ok (.iastore, 1) := dk_79 (dk_at dksX5_laysReached_0 11 rfl rfl)
theorem dX5_laysReached_12 : decode cX5_laysReached 12 = .ok (.aload_n 0, 1) := dk_42 (dk_at dksX5_laysReached_0 12 rfl rfl)
theorem dX5_laysReached_13 : decode cX5_laysReached 13 = .ok (.iload_n 1, 1) := dk_27 (dk_at dksX5_laysReached_0 13 rfl rfl)
theorem dX5_laysReached_14 : decode cX5_laysReached 14 = .ok (.bipush 6, 2) := dk_16 6 (dk_at dksX5_laysReached_0 14 rfl rfl)
theorem dX5_laysReached_16 : decode cX5_laysReached 16 = .ok (.iconst 0, 1) := dk_3 (dk_at dksX5_laysReached_0 16 rfl rfl)
theorem dX5_laysReached_17 : decode cX5_laysReached 17 = .ok (.bipush 120, 2) := dk_16 120 (dk_at dksX5_laysReached_0 17 rfl rfl)
theorem dX5_laysReached_19 : decode cX5_laysReached 19 = .ok (.invokevirtual 485, 3) := dk_182 1 229 (dk_at dksX5_laysReached_0 19 rfl rfl)
theorem dX5_laysReached_22 : decode cX5_laysReached 22 = .ok (.aload_n 0, 1) := dk_42 (dk_at dksX5_laysReached_0 22 rfl rfl)
theorem dX5_laysReached_23 : decode cX5_laysReached 23 = .ok (.getfield 154, 3) := dk_180 0 154 (dk_at dksX5_laysReached_1 0 rfl rfl)
theorem dX5_laysReached_26 : decode cX5_laysReached 26 = .ok (.iconst 1, 1) := dk_4 (dk_at dksX5_laysReached_1 3 rfl rfl)
theorem dX5_laysReached_27 : decode cX5_laysReached 27 = .ok (.aload_n 0, 1) := dk_42 (dk_at dksX5_laysReached_1 4 rfl rfl)
theorem dX5_laysReached_28 : decode cX5_laysReached 28 = .ok (.getfield 482, 3) := dk_180 1 226 (dk_at dksX5_laysReached_1 5 rfl rfl)
theorem dX5_laysReached_31 : decode cX5_laysReached 31 = .ok (.iastore, 1) := dk_79 (dk_at dksX5_laysReached_1 8 rfl rfl)
theorem dX5_laysReached_32 : decode cX5_laysReached 32 = .ok (.aload_n 0, 1) := dk_42 (dk_at dksX5_laysReached_1 9 rfl rfl)
theorem dX5_laysReached_33 : decode cX5_laysReached 33 = .ok (.iload_n 1, 1) := dk_27 (dk_at dksX5_laysReached_1 10 rfl rfl)
theorem dX5_laysReached_34 : decode cX5_laysReached 34 = .ok (.bipush 7, 2) := dk_16 7 (dk_at dksX5_laysReached_1 11 rfl rfl)
theorem dX5_laysReached_36 : decode cX5_laysReached 36 = .ok (.iconst 1, 1) := dk_4 (dk_at dksX5_laysReached_1 13 rfl rfl)
theorem dX5_laysReached_37 : decode cX5_laysReached 37 = .ok (.sipush 400, 3) := dk_17 1 144 (dk_at dksX5_laysReached_1 14 rfl rfl)
theorem dX5_laysReached_40 : decode cX5_laysReached 40 = .ok (.invokevirtual 485, 3) := dk_182 1 229 (dk_at dksX5_laysReached_1 17 rfl rfl)
theorem dX5_laysReached_43 : decode cX5_laysReached 43 = .ok (.aload_n 0, 1) := dk_42 (dk_at dksX5_laysReached_1 20 rfl rfl)
theorem dX5_laysReached_44 : decode cX5_laysReached 44 = .ok (.getfield 154, 3) := dk_180 0 154 (dk_at dksX5_laysReached_1 21 rfl rfl)
theorem dX5_laysReached_47 : decode cX5_laysReached 47 = .ok (.iconst 2, 1) := dk_5 (dk_at dksX5_laysReached_2 0 rfl rfl)
theorem dX5_laysReached_48 : decode cX5_laysReached 48 = .ok (.aload_n 0, 1) := dk_42 (dk_at dksX5_laysReached_2 1 rfl rfl)
theorem dX5_laysReached_49 : decode cX5_laysReached 49 = .ok (.getfield 482, 3) := dk_180 1 226 (dk_at dksX5_laysReached_2 2 rfl rfl)
theorem dX5_laysReached_52 : decode cX5_laysReached 52 = .ok (.iastore, 1) := dk_79 (dk_at dksX5_laysReached_2 5 rfl rfl)
theorem dX5_laysReached_53 : decode cX5_laysReached 53 = .ok (.aload_n 0, 1) := dk_42 (dk_at dksX5_laysReached_2 6 rfl rfl)
theorem dX5_laysReached_54 : decode cX5_laysReached 54 = .ok (.iload_n 1, 1) := dk_27 (dk_at dksX5_laysReached_2 7 rfl rfl)
theorem dX5_laysReached_55 : decode cX5_laysReached 55 = .ok (.bipush 8, 2) := dk_16 8 (dk_at dksX5_laysReached_2 8 rfl rfl)
theorem dX5_laysReached_57 : decode cX5_laysReached 57 = .ok (.iconst 0, 1) := dk_3 (dk_at dksX5_laysReached_2 10 rfl rfl)
theorem dX5_laysReached_58 : decode cX5_laysReached 58 = .ok (.iconst 3, 1) := dk_6 (dk_at dksX5_laysReached_2 11 rfl rfl)
theorem dX5_laysReached_59 : decode cX5_laysReached 59 = .ok (.invokevirtual 485, 3) := dk_182 1 229 (dk_at dksX5_laysReached_2 12 rfl rfl)
theorem dX5_laysReached_62 : decode cX5_laysReached 62 = .ok (.aload_n 0, 1) := dk_42 (dk_at dksX5_laysReached_2 15 rfl rfl)
theorem dX5_laysReached_63 : decode cX5_laysReached 63 = .ok (.getfield 154, 3) := dk_180 0 154 (dk_at dksX5_laysReached_2 16 rfl rfl)
theorem dX5_laysReached_66 : decode cX5_laysReached 66 = .ok (.iconst 3, 1) := dk_6 (dk_at dksX5_laysReached_2 19 rfl rfl)
theorem dX5_laysReached_67 : decode cX5_laysReached 67 = .ok (.aload_n 0, 1) := dk_42 (dk_at dksX5_laysReached_2 20 rfl rfl)
theorem dX5_laysReached_68 : decode cX5_laysReached 68 = .ok (.getfield 482, 3) := dk_180 1 226 (dk_at dksX5_laysReached_2 21 rfl rfl)
theorem dX5_laysReached_71 : decode cX5_laysReached 71 = .ok (.iastore, 1) := dk_79 (dk_at dksX5_laysReached_3 0 rfl rfl)
theorem dX5_laysReached_72 : decode cX5_laysReached 72 = .ok (.aload_n 0, 1) := dk_42 (dk_at dksX5_laysReached_3 1 rfl rfl)
theorem dX5_laysReached_73 : decode cX5_laysReached 73 = .ok (.iload_n 1, 1) := dk_27 (dk_at dksX5_laysReached_3 2 rfl rfl)
theorem dX5_laysReached_74 : decode cX5_laysReached 74 = .ok (.bipush 9, 2) := dk_16 9 (dk_at dksX5_laysReached_3 3 rfl rfl)
theorem dX5_laysReached_76 : decode cX5_laysReached 76 = .ok (.iconst 0, 1) := dk_3 (dk_at dksX5_laysReached_3 5 rfl rfl)
theorem dX5_laysReached_77 : decode cX5_laysReached 77 = .ok (.bipush 9, 2) := dk_16 9 (dk_at dksX5_laysReached_3 6 rfl rfl)
theorem dX5_laysReached_79 : decode cX5_laysReached 79 = .ok (.invokevirtual 485, 3) := dk_182 1 229 (dk_at dksX5_laysReached_3 8 rfl rfl)
theorem dX5_laysReached_82 : decode cX5_laysReached 82 = .ok (.aload_n 0, 1) := dk_42 (dk_at dksX5_laysReached_3 11 rfl rfl)
theorem dX5_laysReached_83 : decode cX5_laysReached 83 = .ok (.getfield 154, 3) := dk_180 0 154 (dk_at dksX5_laysReached_3 12 rfl rfl)
theorem dX5_laysReached_86 : decode cX5_laysReached 86 = .ok (.iconst 4, 1) := dk_7 (dk_at dksX5_laysReached_3 15 rfl rfl)
theorem dX5_laysReached_87 : decode cX5_laysReached 87 = .ok (.aload_n 0, 1) := dk_42 (dk_at dksX5_laysReached_3 16 rfl rfl)
theorem dX5_laysReached_88 : decode cX5_laysReached 88 = .ok (.getfield 482, 3) := dk_180 1 226 (dk_at dksX5_laysReached_3 17 rfl rfl)
theorem dX5_laysReached_91 : decode cX5_laysReached 91 = .ok (.iastore, 1) := dk_79 (dk_at dksX5_laysReached_3 20 rfl rfl)
theorem dX5_laysReached_92 : decode cX5_laysReached 92 = .ok (.iconst 0, 1) := dk_3 (dk_at dksX5_laysReached_3 21 rfl rfl)
theorem dX5_laysReached_93 : decode cX5_laysReached 93 = .ok (.istore_n 2, 1) := dk_61 (dk_at dksX5_laysReached_3 22 rfl rfl)
theorem dX5_laysReached_94 : decode cX5_laysReached 94 = .ok (.iload_n 2, 1) := dk_28 (dk_at dksX5_laysReached_3 23 rfl rfl)
theorem dX5_laysReached_95 : decode cX5_laysReached 95 = .ok (.bipush 64, 2) := dk_16 64 (dk_at dksX5_laysReached_4 0 rfl rfl)
theorem dX5_laysReached_97 : decode cX5_laysReached 97 = .ok (.if_icmp .ge 17, 3) := dk_162 0 17 (dk_at dksX5_laysReached_4 2 rfl rfl)
theorem dX5_laysReached_100 : decode cX5_laysReached 100 = .ok (.aload_n 0, 1) := dk_42 (dk_at dksX5_laysReached_4 5 rfl rfl)
theorem dX5_laysReached_101 : decode cX5_laysReached 101 = .ok (.iload_n 1, 1) := dk_27 (dk_at dksX5_laysReached_4 6 rfl rfl)
theorem dX5_laysReached_102 : decode cX5_laysReached 102 = .ok (.iload_n 2, 1) := dk_28 (dk_at dksX5_laysReached_4 7 rfl rfl)
theorem dX5_laysReached_103 : decode cX5_laysReached 103 = .ok (.iconst 0, 1) := dk_3 (dk_at dksX5_laysReached_4 8 rfl rfl)
theorem dX5_laysReached_104 : decode cX5_laysReached 104 = .ok (.iconst 0, 1) := dk_3 (dk_at dksX5_laysReached_4 9 rfl rfl)
theorem dX5_laysReached_105 : decode cX5_laysReached 105 = .ok (.invokevirtual 489, 3) := dk_182 1 233 (dk_at dksX5_laysReached_4 10 rfl rfl)
theorem dX5_laysReached_108 : decode cX5_laysReached 108 = .ok (.iinc 2 1, 3) := dk_132 2 1 (dk_at dksX5_laysReached_4 13 rfl rfl)
theorem dX5_laysReached_111 : decode cX5_laysReached 111 = .ok (.goto (-17), 3) := dk_167 255 239 (dk_at dksX5_laysReached_4 16 rfl rfl)
theorem dX5_laysReached_114 : decode cX5_laysReached 114 = .ok (.return_, 1) := dk_177 (dk_at dksX5_laysReached_4 19 rfl rfl)
abbrev cX5_laysAnswers : ByteArray := prog_20_method_74_code
def yX5_laysAnswers : MethodName := ⟨RX5, "laysAnswers", "(IIII)V"⟩
def dkwX5_laysAnswers_7 : List UInt8 := [42, 180, 1, 226, 21, 7, 79, 42, 89, 180, 1, 226, 4, 96, 181, 1, 226, 132, 6, 1, 167, 255, 78, 177]
abbrev dktX5_laysAnswers_7 : List UInt8 := dkwX5_laysAnswers_7 ++ []
def dkwX5_laysAnswers_6 : List UInt8 := [160, 0, 6, 3, 54, 8, 132, 9, 1, 167, 255, 229, 21, 8, 154, 0, 6, 167, 0, 24, 42, 180, 0, 151]
abbrev dktX5_laysAnswers_6 : List UInt8 := dkwX5_laysAnswers_6 ++ dktX5_laysAnswers_7
def dkwX5_laysAnswers_5 : List UInt8 := [54, 8, 21, 5, 54, 9, 21, 9, 42, 180, 1, 226, 162, 0, 24, 42, 180, 0, 151, 21, 9, 46, 21, 7]
abbrev dktX5_laysAnswers_5 : List UInt8 := dkwX5_laysAnswers_5 ++ dktX5_laysAnswers_6
def dkwX5_laysAnswers_4 : List UInt8 := [153, 0, 17, 21, 7, 4, 42, 180, 0, 89, 21, 9, 46, 120, 128, 54, 7, 132, 8, 1, 167, 255, 163, 4]
abbrev dktX5_laysAnswers_4 : List UInt8 := dkwX5_laysAnswers_4 ++ dktX5_laysAnswers_5
def dkwX5_laysAnswers_3 : List UInt8 := [27, 160, 0, 39, 21, 6, 42, 180, 0, 83, 21, 9, 46, 42, 180, 0, 86, 21, 9, 46, 184, 1, 192]
abbrev dktX5_laysAnswers_3 : List UInt8 := dkwX5_laysAnswers_3 ++ dktX5_laysAnswers_4
def dkwX5_laysAnswers_2 : List UInt8 := [104, 21, 8, 96, 54, 9, 42, 180, 0, 80, 21, 9, 46, 28, 160, 0, 50, 42, 180, 0, 157, 21, 9, 46]
abbrev dktX5_laysAnswers_2 : List UInt8 := dkwX5_laysAnswers_2 ++ dktX5_laysAnswers_3
def dkwX5_laysAnswers_1 : List UInt8 := [42, 180, 0, 13, 16, 7, 42, 180, 1, 144, 104, 8, 96, 46, 162, 0, 80, 17, 1, 144, 42, 180, 1, 144]
abbrev dktX5_laysAnswers_1 : List UInt8 := dkwX5_laysAnswers_1 ++ dktX5_laysAnswers_2
def dkwX5_laysAnswers_0 : List UInt8 := [42, 180, 1, 226, 54, 5, 29, 54, 6, 21, 6, 21, 4, 163, 0, 177, 3, 54, 7, 3, 54, 8, 21, 8]
abbrev dktX5_laysAnswers_0 : List UInt8 := dkwX5_laysAnswers_0 ++ dktX5_laysAnswers_1
theorem dksX5_laysAnswers_0 : cX5_laysAnswers.data.toList.drop 0 = dktX5_laysAnswers_0 := by decide +kernel
theorem dksX5_laysAnswers_1 : cX5_laysAnswers.data.toList.drop 24 = dktX5_laysAnswers_1 := dk_seg dksX5_laysAnswers_0 24 rfl rfl
theorem dksX5_laysAnswers_2 : cX5_laysAnswers.data.toList.drop 48 = dktX5_laysAnswers_2 := dk_seg dksX5_laysAnswers_1 24 rfl rfl
theorem dksX5_laysAnswers_3 : cX5_laysAnswers.data.toList.drop 72 = dktX5_laysAnswers_3 := dk_seg dksX5_laysAnswers_2 24 rfl rfl
theorem dksX5_laysAnswers_4 : cX5_laysAnswers.data.toList.drop 95 = dktX5_laysAnswers_4 := dk_seg dksX5_laysAnswers_3 23 rfl rfl
theorem dksX5_laysAnswers_5 : cX5_laysAnswers.data.toList.drop 119 = dktX5_laysAnswers_5 := dk_seg dksX5_laysAnswers_4 24 rfl rfl
theorem dksX5_laysAnswers_6 : cX5_laysAnswers.data.toList.drop 143 = dktX5_laysAnswers_6 := dk_seg dksX5_laysAnswers_5 24 rfl rfl
theorem dksX5_laysAnswers_7 : cX5_laysAnswers.data.toList.drop 167 = dktX5_laysAnswers_7 := dk_seg dksX5_laysAnswers_6 24 rfl rfl
theorem dX5_laysAnswers_0 : decode cX5_laysAnswers 0 = .ok (.aload_n 0, 1) := dk_42 (dk_at dksX5_laysAnswers_0 0 rfl rfl)
theorem dX5_laysAnswers_1 : decode cX5_laysAnswers 1 = .ok (.getfield 482, 3) := dk_180 1 226 (dk_at dksX5_laysAnswers_0 1 rfl rfl)
theorem dX5_laysAnswers_4 : decode cX5_laysAnswers 4 = .ok (.istore 5, 2) := dk_54 5 (dk_at dksX5_laysAnswers_0 4 rfl rfl)
theorem dX5_laysAnswers_6 : decode cX5_laysAnswers 6 = .ok (.iload_n 3, 1) := dk_29 (dk_at dksX5_laysAnswers_0 6 rfl rfl)
theorem dX5_laysAnswers_7 : decode cX5_laysAnswers 7 = .ok (.istore 6, 2) := dk_54 6 (dk_at dksX5_laysAnswers_0 7 rfl rfl)
theorem dX5_laysAnswers_9 : decode cX5_laysAnswers 9 = .ok (.iload 6, 2) := dk_21 6 (dk_at dksX5_laysAnswers_0 9 rfl rfl)
theorem dX5_laysAnswers_11 : decode cX5_laysAnswers 11 = .ok (.iload 4, 2) := dk_21 4 (dk_at dksX5_laysAnswers_0 11 rfl rfl)
theorem dX5_laysAnswers_13 : decode cX5_laysAnswers 13 = .ok (.if_icmp .gt 177, 3) := dk_163 0 177 (dk_at dksX5_laysAnswers_0 13 rfl rfl)
theorem dX5_laysAnswers_16 : decode cX5_laysAnswers 16 = .ok (.iconst 0, 1) := dk_3 (dk_at dksX5_laysAnswers_0 16 rfl rfl)
theorem dX5_laysAnswers_17 : decode cX5_laysAnswers 17 = .ok (.istore 7, 2) := dk_54 7 (dk_at dksX5_laysAnswers_0 17 rfl rfl)
theorem dX5_laysAnswers_19 : decode cX5_laysAnswers 19 = .ok (.iconst 0, 1) := dk_3 (dk_at dksX5_laysAnswers_0 19 rfl rfl)
theorem dX5_laysAnswers_20 : decode cX5_laysAnswers 20 = .ok (.istore 8, 2) := dk_54 8 (dk_at dksX5_laysAnswers_0 20 rfl rfl)
theorem dX5_laysAnswers_22 : decode cX5_laysAnswers 22 = .ok (.iload 8, 2) := dk_21 8 (dk_at dksX5_laysAnswers_0 22 rfl rfl)
theorem dX5_laysAnswers_24 : decode cX5_laysAnswers 24 = .ok (.aload_n 0, 1) := dk_42 (dk_at dksX5_laysAnswers_1 0 rfl rfl)
theorem dX5_laysAnswers_25 : decode cX5_laysAnswers 25 = .ok (.getfield 13, 3) := dk_180 0 13 (dk_at dksX5_laysAnswers_1 1 rfl rfl)
theorem dX5_laysAnswers_28 : decode cX5_laysAnswers 28 = .ok (.bipush 7, 2) := dk_16 7 (dk_at dksX5_laysAnswers_1 4 rfl rfl)
theorem dX5_laysAnswers_30 : decode cX5_laysAnswers 30 = .ok (.aload_n 0, 1) := dk_42 (dk_at dksX5_laysAnswers_1 6 rfl rfl)
theorem dX5_laysAnswers_31 : decode cX5_laysAnswers 31 = .ok (.getfield 400, 3) := dk_180 1 144 (dk_at dksX5_laysAnswers_1 7 rfl rfl)
theorem dX5_laysAnswers_34 : decode cX5_laysAnswers 34 = .ok (.imul, 1) := dk_104 (dk_at dksX5_laysAnswers_1 10 rfl rfl)
theorem dX5_laysAnswers_35 : decode cX5_laysAnswers 35 = .ok (.iconst 5, 1) := dk_8 (dk_at dksX5_laysAnswers_1 11 rfl rfl)
theorem dX5_laysAnswers_36 : decode cX5_laysAnswers 36 = .ok (.iadd, 1) := dk_96 (dk_at dksX5_laysAnswers_1 12 rfl rfl)
theorem dX5_laysAnswers_37 : decode cX5_laysAnswers 37 = .ok (.iaload, 1) := dk_46 (dk_at dksX5_laysAnswers_1 13 rfl rfl)
theorem dX5_laysAnswers_38 : decode cX5_laysAnswers 38 = .ok (.if_icmp .ge 80, 3) := dk_162 0 80 (dk_at dksX5_laysAnswers_1 14 rfl rfl)
theorem dX5_laysAnswers_41 : decode cX5_laysAnswers 41 = .ok (.sipush 400, 3) := dk_17 1 144 (dk_at dksX5_laysAnswers_1 17 rfl rfl)
theorem dX5_laysAnswers_44 : decode cX5_laysAnswers 44 = .ok (.aload_n 0, 1) := dk_42 (dk_at dksX5_laysAnswers_1 20 rfl rfl)
theorem dX5_laysAnswers_45 : decode cX5_laysAnswers 45 = .ok (.getfield 400, 3) := dk_180 1 144 (dk_at dksX5_laysAnswers_1 21 rfl rfl)
theorem dX5_laysAnswers_48 : decode cX5_laysAnswers 48 = .ok (.imul, 1) := dk_104 (dk_at dksX5_laysAnswers_2 0 rfl rfl)
theorem dX5_laysAnswers_49 : decode cX5_laysAnswers 49 = .ok (.iload 8, 2) := dk_21 8 (dk_at dksX5_laysAnswers_2 1 rfl rfl)
theorem dX5_laysAnswers_51 : decode cX5_laysAnswers 51 = .ok (.iadd, 1) := dk_96 (dk_at dksX5_laysAnswers_2 3 rfl rfl)
theorem dX5_laysAnswers_52 : decode cX5_laysAnswers 52 = .ok (.istore 9, 2) := dk_54 9 (dk_at dksX5_laysAnswers_2 4 rfl rfl)
theorem dX5_laysAnswers_54 : decode cX5_laysAnswers 54 = .ok (.aload_n 0, 1) := dk_42 (dk_at dksX5_laysAnswers_2 6 rfl rfl)
theorem dX5_laysAnswers_55 : decode cX5_laysAnswers 55 = .ok (.getfield 80, 3) := dk_180 0 80 (dk_at dksX5_laysAnswers_2 7 rfl rfl)
theorem dX5_laysAnswers_58 : decode cX5_laysAnswers 58 = .ok (.iload 9, 2) := dk_21 9 (dk_at dksX5_laysAnswers_2 10 rfl rfl)
theorem dX5_laysAnswers_60 : decode cX5_laysAnswers 60 = .ok (.iaload, 1) := dk_46 (dk_at dksX5_laysAnswers_2 12 rfl rfl)
theorem dX5_laysAnswers_61 : decode cX5_laysAnswers 61 = .ok (.iload_n 2, 1) := dk_28 (dk_at dksX5_laysAnswers_2 13 rfl rfl)
theorem dX5_laysAnswers_62 : decode cX5_laysAnswers 62 = .ok (.if_icmp .ne 50, 3) := dk_160 0 50 (dk_at dksX5_laysAnswers_2 14 rfl rfl)
theorem dX5_laysAnswers_65 : decode cX5_laysAnswers 65 = .ok (.aload_n 0, 1) := dk_42 (dk_at dksX5_laysAnswers_2 17 rfl rfl)
theorem dX5_laysAnswers_66 : decode cX5_laysAnswers 66 = .ok (.getfield 157, 3) := dk_180 0 157 (dk_at dksX5_laysAnswers_2 18 rfl rfl)
theorem dX5_laysAnswers_69 : decode cX5_laysAnswers 69 = .ok (.iload 9, 2) := dk_21 9 (dk_at dksX5_laysAnswers_2 21 rfl rfl)
theorem dX5_laysAnswers_71 : decode cX5_laysAnswers 71 = .ok (.iaload, 1) := dk_46 (dk_at dksX5_laysAnswers_2 23 rfl rfl)
theorem dX5_laysAnswers_72 : decode cX5_laysAnswers 72 = .ok (.iload_n 1, 1) := dk_27 (dk_at dksX5_laysAnswers_3 0 rfl rfl)
theorem dX5_laysAnswers_73 : decode cX5_laysAnswers 73 = .ok (.if_icmp .ne 39, 3) := dk_160 0 39 (dk_at dksX5_laysAnswers_3 1 rfl rfl)
theorem dX5_laysAnswers_76 : decode cX5_laysAnswers 76 = .ok (.iload 6, 2) := dk_21 6 (dk_at dksX5_laysAnswers_3 4 rfl rfl)
theorem dX5_laysAnswers_78 : decode cX5_laysAnswers 78 = .ok (.aload_n 0, 1) := dk_42 (dk_at dksX5_laysAnswers_3 6 rfl rfl)
theorem dX5_laysAnswers_79 : decode cX5_laysAnswers 79 = .ok (.getfield 83, 3) := dk_180 0 83 (dk_at dksX5_laysAnswers_3 7 rfl rfl)
theorem dX5_laysAnswers_82 : decode cX5_laysAnswers 82 = .ok (.iload 9, 2) := dk_21 9 (dk_at dksX5_laysAnswers_3 10 rfl rfl)
theorem dX5_laysAnswers_84 : decode cX5_laysAnswers 84 = .ok (.iaload, 1) := dk_46 (dk_at dksX5_laysAnswers_3 12 rfl rfl)
theorem dX5_laysAnswers_85 : decode cX5_laysAnswers 85 = .ok (.aload_n 0, 1) := dk_42 (dk_at dksX5_laysAnswers_3 13 rfl rfl)
theorem dX5_laysAnswers_86 : decode cX5_laysAnswers 86 = .ok (.getfield 86, 3) := dk_180 0 86 (dk_at dksX5_laysAnswers_3 14 rfl rfl)
theorem dX5_laysAnswers_89 : decode cX5_laysAnswers 89 = .ok (.iload 9, 2) := dk_21 9 (dk_at dksX5_laysAnswers_3 17 rfl rfl)
theorem dX5_laysAnswers_91 : decode cX5_laysAnswers 91 = .ok (.iaload, 1) := dk_46 (dk_at dksX5_laysAnswers_3 19 rfl rfl)
theorem dX5_laysAnswers_92 : decode cX5_laysAnswers 92 = .ok (.invokestatic 448, 3) := dk_184 1 192 (dk_at dksX5_laysAnswers_3 20 rfl rfl)
theorem dX5_laysAnswers_95 : decode cX5_laysAnswers 95 = .ok (.ifCond .eq 17, 3) := dk_153 0 17 (dk_at dksX5_laysAnswers_4 0 rfl rfl)
theorem dX5_laysAnswers_98 : decode cX5_laysAnswers 98 = .ok (.iload 7, 2) := dk_21 7 (dk_at dksX5_laysAnswers_4 3 rfl rfl)
theorem dX5_laysAnswers_100 : decode cX5_laysAnswers 100 = .ok (.iconst 1, 1) := dk_4 (dk_at dksX5_laysAnswers_4 5 rfl rfl)
theorem dX5_laysAnswers_101 : decode cX5_laysAnswers 101 = .ok (.aload_n 0, 1) := dk_42 (dk_at dksX5_laysAnswers_4 6 rfl rfl)
theorem dX5_laysAnswers_102 : decode cX5_laysAnswers 102 = .ok (.getfield 89, 3) := dk_180 0 89 (dk_at dksX5_laysAnswers_4 7 rfl rfl)
theorem dX5_laysAnswers_105 : decode cX5_laysAnswers 105 = .ok (.iload 9, 2) := dk_21 9 (dk_at dksX5_laysAnswers_4 10 rfl rfl)
theorem dX5_laysAnswers_107 : decode cX5_laysAnswers 107 = .ok (.iaload, 1) := dk_46 (dk_at dksX5_laysAnswers_4 12 rfl rfl)
theorem dX5_laysAnswers_108 : decode cX5_laysAnswers 108 = .ok (.ishl, 1) := dk_120 (dk_at dksX5_laysAnswers_4 13 rfl rfl)
theorem dX5_laysAnswers_109 : decode cX5_laysAnswers 109 = .ok (.ior, 1) := dk_128 (dk_at dksX5_laysAnswers_4 14 rfl rfl)
theorem dX5_laysAnswers_110 : decode cX5_laysAnswers 110 = .ok (.istore 7, 2) := dk_54 7 (dk_at dksX5_laysAnswers_4 15 rfl rfl)
theorem dX5_laysAnswers_112 : decode cX5_laysAnswers 112 = .ok (.iinc 8 1, 3) := dk_132 8 1 (dk_at dksX5_laysAnswers_4 17 rfl rfl)
theorem dX5_laysAnswers_115 : decode cX5_laysAnswers 115 = .ok (.goto (-93), 3) := dk_167 255 163 (dk_at dksX5_laysAnswers_4 20 rfl rfl)
theorem dX5_laysAnswers_118 : decode cX5_laysAnswers 118 = .ok (.iconst 1, 1) := dk_4 (dk_at dksX5_laysAnswers_4 23 rfl rfl)
theorem dX5_laysAnswers_119 : decode cX5_laysAnswers 119 = .ok (.istore 8, 2) := dk_54 8 (dk_at dksX5_laysAnswers_5 0 rfl rfl)
theorem dX5_laysAnswers_121 : decode cX5_laysAnswers 121 = .ok (.iload 5, 2) := dk_21 5 (dk_at dksX5_laysAnswers_5 2 rfl rfl)
theorem dX5_laysAnswers_123 : decode cX5_laysAnswers 123 = .ok (.istore 9, 2) := dk_54 9 (dk_at dksX5_laysAnswers_5 4 rfl rfl)
theorem dX5_laysAnswers_125 : decode cX5_laysAnswers 125 = .ok (.iload 9, 2) := dk_21 9 (dk_at dksX5_laysAnswers_5 6 rfl rfl)
theorem dX5_laysAnswers_127 : decode cX5_laysAnswers 127 = .ok (.aload_n 0, 1) := dk_42 (dk_at dksX5_laysAnswers_5 8 rfl rfl)
theorem dX5_laysAnswers_128 : decode cX5_laysAnswers 128 = .ok (.getfield 482, 3) := dk_180 1 226 (dk_at dksX5_laysAnswers_5 9 rfl rfl)
theorem dX5_laysAnswers_131 : decode cX5_laysAnswers 131 = .ok (.if_icmp .ge 24, 3) := dk_162 0 24 (dk_at dksX5_laysAnswers_5 12 rfl rfl)
theorem dX5_laysAnswers_134 : decode cX5_laysAnswers 134 = .ok (.aload_n 0, 1) := dk_42 (dk_at dksX5_laysAnswers_5 15 rfl rfl)
theorem dX5_laysAnswers_135 : decode cX5_laysAnswers 135 = .ok (.getfield 151, 3) := dk_180 0 151 (dk_at dksX5_laysAnswers_5 16 rfl rfl)
theorem dX5_laysAnswers_138 : decode cX5_laysAnswers 138 = .ok (.iload 9, 2) := dk_21 9 (dk_at dksX5_laysAnswers_5 19 rfl rfl)
theorem dX5_laysAnswers_140 : decode cX5_laysAnswers 140 = .ok (.iaload, 1) := dk_46 (dk_at dksX5_laysAnswers_5 21 rfl rfl)
theorem dX5_laysAnswers_141 : decode cX5_laysAnswers 141 = .ok (.iload 7, 2) := dk_21 7 (dk_at dksX5_laysAnswers_5 22 rfl rfl)
theorem dX5_laysAnswers_143 : decode cX5_laysAnswers 143 = .ok (.if_icmp .ne 6, 3) := dk_160 0 6 (dk_at dksX5_laysAnswers_6 0 rfl rfl)
theorem dX5_laysAnswers_146 : decode cX5_laysAnswers 146 = .ok (.iconst 0, 1) := dk_3 (dk_at dksX5_laysAnswers_6 3 rfl rfl)
theorem dX5_laysAnswers_147 : decode cX5_laysAnswers 147 = .ok (.istore 8, 2) := dk_54 8 (dk_at dksX5_laysAnswers_6 4 rfl rfl)
theorem dX5_laysAnswers_149 : decode cX5_laysAnswers 149 = .ok (.iinc 9 1, 3) := dk_132 9 1 (dk_at dksX5_laysAnswers_6 6 rfl rfl)
theorem dX5_laysAnswers_152 : decode cX5_laysAnswers 152 = .ok (.goto (-27), 3) := dk_167 255 229 (dk_at dksX5_laysAnswers_6 9 rfl rfl)
theorem dX5_laysAnswers_155 : decode cX5_laysAnswers 155 = .ok (.iload 8, 2) := dk_21 8 (dk_at dksX5_laysAnswers_6 12 rfl rfl)
theorem dX5_laysAnswers_157 : decode cX5_laysAnswers 157 = .ok (.ifCond .ne 6, 3) := dk_154 0 6 (dk_at dksX5_laysAnswers_6 14 rfl rfl)
theorem dX5_laysAnswers_160 : decode cX5_laysAnswers 160 = .ok (.goto 24, 3) := dk_167 0 24 (dk_at dksX5_laysAnswers_6 17 rfl rfl)
theorem dX5_laysAnswers_163 : decode cX5_laysAnswers 163 = .ok (.aload_n 0, 1) := dk_42 (dk_at dksX5_laysAnswers_6 20 rfl rfl)
theorem dX5_laysAnswers_164 : decode cX5_laysAnswers 164 = .ok (.getfield 151, 3) := dk_180 0 151 (dk_at dksX5_laysAnswers_6 21 rfl rfl)
theorem dX5_laysAnswers_167 : decode cX5_laysAnswers 167 = .ok (.aload_n 0, 1) := dk_42 (dk_at dksX5_laysAnswers_7 0 rfl rfl)
theorem dX5_laysAnswers_168 : decode cX5_laysAnswers 168 = .ok (.getfield 482, 3) := dk_180 1 226 (dk_at dksX5_laysAnswers_7 1 rfl rfl)
theorem dX5_laysAnswers_171 : decode cX5_laysAnswers 171 = .ok (.iload 7, 2) := dk_21 7 (dk_at dksX5_laysAnswers_7 4 rfl rfl)
theorem dX5_laysAnswers_173 : decode cX5_laysAnswers 173 = .ok (.iastore, 1) := dk_79 (dk_at dksX5_laysAnswers_7 6 rfl rfl)
theorem dX5_laysAnswers_174 : decode cX5_laysAnswers 174 = .ok (.aload_n 0, 1) := dk_42 (dk_at dksX5_laysAnswers_7 7 rfl rfl)
theorem dX5_laysAnswers_175 : decode cX5_laysAnswers 175 = .ok (.dup, 1) := dk_89 (dk_at dksX5_laysAnswers_7 8 rfl rfl)
theorem dX5_laysAnswers_176 : decode cX5_laysAnswers 176 = .ok (.getfield 482, 3) := dk_180 1 226 (dk_at dksX5_laysAnswers_7 9 rfl rfl)
theorem dX5_laysAnswers_179 : decode cX5_laysAnswers 179 = .ok (.iconst 1, 1) := dk_4 (dk_at dksX5_laysAnswers_7 12 rfl rfl)
theorem dX5_laysAnswers_180 : decode cX5_laysAnswers 180 = .ok (.iadd, 1) := dk_96 (dk_at dksX5_laysAnswers_7 13 rfl rfl)
theorem dX5_laysAnswers_181 : decode cX5_laysAnswers 181 = .ok (.putfield 482, 3) := dk_181 1 226 (dk_at dksX5_laysAnswers_7 14 rfl rfl)
theorem dX5_laysAnswers_184 : decode cX5_laysAnswers 184 = .ok (.iinc 6 1, 3) := dk_132 6 1 (dk_at dksX5_laysAnswers_7 17 rfl rfl)
theorem dX5_laysAnswers_187 : decode cX5_laysAnswers 187 = .ok (.goto (-178), 3) := dk_167 255 78 (dk_at dksX5_laysAnswers_7 20 rfl rfl)
theorem dX5_laysAnswers_190 : decode cX5_laysAnswers 190 = .ok (.return_, 1) := dk_177 (dk_at dksX5_laysAnswers_7 23 rfl rfl)
abbrev cX5_compares : ByteArray := prog_20_method_69_code
def yX5_compares : MethodName := ⟨RX5, "compares", "(III)Z"⟩
def dkwX5_compares_1 : List UInt8 := [167, 0, 4, 3, 172]
abbrev dktX5_compares_1 : List UInt8 := dkwX5_compares_1 ++ []
def dkwX5_compares_0 : List UInt8 := [27, 154, 0, 16, 26, 28, 162, 0, 7, 4, 167, 0, 17, 3, 167, 0, 13, 26, 28, 164, 0, 7, 4]
abbrev dktX5_compares_0 : List UInt8 := dkwX5_compares_0 ++ dktX5_compares_1
theorem dksX5_compares_0 : cX5_compares.data.toList.drop 0 = dktX5_compares_0 := by decide +kernel
theorem dksX5_compares_1 : cX5_compares.data.toList.drop 23 = dktX5_compares_1 := dk_seg dksX5_compares_0 23 rfl rfl
theorem dX5_compares_0 : decode cX5_compares 0 = .ok (.iload_n 1, 1) := dk_27 (dk_at dksX5_compares_0 0 rfl rfl)
theorem dX5_compares_1 : decode cX5_compares 1 = .ok (.ifCond .ne 16, 3) := dk_154 0 16 (dk_at dksX5_compares_0 1 rfl rfl)
theorem dX5_compares_4 : decode cX5_compares 4 = .ok (.iload_n 0, 1) := dk_26 (dk_at dksX5_compares_0 4 rfl rfl)
theorem dX5_compares_5 : decode cX5_compares 5 = .ok (.iload_n 2, 1) := dk_28 (dk_at dksX5_compares_0 5 rfl rfl)
theorem dX5_compares_6 : decode cX5_compares 6 = .ok (.if_icmp .ge 7, 3) := dk_162 0 7 (dk_at dksX5_compares_0 6 rfl rfl)
theorem dX5_compares_9 : decode cX5_compares 9 = .ok (.iconst 1, 1) := dk_4 (dk_at dksX5_compares_0 9 rfl rfl)
theorem dX5_compares_10 : decode cX5_compares 10 = .ok (.goto 17, 3) := dk_167 0 17 (dk_at dksX5_compares_0 10 rfl rfl)
theorem dX5_compares_13 : decode cX5_compares 13 = .ok (.iconst 0, 1) := dk_3 (dk_at dksX5_compares_0 13 rfl rfl)
theorem dX5_compares_14 : decode cX5_compares 14 = .ok (.goto 13, 3) := dk_167 0 13 (dk_at dksX5_compares_0 14 rfl rfl)
theorem dX5_compares_17 : decode cX5_compares 17 = .ok (.iload_n 0, 1) := dk_26 (dk_at dksX5_compares_0 17 rfl rfl)
theorem dX5_compares_18 : decode cX5_compares 18 = .ok (.iload_n 2, 1) := dk_28 (dk_at dksX5_compares_0 18 rfl rfl)
theorem dX5_compares_19 : decode cX5_compares 19 = .ok (.if_icmp .le 7, 3) := dk_164 0 7 (dk_at dksX5_compares_0 19 rfl rfl)
theorem dX5_compares_22 : decode cX5_compares 22 = .ok (.iconst 1, 1) := dk_4 (dk_at dksX5_compares_0 22 rfl rfl)
theorem dX5_compares_23 : decode cX5_compares 23 = .ok (.goto 4, 3) := dk_167 0 4 (dk_at dksX5_compares_1 0 rfl rfl)
theorem dX5_compares_26 : decode cX5_compares 26 = .ok (.iconst 0, 1) := dk_3 (dk_at dksX5_compares_1 3 rfl rfl)
theorem dX5_compares_27 : decode cX5_compares 27 = .ok (.ireturn, 1) := dk_172 (dk_at dksX5_compares_1 4 rfl rfl)
abbrev cX5_reaches : ByteArray := prog_20_method_77_code
def yX5_reaches : MethodName := ⟨RX5, "reaches", "(IIII)V"⟩
def dkwX5_reaches_6 : List UInt8 := [180, 0, 151, 21, 5, 46, 128, 182, 1, 233, 132, 5, 1, 167, 255, 221, 177]
abbrev dktX5_reaches_6 : List UInt8 := dkwX5_reaches_6 ++ []
def dkwX5_reaches_5 : List UInt8 := [54, 5, 21, 5, 42, 180, 0, 154, 29, 4, 96, 46, 162, 0, 28, 42, 27, 28, 29, 4, 96, 21, 4, 42]
abbrev dktX5_reaches_5 : List UInt8 := dkwX5_reaches_5 ++ dktX5_reaches_6
def dkwX5_reaches_4 : List UInt8 := [21, 5, 96, 46, 54, 5, 167, 255, 178, 42, 180, 0, 147, 21, 5, 4, 84, 177, 42, 180, 0, 154, 29, 46]
abbrev dktX5_reaches_4 : List UInt8 := dkwX5_reaches_4 ++ dktX5_reaches_5
def dkwX5_reaches_3 : List UInt8 := [42, 180, 1, 144, 104, 21, 5, 96, 46, 167, 0, 18, 42, 180, 0, 74, 16, 40, 42, 180, 1, 144, 104]
abbrev dktX5_reaches_3 : List UInt8 := dkwX5_reaches_3 ++ dktX5_reaches_4
def dkwX5_reaches_2 : List UInt8 := [42, 180, 1, 144, 104, 21, 5, 96, 46, 28, 21, 4, 182, 1, 236, 153, 0, 21, 42, 180, 0, 71, 16, 40]
abbrev dktX5_reaches_2 : List UInt8 := dkwX5_reaches_2 ++ dktX5_reaches_3
def dkwX5_reaches_1 : List UInt8 := [180, 0, 65, 16, 40, 42, 180, 1, 144, 104, 21, 5, 96, 46, 156, 0, 66, 42, 42, 180, 0, 68, 16, 40]
abbrev dktX5_reaches_1 : List UInt8 := dkwX5_reaches_1 ++ dktX5_reaches_2
def dkwX5_reaches_0 : List UInt8 := [29, 7, 160, 0, 109, 42, 180, 0, 29, 16, 6, 42, 180, 1, 144, 104, 27, 96, 46, 54, 5, 42]
abbrev dktX5_reaches_0 : List UInt8 := dkwX5_reaches_0 ++ dktX5_reaches_1
theorem dksX5_reaches_0 : cX5_reaches.data.toList.drop 0 = dktX5_reaches_0 := by decide +kernel
theorem dksX5_reaches_1 : cX5_reaches.data.toList.drop 22 = dktX5_reaches_1 := dk_seg dksX5_reaches_0 22 rfl rfl
theorem dksX5_reaches_2 : cX5_reaches.data.toList.drop 46 = dktX5_reaches_2 := dk_seg dksX5_reaches_1 24 rfl rfl
theorem dksX5_reaches_3 : cX5_reaches.data.toList.drop 70 = dktX5_reaches_3 := dk_seg dksX5_reaches_2 24 rfl rfl
theorem dksX5_reaches_4 : cX5_reaches.data.toList.drop 93 = dktX5_reaches_4 := dk_seg dksX5_reaches_3 23 rfl rfl
theorem dksX5_reaches_5 : cX5_reaches.data.toList.drop 117 = dktX5_reaches_5 := dk_seg dksX5_reaches_4 24 rfl rfl
theorem dksX5_reaches_6 : cX5_reaches.data.toList.drop 141 = dktX5_reaches_6 := dk_seg dksX5_reaches_5 24 rfl rfl
theorem dX5_reaches_0 : decode cX5_reaches 0 = .ok (.iload_n 3, 1) := dk_29 (dk_at dksX5_reaches_0 0 rfl rfl)
theorem dX5_reaches_1 : decode cX5_reaches 1 = .ok (.iconst 4, 1) := dk_7 (dk_at dksX5_reaches_0 1 rfl rfl)
theorem dX5_reaches_2 : decode cX5_reaches 2 = .ok (.if_icmp .ne 109, 3) := dk_160 0 109 (dk_at dksX5_reaches_0 2 rfl rfl)
theorem dX5_reaches_5 : decode cX5_reaches 5 = .ok (.aload_n 0, 1) := dk_42 (dk_at dksX5_reaches_0 5 rfl rfl)
theorem dX5_reaches_6 : decode cX5_reaches 6 = .ok (.getfield 29, 3) := dk_180 0 29 (dk_at dksX5_reaches_0 6 rfl rfl)
theorem dX5_reaches_9 : decode cX5_reaches 9 = .ok (.bipush 6, 2) := dk_16 6 (dk_at dksX5_reaches_0 9 rfl rfl)
theorem dX5_reaches_11 : decode cX5_reaches 11 = .ok (.aload_n 0, 1) := dk_42 (dk_at dksX5_reaches_0 11 rfl rfl)
theorem dX5_reaches_12 : decode cX5_reaches 12 = .ok (.getfield 400, 3) := dk_180 1 144 (dk_at dksX5_reaches_0 12 rfl rfl)
theorem dX5_reaches_15 : decode cX5_reaches 15 = .ok (.imul, 1) := dk_104 (dk_at dksX5_reaches_0 15 rfl rfl)
theorem dX5_reaches_16 : decode cX5_reaches 16 = .ok (.iload_n 1, 1) := dk_27 (dk_at dksX5_reaches_0 16 rfl rfl)
theorem dX5_reaches_17 : decode cX5_reaches 17 = .ok (.iadd, 1) := dk_96 (dk_at dksX5_reaches_0 17 rfl rfl)
theorem dX5_reaches_18 : decode cX5_reaches 18 = .ok (.iaload, 1) := dk_46 (dk_at dksX5_reaches_0 18 rfl rfl)
theorem dX5_reaches_19 : decode cX5_reaches 19 = .ok (.istore 5, 2) := dk_54 5 (dk_at dksX5_reaches_0 19 rfl rfl)
theorem dX5_reaches_21 : decode cX5_reaches 21 = .ok (.aload_n 0, 1) := dk_42 (dk_at dksX5_reaches_0 21 rfl rfl)
theorem dX5_reaches_22 : decode cX5_reaches 22 = .ok (.getfield 65, 3) := dk_180 0 65 (dk_at dksX5_reaches_1 0 rfl rfl)
theorem dX5_reaches_25 : decode cX5_reaches 25 = .ok (.bipush 40, 2) := dk_16 40 (dk_at dksX5_reaches_1 3 rfl rfl)
theorem dX5_reaches_27 : decode cX5_reaches 27 = .ok (.aload_n 0, 1) := dk_42 (dk_at dksX5_reaches_1 5 rfl rfl)
theorem dX5_reaches_28 : decode cX5_reaches 28 = .ok (.getfield 400, 3) := dk_180 1 144 (dk_at dksX5_reaches_1 6 rfl rfl)
theorem dX5_reaches_31 : decode cX5_reaches 31 = .ok (.imul, 1) := dk_104 (dk_at dksX5_reaches_1 9 rfl rfl)
theorem dX5_reaches_32 : decode cX5_reaches 32 = .ok (.iload 5, 2) := dk_21 5 (dk_at dksX5_reaches_1 10 rfl rfl)
theorem dX5_reaches_34 : decode cX5_reaches 34 = .ok (.iadd, 1) := dk_96 (dk_at dksX5_reaches_1 12 rfl rfl)
theorem dX5_reaches_35 : decode cX5_reaches 35 = .ok (.iaload, 1) := dk_46 (dk_at dksX5_reaches_1 13 rfl rfl)
theorem dX5_reaches_36 : decode cX5_reaches 36 = .ok (.ifCond .ge 66, 3) := dk_156 0 66 (dk_at dksX5_reaches_1 14 rfl rfl)
theorem dX5_reaches_39 : decode cX5_reaches 39 = .ok (.aload_n 0, 1) := dk_42 (dk_at dksX5_reaches_1 17 rfl rfl)
theorem dX5_reaches_40 : decode cX5_reaches 40 = .ok (.aload_n 0, 1) := dk_42 (dk_at dksX5_reaches_1 18 rfl rfl)
theorem dX5_reaches_41 : decode cX5_reaches 41 = .ok (.getfield 68, 3) := dk_180 0 68 (dk_at dksX5_reaches_1 19 rfl rfl)
theorem dX5_reaches_44 : decode cX5_reaches 44 = .ok (.bipush 40, 2) := dk_16 40 (dk_at dksX5_reaches_1 22 rfl rfl)
theorem dX5_reaches_46 : decode cX5_reaches 46 = .ok (.aload_n 0, 1) := dk_42 (dk_at dksX5_reaches_2 0 rfl rfl)
theorem dX5_reaches_47 : decode cX5_reaches 47 = .ok (.getfield 400, 3) := dk_180 1 144 (dk_at dksX5_reaches_2 1 rfl rfl)
theorem dX5_reaches_50 : decode cX5_reaches 50 = .ok (.imul, 1) := dk_104 (dk_at dksX5_reaches_2 4 rfl rfl)
theorem dX5_reaches_51 : decode cX5_reaches 51 = .ok (.iload 5, 2) := dk_21 5 (dk_at dksX5_reaches_2 5 rfl rfl)
theorem dX5_reaches_53 : decode cX5_reaches 53 = .ok (.iadd, 1) := dk_96 (dk_at dksX5_reaches_2 7 rfl rfl)
theorem dX5_reaches_54 : decode cX5_reaches 54 = .ok (.iaload, 1) := dk_46 (dk_at dksX5_reaches_2 8 rfl rfl)
theorem dX5_reaches_55 : decode cX5_reaches 55 = .ok (.iload_n 2, 1) := dk_28 (dk_at dksX5_reaches_2 9 rfl rfl)
theorem dX5_reaches_56 : decode cX5_reaches 56 = .ok (.iload 4, 2) := dk_21 4 (dk_at dksX5_reaches_2 10 rfl rfl)
theorem dX5_reaches_58 : decode cX5_reaches 58 = .ok (.invokevirtual 492, 3) := dk_182 1 236 (dk_at dksX5_reaches_2 12 rfl rfl)
theorem dX5_reaches_61 : decode cX5_reaches 61 = .ok (.ifCond .eq 21, 3) := dk_153 0 21 (dk_at dksX5_reaches_2 15 rfl rfl)
theorem dX5_reaches_64 : decode cX5_reaches 64 = .ok (.aload_n 0, 1) := dk_42 (dk_at dksX5_reaches_2 18 rfl rfl)
theorem dX5_reaches_65 : decode cX5_reaches 65 = .ok (.getfield 71, 3) := dk_180 0 71 (dk_at dksX5_reaches_2 19 rfl rfl)
theorem dX5_reaches_68 : decode cX5_reaches 68 = .ok (.bipush 40, 2) := dk_16 40 (dk_at dksX5_reaches_2 22 rfl rfl)
theorem dX5_reaches_70 : decode cX5_reaches 70 = .ok (.aload_n 0, 1) := dk_42 (dk_at dksX5_reaches_3 0 rfl rfl)
theorem dX5_reaches_71 : decode cX5_reaches 71 = .ok (.getfield 400, 3) := dk_180 1 144 (dk_at dksX5_reaches_3 1 rfl rfl)
theorem dX5_reaches_74 : decode cX5_reaches 74 = .ok (.imul, 1) := dk_104 (dk_at dksX5_reaches_3 4 rfl rfl)
theorem dX5_reaches_75 : decode cX5_reaches 75 = .ok (.iload 5, 2) := dk_21 5 (dk_at dksX5_reaches_3 5 rfl rfl)
theorem dX5_reaches_77 : decode cX5_reaches 77 = .ok (.iadd, 1) := dk_96 (dk_at dksX5_reaches_3 7 rfl rfl)
theorem dX5_reaches_78 : decode cX5_reaches 78 = .ok (.iaload, 1) := dk_46 (dk_at dksX5_reaches_3 8 rfl rfl)
theorem dX5_reaches_79 : decode cX5_reaches 79 = .ok (.goto 18, 3) := dk_167 0 18 (dk_at dksX5_reaches_3 9 rfl rfl)
theorem dX5_reaches_82 : decode cX5_reaches 82 = .ok (.aload_n 0, 1) := dk_42 (dk_at dksX5_reaches_3 12 rfl rfl)
theorem dX5_reaches_83 : decode cX5_reaches 83 = .ok (.getfield 74, 3) := dk_180 0 74 (dk_at dksX5_reaches_3 13 rfl rfl)
theorem dX5_reaches_86 : decode cX5_reaches 86 = .ok (.bipush 40, 2) := dk_16 40 (dk_at dksX5_reaches_3 16 rfl rfl)
theorem dX5_reaches_88 : decode cX5_reaches 88 = .ok (.aload_n 0, 1) := dk_42 (dk_at dksX5_reaches_3 18 rfl rfl)
theorem dX5_reaches_89 : decode cX5_reaches 89 = .ok (.getfield 400, 3) := dk_180 1 144 (dk_at dksX5_reaches_3 19 rfl rfl)
theorem dX5_reaches_92 : decode cX5_reaches 92 = .ok (.imul, 1) := dk_104 (dk_at dksX5_reaches_3 22 rfl rfl)
theorem dX5_reaches_93 : decode cX5_reaches 93 = .ok (.iload 5, 2) := dk_21 5 (dk_at dksX5_reaches_4 0 rfl rfl)
theorem dX5_reaches_95 : decode cX5_reaches 95 = .ok (.iadd, 1) := dk_96 (dk_at dksX5_reaches_4 2 rfl rfl)
theorem dX5_reaches_96 : decode cX5_reaches 96 = .ok (.iaload, 1) := dk_46 (dk_at dksX5_reaches_4 3 rfl rfl)
theorem dX5_reaches_97 : decode cX5_reaches 97 = .ok (.istore 5, 2) := dk_54 5 (dk_at dksX5_reaches_4 4 rfl rfl)
theorem dX5_reaches_99 : decode cX5_reaches 99 = .ok (.goto (-78), 3) := dk_167 255 178 (dk_at dksX5_reaches_4 6 rfl rfl)
theorem dX5_reaches_102 : decode cX5_reaches 102 = .ok (.aload_n 0, 1) := dk_42 (dk_at dksX5_reaches_4 9 rfl rfl)
theorem dX5_reaches_103 : decode cX5_reaches 103 = .ok (.getfield 147, 3) := dk_180 0 147 (dk_at dksX5_reaches_4 10 rfl rfl)
theorem dX5_reaches_106 : decode cX5_reaches 106 = .ok (.iload 5, 2) := dk_21 5 (dk_at dksX5_reaches_4 13 rfl rfl)
theorem dX5_reaches_108 : decode cX5_reaches 108 = .ok (.iconst 1, 1) := dk_4 (dk_at dksX5_reaches_4 15 rfl rfl)
theorem dX5_reaches_109 : decode cX5_reaches 109 = .ok (.bastore, 1) := dk_84 (dk_at dksX5_reaches_4 16 rfl rfl)
theorem dX5_reaches_110 : decode cX5_reaches 110 = .ok (.return_, 1) := dk_177 (dk_at dksX5_reaches_4 17 rfl rfl)
theorem dX5_reaches_111 : decode cX5_reaches 111 = .ok (.aload_n 0, 1) := dk_42 (dk_at dksX5_reaches_4 18 rfl rfl)
theorem dX5_reaches_112 : decode cX5_reaches 112 = .ok (.getfield 154, 3) := dk_180 0 154 (dk_at dksX5_reaches_4 19 rfl rfl)
theorem dX5_reaches_115 : decode cX5_reaches 115 = .ok (.iload_n 3, 1) := dk_29 (dk_at dksX5_reaches_4 22 rfl rfl)
theorem dX5_reaches_116 : decode cX5_reaches 116 = .ok (.iaload, 1) := dk_46 (dk_at dksX5_reaches_4 23 rfl rfl)
theorem dX5_reaches_117 : decode cX5_reaches 117 = .ok (.istore 5, 2) := dk_54 5 (dk_at dksX5_reaches_5 0 rfl rfl)
theorem dX5_reaches_119 : decode cX5_reaches 119 = .ok (.iload 5, 2) := dk_21 5 (dk_at dksX5_reaches_5 2 rfl rfl)
theorem dX5_reaches_121 : decode cX5_reaches 121 = .ok (.aload_n 0, 1) := dk_42 (dk_at dksX5_reaches_5 4 rfl rfl)
theorem dX5_reaches_122 : decode cX5_reaches 122 = .ok (.getfield 154, 3) := dk_180 0 154 (dk_at dksX5_reaches_5 5 rfl rfl)
theorem dX5_reaches_125 : decode cX5_reaches 125 = .ok (.iload_n 3, 1) := dk_29 (dk_at dksX5_reaches_5 8 rfl rfl)
theorem dX5_reaches_126 : decode cX5_reaches 126 = .ok (.iconst 1, 1) := dk_4 (dk_at dksX5_reaches_5 9 rfl rfl)
theorem dX5_reaches_127 : decode cX5_reaches 127 = .ok (.iadd, 1) := dk_96 (dk_at dksX5_reaches_5 10 rfl rfl)
theorem dX5_reaches_128 : decode cX5_reaches 128 = .ok (.iaload, 1) := dk_46 (dk_at dksX5_reaches_5 11 rfl rfl)
theorem dX5_reaches_129 : decode cX5_reaches 129 = .ok (.if_icmp .ge 28, 3) := dk_162 0 28 (dk_at dksX5_reaches_5 12 rfl rfl)
theorem dX5_reaches_132 : decode cX5_reaches 132 = .ok (.aload_n 0, 1) := dk_42 (dk_at dksX5_reaches_5 15 rfl rfl)
theorem dX5_reaches_133 : decode cX5_reaches 133 = .ok (.iload_n 1, 1) := dk_27 (dk_at dksX5_reaches_5 16 rfl rfl)
theorem dX5_reaches_134 : decode cX5_reaches 134 = .ok (.iload_n 2, 1) := dk_28 (dk_at dksX5_reaches_5 17 rfl rfl)
theorem dX5_reaches_135 : decode cX5_reaches 135 = .ok (.iload_n 3, 1) := dk_29 (dk_at dksX5_reaches_5 18 rfl rfl)
theorem dX5_reaches_136 : decode cX5_reaches 136 = .ok (.iconst 1, 1) := dk_4 (dk_at dksX5_reaches_5 19 rfl rfl)
theorem dX5_reaches_137 : decode cX5_reaches 137 = .ok (.iadd, 1) := dk_96 (dk_at dksX5_reaches_5 20 rfl rfl)
theorem dX5_reaches_138 : decode cX5_reaches 138 = .ok (.iload 4, 2) := dk_21 4 (dk_at dksX5_reaches_5 21 rfl rfl)
theorem dX5_reaches_140 : decode cX5_reaches 140 = .ok (.aload_n 0, 1) := dk_42 (dk_at dksX5_reaches_5 23 rfl rfl)
theorem dX5_reaches_141 : decode cX5_reaches 141 = .ok (.getfield 151, 3) := dk_180 0 151 (dk_at dksX5_reaches_6 0 rfl rfl)
theorem dX5_reaches_144 : decode cX5_reaches 144 = .ok (.iload 5, 2) := dk_21 5 (dk_at dksX5_reaches_6 3 rfl rfl)
theorem dX5_reaches_146 : decode cX5_reaches 146 = .ok (.iaload, 1) := dk_46 (dk_at dksX5_reaches_6 5 rfl rfl)
theorem dX5_reaches_147 : decode cX5_reaches 147 = .ok (.ior, 1) := dk_128 (dk_at dksX5_reaches_6 6 rfl rfl)
theorem dX5_reaches_148 : decode cX5_reaches 148 = .ok (.invokevirtual 489, 3) := dk_182 1 233 (dk_at dksX5_reaches_6 7 rfl rfl)
theorem dX5_reaches_151 : decode cX5_reaches 151 = .ok (.iinc 5 1, 3) := dk_132 5 1 (dk_at dksX5_reaches_6 10 rfl rfl)
theorem dX5_reaches_154 : decode cX5_reaches 154 = .ok (.goto (-35), 3) := dk_167 255 221 (dk_at dksX5_reaches_6 13 rfl rfl)
theorem dX5_reaches_157 : decode cX5_reaches 157 = .ok (.return_, 1) := dk_177 (dk_at dksX5_reaches_6 16 rfl rfl)
abbrev cX5_isBy : ByteArray := prog_20_method_78_code
def yX5_isBy : MethodName := ⟨RX5, "isBy", "(III)Z"⟩
def dkwX5_isBy_8 : List UInt8 := [122, 4, 126, 4, 160, 0, 7, 4, 167, 0, 4, 3, 172]
abbrev dktX5_isBy_8 : List UInt8 := dkwX5_isBy_8 ++ []
def dkwX5_isBy_7 : List UInt8 := [167, 0, 4, 3, 172, 21, 5, 16, 6, 162, 0, 7, 28, 167, 0, 4, 29, 42, 180, 0, 89, 21, 4, 46]
abbrev dktX5_isBy_7 : List UInt8 := dkwX5_isBy_7 ++ dktX5_isBy_8
def dkwX5_isBy_6 : List UInt8 := [172, 21, 5, 5, 160, 0, 25, 42, 42, 180, 0, 83, 21, 4, 46, 28, 29, 182, 1, 236, 154, 0, 7, 4]
abbrev dktX5_isBy_6 : List UInt8 := dkwX5_isBy_6 ++ dktX5_isBy_7
def dkwX5_isBy_5 : List UInt8 := [54, 5, 21, 5, 154, 0, 21, 42, 21, 4, 17, 1, 144, 42, 180, 1, 144, 104, 100, 28, 29, 182, 1, 236]
abbrev dktX5_isBy_5 : List UInt8 := dkwX5_isBy_5 ++ dktX5_isBy_6
def dkwX5_isBy_4 : List UInt8 := [180, 1, 144, 104, 42, 180, 0, 83, 21, 4, 46, 96, 54, 4, 167, 255, 209, 42, 180, 0, 80, 21, 4, 46]
abbrev dktX5_isBy_4 : List UInt8 := dkwX5_isBy_4 ++ dktX5_isBy_5
def dkwX5_isBy_3 : List UInt8 := [42, 42, 180, 0, 86, 21, 4, 46, 28, 29, 182, 1, 236, 154, 0, 5, 3, 172, 17, 1, 144, 42]
abbrev dktX5_isBy_3 : List UInt8 := dkwX5_isBy_3 ++ dktX5_isBy_4
def dkwX5_isBy_2 : List UInt8 := [42, 180, 0, 83, 21, 4, 46, 96, 54, 4, 167, 255, 210, 42, 180, 0, 80, 21, 4, 46, 4, 160, 0, 42]
abbrev dktX5_isBy_2 : List UInt8 := dkwX5_isBy_2 ++ dktX5_isBy_3
def dkwX5_isBy_1 : List UInt8 := [180, 0, 86, 21, 4, 46, 28, 29, 182, 1, 236, 153, 0, 5, 4, 172, 17, 1, 144, 42, 180, 1, 144, 104]
abbrev dktX5_isBy_1 : List UInt8 := dkwX5_isBy_1 ++ dktX5_isBy_2
def dkwX5_isBy_0 : List UInt8 := [17, 1, 144, 42, 180, 1, 144, 104, 27, 96, 54, 4, 42, 180, 0, 80, 21, 4, 46, 154, 0, 42, 42, 42]
abbrev dktX5_isBy_0 : List UInt8 := dkwX5_isBy_0 ++ dktX5_isBy_1
theorem dksX5_isBy_0 : cX5_isBy.data.toList.drop 0 = dktX5_isBy_0 := by decide +kernel
theorem dksX5_isBy_1 : cX5_isBy.data.toList.drop 24 = dktX5_isBy_1 := dk_seg dksX5_isBy_0 24 rfl rfl
theorem dksX5_isBy_2 : cX5_isBy.data.toList.drop 48 = dktX5_isBy_2 := dk_seg dksX5_isBy_1 24 rfl rfl
theorem dksX5_isBy_3 : cX5_isBy.data.toList.drop 72 = dktX5_isBy_3 := dk_seg dksX5_isBy_2 24 rfl rfl
theorem dksX5_isBy_4 : cX5_isBy.data.toList.drop 94 = dktX5_isBy_4 := dk_seg dksX5_isBy_3 22 rfl rfl
theorem dksX5_isBy_5 : cX5_isBy.data.toList.drop 118 = dktX5_isBy_5 := dk_seg dksX5_isBy_4 24 rfl rfl
theorem dksX5_isBy_6 : cX5_isBy.data.toList.drop 142 = dktX5_isBy_6 := dk_seg dksX5_isBy_5 24 rfl rfl
theorem dksX5_isBy_7 : cX5_isBy.data.toList.drop 166 = dktX5_isBy_7 := dk_seg dksX5_isBy_6 24 rfl rfl
theorem dksX5_isBy_8 : cX5_isBy.data.toList.drop 190 = dktX5_isBy_8 := dk_seg dksX5_isBy_7 24 rfl rfl
theorem dX5_isBy_0 : decode cX5_isBy 0 = .ok (.sipush 400, 3) := dk_17 1 144 (dk_at dksX5_isBy_0 0 rfl rfl)
theorem dX5_isBy_3 : decode cX5_isBy 3 = .ok (.aload_n 0, 1) := dk_42 (dk_at dksX5_isBy_0 3 rfl rfl)
theorem dX5_isBy_4 : decode cX5_isBy 4 = .ok (.getfield 400, 3) := dk_180 1 144 (dk_at dksX5_isBy_0 4 rfl rfl)
theorem dX5_isBy_7 : decode cX5_isBy 7 = .ok (.imul, 1) := dk_104 (dk_at dksX5_isBy_0 7 rfl rfl)
theorem dX5_isBy_8 : decode cX5_isBy 8 = .ok (.iload_n 1, 1) := dk_27 (dk_at dksX5_isBy_0 8 rfl rfl)
theorem dX5_isBy_9 : decode cX5_isBy 9 = .ok (.iadd, 1) := dk_96 (dk_at dksX5_isBy_0 9 rfl rfl)
theorem dX5_isBy_10 : decode cX5_isBy 10 = .ok (.istore 4, 2) := dk_54 4 (dk_at dksX5_isBy_0 10 rfl rfl)
theorem dX5_isBy_12 : decode cX5_isBy 12 = .ok (.aload_n 0, 1) := dk_42 (dk_at dksX5_isBy_0 12 rfl rfl)
theorem dX5_isBy_13 : decode cX5_isBy 13 = .ok (.getfield 80, 3) := dk_180 0 80 (dk_at dksX5_isBy_0 13 rfl rfl)
theorem dX5_isBy_16 : decode cX5_isBy 16 = .ok (.iload 4, 2) := dk_21 4 (dk_at dksX5_isBy_0 16 rfl rfl)
theorem dX5_isBy_18 : decode cX5_isBy 18 = .ok (.iaload, 1) := dk_46 (dk_at dksX5_isBy_0 18 rfl rfl)
theorem dX5_isBy_19 : decode cX5_isBy 19 = .ok (.ifCond .ne 42, 3) := dk_154 0 42 (dk_at dksX5_isBy_0 19 rfl rfl)
theorem dX5_isBy_22 : decode cX5_isBy 22 = .ok (.aload_n 0, 1) := dk_42 (dk_at dksX5_isBy_0 22 rfl rfl)
theorem dX5_isBy_23 : decode cX5_isBy 23 = .ok (.aload_n 0, 1) := dk_42 (dk_at dksX5_isBy_0 23 rfl rfl)
theorem dX5_isBy_24 : decode cX5_isBy 24 = .ok (.getfield 86, 3) := dk_180 0 86 (dk_at dksX5_isBy_1 0 rfl rfl)
theorem dX5_isBy_27 : decode cX5_isBy 27 = .ok (.iload 4, 2) := dk_21 4 (dk_at dksX5_isBy_1 3 rfl rfl)
theorem dX5_isBy_29 : decode cX5_isBy 29 = .ok (.iaload, 1) := dk_46 (dk_at dksX5_isBy_1 5 rfl rfl)
theorem dX5_isBy_30 : decode cX5_isBy 30 = .ok (.iload_n 2, 1) := dk_28 (dk_at dksX5_isBy_1 6 rfl rfl)
theorem dX5_isBy_31 : decode cX5_isBy 31 = .ok (.iload_n 3, 1) := dk_29 (dk_at dksX5_isBy_1 7 rfl rfl)
theorem dX5_isBy_32 : decode cX5_isBy 32 = .ok (.invokevirtual 492, 3) := dk_182 1 236 (dk_at dksX5_isBy_1 8 rfl rfl)
theorem dX5_isBy_35 : decode cX5_isBy 35 = .ok (.ifCond .eq 5, 3) := dk_153 0 5 (dk_at dksX5_isBy_1 11 rfl rfl)
theorem dX5_isBy_38 : decode cX5_isBy 38 = .ok (.iconst 1, 1) := dk_4 (dk_at dksX5_isBy_1 14 rfl rfl)
theorem dX5_isBy_39 : decode cX5_isBy 39 = .ok (.ireturn, 1) := dk_172 (dk_at dksX5_isBy_1 15 rfl rfl)
theorem dX5_isBy_40 : decode cX5_isBy 40 = .ok (.sipush 400, 3) := dk_17 1 144 (dk_at dksX5_isBy_1 16 rfl rfl)
theorem dX5_isBy_43 : decode cX5_isBy 43 = .ok (.aload_n 0, 1) := dk_42 (dk_at dksX5_isBy_1 19 rfl rfl)
theorem dX5_isBy_44 : decode cX5_isBy 44 = .ok (.getfield 400, 3) := dk_180 1 144 (dk_at dksX5_isBy_1 20 rfl rfl)
theorem dX5_isBy_47 : decode cX5_isBy 47 = .ok (.imul, 1) := dk_104 (dk_at dksX5_isBy_1 23 rfl rfl)
theorem dX5_isBy_48 : decode cX5_isBy 48 = .ok (.aload_n 0, 1) := dk_42 (dk_at dksX5_isBy_2 0 rfl rfl)
theorem dX5_isBy_49 : decode cX5_isBy 49 = .ok (.getfield 83, 3) := dk_180 0 83 (dk_at dksX5_isBy_2 1 rfl rfl)
theorem dX5_isBy_52 : decode cX5_isBy 52 = .ok (.iload 4, 2) := dk_21 4 (dk_at dksX5_isBy_2 4 rfl rfl)
theorem dX5_isBy_54 : decode cX5_isBy 54 = .ok (.iaload, 1) := dk_46 (dk_at dksX5_isBy_2 6 rfl rfl)
theorem dX5_isBy_55 : decode cX5_isBy 55 = .ok (.iadd, 1) := dk_96 (dk_at dksX5_isBy_2 7 rfl rfl)
theorem dX5_isBy_56 : decode cX5_isBy 56 = .ok (.istore 4, 2) := dk_54 4 (dk_at dksX5_isBy_2 8 rfl rfl)
theorem dX5_isBy_58 : decode cX5_isBy 58 = .ok (.goto (-46), 3) := dk_167 255 210 (dk_at dksX5_isBy_2 10 rfl rfl)
theorem dX5_isBy_61 : decode cX5_isBy 61 = .ok (.aload_n 0, 1) := dk_42 (dk_at dksX5_isBy_2 13 rfl rfl)
theorem dX5_isBy_62 : decode cX5_isBy 62 = .ok (.getfield 80, 3) := dk_180 0 80 (dk_at dksX5_isBy_2 14 rfl rfl)
theorem dX5_isBy_65 : decode cX5_isBy 65 = .ok (.iload 4, 2) := dk_21 4 (dk_at dksX5_isBy_2 17 rfl rfl)
theorem dX5_isBy_67 : decode cX5_isBy 67 = .ok (.iaload, 1) := dk_46 (dk_at dksX5_isBy_2 19 rfl rfl)
theorem dX5_isBy_68 : decode cX5_isBy 68 = .ok (.iconst 1, 1) := dk_4 (dk_at dksX5_isBy_2 20 rfl rfl)
theorem dX5_isBy_69 : decode cX5_isBy 69 = .ok (.if_icmp .ne 42, 3) := dk_160 0 42 (dk_at dksX5_isBy_2 21 rfl rfl)
theorem dX5_isBy_72 : decode cX5_isBy 72 = .ok (.aload_n 0, 1) := dk_42 (dk_at dksX5_isBy_3 0 rfl rfl)
theorem dX5_isBy_73 : decode cX5_isBy 73 = .ok (.aload_n 0, 1) := dk_42 (dk_at dksX5_isBy_3 1 rfl rfl)
theorem dX5_isBy_74 : decode cX5_isBy 74 = .ok (.getfield 86, 3) := dk_180 0 86 (dk_at dksX5_isBy_3 2 rfl rfl)
theorem dX5_isBy_77 : decode cX5_isBy 77 = .ok (.iload 4, 2) := dk_21 4 (dk_at dksX5_isBy_3 5 rfl rfl)
theorem dX5_isBy_79 : decode cX5_isBy 79 = .ok (.iaload, 1) := dk_46 (dk_at dksX5_isBy_3 7 rfl rfl)
theorem dX5_isBy_80 : decode cX5_isBy 80 = .ok (.iload_n 2, 1) := dk_28 (dk_at dksX5_isBy_3 8 rfl rfl)
theorem dX5_isBy_81 : decode cX5_isBy 81 = .ok (.iload_n 3, 1) := dk_29 (dk_at dksX5_isBy_3 9 rfl rfl)
theorem dX5_isBy_82 : decode cX5_isBy 82 = .ok (.invokevirtual 492, 3) := dk_182 1 236 (dk_at dksX5_isBy_3 10 rfl rfl)
theorem dX5_isBy_85 : decode cX5_isBy 85 = .ok (.ifCond .ne 5, 3) := dk_154 0 5 (dk_at dksX5_isBy_3 13 rfl rfl)
theorem dX5_isBy_88 : decode cX5_isBy 88 = .ok (.iconst 0, 1) := dk_3 (dk_at dksX5_isBy_3 16 rfl rfl)
theorem dX5_isBy_89 : decode cX5_isBy 89 = .ok (.ireturn, 1) := dk_172 (dk_at dksX5_isBy_3 17 rfl rfl)
theorem dX5_isBy_90 : decode cX5_isBy 90 = .ok (.sipush 400, 3) := dk_17 1 144 (dk_at dksX5_isBy_3 18 rfl rfl)
theorem dX5_isBy_93 : decode cX5_isBy 93 = .ok (.aload_n 0, 1) := dk_42 (dk_at dksX5_isBy_3 21 rfl rfl)
theorem dX5_isBy_94 : decode cX5_isBy 94 = .ok (.getfield 400, 3) := dk_180 1 144 (dk_at dksX5_isBy_4 0 rfl rfl)
theorem dX5_isBy_97 : decode cX5_isBy 97 = .ok (.imul, 1) := dk_104 (dk_at dksX5_isBy_4 3 rfl rfl)
theorem dX5_isBy_98 : decode cX5_isBy 98 = .ok (.aload_n 0, 1) := dk_42 (dk_at dksX5_isBy_4 4 rfl rfl)
theorem dX5_isBy_99 : decode cX5_isBy 99 = .ok (.getfield 83, 3) := dk_180 0 83 (dk_at dksX5_isBy_4 5 rfl rfl)
theorem dX5_isBy_102 : decode cX5_isBy 102 = .ok (.iload 4, 2) := dk_21 4 (dk_at dksX5_isBy_4 8 rfl rfl)
theorem dX5_isBy_104 : decode cX5_isBy 104 = .ok (.iaload, 1) := dk_46 (dk_at dksX5_isBy_4 10 rfl rfl)
theorem dX5_isBy_105 : decode cX5_isBy 105 = .ok (.iadd, 1) := dk_96 (dk_at dksX5_isBy_4 11 rfl rfl)
theorem dX5_isBy_106 : decode cX5_isBy 106 = .ok (.istore 4, 2) := dk_54 4 (dk_at dksX5_isBy_4 12 rfl rfl)
theorem dX5_isBy_108 : decode cX5_isBy 108 = .ok (.goto (-47), 3) := dk_167 255 209 (dk_at dksX5_isBy_4 14 rfl rfl)
theorem dX5_isBy_111 : decode cX5_isBy 111 = .ok (.aload_n 0, 1) := dk_42 (dk_at dksX5_isBy_4 17 rfl rfl)
theorem dX5_isBy_112 : decode cX5_isBy 112 = .ok (.getfield 80, 3) := dk_180 0 80 (dk_at dksX5_isBy_4 18 rfl rfl)
theorem dX5_isBy_115 : decode cX5_isBy 115 = .ok (.iload 4, 2) := dk_21 4 (dk_at dksX5_isBy_4 21 rfl rfl)
theorem dX5_isBy_117 : decode cX5_isBy 117 = .ok (.iaload, 1) := dk_46 (dk_at dksX5_isBy_4 23 rfl rfl)
theorem dX5_isBy_118 : decode cX5_isBy 118 = .ok (.istore 5, 2) := dk_54 5 (dk_at dksX5_isBy_5 0 rfl rfl)
theorem dX5_isBy_120 : decode cX5_isBy 120 = .ok (.iload 5, 2) := dk_21 5 (dk_at dksX5_isBy_5 2 rfl rfl)
theorem dX5_isBy_122 : decode cX5_isBy 122 = .ok (.ifCond .ne 21, 3) := dk_154 0 21 (dk_at dksX5_isBy_5 4 rfl rfl)
theorem dX5_isBy_125 : decode cX5_isBy 125 = .ok (.aload_n 0, 1) := dk_42 (dk_at dksX5_isBy_5 7 rfl rfl)
theorem dX5_isBy_126 : decode cX5_isBy 126 = .ok (.iload 4, 2) := dk_21 4 (dk_at dksX5_isBy_5 8 rfl rfl)
theorem dX5_isBy_128 : decode cX5_isBy 128 = .ok (.sipush 400, 3) := dk_17 1 144 (dk_at dksX5_isBy_5 10 rfl rfl)
theorem dX5_isBy_131 : decode cX5_isBy 131 = .ok (.aload_n 0, 1) := dk_42 (dk_at dksX5_isBy_5 13 rfl rfl)
theorem dX5_isBy_132 : decode cX5_isBy 132 = .ok (.getfield 400, 3) := dk_180 1 144 (dk_at dksX5_isBy_5 14 rfl rfl)
theorem dX5_isBy_135 : decode cX5_isBy 135 = .ok (.imul, 1) := dk_104 (dk_at dksX5_isBy_5 17 rfl rfl)
theorem dX5_isBy_136 : decode cX5_isBy 136 = .ok (.isub, 1) := dk_100 (dk_at dksX5_isBy_5 18 rfl rfl)
theorem dX5_isBy_137 : decode cX5_isBy 137 = .ok (.iload_n 2, 1) := dk_28 (dk_at dksX5_isBy_5 19 rfl rfl)
theorem dX5_isBy_138 : decode cX5_isBy 138 = .ok (.iload_n 3, 1) := dk_29 (dk_at dksX5_isBy_5 20 rfl rfl)
theorem dX5_isBy_139 : decode cX5_isBy 139 = .ok (.invokevirtual 492, 3) := dk_182 1 236 (dk_at dksX5_isBy_5 21 rfl rfl)
theorem dX5_isBy_142 : decode cX5_isBy 142 = .ok (.ireturn, 1) := dk_172 (dk_at dksX5_isBy_6 0 rfl rfl)
theorem dX5_isBy_143 : decode cX5_isBy 143 = .ok (.iload 5, 2) := dk_21 5 (dk_at dksX5_isBy_6 1 rfl rfl)
theorem dX5_isBy_145 : decode cX5_isBy 145 = .ok (.iconst 2, 1) := dk_5 (dk_at dksX5_isBy_6 3 rfl rfl)
theorem dX5_isBy_146 : decode cX5_isBy 146 = .ok (.if_icmp .ne 25, 3) := dk_160 0 25 (dk_at dksX5_isBy_6 4 rfl rfl)
theorem dX5_isBy_149 : decode cX5_isBy 149 = .ok (.aload_n 0, 1) := dk_42 (dk_at dksX5_isBy_6 7 rfl rfl)
theorem dX5_isBy_150 : decode cX5_isBy 150 = .ok (.aload_n 0, 1) := dk_42 (dk_at dksX5_isBy_6 8 rfl rfl)
theorem dX5_isBy_151 : decode cX5_isBy 151 = .ok (.getfield 83, 3) := dk_180 0 83 (dk_at dksX5_isBy_6 9 rfl rfl)
theorem dX5_isBy_154 : decode cX5_isBy 154 = .ok (.iload 4, 2) := dk_21 4 (dk_at dksX5_isBy_6 12 rfl rfl)
theorem dX5_isBy_156 : decode cX5_isBy 156 = .ok (.iaload, 1) := dk_46 (dk_at dksX5_isBy_6 14 rfl rfl)
theorem dX5_isBy_157 : decode cX5_isBy 157 = .ok (.iload_n 2, 1) := dk_28 (dk_at dksX5_isBy_6 15 rfl rfl)
theorem dX5_isBy_158 : decode cX5_isBy 158 = .ok (.iload_n 3, 1) := dk_29 (dk_at dksX5_isBy_6 16 rfl rfl)
theorem dX5_isBy_159 : decode cX5_isBy 159 = .ok (.invokevirtual 492, 3) := dk_182 1 236 (dk_at dksX5_isBy_6 17 rfl rfl)
theorem dX5_isBy_162 : decode cX5_isBy 162 = .ok (.ifCond .ne 7, 3) := dk_154 0 7 (dk_at dksX5_isBy_6 20 rfl rfl)
theorem dX5_isBy_165 : decode cX5_isBy 165 = .ok (.iconst 1, 1) := dk_4 (dk_at dksX5_isBy_6 23 rfl rfl)
theorem dX5_isBy_166 : decode cX5_isBy 166 = .ok (.goto 4, 3) := dk_167 0 4 (dk_at dksX5_isBy_7 0 rfl rfl)
theorem dX5_isBy_169 : decode cX5_isBy 169 = .ok (.iconst 0, 1) := dk_3 (dk_at dksX5_isBy_7 3 rfl rfl)
theorem dX5_isBy_170 : decode cX5_isBy 170 = .ok (.ireturn, 1) := dk_172 (dk_at dksX5_isBy_7 4 rfl rfl)
theorem dX5_isBy_171 : decode cX5_isBy 171 = .ok (.iload 5, 2) := dk_21 5 (dk_at dksX5_isBy_7 5 rfl rfl)
theorem dX5_isBy_173 : decode cX5_isBy 173 = .ok (.bipush 6, 2) := dk_16 6 (dk_at dksX5_isBy_7 7 rfl rfl)
theorem dX5_isBy_175 : decode cX5_isBy 175 = .ok (.if_icmp .ge 7, 3) := dk_162 0 7 (dk_at dksX5_isBy_7 9 rfl rfl)
theorem dX5_isBy_178 : decode cX5_isBy 178 = .ok (.iload_n 2, 1) := dk_28 (dk_at dksX5_isBy_7 12 rfl rfl)
theorem dX5_isBy_179 : decode cX5_isBy 179 = .ok (.goto 4, 3) := dk_167 0 4 (dk_at dksX5_isBy_7 13 rfl rfl)
theorem dX5_isBy_182 : decode cX5_isBy 182 = .ok (.iload_n 3, 1) := dk_29 (dk_at dksX5_isBy_7 16 rfl rfl)
theorem dX5_isBy_183 : decode cX5_isBy 183 = .ok (.aload_n 0, 1) := dk_42 (dk_at dksX5_isBy_7 17 rfl rfl)
theorem dX5_isBy_184 : decode cX5_isBy 184 = .ok (.getfield 89, 3) := dk_180 0 89 (dk_at dksX5_isBy_7 18 rfl rfl)
theorem dX5_isBy_187 : decode cX5_isBy 187 = .ok (.iload 4, 2) := dk_21 4 (dk_at dksX5_isBy_7 21 rfl rfl)
theorem dX5_isBy_189 : decode cX5_isBy 189 = .ok (.iaload, 1) := dk_46 (dk_at dksX5_isBy_7 23 rfl rfl)
theorem dX5_isBy_190 : decode cX5_isBy 190 = .ok (.ishr, 1) := dk_122 (dk_at dksX5_isBy_8 0 rfl rfl)
theorem dX5_isBy_191 : decode cX5_isBy 191 = .ok (.iconst 1, 1) := dk_4 (dk_at dksX5_isBy_8 1 rfl rfl)
theorem dX5_isBy_192 : decode cX5_isBy 192 = .ok (.iand, 1) := dk_126 (dk_at dksX5_isBy_8 2 rfl rfl)
theorem dX5_isBy_193 : decode cX5_isBy 193 = .ok (.iconst 1, 1) := dk_4 (dk_at dksX5_isBy_8 3 rfl rfl)
theorem dX5_isBy_194 : decode cX5_isBy 194 = .ok (.if_icmp .ne 7, 3) := dk_160 0 7 (dk_at dksX5_isBy_8 4 rfl rfl)
theorem dX5_isBy_197 : decode cX5_isBy 197 = .ok (.iconst 1, 1) := dk_4 (dk_at dksX5_isBy_8 7 rfl rfl)
theorem dX5_isBy_198 : decode cX5_isBy 198 = .ok (.goto 4, 3) := dk_167 0 4 (dk_at dksX5_isBy_8 8 rfl rfl)
theorem dX5_isBy_201 : decode cX5_isBy 201 = .ok (.iconst 0, 1) := dk_3 (dk_at dksX5_isBy_8 11 rfl rfl)
theorem dX5_isBy_202 : decode cX5_isBy 202 = .ok (.ireturn, 1) := dk_172 (dk_at dksX5_isBy_8 12 rfl rfl)
abbrev cX5_faultLine : ByteArray := prog_20_method_48_code
def yX5_faultLine : MethodName := ⟨RX5, "faultLine", "()I"⟩
def dkwX5_faultLine_0 : List UInt8 := [42, 3, 181, 0, 160, 42, 180, 0, 99, 172]
abbrev dktX5_faultLine_0 : List UInt8 := dkwX5_faultLine_0 ++ []
theorem dksX5_faultLine_0 : cX5_faultLine.data.toList.drop 0 = dktX5_faultLine_0 := by decide +kernel
theorem dX5_faultLine_0 : decode cX5_faultLine 0 = .ok (.aload_n 0, 1) := dk_42 (dk_at dksX5_faultLine_0 0 rfl rfl)
theorem dX5_faultLine_1 : decode cX5_faultLine 1 = .ok (.iconst 0, 1) := dk_3 (dk_at dksX5_faultLine_0 1 rfl rfl)
theorem dX5_faultLine_2 : decode cX5_faultLine 2 = .ok (.putfield 160, 3) := dk_181 0 160 (dk_at dksX5_faultLine_0 2 rfl rfl)
theorem dX5_faultLine_5 : decode cX5_faultLine 5 = .ok (.aload_n 0, 1) := dk_42 (dk_at dksX5_faultLine_0 5 rfl rfl)
theorem dX5_faultLine_6 : decode cX5_faultLine 6 = .ok (.getfield 99, 3) := dk_180 0 99 (dk_at dksX5_faultLine_0 6 rfl rfl)
theorem dX5_faultLine_9 : decode cX5_faultLine 9 = .ok (.ireturn, 1) := dk_172 (dk_at dksX5_faultLine_0 9 rfl rfl)
abbrev cX5_stay : ByteArray := prog_20_method_50_code
def yX5_stay : MethodName := ⟨RX5, "stay", "(III)I"⟩
def dkwX5_stay_4 : List UInt8 := [180, 1, 150, 3, 79, 42, 89, 180, 1, 150, 4, 96, 181, 1, 150, 42, 180, 1, 150, 4, 100, 172]
abbrev dktX5_stay_4 : List UInt8 := dkwX5_stay_4 ++ []
def dkwX5_stay_3 : List UInt8 := [180, 0, 108, 42, 180, 1, 150, 29, 79, 42, 180, 0, 111, 42, 180, 1, 150, 3, 79, 42, 180, 0, 117, 42]
abbrev dktX5_stay_3 : List UInt8 := dkwX5_stay_3 ++ dktX5_stay_4
def dkwX5_stay_2 : List UInt8 := [172, 42, 180, 0, 102, 42, 180, 1, 150, 27, 79, 42, 180, 0, 105, 42, 180, 1, 150, 28, 79, 42]
abbrev dktX5_stay_2 : List UInt8 := dkwX5_stay_2 ++ dktX5_stay_3
def dkwX5_stay_1 : List UInt8 := [153, 0, 23, 29, 4, 17, 1, 144, 184, 0, 170, 153, 0, 12, 42, 180, 1, 150, 16, 24, 160, 0, 5, 2]
abbrev dktX5_stay_1 : List UInt8 := dkwX5_stay_1 ++ dktX5_stay_2
def dkwX5_stay_0 : List UInt8 := [42, 3, 181, 0, 160, 27, 3, 17, 3, 231, 184, 0, 170, 153, 0, 33, 28, 3, 16, 120, 184, 0, 170]
abbrev dktX5_stay_0 : List UInt8 := dkwX5_stay_0 ++ dktX5_stay_1
theorem dksX5_stay_0 : cX5_stay.data.toList.drop 0 = dktX5_stay_0 := by decide +kernel
theorem dksX5_stay_1 : cX5_stay.data.toList.drop 23 = dktX5_stay_1 := dk_seg dksX5_stay_0 23 rfl rfl
theorem dksX5_stay_2 : cX5_stay.data.toList.drop 47 = dktX5_stay_2 := dk_seg dksX5_stay_1 24 rfl rfl
theorem dksX5_stay_3 : cX5_stay.data.toList.drop 69 = dktX5_stay_3 := dk_seg dksX5_stay_2 22 rfl rfl
theorem dksX5_stay_4 : cX5_stay.data.toList.drop 93 = dktX5_stay_4 := dk_seg dksX5_stay_3 24 rfl rfl
theorem dX5_stay_0 : decode cX5_stay 0 = .ok (.aload_n 0, 1) := dk_42 (dk_at dksX5_stay_0 0 rfl rfl)
theorem dX5_stay_1 : decode cX5_stay 1 = .ok (.iconst 0, 1) := dk_3 (dk_at dksX5_stay_0 1 rfl rfl)
theorem dX5_stay_2 : decode cX5_stay 2 = .ok (.putfield 160, 3) := dk_181 0 160 (dk_at dksX5_stay_0 2 rfl rfl)
theorem dX5_stay_5 : decode cX5_stay 5 = .ok (.iload_n 1, 1) := dk_27 (dk_at dksX5_stay_0 5 rfl rfl)
theorem dX5_stay_6 : decode cX5_stay 6 = .ok (.iconst 0, 1) := dk_3 (dk_at dksX5_stay_0 6 rfl rfl)
theorem dX5_stay_7 : decode cX5_stay 7 = .ok (.sipush 999, 3) := dk_17 3 231 (dk_at dksX5_stay_0 7 rfl rfl)
theorem dX5_stay_10 : decode cX5_stay 10 = .ok (.invokestatic 170, 3) := dk_184 0 170 (dk_at dksX5_stay_0 10 rfl rfl)
theorem dX5_stay_13 : decode cX5_stay 13 = .ok (.ifCond .eq 33, 3) := dk_153 0 33 (dk_at dksX5_stay_0 13 rfl rfl)
theorem dX5_stay_16 : decode cX5_stay 16 = .ok (.iload_n 2, 1) := dk_28 (dk_at dksX5_stay_0 16 rfl rfl)
theorem dX5_stay_17 : decode cX5_stay 17 = .ok (.iconst 0, 1) := dk_3 (dk_at dksX5_stay_0 17 rfl rfl)
theorem dX5_stay_18 : decode cX5_stay 18 = .ok (.bipush 120, 2) := dk_16 120 (dk_at dksX5_stay_0 18 rfl rfl)
theorem dX5_stay_20 : decode cX5_stay 20 = .ok (.invokestatic 170, 3) := dk_184 0 170 (dk_at dksX5_stay_0 20 rfl rfl)
theorem dX5_stay_23 : decode cX5_stay 23 = .ok (.ifCond .eq 23, 3) := dk_153 0 23 (dk_at dksX5_stay_1 0 rfl rfl)
theorem dX5_stay_26 : decode cX5_stay 26 = .ok (.iload_n 3, 1) := dk_29 (dk_at dksX5_stay_1 3 rfl rfl)
theorem dX5_stay_27 : decode cX5_stay 27 = .ok (.iconst 1, 1) := dk_4 (dk_at dksX5_stay_1 4 rfl rfl)
theorem dX5_stay_28 : decode cX5_stay 28 = .ok (.sipush 400, 3) := dk_17 1 144 (dk_at dksX5_stay_1 5 rfl rfl)
theorem dX5_stay_31 : decode cX5_stay 31 = .ok (.invokestatic 170, 3) := dk_184 0 170 (dk_at dksX5_stay_1 8 rfl rfl)
theorem dX5_stay_34 : decode cX5_stay 34 = .ok (.ifCond .eq 12, 3) := dk_153 0 12 (dk_at dksX5_stay_1 11 rfl rfl)
theorem dX5_stay_37 : decode cX5_stay 37 = .ok (.aload_n 0, 1) := dk_42 (dk_at dksX5_stay_1 14 rfl rfl)
theorem dX5_stay_38 : decode cX5_stay 38 = .ok (.getfield 406, 3) := dk_180 1 150 (dk_at dksX5_stay_1 15 rfl rfl)
theorem dX5_stay_41 : decode cX5_stay 41 = .ok (.bipush 24, 2) := dk_16 24 (dk_at dksX5_stay_1 18 rfl rfl)
theorem dX5_stay_43 : decode cX5_stay 43 = .ok (.if_icmp .ne 5, 3) := dk_160 0 5 (dk_at dksX5_stay_1 20 rfl rfl)
theorem dX5_stay_46 : decode cX5_stay 46 = .ok (.iconst (-1), 1) := dk_2 (dk_at dksX5_stay_1 23 rfl rfl)
theorem dX5_stay_47 : decode cX5_stay 47 = .ok (.ireturn, 1) := dk_172 (dk_at dksX5_stay_2 0 rfl rfl)
theorem dX5_stay_48 : decode cX5_stay 48 = .ok (.aload_n 0, 1) := dk_42 (dk_at dksX5_stay_2 1 rfl rfl)
theorem dX5_stay_49 : decode cX5_stay 49 = .ok (.getfield 102, 3) := dk_180 0 102 (dk_at dksX5_stay_2 2 rfl rfl)
theorem dX5_stay_52 : decode cX5_stay 52 = .ok (.aload_n 0, 1) := dk_42 (dk_at dksX5_stay_2 5 rfl rfl)
theorem dX5_stay_53 : decode cX5_stay 53 = .ok (.getfield 406, 3) := dk_180 1 150 (dk_at dksX5_stay_2 6 rfl rfl)
theorem dX5_stay_56 : decode cX5_stay 56 = .ok (.iload_n 1, 1) := dk_27 (dk_at dksX5_stay_2 9 rfl rfl)
theorem dX5_stay_57 : decode cX5_stay 57 = .ok (.iastore, 1) := dk_79 (dk_at dksX5_stay_2 10 rfl rfl)
theorem dX5_stay_58 : decode cX5_stay 58 = .ok (.aload_n 0, 1) := dk_42 (dk_at dksX5_stay_2 11 rfl rfl)
theorem dX5_stay_59 : decode cX5_stay 59 = .ok (.getfield 105, 3) := dk_180 0 105 (dk_at dksX5_stay_2 12 rfl rfl)
theorem dX5_stay_62 : decode cX5_stay 62 = .ok (.aload_n 0, 1) := dk_42 (dk_at dksX5_stay_2 15 rfl rfl)
theorem dX5_stay_63 : decode cX5_stay 63 = .ok (.getfield 406, 3) := dk_180 1 150 (dk_at dksX5_stay_2 16 rfl rfl)
theorem dX5_stay_66 : decode cX5_stay 66 = .ok (.iload_n 2, 1) := dk_28 (dk_at dksX5_stay_2 19 rfl rfl)
theorem dX5_stay_67 : decode cX5_stay 67 = .ok (.iastore, 1) := dk_79 (dk_at dksX5_stay_2 20 rfl rfl)
theorem dX5_stay_68 : decode cX5_stay 68 = .ok (.aload_n 0, 1) := dk_42 (dk_at dksX5_stay_2 21 rfl rfl)
theorem dX5_stay_69 : decode cX5_stay 69 = .ok (.getfield 108, 3) := dk_180 0 108 (dk_at dksX5_stay_3 0 rfl rfl)
theorem dX5_stay_72 : decode cX5_stay 72 = .ok (.aload_n 0, 1) := dk_42 (dk_at dksX5_stay_3 3 rfl rfl)
theorem dX5_stay_73 : decode cX5_stay 73 = .ok (.getfield 406, 3) := dk_180 1 150 (dk_at dksX5_stay_3 4 rfl rfl)
theorem dX5_stay_76 : decode cX5_stay 76 = .ok (.iload_n 3, 1) := dk_29 (dk_at dksX5_stay_3 7 rfl rfl)
theorem dX5_stay_77 : decode cX5_stay 77 = .ok (.iastore, 1) := dk_79 (dk_at dksX5_stay_3 8 rfl rfl)
theorem dX5_stay_78 : decode cX5_stay 78 = .ok (.aload_n 0, 1) := dk_42 (dk_at dksX5_stay_3 9 rfl rfl)
theorem dX5_stay_79 : decode cX5_stay 79 = .ok (.getfield 111, 3) := dk_180 0 111 (dk_at dksX5_stay_3 10 rfl rfl)
theorem dX5_stay_82 : decode cX5_stay 82 = .ok (.aload_n 0, 1) := dk_42 (dk_at dksX5_stay_3 13 rfl rfl)
theorem dX5_stay_83 : decode cX5_stay 83 = .ok (.getfield 406, 3) := dk_180 1 150 (dk_at dksX5_stay_3 14 rfl rfl)
theorem dX5_stay_86 : decode cX5_stay 86 = .ok (.iconst 0, 1) := dk_3 (dk_at dksX5_stay_3 17 rfl rfl)
theorem dX5_stay_87 : decode cX5_stay 87 = .ok (.iastore, 1) := dk_79 (dk_at dksX5_stay_3 18 rfl rfl)
theorem dX5_stay_88 : decode cX5_stay 88 = .ok (.aload_n 0, 1) := dk_42 (dk_at dksX5_stay_3 19 rfl rfl)
theorem dX5_stay_89 : decode cX5_stay 89 = .ok (.getfield 117, 3) := dk_180 0 117 (dk_at dksX5_stay_3 20 rfl rfl)
theorem dX5_stay_92 : decode cX5_stay 92 = .ok (.aload_n 0, 1) := dk_42 (dk_at dksX5_stay_3 23 rfl rfl)
theorem dX5_stay_93 : decode cX5_stay 93 = .ok (.getfield 406, 3) := dk_180 1 150 (dk_at dksX5_stay_4 0 rfl rfl)
theorem dX5_stay_96 : decode cX5_stay 96 = .ok (.iconst 0, 1) := dk_3 (dk_at dksX5_stay_4 3 rfl rfl)
theorem dX5_stay_97 : decode cX5_stay 97 = .ok (.iastore, 1) := dk_79 (dk_at dksX5_stay_4 4 rfl rfl)
theorem dX5_stay_98 : decode cX5_stay 98 = .ok (.aload_n 0, 1) := dk_42 (dk_at dksX5_stay_4 5 rfl rfl)
theorem dX5_stay_99 : decode cX5_stay 99 = .ok (.dup, 1) := dk_89 (dk_at dksX5_stay_4 6 rfl rfl)
theorem dX5_stay_100 : decode cX5_stay 100 = .ok (.getfield 406, 3) := dk_180 1 150 (dk_at dksX5_stay_4 7 rfl rfl)
theorem dX5_stay_103 : decode cX5_stay 103 = .ok (.iconst 1, 1) := dk_4 (dk_at dksX5_stay_4 10 rfl rfl)
theorem dX5_stay_104 : decode cX5_stay 104 = .ok (.iadd, 1) := dk_96 (dk_at dksX5_stay_4 11 rfl rfl)
theorem dX5_stay_105 : decode cX5_stay 105 = .ok (.putfield 406, 3) := dk_181 1 150 (dk_at dksX5_stay_4 12 rfl rfl)
theorem dX5_stay_108 : decode cX5_stay 108 = .ok (.aload_n 0, 1) := dk_42 (dk_at dksX5_stay_4 15 rfl rfl)
theorem dX5_stay_109 : decode cX5_stay 109 = .ok (.getfield 406, 3) := dk_180 1 150 (dk_at dksX5_stay_4 16 rfl rfl)
theorem dX5_stay_112 : decode cX5_stay 112 = .ok (.iconst 1, 1) := dk_4 (dk_at dksX5_stay_4 19 rfl rfl)
theorem dX5_stay_113 : decode cX5_stay 113 = .ok (.isub, 1) := dk_100 (dk_at dksX5_stay_4 20 rfl rfl)
theorem dX5_stay_114 : decode cX5_stay 114 = .ok (.ireturn, 1) := dk_172 (dk_at dksX5_stay_4 21 rfl rfl)
abbrev cX5_code : ByteArray := prog_20_method_58_code
def yX5_code : MethodName := ⟨RX5, "code", "(II)I"⟩
def dkwX5_code_1 : List UInt8 := [17, 3, 232, 161, 0, 12, 42, 180, 0, 117, 27, 46, 167, 0, 9, 42, 180, 0, 111, 27, 46, 172]
abbrev dktX5_code_1 : List UInt8 := dkwX5_code_1 ++ []
def dkwX5_code_0 : List UInt8 := [42, 3, 181, 0, 160, 42, 27, 28, 182, 1, 167, 154, 0, 5, 2, 172, 42, 27, 28, 182, 1, 171, 28]
abbrev dktX5_code_0 : List UInt8 := dkwX5_code_0 ++ dktX5_code_1
theorem dksX5_code_0 : cX5_code.data.toList.drop 0 = dktX5_code_0 := by decide +kernel
theorem dksX5_code_1 : cX5_code.data.toList.drop 23 = dktX5_code_1 := dk_seg dksX5_code_0 23 rfl rfl
theorem dX5_code_0 : decode cX5_code 0 = .ok (.aload_n 0, 1) := dk_42 (dk_at dksX5_code_0 0 rfl rfl)
theorem dX5_code_1 : decode cX5_code 1 = .ok (.iconst 0, 1) := dk_3 (dk_at dksX5_code_0 1 rfl rfl)
theorem dX5_code_2 : decode cX5_code 2 = .ok (.putfield 160, 3) := dk_181 0 160 (dk_at dksX5_code_0 2 rfl rfl)
theorem dX5_code_5 : decode cX5_code 5 = .ok (.aload_n 0, 1) := dk_42 (dk_at dksX5_code_0 5 rfl rfl)
theorem dX5_code_6 : decode cX5_code 6 = .ok (.iload_n 1, 1) := dk_27 (dk_at dksX5_code_0 6 rfl rfl)
theorem dX5_code_7 : decode cX5_code 7 = .ok (.iload_n 2, 1) := dk_28 (dk_at dksX5_code_0 7 rfl rfl)
theorem dX5_code_8 : decode cX5_code 8 = .ok (.invokevirtual 423, 3) := dk_182 1 167 (dk_at dksX5_code_0 8 rfl rfl)
theorem dX5_code_11 : decode cX5_code 11 = .ok (.ifCond .ne 5, 3) := dk_154 0 5 (dk_at dksX5_code_0 11 rfl rfl)
theorem dX5_code_14 : decode cX5_code 14 = .ok (.iconst (-1), 1) := dk_2 (dk_at dksX5_code_0 14 rfl rfl)
theorem dX5_code_15 : decode cX5_code 15 = .ok (.ireturn, 1) := dk_172 (dk_at dksX5_code_0 15 rfl rfl)
theorem dX5_code_16 : decode cX5_code 16 = .ok (.aload_n 0, 1) := dk_42 (dk_at dksX5_code_0 16 rfl rfl)
theorem dX5_code_17 : decode cX5_code 17 = .ok (.iload_n 1, 1) := dk_27 (dk_at dksX5_code_0 17 rfl rfl)
theorem dX5_code_18 : decode cX5_code 18 = .ok (.iload_n 2, 1) := dk_28 (dk_at dksX5_code_0 18 rfl rfl)
theorem dX5_code_19 : decode cX5_code 19 = .ok (.invokevirtual 427, 3) := dk_182 1 171 (dk_at dksX5_code_0 19 rfl rfl)
theorem dX5_code_22 : decode cX5_code 22 = .ok (.iload_n 2, 1) := dk_28 (dk_at dksX5_code_0 22 rfl rfl)
theorem dX5_code_23 : decode cX5_code 23 = .ok (.sipush 1000, 3) := dk_17 3 232 (dk_at dksX5_code_1 0 rfl rfl)
theorem dX5_code_26 : decode cX5_code 26 = .ok (.if_icmp .lt 12, 3) := dk_161 0 12 (dk_at dksX5_code_1 3 rfl rfl)
theorem dX5_code_29 : decode cX5_code 29 = .ok (.aload_n 0, 1) := dk_42 (dk_at dksX5_code_1 6 rfl rfl)
theorem dX5_code_30 : decode cX5_code 30 = .ok (.getfield 117, 3) := dk_180 0 117 (dk_at dksX5_code_1 7 rfl rfl)
theorem dX5_code_33 : decode cX5_code 33 = .ok (.iload_n 1, 1) := dk_27 (dk_at dksX5_code_1 10 rfl rfl)
theorem dX5_code_34 : decode cX5_code 34 = .ok (.iaload, 1) := dk_46 (dk_at dksX5_code_1 11 rfl rfl)
theorem dX5_code_35 : decode cX5_code 35 = .ok (.goto 9, 3) := dk_167 0 9 (dk_at dksX5_code_1 12 rfl rfl)
theorem dX5_code_38 : decode cX5_code 38 = .ok (.aload_n 0, 1) := dk_42 (dk_at dksX5_code_1 15 rfl rfl)
theorem dX5_code_39 : decode cX5_code 39 = .ok (.getfield 111, 3) := dk_180 0 111 (dk_at dksX5_code_1 16 rfl rfl)
theorem dX5_code_42 : decode cX5_code 42 = .ok (.iload_n 1, 1) := dk_27 (dk_at dksX5_code_1 19 rfl rfl)
theorem dX5_code_43 : decode cX5_code 43 = .ok (.iaload, 1) := dk_46 (dk_at dksX5_code_1 20 rfl rfl)
theorem dX5_code_44 : decode cX5_code 44 = .ok (.ireturn, 1) := dk_172 (dk_at dksX5_code_1 21 rfl rfl)
abbrev cX5_canCome : ByteArray := prog_20_method_52_code
def yX5_canCome : MethodName := ⟨RX5, "canCome", "(II)Z"⟩
def dkwX5_canCome_4 : List UInt8 := [16, 8, 27, 104, 42, 180, 0, 111, 27, 46, 28, 184, 1, 156, 156, 0, 7, 4, 167, 0, 4, 3, 172]
abbrev dktX5_canCome_4 : List UInt8 := dkwX5_canCome_4 ++ []
def dkwX5_canCome_3 : List UInt8 := [180, 0, 102, 27, 46, 159, 0, 39, 42, 180, 0, 111, 27, 46, 16, 8, 162, 0, 28, 42, 180, 0, 114]
abbrev dktX5_canCome_3 : List UInt8 := dkwX5_canCome_3 ++ dktX5_canCome_4
def dkwX5_canCome_2 : List UInt8 := [104, 42, 180, 0, 117, 27, 46, 28, 184, 1, 156, 156, 0, 7, 4, 167, 0, 4, 3, 172, 28, 42]
abbrev dktX5_canCome_2 : List UInt8 := dkwX5_canCome_2 ++ dktX5_canCome_3
def dkwX5_canCome_1 : List UInt8 := [17, 3, 232, 161, 0, 41, 42, 180, 0, 117, 27, 46, 16, 6, 162, 0, 28, 42, 180, 0, 120, 16, 6, 27]
abbrev dktX5_canCome_1 : List UInt8 := dkwX5_canCome_1 ++ dktX5_canCome_2
def dkwX5_canCome_0 : List UInt8 := [42, 27, 182, 1, 153, 153, 0, 14, 28, 3, 17, 5, 219, 184, 0, 170, 154, 0, 5, 3, 172, 28]
abbrev dktX5_canCome_0 : List UInt8 := dkwX5_canCome_0 ++ dktX5_canCome_1
theorem dksX5_canCome_0 : cX5_canCome.data.toList.drop 0 = dktX5_canCome_0 := by decide +kernel
theorem dksX5_canCome_1 : cX5_canCome.data.toList.drop 22 = dktX5_canCome_1 := dk_seg dksX5_canCome_0 22 rfl rfl
theorem dksX5_canCome_2 : cX5_canCome.data.toList.drop 46 = dktX5_canCome_2 := dk_seg dksX5_canCome_1 24 rfl rfl
theorem dksX5_canCome_3 : cX5_canCome.data.toList.drop 68 = dktX5_canCome_3 := dk_seg dksX5_canCome_2 22 rfl rfl
theorem dksX5_canCome_4 : cX5_canCome.data.toList.drop 91 = dktX5_canCome_4 := dk_seg dksX5_canCome_3 23 rfl rfl
theorem dX5_canCome_0 : decode cX5_canCome 0 = .ok (.aload_n 0, 1) := dk_42 (dk_at dksX5_canCome_0 0 rfl rfl)
theorem dX5_canCome_1 : decode cX5_canCome 1 = .ok (.iload_n 1, 1) := dk_27 (dk_at dksX5_canCome_0 1 rfl rfl)
theorem dX5_canCome_2 : decode cX5_canCome 2 = .ok (.invokevirtual 409, 3) := dk_182 1 153 (dk_at dksX5_canCome_0 2 rfl rfl)
theorem dX5_canCome_5 : decode cX5_canCome 5 = .ok (.ifCond .eq 14, 3) := dk_153 0 14 (dk_at dksX5_canCome_0 5 rfl rfl)
theorem dX5_canCome_8 : decode cX5_canCome 8 = .ok (.iload_n 2, 1) := dk_28 (dk_at dksX5_canCome_0 8 rfl rfl)
theorem dX5_canCome_9 : decode cX5_canCome 9 = .ok (.iconst 0, 1) := dk_3 (dk_at dksX5_canCome_0 9 rfl rfl)
theorem dX5_canCome_10 : decode cX5_canCome 10 = .ok (.sipush 1499, 3) := dk_17 5 219 (dk_at dksX5_canCome_0 10 rfl rfl)
theorem dX5_canCome_13 : decode cX5_canCome 13 = .ok (.invokestatic 170, 3) := dk_184 0 170 (dk_at dksX5_canCome_0 13 rfl rfl)
theorem dX5_canCome_16 : decode cX5_canCome 16 = .ok (.ifCond .ne 5, 3) := dk_154 0 5 (dk_at dksX5_canCome_0 16 rfl rfl)
theorem dX5_canCome_19 : decode cX5_canCome 19 = .ok (.iconst 0, 1) := dk_3 (dk_at dksX5_canCome_0 19 rfl rfl)
theorem dX5_canCome_20 : decode cX5_canCome 20 = .ok (.ireturn, 1) := dk_172 (dk_at dksX5_canCome_0 20 rfl rfl)
theorem dX5_canCome_21 : decode cX5_canCome 21 = .ok (.iload_n 2, 1) := dk_28 (dk_at dksX5_canCome_0 21 rfl rfl)
theorem dX5_canCome_22 : decode cX5_canCome 22 = .ok (.sipush 1000, 3) := dk_17 3 232 (dk_at dksX5_canCome_1 0 rfl rfl)
theorem dX5_canCome_25 : decode cX5_canCome 25 = .ok (.if_icmp .lt 41, 3) := dk_161 0 41 (dk_at dksX5_canCome_1 3 rfl rfl)
theorem dX5_canCome_28 : decode cX5_canCome 28 = .ok (.aload_n 0, 1) := dk_42 (dk_at dksX5_canCome_1 6 rfl rfl)
theorem dX5_canCome_29 : decode cX5_canCome 29 = .ok (.getfield 117, 3) := dk_180 0 117 (dk_at dksX5_canCome_1 7 rfl rfl)
theorem dX5_canCome_32 : decode cX5_canCome 32 = .ok (.iload_n 1, 1) := dk_27 (dk_at dksX5_canCome_1 10 rfl rfl)
theorem dX5_canCome_33 : decode cX5_canCome 33 = .ok (.iaload, 1) := dk_46 (dk_at dksX5_canCome_1 11 rfl rfl)
theorem dX5_canCome_34 : decode cX5_canCome 34 = .ok (.bipush 6, 2) := dk_16 6 (dk_at dksX5_canCome_1 12 rfl rfl)
theorem dX5_canCome_36 : decode cX5_canCome 36 = .ok (.if_icmp .ge 28, 3) := dk_162 0 28 (dk_at dksX5_canCome_1 14 rfl rfl)
theorem dX5_canCome_39 : decode cX5_canCome 39 = .ok (.aload_n 0, 1) := dk_42 (dk_at dksX5_canCome_1 17 rfl rfl)
theorem dX5_canCome_40 : decode cX5_canCome 40 = .ok (.getfield 120, 3) := dk_180 0 120 (dk_at dksX5_canCome_1 18 rfl rfl)
theorem dX5_canCome_43 : decode cX5_canCome 43 = .ok (.bipush 6, 2) := dk_16 6 (dk_at dksX5_canCome_1 21 rfl rfl)
theorem dX5_canCome_45 : decode cX5_canCome 45 = .ok (.iload_n 1, 1) := dk_27 (dk_at dksX5_canCome_1 23 rfl rfl)
theorem dX5_canCome_46 : decode cX5_canCome 46 = .ok (.imul, 1) := dk_104 (dk_at dksX5_canCome_2 0 rfl rfl)
theorem dX5_canCome_47 : decode cX5_canCome 47 = .ok (.aload_n 0, 1) := dk_42 (dk_at dksX5_canCome_2 1 rfl rfl)
theorem dX5_canCome_48 : decode cX5_canCome 48 = .ok (.getfield 117, 3) := dk_180 0 117 (dk_at dksX5_canCome_2 2 rfl rfl)
theorem dX5_canCome_51 : decode cX5_canCome 51 = .ok (.iload_n 1, 1) := dk_27 (dk_at dksX5_canCome_2 5 rfl rfl)
theorem dX5_canCome_52 : decode cX5_canCome 52 = .ok (.iaload, 1) := dk_46 (dk_at dksX5_canCome_2 6 rfl rfl)
theorem dX5_canCome_53 : decode cX5_canCome 53 = .ok (.iload_n 2, 1) := dk_28 (dk_at dksX5_canCome_2 7 rfl rfl)
theorem dX5_canCome_54 : decode cX5_canCome 54 = .ok (.invokestatic 412, 3) := dk_184 1 156 (dk_at dksX5_canCome_2 8 rfl rfl)
theorem dX5_canCome_57 : decode cX5_canCome 57 = .ok (.ifCond .ge 7, 3) := dk_156 0 7 (dk_at dksX5_canCome_2 11 rfl rfl)
theorem dX5_canCome_60 : decode cX5_canCome 60 = .ok (.iconst 1, 1) := dk_4 (dk_at dksX5_canCome_2 14 rfl rfl)
theorem dX5_canCome_61 : decode cX5_canCome 61 = .ok (.goto 4, 3) := dk_167 0 4 (dk_at dksX5_canCome_2 15 rfl rfl)
theorem dX5_canCome_64 : decode cX5_canCome 64 = .ok (.iconst 0, 1) := dk_3 (dk_at dksX5_canCome_2 18 rfl rfl)
theorem dX5_canCome_65 : decode cX5_canCome 65 = .ok (.ireturn, 1) := dk_172 (dk_at dksX5_canCome_2 19 rfl rfl)
theorem dX5_canCome_66 : decode cX5_canCome 66 = .ok (.iload_n 2, 1) := dk_28 (dk_at dksX5_canCome_2 20 rfl rfl)
theorem dX5_canCome_67 : decode cX5_canCome 67 = .ok (.aload_n 0, 1) := dk_42 (dk_at dksX5_canCome_2 21 rfl rfl)
theorem dX5_canCome_68 : decode cX5_canCome 68 = .ok (.getfield 102, 3) := dk_180 0 102 (dk_at dksX5_canCome_3 0 rfl rfl)
theorem dX5_canCome_71 : decode cX5_canCome 71 = .ok (.iload_n 1, 1) := dk_27 (dk_at dksX5_canCome_3 3 rfl rfl)
theorem dX5_canCome_72 : decode cX5_canCome 72 = .ok (.iaload, 1) := dk_46 (dk_at dksX5_canCome_3 4 rfl rfl)
theorem dX5_canCome_73 : decode cX5_canCome 73 = .ok (.if_icmp .eq 39, 3) := dk_159 0 39 (dk_at dksX5_canCome_3 5 rfl rfl)
theorem dX5_canCome_76 : decode cX5_canCome 76 = .ok (.aload_n 0, 1) := dk_42 (dk_at dksX5_canCome_3 8 rfl rfl)
theorem dX5_canCome_77 : decode cX5_canCome 77 = .ok (.getfield 111, 3) := dk_180 0 111 (dk_at dksX5_canCome_3 9 rfl rfl)
theorem dX5_canCome_80 : decode cX5_canCome 80 = .ok (.iload_n 1, 1) := dk_27 (dk_at dksX5_canCome_3 12 rfl rfl)
theorem dX5_canCome_81 : decode cX5_canCome 81 = .ok (.iaload, 1) := dk_46 (dk_at dksX5_canCome_3 13 rfl rfl)
theorem dX5_canCome_82 : decode cX5_canCome 82 = .ok (.bipush 8, 2) := dk_16 8 (dk_at dksX5_canCome_3 14 rfl rfl)
theorem dX5_canCome_84 : decode cX5_canCome 84 = .ok (.if_icmp .ge 28, 3) := dk_162 0 28 (dk_at dksX5_canCome_3 16 rfl rfl)
theorem dX5_canCome_87 : decode cX5_canCome 87 = .ok (.aload_n 0, 1) := dk_42 (dk_at dksX5_canCome_3 19 rfl rfl)
theorem dX5_canCome_88 : decode cX5_canCome 88 = .ok (.getfield 114, 3) := dk_180 0 114 (dk_at dksX5_canCome_3 20 rfl rfl)
theorem dX5_canCome_91 : decode cX5_canCome 91 = .ok (.bipush 8, 2) := dk_16 8 (dk_at dksX5_canCome_4 0 rfl rfl)
theorem dX5_canCome_93 : decode cX5_canCome 93 = .ok (.iload_n 1, 1) := dk_27 (dk_at dksX5_canCome_4 2 rfl rfl)
theorem dX5_canCome_94 : decode cX5_canCome 94 = .ok (.imul, 1) := dk_104 (dk_at dksX5_canCome_4 3 rfl rfl)
theorem dX5_canCome_95 : decode cX5_canCome 95 = .ok (.aload_n 0, 1) := dk_42 (dk_at dksX5_canCome_4 4 rfl rfl)
theorem dX5_canCome_96 : decode cX5_canCome 96 = .ok (.getfield 111, 3) := dk_180 0 111 (dk_at dksX5_canCome_4 5 rfl rfl)
theorem dX5_canCome_99 : decode cX5_canCome 99 = .ok (.iload_n 1, 1) := dk_27 (dk_at dksX5_canCome_4 8 rfl rfl)
theorem dX5_canCome_100 : decode cX5_canCome 100 = .ok (.iaload, 1) := dk_46 (dk_at dksX5_canCome_4 9 rfl rfl)
theorem dX5_canCome_101 : decode cX5_canCome 101 = .ok (.iload_n 2, 1) := dk_28 (dk_at dksX5_canCome_4 10 rfl rfl)
theorem dX5_canCome_102 : decode cX5_canCome 102 = .ok (.invokestatic 412, 3) := dk_184 1 156 (dk_at dksX5_canCome_4 11 rfl rfl)
theorem dX5_canCome_105 : decode cX5_canCome 105 = .ok (.ifCond .ge 7, 3) := dk_156 0 7 (dk_at dksX5_canCome_4 14 rfl rfl)
theorem dX5_canCome_108 : decode cX5_canCome 108 = .ok (.iconst 1, 1) := dk_4 (dk_at dksX5_canCome_4 17 rfl rfl)
theorem dX5_canCome_109 : decode cX5_canCome 109 = .ok (.goto 4, 3) := dk_167 0 4 (dk_at dksX5_canCome_4 18 rfl rfl)
theorem dX5_canCome_112 : decode cX5_canCome 112 = .ok (.iconst 0, 1) := dk_3 (dk_at dksX5_canCome_4 21 rfl rfl)
theorem dX5_canCome_113 : decode cX5_canCome 113 = .ok (.ireturn, 1) := dk_172 (dk_at dksX5_canCome_4 22 rfl rfl)
abbrev cX5_isStay : ByteArray := prog_20_method_49_code
def yX5_isStay : MethodName := ⟨RX5, "isStay", "(I)Z"⟩
def dkwX5_isStay_0 : List UInt8 := [27, 3, 42, 180, 1, 150, 4, 100, 184, 0, 170, 172]
abbrev dktX5_isStay_0 : List UInt8 := dkwX5_isStay_0 ++ []
theorem dksX5_isStay_0 : cX5_isStay.data.toList.drop 0 = dktX5_isStay_0 := by decide +kernel
theorem dX5_isStay_0 : decode cX5_isStay 0 = .ok (.iload_n 1, 1) := dk_27 (dk_at dksX5_isStay_0 0 rfl rfl)
theorem dX5_isStay_1 : decode cX5_isStay 1 = .ok (.iconst 0, 1) := dk_3 (dk_at dksX5_isStay_0 1 rfl rfl)
theorem dX5_isStay_2 : decode cX5_isStay 2 = .ok (.aload_n 0, 1) := dk_42 (dk_at dksX5_isStay_0 2 rfl rfl)
theorem dX5_isStay_3 : decode cX5_isStay 3 = .ok (.getfield 406, 3) := dk_180 1 150 (dk_at dksX5_isStay_0 3 rfl rfl)
theorem dX5_isStay_6 : decode cX5_isStay 6 = .ok (.iconst 1, 1) := dk_4 (dk_at dksX5_isStay_0 6 rfl rfl)
theorem dX5_isStay_7 : decode cX5_isStay 7 = .ok (.isub, 1) := dk_100 (dk_at dksX5_isStay_0 7 rfl rfl)
theorem dX5_isStay_8 : decode cX5_isStay 8 = .ok (.invokestatic 170, 3) := dk_184 0 170 (dk_at dksX5_isStay_0 8 rfl rfl)
theorem dX5_isStay_11 : decode cX5_isStay 11 = .ok (.ireturn, 1) := dk_172 (dk_at dksX5_isStay_0 11 rfl rfl)
abbrev cX5_find : ByteArray := prog_20_method_51_code
def yX5_find : MethodName := ⟨RX5, "find", "([IIII)I"⟩
def dkwX5_find_1 : List UInt8 := [132, 4, 1, 167, 255, 234, 2, 172]
abbrev dktX5_find_1 : List UInt8 := dkwX5_find_1 ++ []
def dkwX5_find_0 : List UInt8 := [3, 54, 4, 21, 4, 28, 162, 0, 22, 42, 27, 21, 4, 96, 46, 29, 160, 0, 6, 21, 4, 172]
abbrev dktX5_find_0 : List UInt8 := dkwX5_find_0 ++ dktX5_find_1
theorem dksX5_find_0 : cX5_find.data.toList.drop 0 = dktX5_find_0 := by decide +kernel
theorem dksX5_find_1 : cX5_find.data.toList.drop 22 = dktX5_find_1 := dk_seg dksX5_find_0 22 rfl rfl
theorem dX5_find_0 : decode cX5_find 0 = .ok (.iconst 0, 1) := dk_3 (dk_at dksX5_find_0 0 rfl rfl)
theorem dX5_find_1 : decode cX5_find 1 = .ok (.istore 4, 2) := dk_54 4 (dk_at dksX5_find_0 1 rfl rfl)
theorem dX5_find_3 : decode cX5_find 3 = .ok (.iload 4, 2) := dk_21 4 (dk_at dksX5_find_0 3 rfl rfl)
theorem dX5_find_5 : decode cX5_find 5 = .ok (.iload_n 2, 1) := dk_28 (dk_at dksX5_find_0 5 rfl rfl)
theorem dX5_find_6 : decode cX5_find 6 = .ok (.if_icmp .ge 22, 3) := dk_162 0 22 (dk_at dksX5_find_0 6 rfl rfl)
theorem dX5_find_9 : decode cX5_find 9 = .ok (.aload_n 0, 1) := dk_42 (dk_at dksX5_find_0 9 rfl rfl)
theorem dX5_find_10 : decode cX5_find 10 = .ok (.iload_n 1, 1) := dk_27 (dk_at dksX5_find_0 10 rfl rfl)
theorem dX5_find_11 : decode cX5_find 11 = .ok (.iload 4, 2) := dk_21 4 (dk_at dksX5_find_0 11 rfl rfl)
theorem dX5_find_13 : decode cX5_find 13 = .ok (.iadd, 1) := dk_96 (dk_at dksX5_find_0 13 rfl rfl)
theorem dX5_find_14 : decode cX5_find 14 = .ok (.iaload, 1) := dk_46 (dk_at dksX5_find_0 14 rfl rfl)
theorem dX5_find_15 : decode cX5_find 15 = .ok (.iload_n 3, 1) := dk_29 (dk_at dksX5_find_0 15 rfl rfl)
theorem dX5_find_16 : decode cX5_find 16 = .ok (.if_icmp .ne 6, 3) := dk_160 0 6 (dk_at dksX5_find_0 16 rfl rfl)
theorem dX5_find_19 : decode cX5_find 19 = .ok (.iload 4, 2) := dk_21 4 (dk_at dksX5_find_0 19 rfl rfl)
theorem dX5_find_21 : decode cX5_find 21 = .ok (.ireturn, 1) := dk_172 (dk_at dksX5_find_0 21 rfl rfl)
theorem dX5_find_22 : decode cX5_find 22 = .ok (.iinc 4 1, 3) := dk_132 4 1 (dk_at dksX5_find_1 0 rfl rfl)
theorem dX5_find_25 : decode cX5_find 25 = .ok (.goto (-22), 3) := dk_167 255 234 (dk_at dksX5_find_1 3 rfl rfl)
theorem dX5_find_28 : decode cX5_find 28 = .ok (.iconst (-1), 1) := dk_2 (dk_at dksX5_find_1 6 rfl rfl)
theorem dX5_find_29 : decode cX5_find 29 = .ok (.ireturn, 1) := dk_172 (dk_at dksX5_find_1 7 rfl rfl)
abbrev cX5_adds : ByteArray := prog_20_method_55_code
def yX5_adds : MethodName := ⟨RX5, "adds", "(II)V"⟩
def dkwX5_adds_2 : List UInt8 := [42, 180, 0, 111, 27, 46, 28, 184, 1, 160, 42, 180, 0, 111, 27, 92, 46, 4, 96, 79, 177]
abbrev dktX5_adds_2 : List UInt8 := dkwX5_adds_2 ++ []
def dkwX5_adds_1 : List UInt8 := [184, 1, 160, 42, 180, 0, 117, 27, 92, 46, 4, 96, 79, 167, 0, 31, 42, 180, 0, 114, 16, 8, 27, 104]
abbrev dktX5_adds_1 : List UInt8 := dkwX5_adds_1 ++ dktX5_adds_2
def dkwX5_adds_0 : List UInt8 := [28, 17, 3, 232, 161, 0, 34, 42, 180, 0, 120, 16, 6, 27, 104, 42, 180, 0, 117, 27, 46, 28]
abbrev dktX5_adds_0 : List UInt8 := dkwX5_adds_0 ++ dktX5_adds_1
theorem dksX5_adds_0 : cX5_adds.data.toList.drop 0 = dktX5_adds_0 := by decide +kernel
theorem dksX5_adds_1 : cX5_adds.data.toList.drop 22 = dktX5_adds_1 := dk_seg dksX5_adds_0 22 rfl rfl
theorem dksX5_adds_2 : cX5_adds.data.toList.drop 46 = dktX5_adds_2 := dk_seg dksX5_adds_1 24 rfl rfl
theorem dX5_adds_0 : decode cX5_adds 0 = .ok (.iload_n 2, 1) := dk_28 (dk_at dksX5_adds_0 0 rfl rfl)
theorem dX5_adds_1 : decode cX5_adds 1 = .ok (.sipush 1000, 3) := dk_17 3 232 (dk_at dksX5_adds_0 1 rfl rfl)
theorem dX5_adds_4 : decode cX5_adds 4 = .ok (.if_icmp .lt 34, 3) := dk_161 0 34 (dk_at dksX5_adds_0 4 rfl rfl)
theorem dX5_adds_7 : decode cX5_adds 7 = .ok (.aload_n 0, 1) := dk_42 (dk_at dksX5_adds_0 7 rfl rfl)
theorem dX5_adds_8 : decode cX5_adds 8 = .ok (.getfield 120, 3) := dk_180 0 120 (dk_at dksX5_adds_0 8 rfl rfl)
theorem dX5_adds_11 : decode cX5_adds 11 = .ok (.bipush 6, 2) := dk_16 6 (dk_at dksX5_adds_0 11 rfl rfl)
theorem dX5_adds_13 : decode cX5_adds 13 = .ok (.iload_n 1, 1) := dk_27 (dk_at dksX5_adds_0 13 rfl rfl)
theorem dX5_adds_14 : decode cX5_adds 14 = .ok (.imul, 1) := dk_104 (dk_at dksX5_adds_0 14 rfl rfl)
theorem dX5_adds_15 : decode cX5_adds 15 = .ok (.aload_n 0, 1) := dk_42 (dk_at dksX5_adds_0 15 rfl rfl)
theorem dX5_adds_16 : decode cX5_adds 16 = .ok (.getfield 117, 3) := dk_180 0 117 (dk_at dksX5_adds_0 16 rfl rfl)
theorem dX5_adds_19 : decode cX5_adds 19 = .ok (.iload_n 1, 1) := dk_27 (dk_at dksX5_adds_0 19 rfl rfl)
theorem dX5_adds_20 : decode cX5_adds 20 = .ok (.iaload, 1) := dk_46 (dk_at dksX5_adds_0 20 rfl rfl)
theorem dX5_adds_21 : decode cX5_adds 21 = .ok (.iload_n 2, 1) := dk_28 (dk_at dksX5_adds_0 21 rfl rfl)
theorem dX5_adds_22 : decode cX5_adds 22 = .ok (.invokestatic 416, 3) := dk_184 1 160 (dk_at dksX5_adds_1 0 rfl rfl)
theorem dX5_adds_25 : decode cX5_adds 25 = .ok (.aload_n 0, 1) := dk_42 (dk_at dksX5_adds_1 3 rfl rfl)
theorem dX5_adds_26 : decode cX5_adds 26 = .ok (.getfield 117, 3) := dk_180 0 117 (dk_at dksX5_adds_1 4 rfl rfl)
theorem dX5_adds_29 : decode cX5_adds 29 = .ok (.iload_n 1, 1) := dk_27 (dk_at dksX5_adds_1 7 rfl rfl)
theorem dX5_adds_30 : decode cX5_adds 30 = .ok (.dup2, 1) := dk_92 (dk_at dksX5_adds_1 8 rfl rfl)
theorem dX5_adds_31 : decode cX5_adds 31 = .ok (.iaload, 1) := dk_46 (dk_at dksX5_adds_1 9 rfl rfl)
theorem dX5_adds_32 : decode cX5_adds 32 = .ok (.iconst 1, 1) := dk_4 (dk_at dksX5_adds_1 10 rfl rfl)
theorem dX5_adds_33 : decode cX5_adds 33 = .ok (.iadd, 1) := dk_96 (dk_at dksX5_adds_1 11 rfl rfl)
theorem dX5_adds_34 : decode cX5_adds 34 = .ok (.iastore, 1) := dk_79 (dk_at dksX5_adds_1 12 rfl rfl)
theorem dX5_adds_35 : decode cX5_adds 35 = .ok (.goto 31, 3) := dk_167 0 31 (dk_at dksX5_adds_1 13 rfl rfl)
theorem dX5_adds_38 : decode cX5_adds 38 = .ok (.aload_n 0, 1) := dk_42 (dk_at dksX5_adds_1 16 rfl rfl)
theorem dX5_adds_39 : decode cX5_adds 39 = .ok (.getfield 114, 3) := dk_180 0 114 (dk_at dksX5_adds_1 17 rfl rfl)
theorem dX5_adds_42 : decode cX5_adds 42 = .ok (.bipush 8, 2) := dk_16 8 (dk_at dksX5_adds_1 20 rfl rfl)
theorem dX5_adds_44 : decode cX5_adds 44 = .ok (.iload_n 1, 1) := dk_27 (dk_at dksX5_adds_1 22 rfl rfl)
theorem dX5_adds_45 : decode cX5_adds 45 = .ok (.imul, 1) := dk_104 (dk_at dksX5_adds_1 23 rfl rfl)
theorem dX5_adds_46 : decode cX5_adds 46 = .ok (.aload_n 0, 1) := dk_42 (dk_at dksX5_adds_2 0 rfl rfl)
theorem dX5_adds_47 : decode cX5_adds 47 = .ok (.getfield 111, 3) := dk_180 0 111 (dk_at dksX5_adds_2 1 rfl rfl)
theorem dX5_adds_50 : decode cX5_adds 50 = .ok (.iload_n 1, 1) := dk_27 (dk_at dksX5_adds_2 4 rfl rfl)
theorem dX5_adds_51 : decode cX5_adds 51 = .ok (.iaload, 1) := dk_46 (dk_at dksX5_adds_2 5 rfl rfl)
theorem dX5_adds_52 : decode cX5_adds 52 = .ok (.iload_n 2, 1) := dk_28 (dk_at dksX5_adds_2 6 rfl rfl)
theorem dX5_adds_53 : decode cX5_adds 53 = .ok (.invokestatic 416, 3) := dk_184 1 160 (dk_at dksX5_adds_2 7 rfl rfl)
theorem dX5_adds_56 : decode cX5_adds 56 = .ok (.aload_n 0, 1) := dk_42 (dk_at dksX5_adds_2 10 rfl rfl)
theorem dX5_adds_57 : decode cX5_adds 57 = .ok (.getfield 111, 3) := dk_180 0 111 (dk_at dksX5_adds_2 11 rfl rfl)
theorem dX5_adds_60 : decode cX5_adds 60 = .ok (.iload_n 1, 1) := dk_27 (dk_at dksX5_adds_2 14 rfl rfl)
theorem dX5_adds_61 : decode cX5_adds 61 = .ok (.dup2, 1) := dk_92 (dk_at dksX5_adds_2 15 rfl rfl)
theorem dX5_adds_62 : decode cX5_adds 62 = .ok (.iaload, 1) := dk_46 (dk_at dksX5_adds_2 16 rfl rfl)
theorem dX5_adds_63 : decode cX5_adds 63 = .ok (.iconst 1, 1) := dk_4 (dk_at dksX5_adds_2 17 rfl rfl)
theorem dX5_adds_64 : decode cX5_adds 64 = .ok (.iadd, 1) := dk_96 (dk_at dksX5_adds_2 18 rfl rfl)
theorem dX5_adds_65 : decode cX5_adds 65 = .ok (.iastore, 1) := dk_79 (dk_at dksX5_adds_2 19 rfl rfl)
theorem dX5_adds_66 : decode cX5_adds 66 = .ok (.return_, 1) := dk_177 (dk_at dksX5_adds_2 20 rfl rfl)
abbrev cX5_comes : ByteArray := prog_20_method_53_code
def yX5_comes : MethodName := ⟨RX5, "comes", "([IIII)V"⟩
def dkwX5_comes_1 : List UInt8 := [96, 42, 27, 21, 4, 96, 4, 100, 46, 79, 132, 4, 255, 167, 255, 222, 42, 27, 21, 4, 96, 29, 79, 177]
abbrev dktX5_comes_1 : List UInt8 := dkwX5_comes_1 ++ []
def dkwX5_comes_0 : List UInt8 := [28, 54, 4, 21, 4, 158, 0, 35, 42, 27, 21, 4, 96, 4, 100, 46, 29, 164, 0, 23, 42, 27, 21, 4]
abbrev dktX5_comes_0 : List UInt8 := dkwX5_comes_0 ++ dktX5_comes_1
theorem dksX5_comes_0 : cX5_comes.data.toList.drop 0 = dktX5_comes_0 := by decide +kernel
theorem dksX5_comes_1 : cX5_comes.data.toList.drop 24 = dktX5_comes_1 := dk_seg dksX5_comes_0 24 rfl rfl
theorem dX5_comes_0 : decode cX5_comes 0 = .ok (.iload_n 2, 1) := dk_28 (dk_at dksX5_comes_0 0 rfl rfl)
theorem dX5_comes_1 : decode cX5_comes 1 = .ok (.istore 4, 2) := dk_54 4 (dk_at dksX5_comes_0 1 rfl rfl)
theorem dX5_comes_3 : decode cX5_comes 3 = .ok (.iload 4, 2) := dk_21 4 (dk_at dksX5_comes_0 3 rfl rfl)
theorem dX5_comes_5 : decode cX5_comes 5 = .ok (.ifCond .le 35, 3) := dk_158 0 35 (dk_at dksX5_comes_0 5 rfl rfl)
theorem dX5_comes_8 : decode cX5_comes 8 = .ok (.aload_n 0, 1) := dk_42 (dk_at dksX5_comes_0 8 rfl rfl)
theorem dX5_comes_9 : decode cX5_comes 9 = .ok (.iload_n 1, 1) := dk_27 (dk_at dksX5_comes_0 9 rfl rfl)
theorem dX5_comes_10 : decode cX5_comes 10 = .ok (.iload 4, 2) := dk_21 4 (dk_at dksX5_comes_0 10 rfl rfl)
theorem dX5_comes_12 : decode cX5_comes 12 = .ok (.iadd, 1) := dk_96 (dk_at dksX5_comes_0 12 rfl rfl)
theorem dX5_comes_13 : decode cX5_comes 13 = .ok (.iconst 1, 1) := dk_4 (dk_at dksX5_comes_0 13 rfl rfl)
theorem dX5_comes_14 : decode cX5_comes 14 = .ok (.isub, 1) := dk_100 (dk_at dksX5_comes_0 14 rfl rfl)
theorem dX5_comes_15 : decode cX5_comes 15 = .ok (.iaload, 1) := dk_46 (dk_at dksX5_comes_0 15 rfl rfl)
theorem dX5_comes_16 : decode cX5_comes 16 = .ok (.iload_n 3, 1) := dk_29 (dk_at dksX5_comes_0 16 rfl rfl)
theorem dX5_comes_17 : decode cX5_comes 17 = .ok (.if_icmp .le 23, 3) := dk_164 0 23 (dk_at dksX5_comes_0 17 rfl rfl)
theorem dX5_comes_20 : decode cX5_comes 20 = .ok (.aload_n 0, 1) := dk_42 (dk_at dksX5_comes_0 20 rfl rfl)
theorem dX5_comes_21 : decode cX5_comes 21 = .ok (.iload_n 1, 1) := dk_27 (dk_at dksX5_comes_0 21 rfl rfl)
theorem dX5_comes_22 : decode cX5_comes 22 = .ok (.iload 4, 2) := dk_21 4 (dk_at dksX5_comes_0 22 rfl rfl)
theorem dX5_comes_24 : decode cX5_comes 24 = .ok (.iadd, 1) := dk_96 (dk_at dksX5_comes_1 0 rfl rfl)
theorem dX5_comes_25 : decode cX5_comes 25 = .ok (.aload_n 0, 1) := dk_42 (dk_at dksX5_comes_1 1 rfl rfl)
theorem dX5_comes_26 : decode cX5_comes 26 = .ok (.iload_n 1, 1) := dk_27 (dk_at dksX5_comes_1 2 rfl rfl)
theorem dX5_comes_27 : decode cX5_comes 27 = .ok (.iload 4, 2) := dk_21 4 (dk_at dksX5_comes_1 3 rfl rfl)
theorem dX5_comes_29 : decode cX5_comes 29 = .ok (.iadd, 1) := dk_96 (dk_at dksX5_comes_1 5 rfl rfl)
theorem dX5_comes_30 : decode cX5_comes 30 = .ok (.iconst 1, 1) := dk_4 (dk_at dksX5_comes_1 6 rfl rfl)
theorem dX5_comes_31 : decode cX5_comes 31 = .ok (.isub, 1) := dk_100 (dk_at dksX5_comes_1 7 rfl rfl)
theorem dX5_comes_32 : decode cX5_comes 32 = .ok (.iaload, 1) := dk_46 (dk_at dksX5_comes_1 8 rfl rfl)
theorem dX5_comes_33 : decode cX5_comes 33 = .ok (.iastore, 1) := dk_79 (dk_at dksX5_comes_1 9 rfl rfl)
theorem dX5_comes_34 : decode cX5_comes 34 = .ok (.iinc 4 (-1), 3) := dk_132 4 255 (dk_at dksX5_comes_1 10 rfl rfl)
theorem dX5_comes_37 : decode cX5_comes 37 = .ok (.goto (-34), 3) := dk_167 255 222 (dk_at dksX5_comes_1 13 rfl rfl)
theorem dX5_comes_40 : decode cX5_comes 40 = .ok (.aload_n 0, 1) := dk_42 (dk_at dksX5_comes_1 16 rfl rfl)
theorem dX5_comes_41 : decode cX5_comes 41 = .ok (.iload_n 1, 1) := dk_27 (dk_at dksX5_comes_1 17 rfl rfl)
theorem dX5_comes_42 : decode cX5_comes 42 = .ok (.iload 4, 2) := dk_21 4 (dk_at dksX5_comes_1 18 rfl rfl)
theorem dX5_comes_44 : decode cX5_comes 44 = .ok (.iadd, 1) := dk_96 (dk_at dksX5_comes_1 20 rfl rfl)
theorem dX5_comes_45 : decode cX5_comes 45 = .ok (.iload_n 3, 1) := dk_29 (dk_at dksX5_comes_1 21 rfl rfl)
theorem dX5_comes_46 : decode cX5_comes 46 = .ok (.iastore, 1) := dk_79 (dk_at dksX5_comes_1 22 rfl rfl)
theorem dX5_comes_47 : decode cX5_comes 47 = .ok (.return_, 1) := dk_177 (dk_at dksX5_comes_1 23 rfl rfl)
abbrev cX5_drop : ByteArray := prog_20_method_59_code
def yX5_drop : MethodName := ⟨RX5, "drop", "(II)Z"⟩
def dkwX5_drop_0 : List UInt8 := [42, 3, 181, 0, 160, 42, 27, 28, 182, 1, 174, 154, 0, 5, 3, 172, 42, 27, 28, 182, 1, 177, 4, 172]
abbrev dktX5_drop_0 : List UInt8 := dkwX5_drop_0 ++ []
theorem dksX5_drop_0 : cX5_drop.data.toList.drop 0 = dktX5_drop_0 := by decide +kernel
theorem dX5_drop_0 : decode cX5_drop 0 = .ok (.aload_n 0, 1) := dk_42 (dk_at dksX5_drop_0 0 rfl rfl)
theorem dX5_drop_1 : decode cX5_drop 1 = .ok (.iconst 0, 1) := dk_3 (dk_at dksX5_drop_0 1 rfl rfl)
theorem dX5_drop_2 : decode cX5_drop 2 = .ok (.putfield 160, 3) := dk_181 0 160 (dk_at dksX5_drop_0 2 rfl rfl)
theorem dX5_drop_5 : decode cX5_drop 5 = .ok (.aload_n 0, 1) := dk_42 (dk_at dksX5_drop_0 5 rfl rfl)
theorem dX5_drop_6 : decode cX5_drop 6 = .ok (.iload_n 1, 1) := dk_27 (dk_at dksX5_drop_0 6 rfl rfl)
theorem dX5_drop_7 : decode cX5_drop 7 = .ok (.iload_n 2, 1) := dk_28 (dk_at dksX5_drop_0 7 rfl rfl)
theorem dX5_drop_8 : decode cX5_drop 8 = .ok (.invokevirtual 430, 3) := dk_182 1 174 (dk_at dksX5_drop_0 8 rfl rfl)
theorem dX5_drop_11 : decode cX5_drop 11 = .ok (.ifCond .ne 5, 3) := dk_154 0 5 (dk_at dksX5_drop_0 11 rfl rfl)
theorem dX5_drop_14 : decode cX5_drop 14 = .ok (.iconst 0, 1) := dk_3 (dk_at dksX5_drop_0 14 rfl rfl)
theorem dX5_drop_15 : decode cX5_drop 15 = .ok (.ireturn, 1) := dk_172 (dk_at dksX5_drop_0 15 rfl rfl)
theorem dX5_drop_16 : decode cX5_drop 16 = .ok (.aload_n 0, 1) := dk_42 (dk_at dksX5_drop_0 16 rfl rfl)
theorem dX5_drop_17 : decode cX5_drop 17 = .ok (.iload_n 1, 1) := dk_27 (dk_at dksX5_drop_0 17 rfl rfl)
theorem dX5_drop_18 : decode cX5_drop 18 = .ok (.iload_n 2, 1) := dk_28 (dk_at dksX5_drop_0 18 rfl rfl)
theorem dX5_drop_19 : decode cX5_drop 19 = .ok (.invokevirtual 433, 3) := dk_182 1 177 (dk_at dksX5_drop_0 19 rfl rfl)
theorem dX5_drop_22 : decode cX5_drop 22 = .ok (.iconst 1, 1) := dk_4 (dk_at dksX5_drop_0 22 rfl rfl)
theorem dX5_drop_23 : decode cX5_drop 23 = .ok (.ireturn, 1) := dk_172 (dk_at dksX5_drop_0 23 rfl rfl)
abbrev cX5_canGo : ByteArray := prog_20_method_57_code
def yX5_canGo : MethodName := ⟨RX5, "canGo", "(II)Z"⟩
def dkwX5_canGo_3 : List UInt8 := [3, 172]
abbrev dktX5_canGo_3 : List UInt8 := dkwX5_canGo_3 ++ []
def dkwX5_canGo_2 : List UInt8 := [180, 0, 114, 16, 8, 27, 104, 42, 180, 0, 111, 27, 46, 28, 184, 1, 156, 155, 0, 7, 4, 167, 0, 4]
abbrev dktX5_canGo_2 : List UInt8 := dkwX5_canGo_2 ++ dktX5_canGo_3
def dkwX5_canGo_1 : List UInt8 := [104, 42, 180, 0, 117, 27, 46, 28, 184, 1, 156, 155, 0, 7, 4, 167, 0, 33, 3, 167, 0, 29, 42]
abbrev dktX5_canGo_1 : List UInt8 := dkwX5_canGo_1 ++ dktX5_canGo_2
def dkwX5_canGo_0 : List UInt8 := [42, 27, 182, 1, 153, 154, 0, 5, 3, 172, 28, 17, 3, 232, 161, 0, 32, 42, 180, 0, 120, 16, 6, 27]
abbrev dktX5_canGo_0 : List UInt8 := dkwX5_canGo_0 ++ dktX5_canGo_1
theorem dksX5_canGo_0 : cX5_canGo.data.toList.drop 0 = dktX5_canGo_0 := by decide +kernel
theorem dksX5_canGo_1 : cX5_canGo.data.toList.drop 24 = dktX5_canGo_1 := dk_seg dksX5_canGo_0 24 rfl rfl
theorem dksX5_canGo_2 : cX5_canGo.data.toList.drop 47 = dktX5_canGo_2 := dk_seg dksX5_canGo_1 23 rfl rfl
theorem dksX5_canGo_3 : cX5_canGo.data.toList.drop 71 = dktX5_canGo_3 := dk_seg dksX5_canGo_2 24 rfl rfl
theorem dX5_canGo_0 : decode cX5_canGo 0 = .ok (.aload_n 0, 1) := dk_42 (dk_at dksX5_canGo_0 0 rfl rfl)
theorem dX5_canGo_1 : decode cX5_canGo 1 = .ok (.iload_n 1, 1) := dk_27 (dk_at dksX5_canGo_0 1 rfl rfl)
theorem dX5_canGo_2 : decode cX5_canGo 2 = .ok (.invokevirtual 409, 3) := dk_182 1 153 (dk_at dksX5_canGo_0 2 rfl rfl)
theorem dX5_canGo_5 : decode cX5_canGo 5 = .ok (.ifCond .ne 5, 3) := dk_154 0 5 (dk_at dksX5_canGo_0 5 rfl rfl)
theorem dX5_canGo_8 : decode cX5_canGo 8 = .ok (.iconst 0, 1) := dk_3 (dk_at dksX5_canGo_0 8 rfl rfl)
theorem dX5_canGo_9 : decode cX5_canGo 9 = .ok (.ireturn, 1) := dk_172 (dk_at dksX5_canGo_0 9 rfl rfl)
theorem dX5_canGo_10 : decode cX5_canGo 10 = .ok (.iload_n 2, 1) := dk_28 (dk_at dksX5_canGo_0 10 rfl rfl)
theorem dX5_canGo_11 : decode cX5_canGo 11 = .ok (.sipush 1000, 3) := dk_17 3 232 (dk_at dksX5_canGo_0 11 rfl rfl)
theorem dX5_canGo_14 : decode cX5_canGo 14 = .ok (.if_icmp .lt 32, 3) := dk_161 0 32 (dk_at dksX5_canGo_0 14 rfl rfl)
theorem dX5_canGo_17 : decode cX5_canGo 17 = .ok (.aload_n 0, 1) := dk_42 (dk_at dksX5_canGo_0 17 rfl rfl)
theorem dX5_canGo_18 : decode cX5_canGo 18 = .ok (.getfield 120, 3) := dk_180 0 120 (dk_at dksX5_canGo_0 18 rfl rfl)
theorem dX5_canGo_21 : decode cX5_canGo 21 = .ok (.bipush 6, 2) := dk_16 6 (dk_at dksX5_canGo_0 21 rfl rfl)
theorem dX5_canGo_23 : decode cX5_canGo 23 = .ok (.iload_n 1, 1) := dk_27 (dk_at dksX5_canGo_0 23 rfl rfl)
theorem dX5_canGo_24 : decode cX5_canGo 24 = .ok (.imul, 1) := dk_104 (dk_at dksX5_canGo_1 0 rfl rfl)
theorem dX5_canGo_25 : decode cX5_canGo 25 = .ok (.aload_n 0, 1) := dk_42 (dk_at dksX5_canGo_1 1 rfl rfl)
theorem dX5_canGo_26 : decode cX5_canGo 26 = .ok (.getfield 117, 3) := dk_180 0 117 (dk_at dksX5_canGo_1 2 rfl rfl)
theorem dX5_canGo_29 : decode cX5_canGo 29 = .ok (.iload_n 1, 1) := dk_27 (dk_at dksX5_canGo_1 5 rfl rfl)
theorem dX5_canGo_30 : decode cX5_canGo 30 = .ok (.iaload, 1) := dk_46 (dk_at dksX5_canGo_1 6 rfl rfl)
theorem dX5_canGo_31 : decode cX5_canGo 31 = .ok (.iload_n 2, 1) := dk_28 (dk_at dksX5_canGo_1 7 rfl rfl)
theorem dX5_canGo_32 : decode cX5_canGo 32 = .ok (.invokestatic 412, 3) := dk_184 1 156 (dk_at dksX5_canGo_1 8 rfl rfl)
theorem dX5_canGo_35 : decode cX5_canGo 35 = .ok (.ifCond .lt 7, 3) := dk_155 0 7 (dk_at dksX5_canGo_1 11 rfl rfl)
theorem dX5_canGo_38 : decode cX5_canGo 38 = .ok (.iconst 1, 1) := dk_4 (dk_at dksX5_canGo_1 14 rfl rfl)
theorem dX5_canGo_39 : decode cX5_canGo 39 = .ok (.goto 33, 3) := dk_167 0 33 (dk_at dksX5_canGo_1 15 rfl rfl)
theorem dX5_canGo_42 : decode cX5_canGo 42 = .ok (.iconst 0, 1) := dk_3 (dk_at dksX5_canGo_1 18 rfl rfl)
theorem dX5_canGo_43 : decode cX5_canGo 43 = .ok (.goto 29, 3) := dk_167 0 29 (dk_at dksX5_canGo_1 19 rfl rfl)
theorem dX5_canGo_46 : decode cX5_canGo 46 = .ok (.aload_n 0, 1) := dk_42 (dk_at dksX5_canGo_1 22 rfl rfl)
theorem dX5_canGo_47 : decode cX5_canGo 47 = .ok (.getfield 114, 3) := dk_180 0 114 (dk_at dksX5_canGo_2 0 rfl rfl)
theorem dX5_canGo_50 : decode cX5_canGo 50 = .ok (.bipush 8, 2) := dk_16 8 (dk_at dksX5_canGo_2 3 rfl rfl)
theorem dX5_canGo_52 : decode cX5_canGo 52 = .ok (.iload_n 1, 1) := dk_27 (dk_at dksX5_canGo_2 5 rfl rfl)
theorem dX5_canGo_53 : decode cX5_canGo 53 = .ok (.imul, 1) := dk_104 (dk_at dksX5_canGo_2 6 rfl rfl)
theorem dX5_canGo_54 : decode cX5_canGo 54 = .ok (.aload_n 0, 1) := dk_42 (dk_at dksX5_canGo_2 7 rfl rfl)
theorem dX5_canGo_55 : decode cX5_canGo 55 = .ok (.getfield 111, 3) := dk_180 0 111 (dk_at dksX5_canGo_2 8 rfl rfl)
theorem dX5_canGo_58 : decode cX5_canGo 58 = .ok (.iload_n 1, 1) := dk_27 (dk_at dksX5_canGo_2 11 rfl rfl)
theorem dX5_canGo_59 : decode cX5_canGo 59 = .ok (.iaload, 1) := dk_46 (dk_at dksX5_canGo_2 12 rfl rfl)
theorem dX5_canGo_60 : decode cX5_canGo 60 = .ok (.iload_n 2, 1) := dk_28 (dk_at dksX5_canGo_2 13 rfl rfl)
theorem dX5_canGo_61 : decode cX5_canGo 61 = .ok (.invokestatic 412, 3) := dk_184 1 156 (dk_at dksX5_canGo_2 14 rfl rfl)
theorem dX5_canGo_64 : decode cX5_canGo 64 = .ok (.ifCond .lt 7, 3) := dk_155 0 7 (dk_at dksX5_canGo_2 17 rfl rfl)
theorem dX5_canGo_67 : decode cX5_canGo 67 = .ok (.iconst 1, 1) := dk_4 (dk_at dksX5_canGo_2 20 rfl rfl)
theorem dX5_canGo_68 : decode cX5_canGo 68 = .ok (.goto 4, 3) := dk_167 0 4 (dk_at dksX5_canGo_2 21 rfl rfl)
theorem dX5_canGo_71 : decode cX5_canGo 71 = .ok (.iconst 0, 1) := dk_3 (dk_at dksX5_canGo_3 0 rfl rfl)
theorem dX5_canGo_72 : decode cX5_canGo 72 = .ok (.ireturn, 1) := dk_172 (dk_at dksX5_canGo_3 1 rfl rfl)
abbrev cX5_takes : ByteArray := prog_20_method_56_code
def yX5_takes : MethodName := ⟨RX5, "takes", "(II)V"⟩
def dkwX5_takes_2 : List UInt8 := [42, 180, 0, 111, 27, 46, 28, 184, 1, 164, 42, 180, 0, 111, 27, 92, 46, 4, 100, 79, 177]
abbrev dktX5_takes_2 : List UInt8 := dkwX5_takes_2 ++ []
def dkwX5_takes_1 : List UInt8 := [184, 1, 164, 42, 180, 0, 117, 27, 92, 46, 4, 100, 79, 167, 0, 31, 42, 180, 0, 114, 16, 8, 27, 104]
abbrev dktX5_takes_1 : List UInt8 := dkwX5_takes_1 ++ dktX5_takes_2
def dkwX5_takes_0 : List UInt8 := [28, 17, 3, 232, 161, 0, 34, 42, 180, 0, 120, 16, 6, 27, 104, 42, 180, 0, 117, 27, 46, 28]
abbrev dktX5_takes_0 : List UInt8 := dkwX5_takes_0 ++ dktX5_takes_1
theorem dksX5_takes_0 : cX5_takes.data.toList.drop 0 = dktX5_takes_0 := by decide +kernel
theorem dksX5_takes_1 : cX5_takes.data.toList.drop 22 = dktX5_takes_1 := dk_seg dksX5_takes_0 22 rfl rfl
theorem dksX5_takes_2 : cX5_takes.data.toList.drop 46 = dktX5_takes_2 := dk_seg dksX5_takes_1 24 rfl rfl
theorem dX5_takes_0 : decode cX5_takes 0 = .ok (.iload_n 2, 1) := dk_28 (dk_at dksX5_takes_0 0 rfl rfl)
theorem dX5_takes_1 : decode cX5_takes 1 = .ok (.sipush 1000, 3) := dk_17 3 232 (dk_at dksX5_takes_0 1 rfl rfl)
theorem dX5_takes_4 : decode cX5_takes 4 = .ok (.if_icmp .lt 34, 3) := dk_161 0 34 (dk_at dksX5_takes_0 4 rfl rfl)
theorem dX5_takes_7 : decode cX5_takes 7 = .ok (.aload_n 0, 1) := dk_42 (dk_at dksX5_takes_0 7 rfl rfl)
theorem dX5_takes_8 : decode cX5_takes 8 = .ok (.getfield 120, 3) := dk_180 0 120 (dk_at dksX5_takes_0 8 rfl rfl)
theorem dX5_takes_11 : decode cX5_takes 11 = .ok (.bipush 6, 2) := dk_16 6 (dk_at dksX5_takes_0 11 rfl rfl)
theorem dX5_takes_13 : decode cX5_takes 13 = .ok (.iload_n 1, 1) := dk_27 (dk_at dksX5_takes_0 13 rfl rfl)
theorem dX5_takes_14 : decode cX5_takes 14 = .ok (.imul, 1) := dk_104 (dk_at dksX5_takes_0 14 rfl rfl)
theorem dX5_takes_15 : decode cX5_takes 15 = .ok (.aload_n 0, 1) := dk_42 (dk_at dksX5_takes_0 15 rfl rfl)
theorem dX5_takes_16 : decode cX5_takes 16 = .ok (.getfield 117, 3) := dk_180 0 117 (dk_at dksX5_takes_0 16 rfl rfl)
theorem dX5_takes_19 : decode cX5_takes 19 = .ok (.iload_n 1, 1) := dk_27 (dk_at dksX5_takes_0 19 rfl rfl)
theorem dX5_takes_20 : decode cX5_takes 20 = .ok (.iaload, 1) := dk_46 (dk_at dksX5_takes_0 20 rfl rfl)
theorem dX5_takes_21 : decode cX5_takes 21 = .ok (.iload_n 2, 1) := dk_28 (dk_at dksX5_takes_0 21 rfl rfl)
theorem dX5_takes_22 : decode cX5_takes 22 = .ok (.invokestatic 420, 3) := dk_184 1 164 (dk_at dksX5_takes_1 0 rfl rfl)
theorem dX5_takes_25 : decode cX5_takes 25 = .ok (.aload_n 0, 1) := dk_42 (dk_at dksX5_takes_1 3 rfl rfl)
theorem dX5_takes_26 : decode cX5_takes 26 = .ok (.getfield 117, 3) := dk_180 0 117 (dk_at dksX5_takes_1 4 rfl rfl)
theorem dX5_takes_29 : decode cX5_takes 29 = .ok (.iload_n 1, 1) := dk_27 (dk_at dksX5_takes_1 7 rfl rfl)
theorem dX5_takes_30 : decode cX5_takes 30 = .ok (.dup2, 1) := dk_92 (dk_at dksX5_takes_1 8 rfl rfl)
theorem dX5_takes_31 : decode cX5_takes 31 = .ok (.iaload, 1) := dk_46 (dk_at dksX5_takes_1 9 rfl rfl)
theorem dX5_takes_32 : decode cX5_takes 32 = .ok (.iconst 1, 1) := dk_4 (dk_at dksX5_takes_1 10 rfl rfl)
theorem dX5_takes_33 : decode cX5_takes 33 = .ok (.isub, 1) := dk_100 (dk_at dksX5_takes_1 11 rfl rfl)
theorem dX5_takes_34 : decode cX5_takes 34 = .ok (.iastore, 1) := dk_79 (dk_at dksX5_takes_1 12 rfl rfl)
theorem dX5_takes_35 : decode cX5_takes 35 = .ok (.goto 31, 3) := dk_167 0 31 (dk_at dksX5_takes_1 13 rfl rfl)
theorem dX5_takes_38 : decode cX5_takes 38 = .ok (.aload_n 0, 1) := dk_42 (dk_at dksX5_takes_1 16 rfl rfl)
theorem dX5_takes_39 : decode cX5_takes 39 = .ok (.getfield 114, 3) := dk_180 0 114 (dk_at dksX5_takes_1 17 rfl rfl)
theorem dX5_takes_42 : decode cX5_takes 42 = .ok (.bipush 8, 2) := dk_16 8 (dk_at dksX5_takes_1 20 rfl rfl)
theorem dX5_takes_44 : decode cX5_takes 44 = .ok (.iload_n 1, 1) := dk_27 (dk_at dksX5_takes_1 22 rfl rfl)
theorem dX5_takes_45 : decode cX5_takes 45 = .ok (.imul, 1) := dk_104 (dk_at dksX5_takes_1 23 rfl rfl)
theorem dX5_takes_46 : decode cX5_takes 46 = .ok (.aload_n 0, 1) := dk_42 (dk_at dksX5_takes_2 0 rfl rfl)
theorem dX5_takes_47 : decode cX5_takes 47 = .ok (.getfield 111, 3) := dk_180 0 111 (dk_at dksX5_takes_2 1 rfl rfl)
theorem dX5_takes_50 : decode cX5_takes 50 = .ok (.iload_n 1, 1) := dk_27 (dk_at dksX5_takes_2 4 rfl rfl)
theorem dX5_takes_51 : decode cX5_takes 51 = .ok (.iaload, 1) := dk_46 (dk_at dksX5_takes_2 5 rfl rfl)
theorem dX5_takes_52 : decode cX5_takes 52 = .ok (.iload_n 2, 1) := dk_28 (dk_at dksX5_takes_2 6 rfl rfl)
theorem dX5_takes_53 : decode cX5_takes 53 = .ok (.invokestatic 420, 3) := dk_184 1 164 (dk_at dksX5_takes_2 7 rfl rfl)
theorem dX5_takes_56 : decode cX5_takes 56 = .ok (.aload_n 0, 1) := dk_42 (dk_at dksX5_takes_2 10 rfl rfl)
theorem dX5_takes_57 : decode cX5_takes 57 = .ok (.getfield 111, 3) := dk_180 0 111 (dk_at dksX5_takes_2 11 rfl rfl)
theorem dX5_takes_60 : decode cX5_takes 60 = .ok (.iload_n 1, 1) := dk_27 (dk_at dksX5_takes_2 14 rfl rfl)
theorem dX5_takes_61 : decode cX5_takes 61 = .ok (.dup2, 1) := dk_92 (dk_at dksX5_takes_2 15 rfl rfl)
theorem dX5_takes_62 : decode cX5_takes 62 = .ok (.iaload, 1) := dk_46 (dk_at dksX5_takes_2 16 rfl rfl)
theorem dX5_takes_63 : decode cX5_takes 63 = .ok (.iconst 1, 1) := dk_4 (dk_at dksX5_takes_2 17 rfl rfl)
theorem dX5_takes_64 : decode cX5_takes 64 = .ok (.isub, 1) := dk_100 (dk_at dksX5_takes_2 18 rfl rfl)
theorem dX5_takes_65 : decode cX5_takes 65 = .ok (.iastore, 1) := dk_79 (dk_at dksX5_takes_2 19 rfl rfl)
theorem dX5_takes_66 : decode cX5_takes 66 = .ok (.return_, 1) := dk_177 (dk_at dksX5_takes_2 20 rfl rfl)
abbrev cX5_goes : ByteArray := prog_20_method_54_code
def yX5_goes : MethodName := ⟨RX5, "goes", "([IIII)V"⟩
def dkwX5_goes_1 : List UInt8 := [21, 5, 96, 42, 27, 21, 5, 96, 4, 96, 46, 79, 132, 5, 1, 167, 255, 231, 177]
abbrev dktX5_goes_1 : List UInt8 := dkwX5_goes_1 ++ []
def dkwX5_goes_0 : List UInt8 := [42, 27, 28, 29, 184, 1, 156, 54, 4, 21, 4, 54, 5, 21, 5, 4, 96, 28, 162, 0, 23, 42, 27]
abbrev dktX5_goes_0 : List UInt8 := dkwX5_goes_0 ++ dktX5_goes_1
theorem dksX5_goes_0 : cX5_goes.data.toList.drop 0 = dktX5_goes_0 := by decide +kernel
theorem dksX5_goes_1 : cX5_goes.data.toList.drop 23 = dktX5_goes_1 := dk_seg dksX5_goes_0 23 rfl rfl
theorem dX5_goes_0 : decode cX5_goes 0 = .ok (.aload_n 0, 1) := dk_42 (dk_at dksX5_goes_0 0 rfl rfl)
theorem dX5_goes_1 : decode cX5_goes 1 = .ok (.iload_n 1, 1) := dk_27 (dk_at dksX5_goes_0 1 rfl rfl)
theorem dX5_goes_2 : decode cX5_goes 2 = .ok (.iload_n 2, 1) := dk_28 (dk_at dksX5_goes_0 2 rfl rfl)
theorem dX5_goes_3 : decode cX5_goes 3 = .ok (.iload_n 3, 1) := dk_29 (dk_at dksX5_goes_0 3 rfl rfl)
theorem dX5_goes_4 : decode cX5_goes 4 = .ok (.invokestatic 412, 3) := dk_184 1 156 (dk_at dksX5_goes_0 4 rfl rfl)
theorem dX5_goes_7 : decode cX5_goes 7 = .ok (.istore 4, 2) := dk_54 4 (dk_at dksX5_goes_0 7 rfl rfl)
theorem dX5_goes_9 : decode cX5_goes 9 = .ok (.iload 4, 2) := dk_21 4 (dk_at dksX5_goes_0 9 rfl rfl)
theorem dX5_goes_11 : decode cX5_goes 11 = .ok (.istore 5, 2) := dk_54 5 (dk_at dksX5_goes_0 11 rfl rfl)
theorem dX5_goes_13 : decode cX5_goes 13 = .ok (.iload 5, 2) := dk_21 5 (dk_at dksX5_goes_0 13 rfl rfl)
theorem dX5_goes_15 : decode cX5_goes 15 = .ok (.iconst 1, 1) := dk_4 (dk_at dksX5_goes_0 15 rfl rfl)
theorem dX5_goes_16 : decode cX5_goes 16 = .ok (.iadd, 1) := dk_96 (dk_at dksX5_goes_0 16 rfl rfl)
theorem dX5_goes_17 : decode cX5_goes 17 = .ok (.iload_n 2, 1) := dk_28 (dk_at dksX5_goes_0 17 rfl rfl)
theorem dX5_goes_18 : decode cX5_goes 18 = .ok (.if_icmp .ge 23, 3) := dk_162 0 23 (dk_at dksX5_goes_0 18 rfl rfl)
theorem dX5_goes_21 : decode cX5_goes 21 = .ok (.aload_n 0, 1) := dk_42 (dk_at dksX5_goes_0 21 rfl rfl)
theorem dX5_goes_22 : decode cX5_goes 22 = .ok (.iload_n 1, 1) := dk_27 (dk_at dksX5_goes_0 22 rfl rfl)
theorem dX5_goes_23 : decode cX5_goes 23 = .ok (.iload 5, 2) := dk_21 5 (dk_at dksX5_goes_1 0 rfl rfl)
theorem dX5_goes_25 : decode cX5_goes 25 = .ok (.iadd, 1) := dk_96 (dk_at dksX5_goes_1 2 rfl rfl)
theorem dX5_goes_26 : decode cX5_goes 26 = .ok (.aload_n 0, 1) := dk_42 (dk_at dksX5_goes_1 3 rfl rfl)
theorem dX5_goes_27 : decode cX5_goes 27 = .ok (.iload_n 1, 1) := dk_27 (dk_at dksX5_goes_1 4 rfl rfl)
theorem dX5_goes_28 : decode cX5_goes 28 = .ok (.iload 5, 2) := dk_21 5 (dk_at dksX5_goes_1 5 rfl rfl)
theorem dX5_goes_30 : decode cX5_goes 30 = .ok (.iadd, 1) := dk_96 (dk_at dksX5_goes_1 7 rfl rfl)
theorem dX5_goes_31 : decode cX5_goes 31 = .ok (.iconst 1, 1) := dk_4 (dk_at dksX5_goes_1 8 rfl rfl)
theorem dX5_goes_32 : decode cX5_goes 32 = .ok (.iadd, 1) := dk_96 (dk_at dksX5_goes_1 9 rfl rfl)
theorem dX5_goes_33 : decode cX5_goes 33 = .ok (.iaload, 1) := dk_46 (dk_at dksX5_goes_1 10 rfl rfl)
theorem dX5_goes_34 : decode cX5_goes 34 = .ok (.iastore, 1) := dk_79 (dk_at dksX5_goes_1 11 rfl rfl)
theorem dX5_goes_35 : decode cX5_goes 35 = .ok (.iinc 5 1, 3) := dk_132 5 1 (dk_at dksX5_goes_1 12 rfl rfl)
theorem dX5_goes_38 : decode cX5_goes 38 = .ok (.goto (-25), 3) := dk_167 255 231 (dk_at dksX5_goes_1 15 rfl rfl)
theorem dX5_goes_41 : decode cX5_goes 41 = .ok (.return_, 1) := dk_177 (dk_at dksX5_goes_1 18 rfl rfl)
abbrev cX5_alter : ByteArray := prog_20_method_60_code
def yX5_alter : MethodName := ⟨RX5, "alter", "(III)I"⟩
def dkwX5_alter_6 : List UInt8 := [180, 0, 108, 27, 29, 79, 21, 4, 172]
abbrev dktX5_alter_6 : List UInt8 := dkwX5_alter_6 ++ []
def dkwX5_alter_5 : List UInt8 := [27, 46, 54, 4, 42, 180, 0, 105, 27, 29, 79, 167, 0, 18, 42, 180, 0, 108, 27, 46, 54, 4, 42]
abbrev dktX5_alter_5 : List UInt8 := dkwX5_alter_5 ++ dktX5_alter_6
def dkwX5_alter_4 : List UInt8 := [182, 1, 174, 153, 0, 50, 42, 27, 29, 182, 1, 177, 167, 0, 41, 28, 4, 160, 0, 21, 42, 180, 0, 105]
abbrev dktX5_alter_4 : List UInt8 := dkwX5_alter_4 ++ dktX5_alter_5
def dkwX5_alter_3 : List UInt8 := [172, 28, 154, 0, 36, 42, 180, 0, 102, 27, 46, 54, 4, 42, 180, 0, 102, 27, 29, 79, 42, 27, 29]
abbrev dktX5_alter_3 : List UInt8 := dkwX5_alter_3 ++ dktX5_alter_4
def dkwX5_alter_2 : List UInt8 := [3, 16, 120, 184, 0, 170, 154, 0, 19, 167, 0, 14, 29, 4, 17, 1, 144, 184, 0, 170, 154, 0, 5, 2]
abbrev dktX5_alter_2 : List UInt8 := dkwX5_alter_2 ++ dktX5_alter_3
def dkwX5_alter_1 : List UInt8 := [28, 154, 0, 17, 29, 3, 17, 3, 231, 184, 0, 170, 154, 0, 37, 167, 0, 32, 28, 4, 160, 0, 16, 29]
abbrev dktX5_alter_1 : List UInt8 := dkwX5_alter_1 ++ dktX5_alter_2
def dkwX5_alter_0 : List UInt8 := [42, 3, 181, 0, 160, 42, 27, 182, 1, 153, 153, 0, 12, 28, 3, 5, 184, 0, 170, 154, 0, 5, 2, 172]
abbrev dktX5_alter_0 : List UInt8 := dkwX5_alter_0 ++ dktX5_alter_1
theorem dksX5_alter_0 : cX5_alter.data.toList.drop 0 = dktX5_alter_0 := by decide +kernel
theorem dksX5_alter_1 : cX5_alter.data.toList.drop 24 = dktX5_alter_1 := dk_seg dksX5_alter_0 24 rfl rfl
theorem dksX5_alter_2 : cX5_alter.data.toList.drop 48 = dktX5_alter_2 := dk_seg dksX5_alter_1 24 rfl rfl
theorem dksX5_alter_3 : cX5_alter.data.toList.drop 72 = dktX5_alter_3 := dk_seg dksX5_alter_2 24 rfl rfl
theorem dksX5_alter_4 : cX5_alter.data.toList.drop 95 = dktX5_alter_4 := dk_seg dksX5_alter_3 23 rfl rfl
theorem dksX5_alter_5 : cX5_alter.data.toList.drop 119 = dktX5_alter_5 := dk_seg dksX5_alter_4 24 rfl rfl
theorem dksX5_alter_6 : cX5_alter.data.toList.drop 142 = dktX5_alter_6 := dk_seg dksX5_alter_5 23 rfl rfl
theorem dX5_alter_0 : decode cX5_alter 0 = .ok (.aload_n 0, 1) := dk_42 (dk_at dksX5_alter_0 0 rfl rfl)
theorem dX5_alter_1 : decode cX5_alter 1 = .ok (.iconst 0, 1) := dk_3 (dk_at dksX5_alter_0 1 rfl rfl)
theorem dX5_alter_2 : decode cX5_alter 2 = .ok (.putfield 160, 3) := dk_181 0 160 (dk_at dksX5_alter_0 2 rfl rfl)
theorem dX5_alter_5 : decode cX5_alter 5 = .ok (.aload_n 0, 1) := dk_42 (dk_at dksX5_alter_0 5 rfl rfl)
theorem dX5_alter_6 : decode cX5_alter 6 = .ok (.iload_n 1, 1) := dk_27 (dk_at dksX5_alter_0 6 rfl rfl)
theorem dX5_alter_7 : decode cX5_alter 7 = .ok (.invokevirtual 409, 3) := dk_182 1 153 (dk_at dksX5_alter_0 7 rfl rfl)
theorem dX5_alter_10 : decode cX5_alter 10 = .ok (.ifCond .eq 12, 3) := dk_153 0 12 (dk_at dksX5_alter_0 10 rfl rfl)
theorem dX5_alter_13 : decode cX5_alter 13 = .ok (.iload_n 2, 1) := dk_28 (dk_at dksX5_alter_0 13 rfl rfl)
theorem dX5_alter_14 : decode cX5_alter 14 = .ok (.iconst 0, 1) := dk_3 (dk_at dksX5_alter_0 14 rfl rfl)
theorem dX5_alter_15 : decode cX5_alter 15 = .ok (.iconst 2, 1) := dk_5 (dk_at dksX5_alter_0 15 rfl rfl)
theorem dX5_alter_16 : decode cX5_alter 16 = .ok (.invokestatic 170, 3) := dk_184 0 170 (dk_at dksX5_alter_0 16 rfl rfl)
theorem dX5_alter_19 : decode cX5_alter 19 = .ok (.ifCond .ne 5, 3) := dk_154 0 5 (dk_at dksX5_alter_0 19 rfl rfl)
theorem dX5_alter_22 : decode cX5_alter 22 = .ok (.iconst (-1), 1) := dk_2 (dk_at dksX5_alter_0 22 rfl rfl)
theorem dX5_alter_23 : decode cX5_alter 23 = .ok (.ireturn, 1) := dk_172 (dk_at dksX5_alter_0 23 rfl rfl)
theorem dX5_alter_24 : decode cX5_alter 24 = .ok (.iload_n 2, 1) := dk_28 (dk_at dksX5_alter_1 0 rfl rfl)
theorem dX5_alter_25 : decode cX5_alter 25 = .ok (.ifCond .ne 17, 3) := dk_154 0 17 (dk_at dksX5_alter_1 1 rfl rfl)
theorem dX5_alter_28 : decode cX5_alter 28 = .ok (.iload_n 3, 1) := dk_29 (dk_at dksX5_alter_1 4 rfl rfl)
theorem dX5_alter_29 : decode cX5_alter 29 = .ok (.iconst 0, 1) := dk_3 (dk_at dksX5_alter_1 5 rfl rfl)
theorem dX5_alter_30 : decode cX5_alter 30 = .ok (.sipush 999, 3) := dk_17 3 231 (dk_at dksX5_alter_1 6 rfl rfl)
theorem dX5_alter_33 : decode cX5_alter 33 = .ok (.invokestatic 170, 3) := dk_184 0 170 (dk_at dksX5_alter_1 9 rfl rfl)
theorem dX5_alter_36 : decode cX5_alter 36 = .ok (.ifCond .ne 37, 3) := dk_154 0 37 (dk_at dksX5_alter_1 12 rfl rfl)
theorem dX5_alter_39 : decode cX5_alter 39 = .ok (.goto 32, 3) := dk_167 0 32 (dk_at dksX5_alter_1 15 rfl rfl)
theorem dX5_alter_42 : decode cX5_alter 42 = .ok (.iload_n 2, 1) := dk_28 (dk_at dksX5_alter_1 18 rfl rfl)
theorem dX5_alter_43 : decode cX5_alter 43 = .ok (.iconst 1, 1) := dk_4 (dk_at dksX5_alter_1 19 rfl rfl)
theorem dX5_alter_44 : decode cX5_alter 44 = .ok (.if_icmp .ne 16, 3) := dk_160 0 16 (dk_at dksX5_alter_1 20 rfl rfl)
theorem dX5_alter_47 : decode cX5_alter 47 = .ok (.iload_n 3, 1) := dk_29 (dk_at dksX5_alter_1 23 rfl rfl)
theorem dX5_alter_48 : decode cX5_alter 48 = .ok (.iconst 0, 1) := dk_3 (dk_at dksX5_alter_2 0 rfl rfl)
theorem dX5_alter_49 : decode cX5_alter 49 = .ok (.bipush 120, 2) := dk_16 120 (dk_at dksX5_alter_2 1 rfl rfl)
theorem dX5_alter_51 : decode cX5_alter 51 = .ok (.invokestatic 170, 3) := dk_184 0 170 (dk_at dksX5_alter_2 3 rfl rfl)
theorem dX5_alter_54 : decode cX5_alter 54 = .ok (.ifCond .ne 19, 3) := dk_154 0 19 (dk_at dksX5_alter_2 6 rfl rfl)
theorem dX5_alter_57 : decode cX5_alter 57 = .ok (.goto 14, 3) := dk_167 0 14 (dk_at dksX5_alter_2 9 rfl rfl)
theorem dX5_alter_60 : decode cX5_alter 60 = .ok (.iload_n 3, 1) := dk_29 (dk_at dksX5_alter_2 12 rfl rfl)
theorem dX5_alter_61 : decode cX5_alter 61 = .ok (.iconst 1, 1) := dk_4 (dk_at dksX5_alter_2 13 rfl rfl)
theorem dX5_alter_62 : decode cX5_alter 62 = .ok (.sipush 400, 3) := dk_17 1 144 (dk_at dksX5_alter_2 14 rfl rfl)
theorem dX5_alter_65 : decode cX5_alter 65 = .ok (.invokestatic 170, 3) := dk_184 0 170 (dk_at dksX5_alter_2 17 rfl rfl)
theorem dX5_alter_68 : decode cX5_alter 68 = .ok (.ifCond .ne 5, 3) := dk_154 0 5 (dk_at dksX5_alter_2 20 rfl rfl)
theorem dX5_alter_71 : decode cX5_alter 71 = .ok (.iconst (-1), 1) := dk_2 (dk_at dksX5_alter_2 23 rfl rfl)
theorem dX5_alter_72 : decode cX5_alter 72 = .ok (.ireturn, 1) := dk_172 (dk_at dksX5_alter_3 0 rfl rfl)
theorem dX5_alter_73 : decode cX5_alter 73 = .ok (.iload_n 2, 1) := dk_28 (dk_at dksX5_alter_3 1 rfl rfl)
theorem dX5_alter_74 : decode cX5_alter 74 = .ok (.ifCond .ne 36, 3) := dk_154 0 36 (dk_at dksX5_alter_3 2 rfl rfl)
theorem dX5_alter_77 : decode cX5_alter 77 = .ok (.aload_n 0, 1) := dk_42 (dk_at dksX5_alter_3 5 rfl rfl)
theorem dX5_alter_78 : decode cX5_alter 78 = .ok (.getfield 102, 3) := dk_180 0 102 (dk_at dksX5_alter_3 6 rfl rfl)
theorem dX5_alter_81 : decode cX5_alter 81 = .ok (.iload_n 1, 1) := dk_27 (dk_at dksX5_alter_3 9 rfl rfl)
theorem dX5_alter_82 : decode cX5_alter 82 = .ok (.iaload, 1) := dk_46 (dk_at dksX5_alter_3 10 rfl rfl)
theorem dX5_alter_83 : decode cX5_alter 83 = .ok (.istore 4, 2) := dk_54 4 (dk_at dksX5_alter_3 11 rfl rfl)
theorem dX5_alter_85 : decode cX5_alter 85 = .ok (.aload_n 0, 1) := dk_42 (dk_at dksX5_alter_3 13 rfl rfl)
theorem dX5_alter_86 : decode cX5_alter 86 = .ok (.getfield 102, 3) := dk_180 0 102 (dk_at dksX5_alter_3 14 rfl rfl)
theorem dX5_alter_89 : decode cX5_alter 89 = .ok (.iload_n 1, 1) := dk_27 (dk_at dksX5_alter_3 17 rfl rfl)
theorem dX5_alter_90 : decode cX5_alter 90 = .ok (.iload_n 3, 1) := dk_29 (dk_at dksX5_alter_3 18 rfl rfl)
theorem dX5_alter_91 : decode cX5_alter 91 = .ok (.iastore, 1) := dk_79 (dk_at dksX5_alter_3 19 rfl rfl)
theorem dX5_alter_92 : decode cX5_alter 92 = .ok (.aload_n 0, 1) := dk_42 (dk_at dksX5_alter_3 20 rfl rfl)
theorem dX5_alter_93 : decode cX5_alter 93 = .ok (.iload_n 1, 1) := dk_27 (dk_at dksX5_alter_3 21 rfl rfl)
theorem dX5_alter_94 : decode cX5_alter 94 = .ok (.iload_n 3, 1) := dk_29 (dk_at dksX5_alter_3 22 rfl rfl)
theorem dX5_alter_95 : decode cX5_alter 95 = .ok (.invokevirtual 430, 3) := dk_182 1 174 (dk_at dksX5_alter_4 0 rfl rfl)
theorem dX5_alter_98 : decode cX5_alter 98 = .ok (.ifCond .eq 50, 3) := dk_153 0 50 (dk_at dksX5_alter_4 3 rfl rfl)
theorem dX5_alter_101 : decode cX5_alter 101 = .ok (.aload_n 0, 1) := dk_42 (dk_at dksX5_alter_4 6 rfl rfl)
theorem dX5_alter_102 : decode cX5_alter 102 = .ok (.iload_n 1, 1) := dk_27 (dk_at dksX5_alter_4 7 rfl rfl)
theorem dX5_alter_103 : decode cX5_alter 103 = .ok (.iload_n 3, 1) := dk_29 (dk_at dksX5_alter_4 8 rfl rfl)
theorem dX5_alter_104 : decode cX5_alter 104 = .ok (.invokevirtual 433, 3) := dk_182 1 177 (dk_at dksX5_alter_4 9 rfl rfl)
theorem dX5_alter_107 : decode cX5_alter 107 = .ok (.goto 41, 3) := dk_167 0 41 (dk_at dksX5_alter_4 12 rfl rfl)
theorem dX5_alter_110 : decode cX5_alter 110 = .ok (.iload_n 2, 1) := dk_28 (dk_at dksX5_alter_4 15 rfl rfl)
theorem dX5_alter_111 : decode cX5_alter 111 = .ok (.iconst 1, 1) := dk_4 (dk_at dksX5_alter_4 16 rfl rfl)
theorem dX5_alter_112 : decode cX5_alter 112 = .ok (.if_icmp .ne 21, 3) := dk_160 0 21 (dk_at dksX5_alter_4 17 rfl rfl)
theorem dX5_alter_115 : decode cX5_alter 115 = .ok (.aload_n 0, 1) := dk_42 (dk_at dksX5_alter_4 20 rfl rfl)
theorem dX5_alter_116 : decode cX5_alter 116 = .ok (.getfield 105, 3) := dk_180 0 105 (dk_at dksX5_alter_4 21 rfl rfl)
theorem dX5_alter_119 : decode cX5_alter 119 = .ok (.iload_n 1, 1) := dk_27 (dk_at dksX5_alter_5 0 rfl rfl)
theorem dX5_alter_120 : decode cX5_alter 120 = .ok (.iaload, 1) := dk_46 (dk_at dksX5_alter_5 1 rfl rfl)
theorem dX5_alter_121 : decode cX5_alter 121 = .ok (.istore 4, 2) := dk_54 4 (dk_at dksX5_alter_5 2 rfl rfl)
theorem dX5_alter_123 : decode cX5_alter 123 = .ok (.aload_n 0, 1) := dk_42 (dk_at dksX5_alter_5 4 rfl rfl)
theorem dX5_alter_124 : decode cX5_alter 124 = .ok (.getfield 105, 3) := dk_180 0 105 (dk_at dksX5_alter_5 5 rfl rfl)
theorem dX5_alter_127 : decode cX5_alter 127 = .ok (.iload_n 1, 1) := dk_27 (dk_at dksX5_alter_5 8 rfl rfl)
theorem dX5_alter_128 : decode cX5_alter 128 = .ok (.iload_n 3, 1) := dk_29 (dk_at dksX5_alter_5 9 rfl rfl)
theorem dX5_alter_129 : decode cX5_alter 129 = .ok (.iastore, 1) := dk_79 (dk_at dksX5_alter_5 10 rfl rfl)
theorem dX5_alter_130 : decode cX5_alter 130 = .ok (.goto 18, 3) := dk_167 0 18 (dk_at dksX5_alter_5 11 rfl rfl)
theorem dX5_alter_133 : decode cX5_alter 133 = .ok (.aload_n 0, 1) := dk_42 (dk_at dksX5_alter_5 14 rfl rfl)
theorem dX5_alter_134 : decode cX5_alter 134 = .ok (.getfield 108, 3) := dk_180 0 108 (dk_at dksX5_alter_5 15 rfl rfl)
theorem dX5_alter_137 : decode cX5_alter 137 = .ok (.iload_n 1, 1) := dk_27 (dk_at dksX5_alter_5 18 rfl rfl)
theorem dX5_alter_138 : decode cX5_alter 138 = .ok (.iaload, 1) := dk_46 (dk_at dksX5_alter_5 19 rfl rfl)
theorem dX5_alter_139 : decode cX5_alter 139 = .ok (.istore 4, 2) := dk_54 4 (dk_at dksX5_alter_5 20 rfl rfl)
theorem dX5_alter_141 : decode cX5_alter 141 = .ok (.aload_n 0, 1) := dk_42 (dk_at dksX5_alter_5 22 rfl rfl)
theorem dX5_alter_142 : decode cX5_alter 142 = .ok (.getfield 108, 3) := dk_180 0 108 (dk_at dksX5_alter_6 0 rfl rfl)
theorem dX5_alter_145 : decode cX5_alter 145 = .ok (.iload_n 1, 1) := dk_27 (dk_at dksX5_alter_6 3 rfl rfl)
theorem dX5_alter_146 : decode cX5_alter 146 = .ok (.iload_n 3, 1) := dk_29 (dk_at dksX5_alter_6 4 rfl rfl)
theorem dX5_alter_147 : decode cX5_alter 147 = .ok (.iastore, 1) := dk_79 (dk_at dksX5_alter_6 5 rfl rfl)
theorem dX5_alter_148 : decode cX5_alter 148 = .ok (.iload 4, 2) := dk_21 4 (dk_at dksX5_alter_6 6 rfl rfl)
theorem dX5_alter_150 : decode cX5_alter 150 = .ok (.ireturn, 1) := dk_172 (dk_at dksX5_alter_6 8 rfl rfl)
abbrev cX5_clear : ByteArray := prog_20_method_61_code
def yX5_clear : MethodName := ⟨RX5, "clear", "()I"⟩
def dkwX5_clear_0 : List UInt8 := [42, 3, 181, 0, 160, 42, 180, 1, 150, 60, 42, 3, 181, 1, 150, 27, 172]
abbrev dktX5_clear_0 : List UInt8 := dkwX5_clear_0 ++ []
theorem dksX5_clear_0 : cX5_clear.data.toList.drop 0 = dktX5_clear_0 := by decide +kernel
theorem dX5_clear_0 : decode cX5_clear 0 = .ok (.aload_n 0, 1) := dk_42 (dk_at dksX5_clear_0 0 rfl rfl)
theorem dX5_clear_1 : decode cX5_clear 1 = .ok (.iconst 0, 1) := dk_3 (dk_at dksX5_clear_0 1 rfl rfl)
theorem dX5_clear_2 : decode cX5_clear 2 = .ok (.putfield 160, 3) := dk_181 0 160 (dk_at dksX5_clear_0 2 rfl rfl)
theorem dX5_clear_5 : decode cX5_clear 5 = .ok (.aload_n 0, 1) := dk_42 (dk_at dksX5_clear_0 5 rfl rfl)
theorem dX5_clear_6 : decode cX5_clear 6 = .ok (.getfield 406, 3) := dk_180 1 150 (dk_at dksX5_clear_0 6 rfl rfl)
theorem dX5_clear_9 : decode cX5_clear 9 = .ok (.istore_n 1, 1) := dk_60 (dk_at dksX5_clear_0 9 rfl rfl)
theorem dX5_clear_10 : decode cX5_clear 10 = .ok (.aload_n 0, 1) := dk_42 (dk_at dksX5_clear_0 10 rfl rfl)
theorem dX5_clear_11 : decode cX5_clear 11 = .ok (.iconst 0, 1) := dk_3 (dk_at dksX5_clear_0 11 rfl rfl)
theorem dX5_clear_12 : decode cX5_clear 12 = .ok (.putfield 406, 3) := dk_181 1 150 (dk_at dksX5_clear_0 12 rfl rfl)
theorem dX5_clear_15 : decode cX5_clear 15 = .ok (.iload_n 1, 1) := dk_27 (dk_at dksX5_clear_0 15 rfl rfl)
theorem dX5_clear_16 : decode cX5_clear 16 = .ok (.ireturn, 1) := dk_172 (dk_at dksX5_clear_0 16 rfl rfl)
abbrev cX5_of : ByteArray := prog_20_method_80_code
def yX5_of : MethodName := ⟨RX5, "of", "(II)I"⟩
def dkwX5_of_7 : List UInt8 := [182, 1, 242, 172, 16, 254, 172]
abbrev dktX5_of_7 : List UInt8 := dkwX5_of_7 ++ []
def dkwX5_of_6 : List UInt8 := [62, 29, 156, 0, 7, 3, 167, 0, 7, 42, 180, 1, 199, 172, 42, 42, 42, 180, 1, 144, 27, 182, 1, 211]
abbrev dktX5_of_6 : List UInt8 := dkwX5_of_6 ++ dktX5_of_7
def dkwX5_of_5 : List UInt8 := [27, 182, 1, 214, 172, 42, 42, 180, 1, 144, 27, 182, 1, 239, 172, 42, 42, 180, 1, 144, 27, 182, 1, 211]
abbrev dktX5_of_5 : List UInt8 := dkwX5_of_5 ++ dktX5_of_6
def dkwX5_of_4 : List UInt8 := [42, 180, 1, 144, 27, 182, 1, 205, 172, 42, 42, 180, 1, 144, 27, 182, 1, 208, 172, 42, 42, 180, 1, 144]
abbrev dktX5_of_4 : List UInt8 := dkwX5_of_4 ++ dktX5_of_5
def dkwX5_of_3 : List UInt8 := [180, 0, 111, 27, 46, 172, 42, 180, 0, 117, 27, 46, 172, 42, 42, 180, 1, 144, 27, 182, 1, 202, 172, 42]
abbrev dktX5_of_3 : List UInt8 := dkwX5_of_3 ++ dktX5_of_4
def dkwX5_of_2 : List UInt8 := [42, 180, 0, 102, 27, 46, 172, 42, 180, 0, 105, 27, 46, 172, 42, 180, 0, 108, 27, 46, 172, 42]
abbrev dktX5_of_2 : List UInt8 := dkwX5_of_2 ++ dktX5_of_3
def dkwX5_of_1 : List UInt8 := [170, 0, 0, 0, 0, 0, 185, 0, 0, 0, 0, 0, 0, 0, 11, 0, 0, 0, 63, 0, 0, 0, 70, 0, 0, 0, 77, 0, 0, 0, 84, 0, 0, 0, 91, 0, 0, 0, 98, 0, 0, 0, 108, 0, 0, 0, 118, 0, 0, 0, 128, 0, 0, 0, 138, 0, 0, 0, 148, 0, 0, 0, 171]
abbrev dktX5_of_1 : List UInt8 := dkwX5_of_1 ++ dktX5_of_2
def dkwX5_of_0 : List UInt8 := [42, 3, 181, 0, 160, 42, 27, 182, 1, 153, 154, 0, 6, 16, 254, 172, 28]
abbrev dktX5_of_0 : List UInt8 := dkwX5_of_0 ++ dktX5_of_1
theorem dksX5_of_0 : cX5_of.data.toList.drop 0 = dktX5_of_0 := by decide +kernel
theorem dksX5_of_1 : cX5_of.data.toList.drop 17 = dktX5_of_1 := dk_seg dksX5_of_0 17 rfl rfl
theorem dksX5_of_2 : cX5_of.data.toList.drop 80 = dktX5_of_2 := dk_seg dksX5_of_1 63 rfl rfl
theorem dksX5_of_3 : cX5_of.data.toList.drop 102 = dktX5_of_3 := dk_seg dksX5_of_2 22 rfl rfl
theorem dksX5_of_4 : cX5_of.data.toList.drop 126 = dktX5_of_4 := dk_seg dksX5_of_3 24 rfl rfl
theorem dksX5_of_5 : cX5_of.data.toList.drop 150 = dktX5_of_5 := dk_seg dksX5_of_4 24 rfl rfl
theorem dksX5_of_6 : cX5_of.data.toList.drop 174 = dktX5_of_6 := dk_seg dksX5_of_5 24 rfl rfl
theorem dksX5_of_7 : cX5_of.data.toList.drop 198 = dktX5_of_7 := dk_seg dksX5_of_6 24 rfl rfl
theorem dX5_of_0 : decode cX5_of 0 = .ok (.aload_n 0, 1) := dk_42 (dk_at dksX5_of_0 0 rfl rfl)
theorem dX5_of_1 : decode cX5_of 1 = .ok (.iconst 0, 1) := dk_3 (dk_at dksX5_of_0 1 rfl rfl)
theorem dX5_of_2 : decode cX5_of 2 = .ok (.putfield 160, 3) := dk_181 0 160 (dk_at dksX5_of_0 2 rfl rfl)
theorem dX5_of_5 : decode cX5_of 5 = .ok (.aload_n 0, 1) := dk_42 (dk_at dksX5_of_0 5 rfl rfl)
theorem dX5_of_6 : decode cX5_of 6 = .ok (.iload_n 1, 1) := dk_27 (dk_at dksX5_of_0 6 rfl rfl)
theorem dX5_of_7 : decode cX5_of 7 = .ok (.invokevirtual 409, 3) := dk_182 1 153 (dk_at dksX5_of_0 7 rfl rfl)
theorem dX5_of_10 : decode cX5_of 10 = .ok (.ifCond .ne 6, 3) := dk_154 0 6 (dk_at dksX5_of_0 10 rfl rfl)
theorem dX5_of_13 : decode cX5_of 13 = .ok (.bipush (-2), 2) := dk_16 254 (dk_at dksX5_of_0 13 rfl rfl)
theorem dX5_of_15 : decode cX5_of 15 = .ok (.ireturn, 1) := dk_172 (dk_at dksX5_of_0 15 rfl rfl)
theorem dX5_of_16 : decode cX5_of 16 = .ok (.iload_n 2, 1) := dk_28 (dk_at dksX5_of_0 16 rfl rfl)
theorem dX5_of_17 : decode cX5_of 17 = .ok (.tableswitch 185 0 11 #[63, 70, 77, 84, 91, 98, 108, 118, 128, 138, 148, 171], 63) := by decide +kernel
theorem dX5_of_80 : decode cX5_of 80 = .ok (.aload_n 0, 1) := dk_42 (dk_at dksX5_of_2 0 rfl rfl)
theorem dX5_of_81 : decode cX5_of 81 = .ok (.getfield 102, 3) := dk_180 0 102 (dk_at dksX5_of_2 1 rfl rfl)
theorem dX5_of_84 : decode cX5_of 84 = .ok (.iload_n 1, 1) := dk_27 (dk_at dksX5_of_2 4 rfl rfl)
theorem dX5_of_85 : decode cX5_of 85 = .ok (.iaload, 1) := dk_46 (dk_at dksX5_of_2 5 rfl rfl)
theorem dX5_of_86 : decode cX5_of 86 = .ok (.ireturn, 1) := dk_172 (dk_at dksX5_of_2 6 rfl rfl)
theorem dX5_of_87 : decode cX5_of 87 = .ok (.aload_n 0, 1) := dk_42 (dk_at dksX5_of_2 7 rfl rfl)
theorem dX5_of_88 : decode cX5_of 88 = .ok (.getfield 105, 3) := dk_180 0 105 (dk_at dksX5_of_2 8 rfl rfl)
theorem dX5_of_91 : decode cX5_of 91 = .ok (.iload_n 1, 1) := dk_27 (dk_at dksX5_of_2 11 rfl rfl)
theorem dX5_of_92 : decode cX5_of 92 = .ok (.iaload, 1) := dk_46 (dk_at dksX5_of_2 12 rfl rfl)
theorem dX5_of_93 : decode cX5_of 93 = .ok (.ireturn, 1) := dk_172 (dk_at dksX5_of_2 13 rfl rfl)
theorem dX5_of_94 : decode cX5_of 94 = .ok (.aload_n 0, 1) := dk_42 (dk_at dksX5_of_2 14 rfl rfl)
theorem dX5_of_95 : decode cX5_of 95 = .ok (.getfield 108, 3) := dk_180 0 108 (dk_at dksX5_of_2 15 rfl rfl)
theorem dX5_of_98 : decode cX5_of 98 = .ok (.iload_n 1, 1) := dk_27 (dk_at dksX5_of_2 18 rfl rfl)
theorem dX5_of_99 : decode cX5_of 99 = .ok (.iaload, 1) := dk_46 (dk_at dksX5_of_2 19 rfl rfl)
theorem dX5_of_100 : decode cX5_of 100 = .ok (.ireturn, 1) := dk_172 (dk_at dksX5_of_2 20 rfl rfl)
theorem dX5_of_101 : decode cX5_of 101 = .ok (.aload_n 0, 1) := dk_42 (dk_at dksX5_of_2 21 rfl rfl)
theorem dX5_of_102 : decode cX5_of 102 = .ok (.getfield 111, 3) := dk_180 0 111 (dk_at dksX5_of_3 0 rfl rfl)
theorem dX5_of_105 : decode cX5_of 105 = .ok (.iload_n 1, 1) := dk_27 (dk_at dksX5_of_3 3 rfl rfl)
theorem dX5_of_106 : decode cX5_of 106 = .ok (.iaload, 1) := dk_46 (dk_at dksX5_of_3 4 rfl rfl)
theorem dX5_of_107 : decode cX5_of 107 = .ok (.ireturn, 1) := dk_172 (dk_at dksX5_of_3 5 rfl rfl)
theorem dX5_of_108 : decode cX5_of 108 = .ok (.aload_n 0, 1) := dk_42 (dk_at dksX5_of_3 6 rfl rfl)
theorem dX5_of_109 : decode cX5_of 109 = .ok (.getfield 117, 3) := dk_180 0 117 (dk_at dksX5_of_3 7 rfl rfl)
theorem dX5_of_112 : decode cX5_of 112 = .ok (.iload_n 1, 1) := dk_27 (dk_at dksX5_of_3 10 rfl rfl)
theorem dX5_of_113 : decode cX5_of 113 = .ok (.iaload, 1) := dk_46 (dk_at dksX5_of_3 11 rfl rfl)
theorem dX5_of_114 : decode cX5_of 114 = .ok (.ireturn, 1) := dk_172 (dk_at dksX5_of_3 12 rfl rfl)
theorem dX5_of_115 : decode cX5_of 115 = .ok (.aload_n 0, 1) := dk_42 (dk_at dksX5_of_3 13 rfl rfl)
theorem dX5_of_116 : decode cX5_of 116 = .ok (.aload_n 0, 1) := dk_42 (dk_at dksX5_of_3 14 rfl rfl)
theorem dX5_of_117 : decode cX5_of 117 = .ok (.getfield 400, 3) := dk_180 1 144 (dk_at dksX5_of_3 15 rfl rfl)
theorem dX5_of_120 : decode cX5_of 120 = .ok (.iload_n 1, 1) := dk_27 (dk_at dksX5_of_3 18 rfl rfl)
theorem dX5_of_121 : decode cX5_of 121 = .ok (.invokevirtual 458, 3) := dk_182 1 202 (dk_at dksX5_of_3 19 rfl rfl)
theorem dX5_of_124 : decode cX5_of 124 = .ok (.ireturn, 1) := dk_172 (dk_at dksX5_of_3 22 rfl rfl)
theorem dX5_of_125 : decode cX5_of 125 = .ok (.aload_n 0, 1) := dk_42 (dk_at dksX5_of_3 23 rfl rfl)
theorem dX5_of_126 : decode cX5_of 126 = .ok (.aload_n 0, 1) := dk_42 (dk_at dksX5_of_4 0 rfl rfl)
theorem dX5_of_127 : decode cX5_of 127 = .ok (.getfield 400, 3) := dk_180 1 144 (dk_at dksX5_of_4 1 rfl rfl)
theorem dX5_of_130 : decode cX5_of 130 = .ok (.iload_n 1, 1) := dk_27 (dk_at dksX5_of_4 4 rfl rfl)
theorem dX5_of_131 : decode cX5_of 131 = .ok (.invokevirtual 461, 3) := dk_182 1 205 (dk_at dksX5_of_4 5 rfl rfl)
theorem dX5_of_134 : decode cX5_of 134 = .ok (.ireturn, 1) := dk_172 (dk_at dksX5_of_4 8 rfl rfl)
theorem dX5_of_135 : decode cX5_of 135 = .ok (.aload_n 0, 1) := dk_42 (dk_at dksX5_of_4 9 rfl rfl)
theorem dX5_of_136 : decode cX5_of 136 = .ok (.aload_n 0, 1) := dk_42 (dk_at dksX5_of_4 10 rfl rfl)
theorem dX5_of_137 : decode cX5_of 137 = .ok (.getfield 400, 3) := dk_180 1 144 (dk_at dksX5_of_4 11 rfl rfl)
theorem dX5_of_140 : decode cX5_of 140 = .ok (.iload_n 1, 1) := dk_27 (dk_at dksX5_of_4 14 rfl rfl)
theorem dX5_of_141 : decode cX5_of 141 = .ok (.invokevirtual 464, 3) := dk_182 1 208 (dk_at dksX5_of_4 15 rfl rfl)
theorem dX5_of_144 : decode cX5_of 144 = .ok (.ireturn, 1) := dk_172 (dk_at dksX5_of_4 18 rfl rfl)
theorem dX5_of_145 : decode cX5_of 145 = .ok (.aload_n 0, 1) := dk_42 (dk_at dksX5_of_4 19 rfl rfl)
theorem dX5_of_146 : decode cX5_of 146 = .ok (.aload_n 0, 1) := dk_42 (dk_at dksX5_of_4 20 rfl rfl)
theorem dX5_of_147 : decode cX5_of 147 = .ok (.getfield 400, 3) := dk_180 1 144 (dk_at dksX5_of_4 21 rfl rfl)
theorem dX5_of_150 : decode cX5_of 150 = .ok (.iload_n 1, 1) := dk_27 (dk_at dksX5_of_5 0 rfl rfl)
theorem dX5_of_151 : decode cX5_of 151 = .ok (.invokevirtual 470, 3) := dk_182 1 214 (dk_at dksX5_of_5 1 rfl rfl)
theorem dX5_of_154 : decode cX5_of 154 = .ok (.ireturn, 1) := dk_172 (dk_at dksX5_of_5 4 rfl rfl)
theorem dX5_of_155 : decode cX5_of 155 = .ok (.aload_n 0, 1) := dk_42 (dk_at dksX5_of_5 5 rfl rfl)
theorem dX5_of_156 : decode cX5_of 156 = .ok (.aload_n 0, 1) := dk_42 (dk_at dksX5_of_5 6 rfl rfl)
theorem dX5_of_157 : decode cX5_of 157 = .ok (.getfield 400, 3) := dk_180 1 144 (dk_at dksX5_of_5 7 rfl rfl)
theorem dX5_of_160 : decode cX5_of 160 = .ok (.iload_n 1, 1) := dk_27 (dk_at dksX5_of_5 10 rfl rfl)
theorem dX5_of_161 : decode cX5_of 161 = .ok (.invokevirtual 495, 3) := dk_182 1 239 (dk_at dksX5_of_5 11 rfl rfl)
theorem dX5_of_164 : decode cX5_of 164 = .ok (.ireturn, 1) := dk_172 (dk_at dksX5_of_5 14 rfl rfl)
theorem dX5_of_165 : decode cX5_of 165 = .ok (.aload_n 0, 1) := dk_42 (dk_at dksX5_of_5 15 rfl rfl)
theorem dX5_of_166 : decode cX5_of 166 = .ok (.aload_n 0, 1) := dk_42 (dk_at dksX5_of_5 16 rfl rfl)
theorem dX5_of_167 : decode cX5_of 167 = .ok (.getfield 400, 3) := dk_180 1 144 (dk_at dksX5_of_5 17 rfl rfl)
theorem dX5_of_170 : decode cX5_of 170 = .ok (.iload_n 1, 1) := dk_27 (dk_at dksX5_of_5 20 rfl rfl)
theorem dX5_of_171 : decode cX5_of 171 = .ok (.invokevirtual 467, 3) := dk_182 1 211 (dk_at dksX5_of_5 21 rfl rfl)
theorem dX5_of_174 : decode cX5_of 174 = .ok (.istore_n 3, 1) := dk_62 (dk_at dksX5_of_6 0 rfl rfl)
theorem dX5_of_175 : decode cX5_of 175 = .ok (.iload_n 3, 1) := dk_29 (dk_at dksX5_of_6 1 rfl rfl)
theorem dX5_of_176 : decode cX5_of 176 = .ok (.ifCond .ge 7, 3) := dk_156 0 7 (dk_at dksX5_of_6 2 rfl rfl)
theorem dX5_of_179 : decode cX5_of 179 = .ok (.iconst 0, 1) := dk_3 (dk_at dksX5_of_6 5 rfl rfl)
theorem dX5_of_180 : decode cX5_of 180 = .ok (.goto 7, 3) := dk_167 0 7 (dk_at dksX5_of_6 6 rfl rfl)
theorem dX5_of_183 : decode cX5_of 183 = .ok (.aload_n 0, 1) := dk_42 (dk_at dksX5_of_6 9 rfl rfl)
theorem dX5_of_184 : decode cX5_of 184 = .ok (.getfield 455, 3) := dk_180 1 199 (dk_at dksX5_of_6 10 rfl rfl)
theorem dX5_of_187 : decode cX5_of 187 = .ok (.ireturn, 1) := dk_172 (dk_at dksX5_of_6 13 rfl rfl)
theorem dX5_of_188 : decode cX5_of 188 = .ok (.aload_n 0, 1) := dk_42 (dk_at dksX5_of_6 14 rfl rfl)
theorem dX5_of_189 : decode cX5_of 189 = .ok (.aload_n 0, 1) := dk_42 (dk_at dksX5_of_6 15 rfl rfl)
theorem dX5_of_190 : decode cX5_of 190 = .ok (.aload_n 0, 1) := dk_42 (dk_at dksX5_of_6 16 rfl rfl)
theorem dX5_of_191 : decode cX5_of 191 = .ok (.getfield 400, 3) := dk_180 1 144 (dk_at dksX5_of_6 17 rfl rfl)
theorem dX5_of_194 : decode cX5_of 194 = .ok (.iload_n 1, 1) := dk_27 (dk_at dksX5_of_6 20 rfl rfl)
theorem dX5_of_195 : decode cX5_of 195 = .ok (.invokevirtual 467, 3) := dk_182 1 211 (dk_at dksX5_of_6 21 rfl rfl)
theorem dX5_of_198 : decode cX5_of 198 = .ok (.invokevirtual 498, 3) := dk_182 1 242 (dk_at dksX5_of_7 0 rfl rfl)
theorem dX5_of_201 : decode cX5_of 201 = .ok (.ireturn, 1) := dk_172 (dk_at dksX5_of_7 3 rfl rfl)
theorem dX5_of_202 : decode cX5_of 202 = .ok (.bipush (-2), 2) := dk_16 254 (dk_at dksX5_of_7 4 rfl rfl)
theorem dX5_of_204 : decode cX5_of 204 = .ok (.ireturn, 1) := dk_172 (dk_at dksX5_of_7 6 rfl rfl)
abbrev cX5_chapterFor : ByteArray := prog_20_method_62_code
def yX5_chapterFor : MethodName := ⟨RX5, "chapterFor", "(II)I"⟩
def dkwX5_chapterFor_3 : List UInt8 := [132, 5, 1, 167, 255, 203, 132, 3, 1, 167, 255, 177, 2, 172]
abbrev dktX5_chapterFor_3 : List UInt8 := dkwX5_chapterFor_3 ++ []
def dkwX5_chapterFor_2 : List UInt8 := [21, 5, 96, 46, 42, 180, 0, 26, 6, 21, 4, 104, 21, 5, 96, 46, 184, 0, 170, 153, 0, 5, 29, 172]
abbrev dktX5_chapterFor_2 : List UInt8 := dkwX5_chapterFor_2 ++ dktX5_chapterFor_3
def dkwX5_chapterFor_1 : List UInt8 := [42, 180, 0, 20, 21, 4, 46, 162, 0, 47, 42, 180, 0, 102, 28, 46, 42, 180, 0, 23, 6, 21, 4, 104]
abbrev dktX5_chapterFor_1 : List UInt8 := dkwX5_chapterFor_1 ++ dktX5_chapterFor_2
def dkwX5_chapterFor_0 : List UInt8 := [3, 62, 29, 42, 27, 182, 1, 44, 162, 0, 76, 16, 6, 27, 104, 29, 96, 54, 4, 3, 54, 5, 21, 5]
abbrev dktX5_chapterFor_0 : List UInt8 := dkwX5_chapterFor_0 ++ dktX5_chapterFor_1
theorem dksX5_chapterFor_0 : cX5_chapterFor.data.toList.drop 0 = dktX5_chapterFor_0 := by decide +kernel
theorem dksX5_chapterFor_1 : cX5_chapterFor.data.toList.drop 24 = dktX5_chapterFor_1 := dk_seg dksX5_chapterFor_0 24 rfl rfl
theorem dksX5_chapterFor_2 : cX5_chapterFor.data.toList.drop 48 = dktX5_chapterFor_2 := dk_seg dksX5_chapterFor_1 24 rfl rfl
theorem dksX5_chapterFor_3 : cX5_chapterFor.data.toList.drop 72 = dktX5_chapterFor_3 := dk_seg dksX5_chapterFor_2 24 rfl rfl
theorem dX5_chapterFor_0 : decode cX5_chapterFor 0 = .ok (.iconst 0, 1) := dk_3 (dk_at dksX5_chapterFor_0 0 rfl rfl)
theorem dX5_chapterFor_1 : decode cX5_chapterFor 1 = .ok (.istore_n 3, 1) := dk_62 (dk_at dksX5_chapterFor_0 1 rfl rfl)
theorem dX5_chapterFor_2 : decode cX5_chapterFor 2 = .ok (.iload_n 3, 1) := dk_29 (dk_at dksX5_chapterFor_0 2 rfl rfl)
theorem dX5_chapterFor_3 : decode cX5_chapterFor 3 = .ok (.aload_n 0, 1) := dk_42 (dk_at dksX5_chapterFor_0 3 rfl rfl)
theorem dX5_chapterFor_4 : decode cX5_chapterFor 4 = .ok (.iload_n 1, 1) := dk_27 (dk_at dksX5_chapterFor_0 4 rfl rfl)
theorem dX5_chapterFor_5 : decode cX5_chapterFor 5 = .ok (.invokevirtual 300, 3) := dk_182 1 44 (dk_at dksX5_chapterFor_0 5 rfl rfl)
theorem dX5_chapterFor_8 : decode cX5_chapterFor 8 = .ok (.if_icmp .ge 76, 3) := dk_162 0 76 (dk_at dksX5_chapterFor_0 8 rfl rfl)
theorem dX5_chapterFor_11 : decode cX5_chapterFor 11 = .ok (.bipush 6, 2) := dk_16 6 (dk_at dksX5_chapterFor_0 11 rfl rfl)
theorem dX5_chapterFor_13 : decode cX5_chapterFor 13 = .ok (.iload_n 1, 1) := dk_27 (dk_at dksX5_chapterFor_0 13 rfl rfl)
theorem dX5_chapterFor_14 : decode cX5_chapterFor 14 = .ok (.imul, 1) := dk_104 (dk_at dksX5_chapterFor_0 14 rfl rfl)
theorem dX5_chapterFor_15 : decode cX5_chapterFor 15 = .ok (.iload_n 3, 1) := dk_29 (dk_at dksX5_chapterFor_0 15 rfl rfl)
theorem dX5_chapterFor_16 : decode cX5_chapterFor 16 = .ok (.iadd, 1) := dk_96 (dk_at dksX5_chapterFor_0 16 rfl rfl)
theorem dX5_chapterFor_17 : decode cX5_chapterFor 17 = .ok (.istore 4, 2) := dk_54 4 (dk_at dksX5_chapterFor_0 17 rfl rfl)
theorem dX5_chapterFor_19 : decode cX5_chapterFor 19 = .ok (.iconst 0, 1) := dk_3 (dk_at dksX5_chapterFor_0 19 rfl rfl)
theorem dX5_chapterFor_20 : decode cX5_chapterFor 20 = .ok (.istore 5, 2) := dk_54 5 (dk_at dksX5_chapterFor_0 20 rfl rfl)
theorem dX5_chapterFor_22 : decode cX5_chapterFor 22 = .ok (.iload 5, 2) := dk_21 5 (dk_at dksX5_chapterFor_0 22 rfl rfl)
theorem dX5_chapterFor_24 : decode cX5_chapterFor 24 = .ok (.aload_n 0, 1) := dk_42 (dk_at dksX5_chapterFor_1 0 rfl rfl)
theorem dX5_chapterFor_25 : decode cX5_chapterFor 25 = .ok (.getfield 20, 3) := dk_180 0 20 (dk_at dksX5_chapterFor_1 1 rfl rfl)
theorem dX5_chapterFor_28 : decode cX5_chapterFor 28 = .ok (.iload 4, 2) := dk_21 4 (dk_at dksX5_chapterFor_1 4 rfl rfl)
theorem dX5_chapterFor_30 : decode cX5_chapterFor 30 = .ok (.iaload, 1) := dk_46 (dk_at dksX5_chapterFor_1 6 rfl rfl)
theorem dX5_chapterFor_31 : decode cX5_chapterFor 31 = .ok (.if_icmp .ge 47, 3) := dk_162 0 47 (dk_at dksX5_chapterFor_1 7 rfl rfl)
theorem dX5_chapterFor_34 : decode cX5_chapterFor 34 = .ok (.aload_n 0, 1) := dk_42 (dk_at dksX5_chapterFor_1 10 rfl rfl)
theorem dX5_chapterFor_35 : decode cX5_chapterFor 35 = .ok (.getfield 102, 3) := dk_180 0 102 (dk_at dksX5_chapterFor_1 11 rfl rfl)
theorem dX5_chapterFor_38 : decode cX5_chapterFor 38 = .ok (.iload_n 2, 1) := dk_28 (dk_at dksX5_chapterFor_1 14 rfl rfl)
theorem dX5_chapterFor_39 : decode cX5_chapterFor 39 = .ok (.iaload, 1) := dk_46 (dk_at dksX5_chapterFor_1 15 rfl rfl)
theorem dX5_chapterFor_40 : decode cX5_chapterFor 40 = .ok (.aload_n 0, 1) := dk_42 (dk_at dksX5_chapterFor_1 16 rfl rfl)
theorem dX5_chapterFor_41 : decode cX5_chapterFor 41 = .ok (.getfield 23, 3) := dk_180 0 23 (dk_at dksX5_chapterFor_1 17 rfl rfl)
theorem dX5_chapterFor_44 : decode cX5_chapterFor 44 = .ok (.iconst 3, 1) := dk_6 (dk_at dksX5_chapterFor_1 20 rfl rfl)
theorem dX5_chapterFor_45 : decode cX5_chapterFor 45 = .ok (.iload 4, 2) := dk_21 4 (dk_at dksX5_chapterFor_1 21 rfl rfl)
theorem dX5_chapterFor_47 : decode cX5_chapterFor 47 = .ok (.imul, 1) := dk_104 (dk_at dksX5_chapterFor_1 23 rfl rfl)
theorem dX5_chapterFor_48 : decode cX5_chapterFor 48 = .ok (.iload 5, 2) := dk_21 5 (dk_at dksX5_chapterFor_2 0 rfl rfl)
theorem dX5_chapterFor_50 : decode cX5_chapterFor 50 = .ok (.iadd, 1) := dk_96 (dk_at dksX5_chapterFor_2 2 rfl rfl)
theorem dX5_chapterFor_51 : decode cX5_chapterFor 51 = .ok (.iaload, 1) := dk_46 (dk_at dksX5_chapterFor_2 3 rfl rfl)
theorem dX5_chapterFor_52 : decode cX5_chapterFor 52 = .ok (.aload_n 0, 1) := dk_42 (dk_at dksX5_chapterFor_2 4 rfl rfl)
theorem dX5_chapterFor_53 : decode cX5_chapterFor 53 = .ok (.getfield 26, 3) := dk_180 0 26 (dk_at dksX5_chapterFor_2 5 rfl rfl)
theorem dX5_chapterFor_56 : decode cX5_chapterFor 56 = .ok (.iconst 3, 1) := dk_6 (dk_at dksX5_chapterFor_2 8 rfl rfl)
theorem dX5_chapterFor_57 : decode cX5_chapterFor 57 = .ok (.iload 4, 2) := dk_21 4 (dk_at dksX5_chapterFor_2 9 rfl rfl)
theorem dX5_chapterFor_59 : decode cX5_chapterFor 59 = .ok (.imul, 1) := dk_104 (dk_at dksX5_chapterFor_2 11 rfl rfl)
theorem dX5_chapterFor_60 : decode cX5_chapterFor 60 = .ok (.iload 5, 2) := dk_21 5 (dk_at dksX5_chapterFor_2 12 rfl rfl)
theorem dX5_chapterFor_62 : decode cX5_chapterFor 62 = .ok (.iadd, 1) := dk_96 (dk_at dksX5_chapterFor_2 14 rfl rfl)
theorem dX5_chapterFor_63 : decode cX5_chapterFor 63 = .ok (.iaload, 1) := dk_46 (dk_at dksX5_chapterFor_2 15 rfl rfl)
theorem dX5_chapterFor_64 : decode cX5_chapterFor 64 = .ok (.invokestatic 170, 3) := dk_184 0 170 (dk_at dksX5_chapterFor_2 16 rfl rfl)
theorem dX5_chapterFor_67 : decode cX5_chapterFor 67 = .ok (.ifCond .eq 5, 3) := dk_153 0 5 (dk_at dksX5_chapterFor_2 19 rfl rfl)
theorem dX5_chapterFor_70 : decode cX5_chapterFor 70 = .ok (.iload_n 3, 1) := dk_29 (dk_at dksX5_chapterFor_2 22 rfl rfl)
theorem dX5_chapterFor_71 : decode cX5_chapterFor 71 = .ok (.ireturn, 1) := dk_172 (dk_at dksX5_chapterFor_2 23 rfl rfl)
theorem dX5_chapterFor_72 : decode cX5_chapterFor 72 = .ok (.iinc 5 1, 3) := dk_132 5 1 (dk_at dksX5_chapterFor_3 0 rfl rfl)
theorem dX5_chapterFor_75 : decode cX5_chapterFor 75 = .ok (.goto (-53), 3) := dk_167 255 203 (dk_at dksX5_chapterFor_3 3 rfl rfl)
theorem dX5_chapterFor_78 : decode cX5_chapterFor 78 = .ok (.iinc 3 1, 3) := dk_132 3 1 (dk_at dksX5_chapterFor_3 6 rfl rfl)
theorem dX5_chapterFor_81 : decode cX5_chapterFor 81 = .ok (.goto (-79), 3) := dk_167 255 177 (dk_at dksX5_chapterFor_3 9 rfl rfl)
theorem dX5_chapterFor_84 : decode cX5_chapterFor 84 = .ok (.iconst (-1), 1) := dk_2 (dk_at dksX5_chapterFor_3 12 rfl rfl)
theorem dX5_chapterFor_85 : decode cX5_chapterFor 85 = .ok (.ireturn, 1) := dk_172 (dk_at dksX5_chapterFor_3 13 rfl rfl)
abbrev cX5_topOf : ByteArray := prog_20_method_63_code
def yX5_topOf : MethodName := ⟨RX5, "topOf", "(II)I"⟩
def dkwX5_topOf_5 : List UInt8 := [167, 255, 142, 29, 172]
abbrev dktX5_topOf_5 : List UInt8 := dkwX5_topOf_5 ++ []
def dkwX5_topOf_4 : List UInt8 := [21, 5, 96, 46, 29, 164, 0, 16, 42, 180, 0, 38, 16, 10, 27, 104, 21, 5, 96, 46, 62, 132, 4, 1]
abbrev dktX5_topOf_4 : List UInt8 := dkwX5_topOf_4 ++ dktX5_topOf_5
def dkwX5_topOf_3 : List UInt8 := [132, 5, 1, 167, 255, 201, 21, 5, 42, 27, 182, 1, 62, 162, 0, 32, 42, 180, 0, 38, 16, 10, 27, 104]
abbrev dktX5_topOf_3 : List UInt8 := dkwX5_topOf_3 ++ dktX5_topOf_4
def dkwX5_topOf_2 : List UInt8 := [27, 104, 21, 5, 96, 46, 42, 180, 0, 35, 16, 10, 27, 104, 21, 5, 96, 46, 184, 0, 170, 154, 0, 9]
abbrev dktX5_topOf_2 : List UInt8 := dkwX5_topOf_2 ++ dktX5_topOf_3
def dkwX5_topOf_1 : List UInt8 := [182, 1, 62, 162, 0, 51, 42, 180, 0, 120, 16, 6, 28, 104, 21, 4, 96, 46, 42, 180, 0, 32, 16, 10]
abbrev dktX5_topOf_1 : List UInt8 := dkwX5_topOf_1 ++ dktX5_topOf_2
def dkwX5_topOf_0 : List UInt8 := [3, 62, 3, 54, 4, 21, 4, 42, 180, 0, 117, 28, 46, 162, 0, 109, 3, 54, 5, 21, 5, 42, 27]
abbrev dktX5_topOf_0 : List UInt8 := dkwX5_topOf_0 ++ dktX5_topOf_1
theorem dksX5_topOf_0 : cX5_topOf.data.toList.drop 0 = dktX5_topOf_0 := by decide +kernel
theorem dksX5_topOf_1 : cX5_topOf.data.toList.drop 23 = dktX5_topOf_1 := dk_seg dksX5_topOf_0 23 rfl rfl
theorem dksX5_topOf_2 : cX5_topOf.data.toList.drop 47 = dktX5_topOf_2 := dk_seg dksX5_topOf_1 24 rfl rfl
theorem dksX5_topOf_3 : cX5_topOf.data.toList.drop 71 = dktX5_topOf_3 := dk_seg dksX5_topOf_2 24 rfl rfl
theorem dksX5_topOf_4 : cX5_topOf.data.toList.drop 95 = dktX5_topOf_4 := dk_seg dksX5_topOf_3 24 rfl rfl
theorem dksX5_topOf_5 : cX5_topOf.data.toList.drop 119 = dktX5_topOf_5 := dk_seg dksX5_topOf_4 24 rfl rfl
theorem dX5_topOf_0 : decode cX5_topOf 0 = .ok (.iconst 0, 1) := dk_3 (dk_at dksX5_topOf_0 0 rfl rfl)
theorem dX5_topOf_1 : decode cX5_topOf 1 = .ok (.istore_n 3, 1) := dk_62 (dk_at dksX5_topOf_0 1 rfl rfl)
theorem dX5_topOf_2 : decode cX5_topOf 2 = .ok (.iconst 0, 1) := dk_3 (dk_at dksX5_topOf_0 2 rfl rfl)
theorem dX5_topOf_3 : decode cX5_topOf 3 = .ok (.istore 4, 2) := dk_54 4 (dk_at dksX5_topOf_0 3 rfl rfl)
theorem dX5_topOf_5 : decode cX5_topOf 5 = .ok (.iload 4, 2) := dk_21 4 (dk_at dksX5_topOf_0 5 rfl rfl)
theorem dX5_topOf_7 : decode cX5_topOf 7 = .ok (.aload_n 0, 1) := dk_42 (dk_at dksX5_topOf_0 7 rfl rfl)
theorem dX5_topOf_8 : decode cX5_topOf 8 = .ok (.getfield 117, 3) := dk_180 0 117 (dk_at dksX5_topOf_0 8 rfl rfl)
theorem dX5_topOf_11 : decode cX5_topOf 11 = .ok (.iload_n 2, 1) := dk_28 (dk_at dksX5_topOf_0 11 rfl rfl)
theorem dX5_topOf_12 : decode cX5_topOf 12 = .ok (.iaload, 1) := dk_46 (dk_at dksX5_topOf_0 12 rfl rfl)
theorem dX5_topOf_13 : decode cX5_topOf 13 = .ok (.if_icmp .ge 109, 3) := dk_162 0 109 (dk_at dksX5_topOf_0 13 rfl rfl)
theorem dX5_topOf_16 : decode cX5_topOf 16 = .ok (.iconst 0, 1) := dk_3 (dk_at dksX5_topOf_0 16 rfl rfl)
theorem dX5_topOf_17 : decode cX5_topOf 17 = .ok (.istore 5, 2) := dk_54 5 (dk_at dksX5_topOf_0 17 rfl rfl)
theorem dX5_topOf_19 : decode cX5_topOf 19 = .ok (.iload 5, 2) := dk_21 5 (dk_at dksX5_topOf_0 19 rfl rfl)
theorem dX5_topOf_21 : decode cX5_topOf 21 = .ok (.aload_n 0, 1) := dk_42 (dk_at dksX5_topOf_0 21 rfl rfl)
theorem dX5_topOf_22 : decode cX5_topOf 22 = .ok (.iload_n 1, 1) := dk_27 (dk_at dksX5_topOf_0 22 rfl rfl)
theorem dX5_topOf_23 : decode cX5_topOf 23 = .ok (.invokevirtual 318, 3) := dk_182 1 62 (dk_at dksX5_topOf_1 0 rfl rfl)
theorem dX5_topOf_26 : decode cX5_topOf 26 = .ok (.if_icmp .ge 51, 3) := dk_162 0 51 (dk_at dksX5_topOf_1 3 rfl rfl)
theorem dX5_topOf_29 : decode cX5_topOf 29 = .ok (.aload_n 0, 1) := dk_42 (dk_at dksX5_topOf_1 6 rfl rfl)
theorem dX5_topOf_30 : decode cX5_topOf 30 = .ok (.getfield 120, 3) := dk_180 0 120 (dk_at dksX5_topOf_1 7 rfl rfl)
theorem dX5_topOf_33 : decode cX5_topOf 33 = .ok (.bipush 6, 2) := dk_16 6 (dk_at dksX5_topOf_1 10 rfl rfl)
theorem dX5_topOf_35 : decode cX5_topOf 35 = .ok (.iload_n 2, 1) := dk_28 (dk_at dksX5_topOf_1 12 rfl rfl)
theorem dX5_topOf_36 : decode cX5_topOf 36 = .ok (.imul, 1) := dk_104 (dk_at dksX5_topOf_1 13 rfl rfl)
theorem dX5_topOf_37 : decode cX5_topOf 37 = .ok (.iload 4, 2) := dk_21 4 (dk_at dksX5_topOf_1 14 rfl rfl)
theorem dX5_topOf_39 : decode cX5_topOf 39 = .ok (.iadd, 1) := dk_96 (dk_at dksX5_topOf_1 16 rfl rfl)
theorem dX5_topOf_40 : decode cX5_topOf 40 = .ok (.iaload, 1) := dk_46 (dk_at dksX5_topOf_1 17 rfl rfl)
theorem dX5_topOf_41 : decode cX5_topOf 41 = .ok (.aload_n 0, 1) := dk_42 (dk_at dksX5_topOf_1 18 rfl rfl)
theorem dX5_topOf_42 : decode cX5_topOf 42 = .ok (.getfield 32, 3) := dk_180 0 32 (dk_at dksX5_topOf_1 19 rfl rfl)
theorem dX5_topOf_45 : decode cX5_topOf 45 = .ok (.bipush 10, 2) := dk_16 10 (dk_at dksX5_topOf_1 22 rfl rfl)
theorem dX5_topOf_47 : decode cX5_topOf 47 = .ok (.iload_n 1, 1) := dk_27 (dk_at dksX5_topOf_2 0 rfl rfl)
theorem dX5_topOf_48 : decode cX5_topOf 48 = .ok (.imul, 1) := dk_104 (dk_at dksX5_topOf_2 1 rfl rfl)
theorem dX5_topOf_49 : decode cX5_topOf 49 = .ok (.iload 5, 2) := dk_21 5 (dk_at dksX5_topOf_2 2 rfl rfl)
theorem dX5_topOf_51 : decode cX5_topOf 51 = .ok (.iadd, 1) := dk_96 (dk_at dksX5_topOf_2 4 rfl rfl)
theorem dX5_topOf_52 : decode cX5_topOf 52 = .ok (.iaload, 1) := dk_46 (dk_at dksX5_topOf_2 5 rfl rfl)
theorem dX5_topOf_53 : decode cX5_topOf 53 = .ok (.aload_n 0, 1) := dk_42 (dk_at dksX5_topOf_2 6 rfl rfl)
theorem dX5_topOf_54 : decode cX5_topOf 54 = .ok (.getfield 35, 3) := dk_180 0 35 (dk_at dksX5_topOf_2 7 rfl rfl)
theorem dX5_topOf_57 : decode cX5_topOf 57 = .ok (.bipush 10, 2) := dk_16 10 (dk_at dksX5_topOf_2 10 rfl rfl)
theorem dX5_topOf_59 : decode cX5_topOf 59 = .ok (.iload_n 1, 1) := dk_27 (dk_at dksX5_topOf_2 12 rfl rfl)
theorem dX5_topOf_60 : decode cX5_topOf 60 = .ok (.imul, 1) := dk_104 (dk_at dksX5_topOf_2 13 rfl rfl)
theorem dX5_topOf_61 : decode cX5_topOf 61 = .ok (.iload 5, 2) := dk_21 5 (dk_at dksX5_topOf_2 14 rfl rfl)
theorem dX5_topOf_63 : decode cX5_topOf 63 = .ok (.iadd, 1) := dk_96 (dk_at dksX5_topOf_2 16 rfl rfl)
theorem dX5_topOf_64 : decode cX5_topOf 64 = .ok (.iaload, 1) := dk_46 (dk_at dksX5_topOf_2 17 rfl rfl)
theorem dX5_topOf_65 : decode cX5_topOf 65 = .ok (.invokestatic 170, 3) := dk_184 0 170 (dk_at dksX5_topOf_2 18 rfl rfl)
theorem dX5_topOf_68 : decode cX5_topOf 68 = .ok (.ifCond .ne 9, 3) := dk_154 0 9 (dk_at dksX5_topOf_2 21 rfl rfl)
theorem dX5_topOf_71 : decode cX5_topOf 71 = .ok (.iinc 5 1, 3) := dk_132 5 1 (dk_at dksX5_topOf_3 0 rfl rfl)
theorem dX5_topOf_74 : decode cX5_topOf 74 = .ok (.goto (-55), 3) := dk_167 255 201 (dk_at dksX5_topOf_3 3 rfl rfl)
theorem dX5_topOf_77 : decode cX5_topOf 77 = .ok (.iload 5, 2) := dk_21 5 (dk_at dksX5_topOf_3 6 rfl rfl)
theorem dX5_topOf_79 : decode cX5_topOf 79 = .ok (.aload_n 0, 1) := dk_42 (dk_at dksX5_topOf_3 8 rfl rfl)
theorem dX5_topOf_80 : decode cX5_topOf 80 = .ok (.iload_n 1, 1) := dk_27 (dk_at dksX5_topOf_3 9 rfl rfl)
theorem dX5_topOf_81 : decode cX5_topOf 81 = .ok (.invokevirtual 318, 3) := dk_182 1 62 (dk_at dksX5_topOf_3 10 rfl rfl)
theorem dX5_topOf_84 : decode cX5_topOf 84 = .ok (.if_icmp .ge 32, 3) := dk_162 0 32 (dk_at dksX5_topOf_3 13 rfl rfl)
theorem dX5_topOf_87 : decode cX5_topOf 87 = .ok (.aload_n 0, 1) := dk_42 (dk_at dksX5_topOf_3 16 rfl rfl)
theorem dX5_topOf_88 : decode cX5_topOf 88 = .ok (.getfield 38, 3) := dk_180 0 38 (dk_at dksX5_topOf_3 17 rfl rfl)
theorem dX5_topOf_91 : decode cX5_topOf 91 = .ok (.bipush 10, 2) := dk_16 10 (dk_at dksX5_topOf_3 20 rfl rfl)
theorem dX5_topOf_93 : decode cX5_topOf 93 = .ok (.iload_n 1, 1) := dk_27 (dk_at dksX5_topOf_3 22 rfl rfl)
theorem dX5_topOf_94 : decode cX5_topOf 94 = .ok (.imul, 1) := dk_104 (dk_at dksX5_topOf_3 23 rfl rfl)
theorem dX5_topOf_95 : decode cX5_topOf 95 = .ok (.iload 5, 2) := dk_21 5 (dk_at dksX5_topOf_4 0 rfl rfl)
theorem dX5_topOf_97 : decode cX5_topOf 97 = .ok (.iadd, 1) := dk_96 (dk_at dksX5_topOf_4 2 rfl rfl)
theorem dX5_topOf_98 : decode cX5_topOf 98 = .ok (.iaload, 1) := dk_46 (dk_at dksX5_topOf_4 3 rfl rfl)
theorem dX5_topOf_99 : decode cX5_topOf 99 = .ok (.iload_n 3, 1) := dk_29 (dk_at dksX5_topOf_4 4 rfl rfl)
theorem dX5_topOf_100 : decode cX5_topOf 100 = .ok (.if_icmp .le 16, 3) := dk_164 0 16 (dk_at dksX5_topOf_4 5 rfl rfl)
theorem dX5_topOf_103 : decode cX5_topOf 103 = .ok (.aload_n 0, 1) := dk_42 (dk_at dksX5_topOf_4 8 rfl rfl)
theorem dX5_topOf_104 : decode cX5_topOf 104 = .ok (.getfield 38, 3) := dk_180 0 38 (dk_at dksX5_topOf_4 9 rfl rfl)
theorem dX5_topOf_107 : decode cX5_topOf 107 = .ok (.bipush 10, 2) := dk_16 10 (dk_at dksX5_topOf_4 12 rfl rfl)
theorem dX5_topOf_109 : decode cX5_topOf 109 = .ok (.iload_n 1, 1) := dk_27 (dk_at dksX5_topOf_4 14 rfl rfl)
theorem dX5_topOf_110 : decode cX5_topOf 110 = .ok (.imul, 1) := dk_104 (dk_at dksX5_topOf_4 15 rfl rfl)
theorem dX5_topOf_111 : decode cX5_topOf 111 = .ok (.iload 5, 2) := dk_21 5 (dk_at dksX5_topOf_4 16 rfl rfl)
theorem dX5_topOf_113 : decode cX5_topOf 113 = .ok (.iadd, 1) := dk_96 (dk_at dksX5_topOf_4 18 rfl rfl)
theorem dX5_topOf_114 : decode cX5_topOf 114 = .ok (.iaload, 1) := dk_46 (dk_at dksX5_topOf_4 19 rfl rfl)
theorem dX5_topOf_115 : decode cX5_topOf 115 = .ok (.istore_n 3, 1) := dk_62 (dk_at dksX5_topOf_4 20 rfl rfl)
theorem dX5_topOf_116 : decode cX5_topOf 116 = .ok (.iinc 4 1, 3) := dk_132 4 1 (dk_at dksX5_topOf_4 21 rfl rfl)
theorem dX5_topOf_119 : decode cX5_topOf 119 = .ok (.goto (-114), 3) := dk_167 255 142 (dk_at dksX5_topOf_5 0 rfl rfl)
theorem dX5_topOf_122 : decode cX5_topOf 122 = .ok (.iload_n 3, 1) := dk_29 (dk_at dksX5_topOf_5 3 rfl rfl)
theorem dX5_topOf_123 : decode cX5_topOf 123 = .ok (.ireturn, 1) := dk_172 (dk_at dksX5_topOf_5 4 rfl rfl)
abbrev cX5_levelOf : ByteArray := prog_20_method_67_code
def yX5_levelOf : MethodName := ⟨RX5, "levelOf", "(II)I"⟩
def dkwX5_levelOf_3 : List UInt8 := [132, 4, 1, 167, 255, 186, 29, 172]
abbrev dktX5_levelOf_3 : List UInt8 := dkwX5_levelOf_3 ++ []
def dkwX5_levelOf_2 : List UInt8 := [16, 10, 27, 104, 42, 27, 21, 5, 182, 1, 180, 96, 46, 54, 6, 21, 6, 29, 164, 0, 6, 21, 6, 62]
abbrev dktX5_levelOf_2 : List UInt8 := dkwX5_levelOf_2 ++ dktX5_levelOf_3
def dkwX5_levelOf_1 : List UInt8 := [21, 4, 96, 46, 54, 5, 42, 27, 28, 21, 5, 182, 1, 186, 154, 0, 6, 167, 0, 31, 42, 180, 0, 47]
abbrev dktX5_levelOf_1 : List UInt8 := dkwX5_levelOf_1 ++ dktX5_levelOf_2
def dkwX5_levelOf_0 : List UInt8 := [3, 62, 3, 54, 4, 21, 4, 42, 180, 0, 111, 28, 46, 162, 0, 65, 42, 180, 0, 114, 16, 8, 28, 104]
abbrev dktX5_levelOf_0 : List UInt8 := dkwX5_levelOf_0 ++ dktX5_levelOf_1
theorem dksX5_levelOf_0 : cX5_levelOf.data.toList.drop 0 = dktX5_levelOf_0 := by decide +kernel
theorem dksX5_levelOf_1 : cX5_levelOf.data.toList.drop 24 = dktX5_levelOf_1 := dk_seg dksX5_levelOf_0 24 rfl rfl
theorem dksX5_levelOf_2 : cX5_levelOf.data.toList.drop 48 = dktX5_levelOf_2 := dk_seg dksX5_levelOf_1 24 rfl rfl
theorem dksX5_levelOf_3 : cX5_levelOf.data.toList.drop 72 = dktX5_levelOf_3 := dk_seg dksX5_levelOf_2 24 rfl rfl
theorem dX5_levelOf_0 : decode cX5_levelOf 0 = .ok (.iconst 0, 1) := dk_3 (dk_at dksX5_levelOf_0 0 rfl rfl)
theorem dX5_levelOf_1 : decode cX5_levelOf 1 = .ok (.istore_n 3, 1) := dk_62 (dk_at dksX5_levelOf_0 1 rfl rfl)
theorem dX5_levelOf_2 : decode cX5_levelOf 2 = .ok (.iconst 0, 1) := dk_3 (dk_at dksX5_levelOf_0 2 rfl rfl)
theorem dX5_levelOf_3 : decode cX5_levelOf 3 = .ok (.istore 4, 2) := dk_54 4 (dk_at dksX5_levelOf_0 3 rfl rfl)
theorem dX5_levelOf_5 : decode cX5_levelOf 5 = .ok (.iload 4, 2) := dk_21 4 (dk_at dksX5_levelOf_0 5 rfl rfl)
theorem dX5_levelOf_7 : decode cX5_levelOf 7 = .ok (.aload_n 0, 1) := dk_42 (dk_at dksX5_levelOf_0 7 rfl rfl)
theorem dX5_levelOf_8 : decode cX5_levelOf 8 = .ok (.getfield 111, 3) := dk_180 0 111 (dk_at dksX5_levelOf_0 8 rfl rfl)
theorem dX5_levelOf_11 : decode cX5_levelOf 11 = .ok (.iload_n 2, 1) := dk_28 (dk_at dksX5_levelOf_0 11 rfl rfl)
theorem dX5_levelOf_12 : decode cX5_levelOf 12 = .ok (.iaload, 1) := dk_46 (dk_at dksX5_levelOf_0 12 rfl rfl)
theorem dX5_levelOf_13 : decode cX5_levelOf 13 = .ok (.if_icmp .ge 65, 3) := dk_162 0 65 (dk_at dksX5_levelOf_0 13 rfl rfl)
theorem dX5_levelOf_16 : decode cX5_levelOf 16 = .ok (.aload_n 0, 1) := dk_42 (dk_at dksX5_levelOf_0 16 rfl rfl)
theorem dX5_levelOf_17 : decode cX5_levelOf 17 = .ok (.getfield 114, 3) := dk_180 0 114 (dk_at dksX5_levelOf_0 17 rfl rfl)
theorem dX5_levelOf_20 : decode cX5_levelOf 20 = .ok (.bipush 8, 2) := dk_16 8 (dk_at dksX5_levelOf_0 20 rfl rfl)
theorem dX5_levelOf_22 : decode cX5_levelOf 22 = .ok (.iload_n 2, 1) := dk_28 (dk_at dksX5_levelOf_0 22 rfl rfl)
theorem dX5_levelOf_23 : decode cX5_levelOf 23 = .ok (.imul, 1) := dk_104 (dk_at dksX5_levelOf_0 23 rfl rfl)
theorem dX5_levelOf_24 : decode cX5_levelOf 24 = .ok (.iload 4, 2) := dk_21 4 (dk_at dksX5_levelOf_1 0 rfl rfl)
theorem dX5_levelOf_26 : decode cX5_levelOf 26 = .ok (.iadd, 1) := dk_96 (dk_at dksX5_levelOf_1 2 rfl rfl)
theorem dX5_levelOf_27 : decode cX5_levelOf 27 = .ok (.iaload, 1) := dk_46 (dk_at dksX5_levelOf_1 3 rfl rfl)
theorem dX5_levelOf_28 : decode cX5_levelOf 28 = .ok (.istore 5, 2) := dk_54 5 (dk_at dksX5_levelOf_1 4 rfl rfl)
theorem dX5_levelOf_30 : decode cX5_levelOf 30 = .ok (.aload_n 0, 1) := dk_42 (dk_at dksX5_levelOf_1 6 rfl rfl)
theorem dX5_levelOf_31 : decode cX5_levelOf 31 = .ok (.iload_n 1, 1) := dk_27 (dk_at dksX5_levelOf_1 7 rfl rfl)
theorem dX5_levelOf_32 : decode cX5_levelOf 32 = .ok (.iload_n 2, 1) := dk_28 (dk_at dksX5_levelOf_1 8 rfl rfl)
theorem dX5_levelOf_33 : decode cX5_levelOf 33 = .ok (.iload 5, 2) := dk_21 5 (dk_at dksX5_levelOf_1 9 rfl rfl)
theorem dX5_levelOf_35 : decode cX5_levelOf 35 = .ok (.invokevirtual 442, 3) := dk_182 1 186 (dk_at dksX5_levelOf_1 11 rfl rfl)
theorem dX5_levelOf_38 : decode cX5_levelOf 38 = .ok (.ifCond .ne 6, 3) := dk_154 0 6 (dk_at dksX5_levelOf_1 14 rfl rfl)
theorem dX5_levelOf_41 : decode cX5_levelOf 41 = .ok (.goto 31, 3) := dk_167 0 31 (dk_at dksX5_levelOf_1 17 rfl rfl)
theorem dX5_levelOf_44 : decode cX5_levelOf 44 = .ok (.aload_n 0, 1) := dk_42 (dk_at dksX5_levelOf_1 20 rfl rfl)
theorem dX5_levelOf_45 : decode cX5_levelOf 45 = .ok (.getfield 47, 3) := dk_180 0 47 (dk_at dksX5_levelOf_1 21 rfl rfl)
theorem dX5_levelOf_48 : decode cX5_levelOf 48 = .ok (.bipush 10, 2) := dk_16 10 (dk_at dksX5_levelOf_2 0 rfl rfl)
theorem dX5_levelOf_50 : decode cX5_levelOf 50 = .ok (.iload_n 1, 1) := dk_27 (dk_at dksX5_levelOf_2 2 rfl rfl)
theorem dX5_levelOf_51 : decode cX5_levelOf 51 = .ok (.imul, 1) := dk_104 (dk_at dksX5_levelOf_2 3 rfl rfl)
theorem dX5_levelOf_52 : decode cX5_levelOf 52 = .ok (.aload_n 0, 1) := dk_42 (dk_at dksX5_levelOf_2 4 rfl rfl)
theorem dX5_levelOf_53 : decode cX5_levelOf 53 = .ok (.iload_n 1, 1) := dk_27 (dk_at dksX5_levelOf_2 5 rfl rfl)
theorem dX5_levelOf_54 : decode cX5_levelOf 54 = .ok (.iload 5, 2) := dk_21 5 (dk_at dksX5_levelOf_2 6 rfl rfl)
theorem dX5_levelOf_56 : decode cX5_levelOf 56 = .ok (.invokevirtual 436, 3) := dk_182 1 180 (dk_at dksX5_levelOf_2 8 rfl rfl)
theorem dX5_levelOf_59 : decode cX5_levelOf 59 = .ok (.iadd, 1) := dk_96 (dk_at dksX5_levelOf_2 11 rfl rfl)
theorem dX5_levelOf_60 : decode cX5_levelOf 60 = .ok (.iaload, 1) := dk_46 (dk_at dksX5_levelOf_2 12 rfl rfl)
theorem dX5_levelOf_61 : decode cX5_levelOf 61 = .ok (.istore 6, 2) := dk_54 6 (dk_at dksX5_levelOf_2 13 rfl rfl)
theorem dX5_levelOf_63 : decode cX5_levelOf 63 = .ok (.iload 6, 2) := dk_21 6 (dk_at dksX5_levelOf_2 15 rfl rfl)
theorem dX5_levelOf_65 : decode cX5_levelOf 65 = .ok (.iload_n 3, 1) := dk_29 (dk_at dksX5_levelOf_2 17 rfl rfl)
theorem dX5_levelOf_66 : decode cX5_levelOf 66 = .ok (.if_icmp .le 6, 3) := dk_164 0 6 (dk_at dksX5_levelOf_2 18 rfl rfl)
theorem dX5_levelOf_69 : decode cX5_levelOf 69 = .ok (.iload 6, 2) := dk_21 6 (dk_at dksX5_levelOf_2 21 rfl rfl)
theorem dX5_levelOf_71 : decode cX5_levelOf 71 = .ok (.istore_n 3, 1) := dk_62 (dk_at dksX5_levelOf_2 23 rfl rfl)
theorem dX5_levelOf_72 : decode cX5_levelOf 72 = .ok (.iinc 4 1, 3) := dk_132 4 1 (dk_at dksX5_levelOf_3 0 rfl rfl)
theorem dX5_levelOf_75 : decode cX5_levelOf 75 = .ok (.goto (-70), 3) := dk_167 255 186 (dk_at dksX5_levelOf_3 3 rfl rfl)
theorem dX5_levelOf_78 : decode cX5_levelOf 78 = .ok (.iload_n 3, 1) := dk_29 (dk_at dksX5_levelOf_3 6 rfl rfl)
theorem dX5_levelOf_79 : decode cX5_levelOf 79 = .ok (.ireturn, 1) := dk_172 (dk_at dksX5_levelOf_3 7 rfl rfl)
abbrev cX5_counts : ByteArray := prog_20_method_66_code
def yX5_counts : MethodName := ⟨RX5, "counts", "(III)Z"⟩
def dkwX5_counts_4 : List UInt8 := [172]
abbrev dktX5_counts_4 : List UInt8 := dkwX5_counts_4 ++ []
def dkwX5_counts_3 : List UInt8 := [16, 10, 27, 104, 21, 4, 96, 21, 6, 182, 1, 183, 153, 0, 5, 3, 172, 132, 5, 1, 167, 255, 204, 4]
abbrev dktX5_counts_3 : List UInt8 := dkwX5_counts_3 ++ dktX5_counts_4
def dkwX5_counts_2 : List UInt8 := [162, 0, 47, 42, 180, 0, 114, 16, 8, 28, 104, 21, 5, 96, 46, 54, 6, 21, 6, 29, 159, 0, 21, 42]
abbrev dktX5_counts_2 : List UInt8 := dkwX5_counts_2 ++ dktX5_counts_3
def dkwX5_counts_1 : List UInt8 := [180, 0, 102, 28, 46, 182, 1, 183, 153, 0, 5, 3, 172, 3, 54, 5, 21, 5, 42, 180, 0, 111, 28, 46]
abbrev dktX5_counts_1 : List UInt8 := dkwX5_counts_1 ++ dktX5_counts_2
def dkwX5_counts_0 : List UInt8 := [42, 27, 29, 182, 1, 180, 54, 4, 21, 4, 155, 0, 23, 42, 16, 10, 27, 104, 21, 4, 96, 42]
abbrev dktX5_counts_0 : List UInt8 := dkwX5_counts_0 ++ dktX5_counts_1
theorem dksX5_counts_0 : cX5_counts.data.toList.drop 0 = dktX5_counts_0 := by decide +kernel
theorem dksX5_counts_1 : cX5_counts.data.toList.drop 22 = dktX5_counts_1 := dk_seg dksX5_counts_0 22 rfl rfl
theorem dksX5_counts_2 : cX5_counts.data.toList.drop 46 = dktX5_counts_2 := dk_seg dksX5_counts_1 24 rfl rfl
theorem dksX5_counts_3 : cX5_counts.data.toList.drop 70 = dktX5_counts_3 := dk_seg dksX5_counts_2 24 rfl rfl
theorem dksX5_counts_4 : cX5_counts.data.toList.drop 94 = dktX5_counts_4 := dk_seg dksX5_counts_3 24 rfl rfl
theorem dX5_counts_0 : decode cX5_counts 0 = .ok (.aload_n 0, 1) := dk_42 (dk_at dksX5_counts_0 0 rfl rfl)
theorem dX5_counts_1 : decode cX5_counts 1 = .ok (.iload_n 1, 1) := dk_27 (dk_at dksX5_counts_0 1 rfl rfl)
theorem dX5_counts_2 : decode cX5_counts 2 = .ok (.iload_n 3, 1) := dk_29 (dk_at dksX5_counts_0 2 rfl rfl)
theorem dX5_counts_3 : decode cX5_counts 3 = .ok (.invokevirtual 436, 3) := dk_182 1 180 (dk_at dksX5_counts_0 3 rfl rfl)
theorem dX5_counts_6 : decode cX5_counts 6 = .ok (.istore 4, 2) := dk_54 4 (dk_at dksX5_counts_0 6 rfl rfl)
theorem dX5_counts_8 : decode cX5_counts 8 = .ok (.iload 4, 2) := dk_21 4 (dk_at dksX5_counts_0 8 rfl rfl)
theorem dX5_counts_10 : decode cX5_counts 10 = .ok (.ifCond .lt 23, 3) := dk_155 0 23 (dk_at dksX5_counts_0 10 rfl rfl)
theorem dX5_counts_13 : decode cX5_counts 13 = .ok (.aload_n 0, 1) := dk_42 (dk_at dksX5_counts_0 13 rfl rfl)
theorem dX5_counts_14 : decode cX5_counts 14 = .ok (.bipush 10, 2) := dk_16 10 (dk_at dksX5_counts_0 14 rfl rfl)
theorem dX5_counts_16 : decode cX5_counts 16 = .ok (.iload_n 1, 1) := dk_27 (dk_at dksX5_counts_0 16 rfl rfl)
theorem dX5_counts_17 : decode cX5_counts 17 = .ok (.imul, 1) := dk_104 (dk_at dksX5_counts_0 17 rfl rfl)
theorem dX5_counts_18 : decode cX5_counts 18 = .ok (.iload 4, 2) := dk_21 4 (dk_at dksX5_counts_0 18 rfl rfl)
theorem dX5_counts_20 : decode cX5_counts 20 = .ok (.iadd, 1) := dk_96 (dk_at dksX5_counts_0 20 rfl rfl)
theorem dX5_counts_21 : decode cX5_counts 21 = .ok (.aload_n 0, 1) := dk_42 (dk_at dksX5_counts_0 21 rfl rfl)
theorem dX5_counts_22 : decode cX5_counts 22 = .ok (.getfield 102, 3) := dk_180 0 102 (dk_at dksX5_counts_1 0 rfl rfl)
theorem dX5_counts_25 : decode cX5_counts 25 = .ok (.iload_n 2, 1) := dk_28 (dk_at dksX5_counts_1 3 rfl rfl)
theorem dX5_counts_26 : decode cX5_counts 26 = .ok (.iaload, 1) := dk_46 (dk_at dksX5_counts_1 4 rfl rfl)
theorem dX5_counts_27 : decode cX5_counts 27 = .ok (.invokevirtual 439, 3) := dk_182 1 183 (dk_at dksX5_counts_1 5 rfl rfl)
theorem dX5_counts_30 : decode cX5_counts 30 = .ok (.ifCond .eq 5, 3) := dk_153 0 5 (dk_at dksX5_counts_1 8 rfl rfl)
theorem dX5_counts_33 : decode cX5_counts 33 = .ok (.iconst 0, 1) := dk_3 (dk_at dksX5_counts_1 11 rfl rfl)
theorem dX5_counts_34 : decode cX5_counts 34 = .ok (.ireturn, 1) := dk_172 (dk_at dksX5_counts_1 12 rfl rfl)
theorem dX5_counts_35 : decode cX5_counts 35 = .ok (.iconst 0, 1) := dk_3 (dk_at dksX5_counts_1 13 rfl rfl)
theorem dX5_counts_36 : decode cX5_counts 36 = .ok (.istore 5, 2) := dk_54 5 (dk_at dksX5_counts_1 14 rfl rfl)
theorem dX5_counts_38 : decode cX5_counts 38 = .ok (.iload 5, 2) := dk_21 5 (dk_at dksX5_counts_1 16 rfl rfl)
theorem dX5_counts_40 : decode cX5_counts 40 = .ok (.aload_n 0, 1) := dk_42 (dk_at dksX5_counts_1 18 rfl rfl)
theorem dX5_counts_41 : decode cX5_counts 41 = .ok (.getfield 111, 3) := dk_180 0 111 (dk_at dksX5_counts_1 19 rfl rfl)
theorem dX5_counts_44 : decode cX5_counts 44 = .ok (.iload_n 2, 1) := dk_28 (dk_at dksX5_counts_1 22 rfl rfl)
theorem dX5_counts_45 : decode cX5_counts 45 = .ok (.iaload, 1) := dk_46 (dk_at dksX5_counts_1 23 rfl rfl)
theorem dX5_counts_46 : decode cX5_counts 46 = .ok (.if_icmp .ge 47, 3) := dk_162 0 47 (dk_at dksX5_counts_2 0 rfl rfl)
theorem dX5_counts_49 : decode cX5_counts 49 = .ok (.aload_n 0, 1) := dk_42 (dk_at dksX5_counts_2 3 rfl rfl)
theorem dX5_counts_50 : decode cX5_counts 50 = .ok (.getfield 114, 3) := dk_180 0 114 (dk_at dksX5_counts_2 4 rfl rfl)
theorem dX5_counts_53 : decode cX5_counts 53 = .ok (.bipush 8, 2) := dk_16 8 (dk_at dksX5_counts_2 7 rfl rfl)
theorem dX5_counts_55 : decode cX5_counts 55 = .ok (.iload_n 2, 1) := dk_28 (dk_at dksX5_counts_2 9 rfl rfl)
theorem dX5_counts_56 : decode cX5_counts 56 = .ok (.imul, 1) := dk_104 (dk_at dksX5_counts_2 10 rfl rfl)
theorem dX5_counts_57 : decode cX5_counts 57 = .ok (.iload 5, 2) := dk_21 5 (dk_at dksX5_counts_2 11 rfl rfl)
theorem dX5_counts_59 : decode cX5_counts 59 = .ok (.iadd, 1) := dk_96 (dk_at dksX5_counts_2 13 rfl rfl)
theorem dX5_counts_60 : decode cX5_counts 60 = .ok (.iaload, 1) := dk_46 (dk_at dksX5_counts_2 14 rfl rfl)
theorem dX5_counts_61 : decode cX5_counts 61 = .ok (.istore 6, 2) := dk_54 6 (dk_at dksX5_counts_2 15 rfl rfl)
theorem dX5_counts_63 : decode cX5_counts 63 = .ok (.iload 6, 2) := dk_21 6 (dk_at dksX5_counts_2 17 rfl rfl)
theorem dX5_counts_65 : decode cX5_counts 65 = .ok (.iload_n 3, 1) := dk_29 (dk_at dksX5_counts_2 19 rfl rfl)
theorem dX5_counts_66 : decode cX5_counts 66 = .ok (.if_icmp .eq 21, 3) := dk_159 0 21 (dk_at dksX5_counts_2 20 rfl rfl)
theorem dX5_counts_69 : decode cX5_counts 69 = .ok (.aload_n 0, 1) := dk_42 (dk_at dksX5_counts_2 23 rfl rfl)
theorem dX5_counts_70 : decode cX5_counts 70 = .ok (.bipush 10, 2) := dk_16 10 (dk_at dksX5_counts_3 0 rfl rfl)
theorem dX5_counts_72 : decode cX5_counts 72 = .ok (.iload_n 1, 1) := dk_27 (dk_at dksX5_counts_3 2 rfl rfl)
theorem dX5_counts_73 : decode cX5_counts 73 = .ok (.imul, 1) := dk_104 (dk_at dksX5_counts_3 3 rfl rfl)
theorem dX5_counts_74 : decode cX5_counts 74 = .ok (.iload 4, 2) := dk_21 4 (dk_at dksX5_counts_3 4 rfl rfl)
theorem dX5_counts_76 : decode cX5_counts 76 = .ok (.iadd, 1) := dk_96 (dk_at dksX5_counts_3 6 rfl rfl)
theorem dX5_counts_77 : decode cX5_counts 77 = .ok (.iload 6, 2) := dk_21 6 (dk_at dksX5_counts_3 7 rfl rfl)
theorem dX5_counts_79 : decode cX5_counts 79 = .ok (.invokevirtual 439, 3) := dk_182 1 183 (dk_at dksX5_counts_3 9 rfl rfl)
theorem dX5_counts_82 : decode cX5_counts 82 = .ok (.ifCond .eq 5, 3) := dk_153 0 5 (dk_at dksX5_counts_3 12 rfl rfl)
theorem dX5_counts_85 : decode cX5_counts 85 = .ok (.iconst 0, 1) := dk_3 (dk_at dksX5_counts_3 15 rfl rfl)
theorem dX5_counts_86 : decode cX5_counts 86 = .ok (.ireturn, 1) := dk_172 (dk_at dksX5_counts_3 16 rfl rfl)
theorem dX5_counts_87 : decode cX5_counts 87 = .ok (.iinc 5 1, 3) := dk_132 5 1 (dk_at dksX5_counts_3 17 rfl rfl)
theorem dX5_counts_90 : decode cX5_counts 90 = .ok (.goto (-52), 3) := dk_167 255 204 (dk_at dksX5_counts_3 20 rfl rfl)
theorem dX5_counts_93 : decode cX5_counts 93 = .ok (.iconst 1, 1) := dk_4 (dk_at dksX5_counts_3 23 rfl rfl)
theorem dX5_counts_94 : decode cX5_counts 94 = .ok (.ireturn, 1) := dk_172 (dk_at dksX5_counts_4 0 rfl rfl)
abbrev cX5_partnerFor : ByteArray := prog_20_method_64_code
def yX5_partnerFor : MethodName := ⟨RX5, "partnerFor", "(II)I"⟩
def dkwX5_partnerFor_2 : List UInt8 := [2, 172]
abbrev dktX5_partnerFor_2 : List UInt8 := dkwX5_partnerFor_2 ++ []
def dkwX5_partnerFor_1 : List UInt8 := [180, 0, 44, 16, 10, 27, 104, 29, 96, 46, 184, 0, 170, 153, 0, 5, 29, 172, 132, 3, 1, 167, 255, 213]
abbrev dktX5_partnerFor_1 : List UInt8 := dkwX5_partnerFor_1 ++ dktX5_partnerFor_2
def dkwX5_partnerFor_0 : List UInt8 := [3, 62, 29, 42, 27, 182, 1, 69, 162, 0, 40, 28, 42, 180, 0, 41, 16, 10, 27, 104, 29, 96, 46, 42]
abbrev dktX5_partnerFor_0 : List UInt8 := dkwX5_partnerFor_0 ++ dktX5_partnerFor_1
theorem dksX5_partnerFor_0 : cX5_partnerFor.data.toList.drop 0 = dktX5_partnerFor_0 := by decide +kernel
theorem dksX5_partnerFor_1 : cX5_partnerFor.data.toList.drop 24 = dktX5_partnerFor_1 := dk_seg dksX5_partnerFor_0 24 rfl rfl
theorem dksX5_partnerFor_2 : cX5_partnerFor.data.toList.drop 48 = dktX5_partnerFor_2 := dk_seg dksX5_partnerFor_1 24 rfl rfl
theorem dX5_partnerFor_0 : decode cX5_partnerFor 0 = .ok (.iconst 0, 1) := dk_3 (dk_at dksX5_partnerFor_0 0 rfl rfl)
theorem dX5_partnerFor_1 : decode cX5_partnerFor 1 = .ok (.istore_n 3, 1) := dk_62 (dk_at dksX5_partnerFor_0 1 rfl rfl)
theorem dX5_partnerFor_2 : decode cX5_partnerFor 2 = .ok (.iload_n 3, 1) := dk_29 (dk_at dksX5_partnerFor_0 2 rfl rfl)
theorem dX5_partnerFor_3 : decode cX5_partnerFor 3 = .ok (.aload_n 0, 1) := dk_42 (dk_at dksX5_partnerFor_0 3 rfl rfl)
theorem dX5_partnerFor_4 : decode cX5_partnerFor 4 = .ok (.iload_n 1, 1) := dk_27 (dk_at dksX5_partnerFor_0 4 rfl rfl)
theorem dX5_partnerFor_5 : decode cX5_partnerFor 5 = .ok (.invokevirtual 325, 3) := dk_182 1 69 (dk_at dksX5_partnerFor_0 5 rfl rfl)
theorem dX5_partnerFor_8 : decode cX5_partnerFor 8 = .ok (.if_icmp .ge 40, 3) := dk_162 0 40 (dk_at dksX5_partnerFor_0 8 rfl rfl)
theorem dX5_partnerFor_11 : decode cX5_partnerFor 11 = .ok (.iload_n 2, 1) := dk_28 (dk_at dksX5_partnerFor_0 11 rfl rfl)
theorem dX5_partnerFor_12 : decode cX5_partnerFor 12 = .ok (.aload_n 0, 1) := dk_42 (dk_at dksX5_partnerFor_0 12 rfl rfl)
theorem dX5_partnerFor_13 : decode cX5_partnerFor 13 = .ok (.getfield 41, 3) := dk_180 0 41 (dk_at dksX5_partnerFor_0 13 rfl rfl)
theorem dX5_partnerFor_16 : decode cX5_partnerFor 16 = .ok (.bipush 10, 2) := dk_16 10 (dk_at dksX5_partnerFor_0 16 rfl rfl)
theorem dX5_partnerFor_18 : decode cX5_partnerFor 18 = .ok (.iload_n 1, 1) := dk_27 (dk_at dksX5_partnerFor_0 18 rfl rfl)
theorem dX5_partnerFor_19 : decode cX5_partnerFor 19 = .ok (.imul, 1) := dk_104 (dk_at dksX5_partnerFor_0 19 rfl rfl)
theorem dX5_partnerFor_20 : decode cX5_partnerFor 20 = .ok (.iload_n 3, 1) := dk_29 (dk_at dksX5_partnerFor_0 20 rfl rfl)
theorem dX5_partnerFor_21 : decode cX5_partnerFor 21 = .ok (.iadd, 1) := dk_96 (dk_at dksX5_partnerFor_0 21 rfl rfl)
theorem dX5_partnerFor_22 : decode cX5_partnerFor 22 = .ok (.iaload, 1) := dk_46 (dk_at dksX5_partnerFor_0 22 rfl rfl)
theorem dX5_partnerFor_23 : decode cX5_partnerFor 23 = .ok (.aload_n 0, 1) := dk_42 (dk_at dksX5_partnerFor_0 23 rfl rfl)
theorem dX5_partnerFor_24 : decode cX5_partnerFor 24 = .ok (.getfield 44, 3) := dk_180 0 44 (dk_at dksX5_partnerFor_1 0 rfl rfl)
theorem dX5_partnerFor_27 : decode cX5_partnerFor 27 = .ok (.bipush 10, 2) := dk_16 10 (dk_at dksX5_partnerFor_1 3 rfl rfl)
theorem dX5_partnerFor_29 : decode cX5_partnerFor 29 = .ok (.iload_n 1, 1) := dk_27 (dk_at dksX5_partnerFor_1 5 rfl rfl)
theorem dX5_partnerFor_30 : decode cX5_partnerFor 30 = .ok (.imul, 1) := dk_104 (dk_at dksX5_partnerFor_1 6 rfl rfl)
theorem dX5_partnerFor_31 : decode cX5_partnerFor 31 = .ok (.iload_n 3, 1) := dk_29 (dk_at dksX5_partnerFor_1 7 rfl rfl)
theorem dX5_partnerFor_32 : decode cX5_partnerFor 32 = .ok (.iadd, 1) := dk_96 (dk_at dksX5_partnerFor_1 8 rfl rfl)
theorem dX5_partnerFor_33 : decode cX5_partnerFor 33 = .ok (.iaload, 1) := dk_46 (dk_at dksX5_partnerFor_1 9 rfl rfl)
theorem dX5_partnerFor_34 : decode cX5_partnerFor 34 = .ok (.invokestatic 170, 3) := dk_184 0 170 (dk_at dksX5_partnerFor_1 10 rfl rfl)
theorem dX5_partnerFor_37 : decode cX5_partnerFor 37 = .ok (.ifCond .eq 5, 3) := dk_153 0 5 (dk_at dksX5_partnerFor_1 13 rfl rfl)
theorem dX5_partnerFor_40 : decode cX5_partnerFor 40 = .ok (.iload_n 3, 1) := dk_29 (dk_at dksX5_partnerFor_1 16 rfl rfl)
theorem dX5_partnerFor_41 : decode cX5_partnerFor 41 = .ok (.ireturn, 1) := dk_172 (dk_at dksX5_partnerFor_1 17 rfl rfl)
theorem dX5_partnerFor_42 : decode cX5_partnerFor 42 = .ok (.iinc 3 1, 3) := dk_132 3 1 (dk_at dksX5_partnerFor_1 18 rfl rfl)
theorem dX5_partnerFor_45 : decode cX5_partnerFor 45 = .ok (.goto (-43), 3) := dk_167 255 213 (dk_at dksX5_partnerFor_1 21 rfl rfl)
theorem dX5_partnerFor_48 : decode cX5_partnerFor 48 = .ok (.iconst (-1), 1) := dk_2 (dk_at dksX5_partnerFor_2 0 rfl rfl)
theorem dX5_partnerFor_49 : decode cX5_partnerFor 49 = .ok (.ireturn, 1) := dk_172 (dk_at dksX5_partnerFor_2 1 rfl rfl)
abbrev cX5_isBut : ByteArray := prog_20_method_65_code
def yX5_isBut : MethodName := ⟨RX5, "isBut", "(II)Z"⟩
def dkwX5_isBut_2 : List UInt8 := [172]
abbrev dktX5_isBut_2 : List UInt8 := dkwX5_isBut_2 ++ []
def dkwX5_isBut_1 : List UInt8 := [180, 0, 56, 6, 27, 104, 29, 96, 46, 184, 0, 170, 153, 0, 5, 4, 172, 132, 3, 1, 167, 255, 214, 3]
abbrev dktX5_isBut_1 : List UInt8 := dkwX5_isBut_1 ++ dktX5_isBut_2
def dkwX5_isBut_0 : List UInt8 := [3, 62, 29, 42, 180, 0, 50, 27, 46, 162, 0, 38, 28, 42, 180, 0, 53, 6, 27, 104, 29, 96, 46, 42]
abbrev dktX5_isBut_0 : List UInt8 := dkwX5_isBut_0 ++ dktX5_isBut_1
theorem dksX5_isBut_0 : cX5_isBut.data.toList.drop 0 = dktX5_isBut_0 := by decide +kernel
theorem dksX5_isBut_1 : cX5_isBut.data.toList.drop 24 = dktX5_isBut_1 := dk_seg dksX5_isBut_0 24 rfl rfl
theorem dksX5_isBut_2 : cX5_isBut.data.toList.drop 48 = dktX5_isBut_2 := dk_seg dksX5_isBut_1 24 rfl rfl
theorem dX5_isBut_0 : decode cX5_isBut 0 = .ok (.iconst 0, 1) := dk_3 (dk_at dksX5_isBut_0 0 rfl rfl)
theorem dX5_isBut_1 : decode cX5_isBut 1 = .ok (.istore_n 3, 1) := dk_62 (dk_at dksX5_isBut_0 1 rfl rfl)
theorem dX5_isBut_2 : decode cX5_isBut 2 = .ok (.iload_n 3, 1) := dk_29 (dk_at dksX5_isBut_0 2 rfl rfl)
theorem dX5_isBut_3 : decode cX5_isBut 3 = .ok (.aload_n 0, 1) := dk_42 (dk_at dksX5_isBut_0 3 rfl rfl)
theorem dX5_isBut_4 : decode cX5_isBut 4 = .ok (.getfield 50, 3) := dk_180 0 50 (dk_at dksX5_isBut_0 4 rfl rfl)
theorem dX5_isBut_7 : decode cX5_isBut 7 = .ok (.iload_n 1, 1) := dk_27 (dk_at dksX5_isBut_0 7 rfl rfl)
theorem dX5_isBut_8 : decode cX5_isBut 8 = .ok (.iaload, 1) := dk_46 (dk_at dksX5_isBut_0 8 rfl rfl)
theorem dX5_isBut_9 : decode cX5_isBut 9 = .ok (.if_icmp .ge 38, 3) := dk_162 0 38 (dk_at dksX5_isBut_0 9 rfl rfl)
theorem dX5_isBut_12 : decode cX5_isBut 12 = .ok (.iload_n 2, 1) := dk_28 (dk_at dksX5_isBut_0 12 rfl rfl)
theorem dX5_isBut_13 : decode cX5_isBut 13 = .ok (.aload_n 0, 1) := dk_42 (dk_at dksX5_isBut_0 13 rfl rfl)
theorem dX5_isBut_14 : decode cX5_isBut 14 = .ok (.getfield 53, 3) := dk_180 0 53 (dk_at dksX5_isBut_0 14 rfl rfl)
theorem dX5_isBut_17 : decode cX5_isBut 17 = .ok (.iconst 3, 1) := dk_6 (dk_at dksX5_isBut_0 17 rfl rfl)
theorem dX5_isBut_18 : decode cX5_isBut 18 = .ok (.iload_n 1, 1) := dk_27 (dk_at dksX5_isBut_0 18 rfl rfl)
theorem dX5_isBut_19 : decode cX5_isBut 19 = .ok (.imul, 1) := dk_104 (dk_at dksX5_isBut_0 19 rfl rfl)
theorem dX5_isBut_20 : decode cX5_isBut 20 = .ok (.iload_n 3, 1) := dk_29 (dk_at dksX5_isBut_0 20 rfl rfl)
theorem dX5_isBut_21 : decode cX5_isBut 21 = .ok (.iadd, 1) := dk_96 (dk_at dksX5_isBut_0 21 rfl rfl)
theorem dX5_isBut_22 : decode cX5_isBut 22 = .ok (.iaload, 1) := dk_46 (dk_at dksX5_isBut_0 22 rfl rfl)
theorem dX5_isBut_23 : decode cX5_isBut 23 = .ok (.aload_n 0, 1) := dk_42 (dk_at dksX5_isBut_0 23 rfl rfl)
theorem dX5_isBut_24 : decode cX5_isBut 24 = .ok (.getfield 56, 3) := dk_180 0 56 (dk_at dksX5_isBut_1 0 rfl rfl)
theorem dX5_isBut_27 : decode cX5_isBut 27 = .ok (.iconst 3, 1) := dk_6 (dk_at dksX5_isBut_1 3 rfl rfl)
theorem dX5_isBut_28 : decode cX5_isBut 28 = .ok (.iload_n 1, 1) := dk_27 (dk_at dksX5_isBut_1 4 rfl rfl)
theorem dX5_isBut_29 : decode cX5_isBut 29 = .ok (.imul, 1) := dk_104 (dk_at dksX5_isBut_1 5 rfl rfl)
theorem dX5_isBut_30 : decode cX5_isBut 30 = .ok (.iload_n 3, 1) := dk_29 (dk_at dksX5_isBut_1 6 rfl rfl)
theorem dX5_isBut_31 : decode cX5_isBut 31 = .ok (.iadd, 1) := dk_96 (dk_at dksX5_isBut_1 7 rfl rfl)
theorem dX5_isBut_32 : decode cX5_isBut 32 = .ok (.iaload, 1) := dk_46 (dk_at dksX5_isBut_1 8 rfl rfl)
theorem dX5_isBut_33 : decode cX5_isBut 33 = .ok (.invokestatic 170, 3) := dk_184 0 170 (dk_at dksX5_isBut_1 9 rfl rfl)
theorem dX5_isBut_36 : decode cX5_isBut 36 = .ok (.ifCond .eq 5, 3) := dk_153 0 5 (dk_at dksX5_isBut_1 12 rfl rfl)
theorem dX5_isBut_39 : decode cX5_isBut 39 = .ok (.iconst 1, 1) := dk_4 (dk_at dksX5_isBut_1 15 rfl rfl)
theorem dX5_isBut_40 : decode cX5_isBut 40 = .ok (.ireturn, 1) := dk_172 (dk_at dksX5_isBut_1 16 rfl rfl)
theorem dX5_isBut_41 : decode cX5_isBut 41 = .ok (.iinc 3 1, 3) := dk_132 3 1 (dk_at dksX5_isBut_1 17 rfl rfl)
theorem dX5_isBut_44 : decode cX5_isBut 44 = .ok (.goto (-42), 3) := dk_167 255 214 (dk_at dksX5_isBut_1 20 rfl rfl)
theorem dX5_isBut_47 : decode cX5_isBut 47 = .ok (.iconst 0, 1) := dk_3 (dk_at dksX5_isBut_1 23 rfl rfl)
theorem dX5_isBut_48 : decode cX5_isBut 48 = .ok (.ireturn, 1) := dk_172 (dk_at dksX5_isBut_2 0 rfl rfl)
abbrev cX5_classFor : ByteArray := prog_20_method_71_code
def yX5_classFor : MethodName := ⟨RX5, "classFor", "(II)I"⟩
def dkwX5_classFor_1 : List UInt8 := [96, 46, 172]
abbrev dktX5_classFor_1 : List UInt8 := dkwX5_classFor_1 ++ []
def dkwX5_classFor_0 : List UInt8 := [42, 27, 28, 182, 1, 211, 62, 29, 156, 0, 7, 2, 167, 0, 14, 42, 180, 0, 65, 16, 40, 27, 104, 29]
abbrev dktX5_classFor_0 : List UInt8 := dkwX5_classFor_0 ++ dktX5_classFor_1
theorem dksX5_classFor_0 : cX5_classFor.data.toList.drop 0 = dktX5_classFor_0 := by decide +kernel
theorem dksX5_classFor_1 : cX5_classFor.data.toList.drop 24 = dktX5_classFor_1 := dk_seg dksX5_classFor_0 24 rfl rfl
theorem dX5_classFor_0 : decode cX5_classFor 0 = .ok (.aload_n 0, 1) := dk_42 (dk_at dksX5_classFor_0 0 rfl rfl)
theorem dX5_classFor_1 : decode cX5_classFor 1 = .ok (.iload_n 1, 1) := dk_27 (dk_at dksX5_classFor_0 1 rfl rfl)
theorem dX5_classFor_2 : decode cX5_classFor 2 = .ok (.iload_n 2, 1) := dk_28 (dk_at dksX5_classFor_0 2 rfl rfl)
theorem dX5_classFor_3 : decode cX5_classFor 3 = .ok (.invokevirtual 467, 3) := dk_182 1 211 (dk_at dksX5_classFor_0 3 rfl rfl)
theorem dX5_classFor_6 : decode cX5_classFor 6 = .ok (.istore_n 3, 1) := dk_62 (dk_at dksX5_classFor_0 6 rfl rfl)
theorem dX5_classFor_7 : decode cX5_classFor 7 = .ok (.iload_n 3, 1) := dk_29 (dk_at dksX5_classFor_0 7 rfl rfl)
theorem dX5_classFor_8 : decode cX5_classFor 8 = .ok (.ifCond .ge 7, 3) := dk_156 0 7 (dk_at dksX5_classFor_0 8 rfl rfl)
theorem dX5_classFor_11 : decode cX5_classFor 11 = .ok (.iconst (-1), 1) := dk_2 (dk_at dksX5_classFor_0 11 rfl rfl)
theorem dX5_classFor_12 : decode cX5_classFor 12 = .ok (.goto 14, 3) := dk_167 0 14 (dk_at dksX5_classFor_0 12 rfl rfl)
theorem dX5_classFor_15 : decode cX5_classFor 15 = .ok (.aload_n 0, 1) := dk_42 (dk_at dksX5_classFor_0 15 rfl rfl)
theorem dX5_classFor_16 : decode cX5_classFor 16 = .ok (.getfield 65, 3) := dk_180 0 65 (dk_at dksX5_classFor_0 16 rfl rfl)
theorem dX5_classFor_19 : decode cX5_classFor 19 = .ok (.bipush 40, 2) := dk_16 40 (dk_at dksX5_classFor_0 19 rfl rfl)
theorem dX5_classFor_21 : decode cX5_classFor 21 = .ok (.iload_n 1, 1) := dk_27 (dk_at dksX5_classFor_0 21 rfl rfl)
theorem dX5_classFor_22 : decode cX5_classFor 22 = .ok (.imul, 1) := dk_104 (dk_at dksX5_classFor_0 22 rfl rfl)
theorem dX5_classFor_23 : decode cX5_classFor 23 = .ok (.iload_n 3, 1) := dk_29 (dk_at dksX5_classFor_0 23 rfl rfl)
theorem dX5_classFor_24 : decode cX5_classFor 24 = .ok (.iadd, 1) := dk_96 (dk_at dksX5_classFor_1 0 rfl rfl)
theorem dX5_classFor_25 : decode cX5_classFor 25 = .ok (.iaload, 1) := dk_46 (dk_at dksX5_classFor_1 1 rfl rfl)
theorem dX5_classFor_26 : decode cX5_classFor 26 = .ok (.ireturn, 1) := dk_172 (dk_at dksX5_classFor_1 2 rfl rfl)
abbrev cX5_leafFor : ByteArray := prog_20_method_70_code
def yX5_leafFor : MethodName := ⟨RX5, "leafFor", "(II)I"⟩
def dkwX5_leafFor_6 : List UInt8 := [27, 104, 21, 4, 96, 46, 54, 4, 167, 255, 158, 21, 4, 172]
abbrev dktX5_leafFor_6 : List UInt8 := dkwX5_leafFor_6 ++ []
def dkwX5_leafFor_5 : List UInt8 := [153, 0, 18, 42, 180, 0, 71, 16, 40, 27, 104, 21, 4, 96, 46, 167, 0, 15, 42, 180, 0, 74, 16, 40]
abbrev dktX5_leafFor_5 : List UInt8 := dkwX5_leafFor_5 ++ dktX5_leafFor_6
def dkwX5_leafFor_4 : List UInt8 := [21, 5, 153, 0, 7, 4, 167, 0, 4, 3, 79, 42, 89, 180, 1, 199, 4, 96, 181, 1, 199, 21, 5]
abbrev dktX5_leafFor_4 : List UInt8 := dkwX5_leafFor_4 ++ dktX5_leafFor_5
def dkwX5_leafFor_3 : List UInt8 := [180, 0, 68, 16, 40, 27, 104, 21, 4, 96, 46, 182, 1, 189, 54, 5, 42, 180, 0, 141, 42, 180, 1, 199]
abbrev dktX5_leafFor_3 : List UInt8 := dkwX5_leafFor_3 ++ dktX5_leafFor_4
def dkwX5_leafFor_2 : List UInt8 := [29, 96, 46, 54, 4, 42, 180, 0, 65, 16, 40, 27, 104, 21, 4, 96, 46, 156, 0, 89, 42, 27, 28, 42]
abbrev dktX5_leafFor_2 : List UInt8 := dkwX5_leafFor_2 ++ dktX5_leafFor_3
def dkwX5_leafFor_1 : List UInt8 := [182, 1, 205, 181, 1, 197, 42, 42, 27, 28, 182, 1, 208, 181, 1, 195, 42, 180, 0, 29, 16, 6, 27, 104]
abbrev dktX5_leafFor_1 : List UInt8 := dkwX5_leafFor_1 ++ dktX5_leafFor_2
def dkwX5_leafFor_0 : List UInt8 := [42, 3, 181, 1, 199, 42, 27, 28, 182, 1, 202, 62, 29, 156, 0, 5, 2, 172, 42, 42, 27, 28]
abbrev dktX5_leafFor_0 : List UInt8 := dkwX5_leafFor_0 ++ dktX5_leafFor_1
theorem dksX5_leafFor_0 : cX5_leafFor.data.toList.drop 0 = dktX5_leafFor_0 := by decide +kernel
theorem dksX5_leafFor_1 : cX5_leafFor.data.toList.drop 22 = dktX5_leafFor_1 := dk_seg dksX5_leafFor_0 22 rfl rfl
theorem dksX5_leafFor_2 : cX5_leafFor.data.toList.drop 46 = dktX5_leafFor_2 := dk_seg dksX5_leafFor_1 24 rfl rfl
theorem dksX5_leafFor_3 : cX5_leafFor.data.toList.drop 70 = dktX5_leafFor_3 := dk_seg dksX5_leafFor_2 24 rfl rfl
theorem dksX5_leafFor_4 : cX5_leafFor.data.toList.drop 94 = dktX5_leafFor_4 := dk_seg dksX5_leafFor_3 24 rfl rfl
theorem dksX5_leafFor_5 : cX5_leafFor.data.toList.drop 117 = dktX5_leafFor_5 := dk_seg dksX5_leafFor_4 23 rfl rfl
theorem dksX5_leafFor_6 : cX5_leafFor.data.toList.drop 141 = dktX5_leafFor_6 := dk_seg dksX5_leafFor_5 24 rfl rfl
theorem dX5_leafFor_0 : decode cX5_leafFor 0 = .ok (.aload_n 0, 1) := dk_42 (dk_at dksX5_leafFor_0 0 rfl rfl)
theorem dX5_leafFor_1 : decode cX5_leafFor 1 = .ok (.iconst 0, 1) := dk_3 (dk_at dksX5_leafFor_0 1 rfl rfl)
theorem dX5_leafFor_2 : decode cX5_leafFor 2 = .ok (.putfield 455, 3) := dk_181 1 199 (dk_at dksX5_leafFor_0 2 rfl rfl)
theorem dX5_leafFor_5 : decode cX5_leafFor 5 = .ok (.aload_n 0, 1) := dk_42 (dk_at dksX5_leafFor_0 5 rfl rfl)
theorem dX5_leafFor_6 : decode cX5_leafFor 6 = .ok (.iload_n 1, 1) := dk_27 (dk_at dksX5_leafFor_0 6 rfl rfl)
theorem dX5_leafFor_7 : decode cX5_leafFor 7 = .ok (.iload_n 2, 1) := dk_28 (dk_at dksX5_leafFor_0 7 rfl rfl)
theorem dX5_leafFor_8 : decode cX5_leafFor 8 = .ok (.invokevirtual 458, 3) := dk_182 1 202 (dk_at dksX5_leafFor_0 8 rfl rfl)
theorem dX5_leafFor_11 : decode cX5_leafFor 11 = .ok (.istore_n 3, 1) := dk_62 (dk_at dksX5_leafFor_0 11 rfl rfl)
theorem dX5_leafFor_12 : decode cX5_leafFor 12 = .ok (.iload_n 3, 1) := dk_29 (dk_at dksX5_leafFor_0 12 rfl rfl)
theorem dX5_leafFor_13 : decode cX5_leafFor 13 = .ok (.ifCond .ge 5, 3) := dk_156 0 5 (dk_at dksX5_leafFor_0 13 rfl rfl)
theorem dX5_leafFor_16 : decode cX5_leafFor 16 = .ok (.iconst (-1), 1) := dk_2 (dk_at dksX5_leafFor_0 16 rfl rfl)
theorem dX5_leafFor_17 : decode cX5_leafFor 17 = .ok (.ireturn, 1) := dk_172 (dk_at dksX5_leafFor_0 17 rfl rfl)
theorem dX5_leafFor_18 : decode cX5_leafFor 18 = .ok (.aload_n 0, 1) := dk_42 (dk_at dksX5_leafFor_0 18 rfl rfl)
theorem dX5_leafFor_19 : decode cX5_leafFor 19 = .ok (.aload_n 0, 1) := dk_42 (dk_at dksX5_leafFor_0 19 rfl rfl)
theorem dX5_leafFor_20 : decode cX5_leafFor 20 = .ok (.iload_n 1, 1) := dk_27 (dk_at dksX5_leafFor_0 20 rfl rfl)
theorem dX5_leafFor_21 : decode cX5_leafFor 21 = .ok (.iload_n 2, 1) := dk_28 (dk_at dksX5_leafFor_0 21 rfl rfl)
theorem dX5_leafFor_22 : decode cX5_leafFor 22 = .ok (.invokevirtual 461, 3) := dk_182 1 205 (dk_at dksX5_leafFor_1 0 rfl rfl)
theorem dX5_leafFor_25 : decode cX5_leafFor 25 = .ok (.putfield 453, 3) := dk_181 1 197 (dk_at dksX5_leafFor_1 3 rfl rfl)
theorem dX5_leafFor_28 : decode cX5_leafFor 28 = .ok (.aload_n 0, 1) := dk_42 (dk_at dksX5_leafFor_1 6 rfl rfl)
theorem dX5_leafFor_29 : decode cX5_leafFor 29 = .ok (.aload_n 0, 1) := dk_42 (dk_at dksX5_leafFor_1 7 rfl rfl)
theorem dX5_leafFor_30 : decode cX5_leafFor 30 = .ok (.iload_n 1, 1) := dk_27 (dk_at dksX5_leafFor_1 8 rfl rfl)
theorem dX5_leafFor_31 : decode cX5_leafFor 31 = .ok (.iload_n 2, 1) := dk_28 (dk_at dksX5_leafFor_1 9 rfl rfl)
theorem dX5_leafFor_32 : decode cX5_leafFor 32 = .ok (.invokevirtual 464, 3) := dk_182 1 208 (dk_at dksX5_leafFor_1 10 rfl rfl)
theorem dX5_leafFor_35 : decode cX5_leafFor 35 = .ok (.putfield 451, 3) := dk_181 1 195 (dk_at dksX5_leafFor_1 13 rfl rfl)
theorem dX5_leafFor_38 : decode cX5_leafFor 38 = .ok (.aload_n 0, 1) := dk_42 (dk_at dksX5_leafFor_1 16 rfl rfl)
theorem dX5_leafFor_39 : decode cX5_leafFor 39 = .ok (.getfield 29, 3) := dk_180 0 29 (dk_at dksX5_leafFor_1 17 rfl rfl)
theorem dX5_leafFor_42 : decode cX5_leafFor 42 = .ok (.bipush 6, 2) := dk_16 6 (dk_at dksX5_leafFor_1 20 rfl rfl)
theorem dX5_leafFor_44 : decode cX5_leafFor 44 = .ok (.iload_n 1, 1) := dk_27 (dk_at dksX5_leafFor_1 22 rfl rfl)
theorem dX5_leafFor_45 : decode cX5_leafFor 45 = .ok (.imul, 1) := dk_104 (dk_at dksX5_leafFor_1 23 rfl rfl)
theorem dX5_leafFor_46 : decode cX5_leafFor 46 = .ok (.iload_n 3, 1) := dk_29 (dk_at dksX5_leafFor_2 0 rfl rfl)
theorem dX5_leafFor_47 : decode cX5_leafFor 47 = .ok (.iadd, 1) := dk_96 (dk_at dksX5_leafFor_2 1 rfl rfl)
theorem dX5_leafFor_48 : decode cX5_leafFor 48 = .ok (.iaload, 1) := dk_46 (dk_at dksX5_leafFor_2 2 rfl rfl)
theorem dX5_leafFor_49 : decode cX5_leafFor 49 = .ok (.istore 4, 2) := dk_54 4 (dk_at dksX5_leafFor_2 3 rfl rfl)
theorem dX5_leafFor_51 : decode cX5_leafFor 51 = .ok (.aload_n 0, 1) := dk_42 (dk_at dksX5_leafFor_2 5 rfl rfl)
theorem dX5_leafFor_52 : decode cX5_leafFor 52 = .ok (.getfield 65, 3) := dk_180 0 65 (dk_at dksX5_leafFor_2 6 rfl rfl)
theorem dX5_leafFor_55 : decode cX5_leafFor 55 = .ok (.bipush 40, 2) := dk_16 40 (dk_at dksX5_leafFor_2 9 rfl rfl)
theorem dX5_leafFor_57 : decode cX5_leafFor 57 = .ok (.iload_n 1, 1) := dk_27 (dk_at dksX5_leafFor_2 11 rfl rfl)
theorem dX5_leafFor_58 : decode cX5_leafFor 58 = .ok (.imul, 1) := dk_104 (dk_at dksX5_leafFor_2 12 rfl rfl)
theorem dX5_leafFor_59 : decode cX5_leafFor 59 = .ok (.iload 4, 2) := dk_21 4 (dk_at dksX5_leafFor_2 13 rfl rfl)
theorem dX5_leafFor_61 : decode cX5_leafFor 61 = .ok (.iadd, 1) := dk_96 (dk_at dksX5_leafFor_2 15 rfl rfl)
theorem dX5_leafFor_62 : decode cX5_leafFor 62 = .ok (.iaload, 1) := dk_46 (dk_at dksX5_leafFor_2 16 rfl rfl)
theorem dX5_leafFor_63 : decode cX5_leafFor 63 = .ok (.ifCond .ge 89, 3) := dk_156 0 89 (dk_at dksX5_leafFor_2 17 rfl rfl)
theorem dX5_leafFor_66 : decode cX5_leafFor 66 = .ok (.aload_n 0, 1) := dk_42 (dk_at dksX5_leafFor_2 20 rfl rfl)
theorem dX5_leafFor_67 : decode cX5_leafFor 67 = .ok (.iload_n 1, 1) := dk_27 (dk_at dksX5_leafFor_2 21 rfl rfl)
theorem dX5_leafFor_68 : decode cX5_leafFor 68 = .ok (.iload_n 2, 1) := dk_28 (dk_at dksX5_leafFor_2 22 rfl rfl)
theorem dX5_leafFor_69 : decode cX5_leafFor 69 = .ok (.aload_n 0, 1) := dk_42 (dk_at dksX5_leafFor_2 23 rfl rfl)
theorem dX5_leafFor_70 : decode cX5_leafFor 70 = .ok (.getfield 68, 3) := dk_180 0 68 (dk_at dksX5_leafFor_3 0 rfl rfl)
theorem dX5_leafFor_73 : decode cX5_leafFor 73 = .ok (.bipush 40, 2) := dk_16 40 (dk_at dksX5_leafFor_3 3 rfl rfl)
theorem dX5_leafFor_75 : decode cX5_leafFor 75 = .ok (.iload_n 1, 1) := dk_27 (dk_at dksX5_leafFor_3 5 rfl rfl)
theorem dX5_leafFor_76 : decode cX5_leafFor 76 = .ok (.imul, 1) := dk_104 (dk_at dksX5_leafFor_3 6 rfl rfl)
theorem dX5_leafFor_77 : decode cX5_leafFor 77 = .ok (.iload 4, 2) := dk_21 4 (dk_at dksX5_leafFor_3 7 rfl rfl)
theorem dX5_leafFor_79 : decode cX5_leafFor 79 = .ok (.iadd, 1) := dk_96 (dk_at dksX5_leafFor_3 9 rfl rfl)
theorem dX5_leafFor_80 : decode cX5_leafFor 80 = .ok (.iaload, 1) := dk_46 (dk_at dksX5_leafFor_3 10 rfl rfl)
theorem dX5_leafFor_81 : decode cX5_leafFor 81 = .ok (.invokevirtual 445, 3) := dk_182 1 189 (dk_at dksX5_leafFor_3 11 rfl rfl)
theorem dX5_leafFor_84 : decode cX5_leafFor 84 = .ok (.istore 5, 2) := dk_54 5 (dk_at dksX5_leafFor_3 14 rfl rfl)
theorem dX5_leafFor_86 : decode cX5_leafFor 86 = .ok (.aload_n 0, 1) := dk_42 (dk_at dksX5_leafFor_3 16 rfl rfl)
theorem dX5_leafFor_87 : decode cX5_leafFor 87 = .ok (.getfield 141, 3) := dk_180 0 141 (dk_at dksX5_leafFor_3 17 rfl rfl)
theorem dX5_leafFor_90 : decode cX5_leafFor 90 = .ok (.aload_n 0, 1) := dk_42 (dk_at dksX5_leafFor_3 20 rfl rfl)
theorem dX5_leafFor_91 : decode cX5_leafFor 91 = .ok (.getfield 455, 3) := dk_180 1 199 (dk_at dksX5_leafFor_3 21 rfl rfl)
theorem dX5_leafFor_94 : decode cX5_leafFor 94 = .ok (.iload 5, 2) := dk_21 5 (dk_at dksX5_leafFor_4 0 rfl rfl)
theorem dX5_leafFor_96 : decode cX5_leafFor 96 = .ok (.ifCond .eq 7, 3) := dk_153 0 7 (dk_at dksX5_leafFor_4 2 rfl rfl)
theorem dX5_leafFor_99 : decode cX5_leafFor 99 = .ok (.iconst 1, 1) := dk_4 (dk_at dksX5_leafFor_4 5 rfl rfl)
theorem dX5_leafFor_100 : decode cX5_leafFor 100 = .ok (.goto 4, 3) := dk_167 0 4 (dk_at dksX5_leafFor_4 6 rfl rfl)
theorem dX5_leafFor_103 : decode cX5_leafFor 103 = .ok (.iconst 0, 1) := dk_3 (dk_at dksX5_leafFor_4 9 rfl rfl)
theorem dX5_leafFor_104 : decode cX5_leafFor 104 = .ok (.iastore, 1) := dk_79 (dk_at dksX5_leafFor_4 10 rfl rfl)
theorem dX5_leafFor_105 : decode cX5_leafFor 105 = .ok (.aload_n 0, 1) := dk_42 (dk_at dksX5_leafFor_4 11 rfl rfl)
theorem dX5_leafFor_106 : decode cX5_leafFor 106 = .ok (.dup, 1) := dk_89 (dk_at dksX5_leafFor_4 12 rfl rfl)
theorem dX5_leafFor_107 : decode cX5_leafFor 107 = .ok (.getfield 455, 3) := dk_180 1 199 (dk_at dksX5_leafFor_4 13 rfl rfl)
theorem dX5_leafFor_110 : decode cX5_leafFor 110 = .ok (.iconst 1, 1) := dk_4 (dk_at dksX5_leafFor_4 16 rfl rfl)
theorem dX5_leafFor_111 : decode cX5_leafFor 111 = .ok (.iadd, 1) := dk_96 (dk_at dksX5_leafFor_4 17 rfl rfl)
theorem dX5_leafFor_112 : decode cX5_leafFor 112 = .ok (.putfield 455, 3) := dk_181 1 199 (dk_at dksX5_leafFor_4 18 rfl rfl)
theorem dX5_leafFor_115 : decode cX5_leafFor 115 = .ok (.iload 5, 2) := dk_21 5 (dk_at dksX5_leafFor_4 21 rfl rfl)
theorem dX5_leafFor_117 : decode cX5_leafFor 117 = .ok (.ifCond .eq 18, 3) := dk_153 0 18 (dk_at dksX5_leafFor_5 0 rfl rfl)
theorem dX5_leafFor_120 : decode cX5_leafFor 120 = .ok (.aload_n 0, 1) := dk_42 (dk_at dksX5_leafFor_5 3 rfl rfl)
theorem dX5_leafFor_121 : decode cX5_leafFor 121 = .ok (.getfield 71, 3) := dk_180 0 71 (dk_at dksX5_leafFor_5 4 rfl rfl)
theorem dX5_leafFor_124 : decode cX5_leafFor 124 = .ok (.bipush 40, 2) := dk_16 40 (dk_at dksX5_leafFor_5 7 rfl rfl)
theorem dX5_leafFor_126 : decode cX5_leafFor 126 = .ok (.iload_n 1, 1) := dk_27 (dk_at dksX5_leafFor_5 9 rfl rfl)
theorem dX5_leafFor_127 : decode cX5_leafFor 127 = .ok (.imul, 1) := dk_104 (dk_at dksX5_leafFor_5 10 rfl rfl)
theorem dX5_leafFor_128 : decode cX5_leafFor 128 = .ok (.iload 4, 2) := dk_21 4 (dk_at dksX5_leafFor_5 11 rfl rfl)
theorem dX5_leafFor_130 : decode cX5_leafFor 130 = .ok (.iadd, 1) := dk_96 (dk_at dksX5_leafFor_5 13 rfl rfl)
theorem dX5_leafFor_131 : decode cX5_leafFor 131 = .ok (.iaload, 1) := dk_46 (dk_at dksX5_leafFor_5 14 rfl rfl)
theorem dX5_leafFor_132 : decode cX5_leafFor 132 = .ok (.goto 15, 3) := dk_167 0 15 (dk_at dksX5_leafFor_5 15 rfl rfl)
theorem dX5_leafFor_135 : decode cX5_leafFor 135 = .ok (.aload_n 0, 1) := dk_42 (dk_at dksX5_leafFor_5 18 rfl rfl)
theorem dX5_leafFor_136 : decode cX5_leafFor 136 = .ok (.getfield 74, 3) := dk_180 0 74 (dk_at dksX5_leafFor_5 19 rfl rfl)
theorem dX5_leafFor_139 : decode cX5_leafFor 139 = .ok (.bipush 40, 2) := dk_16 40 (dk_at dksX5_leafFor_5 22 rfl rfl)
theorem dX5_leafFor_141 : decode cX5_leafFor 141 = .ok (.iload_n 1, 1) := dk_27 (dk_at dksX5_leafFor_6 0 rfl rfl)
theorem dX5_leafFor_142 : decode cX5_leafFor 142 = .ok (.imul, 1) := dk_104 (dk_at dksX5_leafFor_6 1 rfl rfl)
theorem dX5_leafFor_143 : decode cX5_leafFor 143 = .ok (.iload 4, 2) := dk_21 4 (dk_at dksX5_leafFor_6 2 rfl rfl)
theorem dX5_leafFor_145 : decode cX5_leafFor 145 = .ok (.iadd, 1) := dk_96 (dk_at dksX5_leafFor_6 4 rfl rfl)
theorem dX5_leafFor_146 : decode cX5_leafFor 146 = .ok (.iaload, 1) := dk_46 (dk_at dksX5_leafFor_6 5 rfl rfl)
theorem dX5_leafFor_147 : decode cX5_leafFor 147 = .ok (.istore 4, 2) := dk_54 4 (dk_at dksX5_leafFor_6 6 rfl rfl)
theorem dX5_leafFor_149 : decode cX5_leafFor 149 = .ok (.goto (-98), 3) := dk_167 255 158 (dk_at dksX5_leafFor_6 8 rfl rfl)
theorem dX5_leafFor_152 : decode cX5_leafFor 152 = .ok (.iload 4, 2) := dk_21 4 (dk_at dksX5_leafFor_6 11 rfl rfl)
theorem dX5_leafFor_154 : decode cX5_leafFor 154 = .ok (.ireturn, 1) := dk_172 (dk_at dksX5_leafFor_6 13 rfl rfl)
abbrev cX5_isSo : ByteArray := prog_20_method_68_code
def yX5_isSo : MethodName := ⟨RX5, "isSo", "(III)Z"⟩
def dkwX5_isSo_15 : List UInt8 := [180, 1, 195, 21, 5, 21, 6, 184, 1, 192, 172, 42, 180, 1, 197, 21, 5, 21, 6, 184, 1, 192, 172]
abbrev dktX5_isSo_15 : List UInt8 := dkwX5_isSo_15 ++ []
def dkwX5_isSo_14 : List UInt8 := [21, 5, 21, 6, 184, 1, 192, 172, 42, 180, 0, 108, 28, 46, 21, 5, 21, 6, 184, 1, 192, 172, 42]
abbrev dktX5_isSo_14 : List UInt8 := dkwX5_isSo_14 ++ dktX5_isSo_15
def dkwX5_isSo_13 : List UInt8 := [21, 6, 184, 0, 170, 153, 0, 5, 4, 172, 132, 7, 1, 167, 255, 218, 3, 172, 42, 180, 0, 105, 28, 46]
abbrev dktX5_isSo_13 : List UInt8 := dkwX5_isSo_13 ++ dktX5_isSo_14
def dkwX5_isSo_12 : List UInt8 := [42, 180, 0, 117, 28, 46, 162, 0, 33, 42, 180, 0, 120, 16, 6, 28, 104, 21, 7, 96, 46, 21, 5]
abbrev dktX5_isSo_12 : List UInt8 := dkwX5_isSo_12 ++ dktX5_isSo_13
def dkwX5_isSo_11 : List UInt8 := [167, 255, 218, 3, 172, 42, 180, 0, 102, 28, 46, 21, 5, 21, 6, 184, 0, 170, 172, 3, 54, 7, 21, 7]
abbrev dktX5_isSo_11 : List UInt8 := dkwX5_isSo_11 ++ dktX5_isSo_12
def dkwX5_isSo_10 : List UInt8 := [16, 8, 28, 104, 21, 7, 96, 46, 21, 5, 21, 6, 184, 0, 170, 153, 0, 5, 4, 172, 132, 7, 1]
abbrev dktX5_isSo_10 : List UInt8 := dkwX5_isSo_10 ++ dktX5_isSo_11
def dkwX5_isSo_9 : List UInt8 := [153, 0, 5, 4, 172, 3, 54, 7, 21, 7, 42, 180, 0, 111, 28, 46, 162, 0, 33, 42, 180, 0, 114]
abbrev dktX5_isSo_9 : List UInt8 := dkwX5_isSo_9 ++ dktX5_isSo_10
def dkwX5_isSo_8 : List UInt8 := [154, 0, 7, 4, 167, 0, 4, 3, 172, 42, 180, 0, 102, 28, 46, 21, 5, 21, 6, 184, 0, 170]
abbrev dktX5_isSo_8 : List UInt8 := dkwX5_isSo_8 ++ dktX5_isSo_9
def dkwX5_isSo_7 : List UInt8 := [42, 27, 28, 21, 4, 17, 1, 144, 27, 104, 100, 182, 1, 189, 172, 42, 27, 28, 21, 5, 182, 1, 189]
abbrev dktX5_isSo_7 : List UInt8 := dkwX5_isSo_7 ++ dktX5_isSo_8
def dkwX5_isSo_6 : List UInt8 := [170, 0, 0, 0, 245, 0, 0, 0, 0, 0, 0, 0, 8, 0, 0, 0, 49, 0, 0, 0, 245, 0, 0, 0, 64, 0, 0, 0, 81, 0, 0, 0, 145, 0, 0, 0, 159, 0, 0, 0, 205, 0, 0, 0, 219, 0, 0, 0, 233]
abbrev dktX5_isSo_6 : List UInt8 := dkwX5_isSo_6 ++ dktX5_isSo_7
def dkwX5_isSo_5 : List UInt8 := [46, 54, 6, 42, 180, 0, 80, 21, 4, 46]
abbrev dktX5_isSo_5 : List UInt8 := dkwX5_isSo_5 ++ dktX5_isSo_6
def dkwX5_isSo_4 : List UInt8 := [21, 4, 46, 96, 54, 4, 167, 255, 212, 42, 180, 0, 83, 21, 4, 46, 54, 5, 42, 180, 0, 86, 21, 4]
abbrev dktX5_isSo_4 : List UInt8 := dkwX5_isSo_4 ++ dktX5_isSo_5
def dkwX5_isSo_3 : List UInt8 := [180, 0, 86, 21, 4, 46, 182, 1, 189, 154, 0, 5, 3, 172, 17, 1, 144, 27, 104, 42, 180, 0, 83]
abbrev dktX5_isSo_3 : List UInt8 := dkwX5_isSo_3 ++ dktX5_isSo_4
def dkwX5_isSo_2 : List UInt8 := [21, 4, 46, 96, 54, 4, 167, 255, 213, 42, 180, 0, 80, 21, 4, 46, 4, 160, 0, 39, 42, 27, 28, 42]
abbrev dktX5_isSo_2 : List UInt8 := dkwX5_isSo_2 ++ dktX5_isSo_3
def dkwX5_isSo_1 : List UInt8 := [180, 0, 86, 21, 4, 46, 182, 1, 189, 153, 0, 5, 4, 172, 17, 1, 144, 27, 104, 42, 180, 0, 83]
abbrev dktX5_isSo_1 : List UInt8 := dkwX5_isSo_1 ++ dktX5_isSo_2
def dkwX5_isSo_0 : List UInt8 := [17, 1, 144, 27, 104, 29, 96, 54, 4, 42, 180, 0, 80, 21, 4, 46, 154, 0, 39, 42, 27, 28, 42]
abbrev dktX5_isSo_0 : List UInt8 := dkwX5_isSo_0 ++ dktX5_isSo_1
theorem dksX5_isSo_0 : cX5_isSo.data.toList.drop 0 = dktX5_isSo_0 := by decide +kernel
theorem dksX5_isSo_1 : cX5_isSo.data.toList.drop 23 = dktX5_isSo_1 := dk_seg dksX5_isSo_0 23 rfl rfl
theorem dksX5_isSo_2 : cX5_isSo.data.toList.drop 46 = dktX5_isSo_2 := dk_seg dksX5_isSo_1 23 rfl rfl
theorem dksX5_isSo_3 : cX5_isSo.data.toList.drop 70 = dktX5_isSo_3 := dk_seg dksX5_isSo_2 24 rfl rfl
theorem dksX5_isSo_4 : cX5_isSo.data.toList.drop 93 = dktX5_isSo_4 := dk_seg dksX5_isSo_3 23 rfl rfl
theorem dksX5_isSo_5 : cX5_isSo.data.toList.drop 117 = dktX5_isSo_5 := dk_seg dksX5_isSo_4 24 rfl rfl
theorem dksX5_isSo_6 : cX5_isSo.data.toList.drop 127 = dktX5_isSo_6 := dk_seg dksX5_isSo_5 10 rfl rfl
theorem dksX5_isSo_7 : cX5_isSo.data.toList.drop 176 = dktX5_isSo_7 := dk_seg dksX5_isSo_6 49 rfl rfl
theorem dksX5_isSo_8 : cX5_isSo.data.toList.drop 199 = dktX5_isSo_8 := dk_seg dksX5_isSo_7 23 rfl rfl
theorem dksX5_isSo_9 : cX5_isSo.data.toList.drop 221 = dktX5_isSo_9 := dk_seg dksX5_isSo_8 22 rfl rfl
theorem dksX5_isSo_10 : cX5_isSo.data.toList.drop 244 = dktX5_isSo_10 := dk_seg dksX5_isSo_9 23 rfl rfl
theorem dksX5_isSo_11 : cX5_isSo.data.toList.drop 267 = dktX5_isSo_11 := dk_seg dksX5_isSo_10 23 rfl rfl
theorem dksX5_isSo_12 : cX5_isSo.data.toList.drop 291 = dktX5_isSo_12 := dk_seg dksX5_isSo_11 24 rfl rfl
theorem dksX5_isSo_13 : cX5_isSo.data.toList.drop 314 = dktX5_isSo_13 := dk_seg dksX5_isSo_12 23 rfl rfl
theorem dksX5_isSo_14 : cX5_isSo.data.toList.drop 338 = dktX5_isSo_14 := dk_seg dksX5_isSo_13 24 rfl rfl
theorem dksX5_isSo_15 : cX5_isSo.data.toList.drop 361 = dktX5_isSo_15 := dk_seg dksX5_isSo_14 23 rfl rfl
theorem dX5_isSo_0 : decode cX5_isSo 0 = .ok (.sipush 400, 3) := dk_17 1 144 (dk_at dksX5_isSo_0 0 rfl rfl)
theorem dX5_isSo_3 : decode cX5_isSo 3 = .ok (.iload_n 1, 1) := dk_27 (dk_at dksX5_isSo_0 3 rfl rfl)
theorem dX5_isSo_4 : decode cX5_isSo 4 = .ok (.imul, 1) := dk_104 (dk_at dksX5_isSo_0 4 rfl rfl)
theorem dX5_isSo_5 : decode cX5_isSo 5 = .ok (.iload_n 3, 1) := dk_29 (dk_at dksX5_isSo_0 5 rfl rfl)
theorem dX5_isSo_6 : decode cX5_isSo 6 = .ok (.iadd, 1) := dk_96 (dk_at dksX5_isSo_0 6 rfl rfl)
theorem dX5_isSo_7 : decode cX5_isSo 7 = .ok (.istore 4, 2) := dk_54 4 (dk_at dksX5_isSo_0 7 rfl rfl)
theorem dX5_isSo_9 : decode cX5_isSo 9 = .ok (.aload_n 0, 1) := dk_42 (dk_at dksX5_isSo_0 9 rfl rfl)
theorem dX5_isSo_10 : decode cX5_isSo 10 = .ok (.getfield 80, 3) := dk_180 0 80 (dk_at dksX5_isSo_0 10 rfl rfl)
theorem dX5_isSo_13 : decode cX5_isSo 13 = .ok (.iload 4, 2) := dk_21 4 (dk_at dksX5_isSo_0 13 rfl rfl)
theorem dX5_isSo_15 : decode cX5_isSo 15 = .ok (.iaload, 1) := dk_46 (dk_at dksX5_isSo_0 15 rfl rfl)
theorem dX5_isSo_16 : decode cX5_isSo 16 = .ok (.ifCond .ne 39, 3) := dk_154 0 39 (dk_at dksX5_isSo_0 16 rfl rfl)
theorem dX5_isSo_19 : decode cX5_isSo 19 = .ok (.aload_n 0, 1) := dk_42 (dk_at dksX5_isSo_0 19 rfl rfl)
theorem dX5_isSo_20 : decode cX5_isSo 20 = .ok (.iload_n 1, 1) := dk_27 (dk_at dksX5_isSo_0 20 rfl rfl)
theorem dX5_isSo_21 : decode cX5_isSo 21 = .ok (.iload_n 2, 1) := dk_28 (dk_at dksX5_isSo_0 21 rfl rfl)
theorem dX5_isSo_22 : decode cX5_isSo 22 = .ok (.aload_n 0, 1) := dk_42 (dk_at dksX5_isSo_0 22 rfl rfl)
theorem dX5_isSo_23 : decode cX5_isSo 23 = .ok (.getfield 86, 3) := dk_180 0 86 (dk_at dksX5_isSo_1 0 rfl rfl)
theorem dX5_isSo_26 : decode cX5_isSo 26 = .ok (.iload 4, 2) := dk_21 4 (dk_at dksX5_isSo_1 3 rfl rfl)
theorem dX5_isSo_28 : decode cX5_isSo 28 = .ok (.iaload, 1) := dk_46 (dk_at dksX5_isSo_1 5 rfl rfl)
theorem dX5_isSo_29 : decode cX5_isSo 29 = .ok (.invokevirtual 445, 3) := dk_182 1 189 (dk_at dksX5_isSo_1 6 rfl rfl)
theorem dX5_isSo_32 : decode cX5_isSo 32 = .ok (.ifCond .eq 5, 3) := dk_153 0 5 (dk_at dksX5_isSo_1 9 rfl rfl)
theorem dX5_isSo_35 : decode cX5_isSo 35 = .ok (.iconst 1, 1) := dk_4 (dk_at dksX5_isSo_1 12 rfl rfl)
theorem dX5_isSo_36 : decode cX5_isSo 36 = .ok (.ireturn, 1) := dk_172 (dk_at dksX5_isSo_1 13 rfl rfl)
theorem dX5_isSo_37 : decode cX5_isSo 37 = .ok (.sipush 400, 3) := dk_17 1 144 (dk_at dksX5_isSo_1 14 rfl rfl)
theorem dX5_isSo_40 : decode cX5_isSo 40 = .ok (.iload_n 1, 1) := dk_27 (dk_at dksX5_isSo_1 17 rfl rfl)
theorem dX5_isSo_41 : decode cX5_isSo 41 = .ok (.imul, 1) := dk_104 (dk_at dksX5_isSo_1 18 rfl rfl)
theorem dX5_isSo_42 : decode cX5_isSo 42 = .ok (.aload_n 0, 1) := dk_42 (dk_at dksX5_isSo_1 19 rfl rfl)
theorem dX5_isSo_43 : decode cX5_isSo 43 = .ok (.getfield 83, 3) := dk_180 0 83 (dk_at dksX5_isSo_1 20 rfl rfl)
theorem dX5_isSo_46 : decode cX5_isSo 46 = .ok (.iload 4, 2) := dk_21 4 (dk_at dksX5_isSo_2 0 rfl rfl)
theorem dX5_isSo_48 : decode cX5_isSo 48 = .ok (.iaload, 1) := dk_46 (dk_at dksX5_isSo_2 2 rfl rfl)
theorem dX5_isSo_49 : decode cX5_isSo 49 = .ok (.iadd, 1) := dk_96 (dk_at dksX5_isSo_2 3 rfl rfl)
theorem dX5_isSo_50 : decode cX5_isSo 50 = .ok (.istore 4, 2) := dk_54 4 (dk_at dksX5_isSo_2 4 rfl rfl)
theorem dX5_isSo_52 : decode cX5_isSo 52 = .ok (.goto (-43), 3) := dk_167 255 213 (dk_at dksX5_isSo_2 6 rfl rfl)
theorem dX5_isSo_55 : decode cX5_isSo 55 = .ok (.aload_n 0, 1) := dk_42 (dk_at dksX5_isSo_2 9 rfl rfl)
theorem dX5_isSo_56 : decode cX5_isSo 56 = .ok (.getfield 80, 3) := dk_180 0 80 (dk_at dksX5_isSo_2 10 rfl rfl)
theorem dX5_isSo_59 : decode cX5_isSo 59 = .ok (.iload 4, 2) := dk_21 4 (dk_at dksX5_isSo_2 13 rfl rfl)
theorem dX5_isSo_61 : decode cX5_isSo 61 = .ok (.iaload, 1) := dk_46 (dk_at dksX5_isSo_2 15 rfl rfl)
theorem dX5_isSo_62 : decode cX5_isSo 62 = .ok (.iconst 1, 1) := dk_4 (dk_at dksX5_isSo_2 16 rfl rfl)
theorem dX5_isSo_63 : decode cX5_isSo 63 = .ok (.if_icmp .ne 39, 3) := dk_160 0 39 (dk_at dksX5_isSo_2 17 rfl rfl)
theorem dX5_isSo_66 : decode cX5_isSo 66 = .ok (.aload_n 0, 1) := dk_42 (dk_at dksX5_isSo_2 20 rfl rfl)
theorem dX5_isSo_67 : decode cX5_isSo 67 = .ok (.iload_n 1, 1) := dk_27 (dk_at dksX5_isSo_2 21 rfl rfl)
theorem dX5_isSo_68 : decode cX5_isSo 68 = .ok (.iload_n 2, 1) := dk_28 (dk_at dksX5_isSo_2 22 rfl rfl)
theorem dX5_isSo_69 : decode cX5_isSo 69 = .ok (.aload_n 0, 1) := dk_42 (dk_at dksX5_isSo_2 23 rfl rfl)
theorem dX5_isSo_70 : decode cX5_isSo 70 = .ok (.getfield 86, 3) := dk_180 0 86 (dk_at dksX5_isSo_3 0 rfl rfl)
theorem dX5_isSo_73 : decode cX5_isSo 73 = .ok (.iload 4, 2) := dk_21 4 (dk_at dksX5_isSo_3 3 rfl rfl)
theorem dX5_isSo_75 : decode cX5_isSo 75 = .ok (.iaload, 1) := dk_46 (dk_at dksX5_isSo_3 5 rfl rfl)
theorem dX5_isSo_76 : decode cX5_isSo 76 = .ok (.invokevirtual 445, 3) := dk_182 1 189 (dk_at dksX5_isSo_3 6 rfl rfl)
theorem dX5_isSo_79 : decode cX5_isSo 79 = .ok (.ifCond .ne 5, 3) := dk_154 0 5 (dk_at dksX5_isSo_3 9 rfl rfl)
theorem dX5_isSo_82 : decode cX5_isSo 82 = .ok (.iconst 0, 1) := dk_3 (dk_at dksX5_isSo_3 12 rfl rfl)
theorem dX5_isSo_83 : decode cX5_isSo 83 = .ok (.ireturn, 1) := dk_172 (dk_at dksX5_isSo_3 13 rfl rfl)
theorem dX5_isSo_84 : decode cX5_isSo 84 = .ok (.sipush 400, 3) := dk_17 1 144 (dk_at dksX5_isSo_3 14 rfl rfl)
theorem dX5_isSo_87 : decode cX5_isSo 87 = .ok (.iload_n 1, 1) := dk_27 (dk_at dksX5_isSo_3 17 rfl rfl)
theorem dX5_isSo_88 : decode cX5_isSo 88 = .ok (.imul, 1) := dk_104 (dk_at dksX5_isSo_3 18 rfl rfl)
theorem dX5_isSo_89 : decode cX5_isSo 89 = .ok (.aload_n 0, 1) := dk_42 (dk_at dksX5_isSo_3 19 rfl rfl)
theorem dX5_isSo_90 : decode cX5_isSo 90 = .ok (.getfield 83, 3) := dk_180 0 83 (dk_at dksX5_isSo_3 20 rfl rfl)
theorem dX5_isSo_93 : decode cX5_isSo 93 = .ok (.iload 4, 2) := dk_21 4 (dk_at dksX5_isSo_4 0 rfl rfl)
theorem dX5_isSo_95 : decode cX5_isSo 95 = .ok (.iaload, 1) := dk_46 (dk_at dksX5_isSo_4 2 rfl rfl)
theorem dX5_isSo_96 : decode cX5_isSo 96 = .ok (.iadd, 1) := dk_96 (dk_at dksX5_isSo_4 3 rfl rfl)
theorem dX5_isSo_97 : decode cX5_isSo 97 = .ok (.istore 4, 2) := dk_54 4 (dk_at dksX5_isSo_4 4 rfl rfl)
theorem dX5_isSo_99 : decode cX5_isSo 99 = .ok (.goto (-44), 3) := dk_167 255 212 (dk_at dksX5_isSo_4 6 rfl rfl)
theorem dX5_isSo_102 : decode cX5_isSo 102 = .ok (.aload_n 0, 1) := dk_42 (dk_at dksX5_isSo_4 9 rfl rfl)
theorem dX5_isSo_103 : decode cX5_isSo 103 = .ok (.getfield 83, 3) := dk_180 0 83 (dk_at dksX5_isSo_4 10 rfl rfl)
theorem dX5_isSo_106 : decode cX5_isSo 106 = .ok (.iload 4, 2) := dk_21 4 (dk_at dksX5_isSo_4 13 rfl rfl)
theorem dX5_isSo_108 : decode cX5_isSo 108 = .ok (.iaload, 1) := dk_46 (dk_at dksX5_isSo_4 15 rfl rfl)
theorem dX5_isSo_109 : decode cX5_isSo 109 = .ok (.istore 5, 2) := dk_54 5 (dk_at dksX5_isSo_4 16 rfl rfl)
theorem dX5_isSo_111 : decode cX5_isSo 111 = .ok (.aload_n 0, 1) := dk_42 (dk_at dksX5_isSo_4 18 rfl rfl)
theorem dX5_isSo_112 : decode cX5_isSo 112 = .ok (.getfield 86, 3) := dk_180 0 86 (dk_at dksX5_isSo_4 19 rfl rfl)
theorem dX5_isSo_115 : decode cX5_isSo 115 = .ok (.iload 4, 2) := dk_21 4 (dk_at dksX5_isSo_4 22 rfl rfl)
theorem dX5_isSo_117 : decode cX5_isSo 117 = .ok (.iaload, 1) := dk_46 (dk_at dksX5_isSo_5 0 rfl rfl)
theorem dX5_isSo_118 : decode cX5_isSo 118 = .ok (.istore 6, 2) := dk_54 6 (dk_at dksX5_isSo_5 1 rfl rfl)
theorem dX5_isSo_120 : decode cX5_isSo 120 = .ok (.aload_n 0, 1) := dk_42 (dk_at dksX5_isSo_5 3 rfl rfl)
theorem dX5_isSo_121 : decode cX5_isSo 121 = .ok (.getfield 80, 3) := dk_180 0 80 (dk_at dksX5_isSo_5 4 rfl rfl)
theorem dX5_isSo_124 : decode cX5_isSo 124 = .ok (.iload 4, 2) := dk_21 4 (dk_at dksX5_isSo_5 7 rfl rfl)
theorem dX5_isSo_126 : decode cX5_isSo 126 = .ok (.iaload, 1) := dk_46 (dk_at dksX5_isSo_5 9 rfl rfl)
theorem dX5_isSo_127 : decode cX5_isSo 127 = .ok (.tableswitch 245 0 8 #[49, 245, 64, 81, 145, 159, 205, 219, 233], 49) := by decide +kernel
theorem dX5_isSo_176 : decode cX5_isSo 176 = .ok (.aload_n 0, 1) := dk_42 (dk_at dksX5_isSo_7 0 rfl rfl)
theorem dX5_isSo_177 : decode cX5_isSo 177 = .ok (.iload_n 1, 1) := dk_27 (dk_at dksX5_isSo_7 1 rfl rfl)
theorem dX5_isSo_178 : decode cX5_isSo 178 = .ok (.iload_n 2, 1) := dk_28 (dk_at dksX5_isSo_7 2 rfl rfl)
theorem dX5_isSo_179 : decode cX5_isSo 179 = .ok (.iload 4, 2) := dk_21 4 (dk_at dksX5_isSo_7 3 rfl rfl)
theorem dX5_isSo_181 : decode cX5_isSo 181 = .ok (.sipush 400, 3) := dk_17 1 144 (dk_at dksX5_isSo_7 5 rfl rfl)
theorem dX5_isSo_184 : decode cX5_isSo 184 = .ok (.iload_n 1, 1) := dk_27 (dk_at dksX5_isSo_7 8 rfl rfl)
theorem dX5_isSo_185 : decode cX5_isSo 185 = .ok (.imul, 1) := dk_104 (dk_at dksX5_isSo_7 9 rfl rfl)
theorem dX5_isSo_186 : decode cX5_isSo 186 = .ok (.isub, 1) := dk_100 (dk_at dksX5_isSo_7 10 rfl rfl)
theorem dX5_isSo_187 : decode cX5_isSo 187 = .ok (.invokevirtual 445, 3) := dk_182 1 189 (dk_at dksX5_isSo_7 11 rfl rfl)
theorem dX5_isSo_190 : decode cX5_isSo 190 = .ok (.ireturn, 1) := dk_172 (dk_at dksX5_isSo_7 14 rfl rfl)
theorem dX5_isSo_191 : decode cX5_isSo 191 = .ok (.aload_n 0, 1) := dk_42 (dk_at dksX5_isSo_7 15 rfl rfl)
theorem dX5_isSo_192 : decode cX5_isSo 192 = .ok (.iload_n 1, 1) := dk_27 (dk_at dksX5_isSo_7 16 rfl rfl)
theorem dX5_isSo_193 : decode cX5_isSo 193 = .ok (.iload_n 2, 1) := dk_28 (dk_at dksX5_isSo_7 17 rfl rfl)
theorem dX5_isSo_194 : decode cX5_isSo 194 = .ok (.iload 5, 2) := dk_21 5 (dk_at dksX5_isSo_7 18 rfl rfl)
theorem dX5_isSo_196 : decode cX5_isSo 196 = .ok (.invokevirtual 445, 3) := dk_182 1 189 (dk_at dksX5_isSo_7 20 rfl rfl)
theorem dX5_isSo_199 : decode cX5_isSo 199 = .ok (.ifCond .ne 7, 3) := dk_154 0 7 (dk_at dksX5_isSo_8 0 rfl rfl)
theorem dX5_isSo_202 : decode cX5_isSo 202 = .ok (.iconst 1, 1) := dk_4 (dk_at dksX5_isSo_8 3 rfl rfl)
theorem dX5_isSo_203 : decode cX5_isSo 203 = .ok (.goto 4, 3) := dk_167 0 4 (dk_at dksX5_isSo_8 4 rfl rfl)
theorem dX5_isSo_206 : decode cX5_isSo 206 = .ok (.iconst 0, 1) := dk_3 (dk_at dksX5_isSo_8 7 rfl rfl)
theorem dX5_isSo_207 : decode cX5_isSo 207 = .ok (.ireturn, 1) := dk_172 (dk_at dksX5_isSo_8 8 rfl rfl)
theorem dX5_isSo_208 : decode cX5_isSo 208 = .ok (.aload_n 0, 1) := dk_42 (dk_at dksX5_isSo_8 9 rfl rfl)
theorem dX5_isSo_209 : decode cX5_isSo 209 = .ok (.getfield 102, 3) := dk_180 0 102 (dk_at dksX5_isSo_8 10 rfl rfl)
theorem dX5_isSo_212 : decode cX5_isSo 212 = .ok (.iload_n 2, 1) := dk_28 (dk_at dksX5_isSo_8 13 rfl rfl)
theorem dX5_isSo_213 : decode cX5_isSo 213 = .ok (.iaload, 1) := dk_46 (dk_at dksX5_isSo_8 14 rfl rfl)
theorem dX5_isSo_214 : decode cX5_isSo 214 = .ok (.iload 5, 2) := dk_21 5 (dk_at dksX5_isSo_8 15 rfl rfl)
theorem dX5_isSo_216 : decode cX5_isSo 216 = .ok (.iload 6, 2) := dk_21 6 (dk_at dksX5_isSo_8 17 rfl rfl)
theorem dX5_isSo_218 : decode cX5_isSo 218 = .ok (.invokestatic 170, 3) := dk_184 0 170 (dk_at dksX5_isSo_8 19 rfl rfl)
theorem dX5_isSo_221 : decode cX5_isSo 221 = .ok (.ifCond .eq 5, 3) := dk_153 0 5 (dk_at dksX5_isSo_9 0 rfl rfl)
theorem dX5_isSo_224 : decode cX5_isSo 224 = .ok (.iconst 1, 1) := dk_4 (dk_at dksX5_isSo_9 3 rfl rfl)
theorem dX5_isSo_225 : decode cX5_isSo 225 = .ok (.ireturn, 1) := dk_172 (dk_at dksX5_isSo_9 4 rfl rfl)
theorem dX5_isSo_226 : decode cX5_isSo 226 = .ok (.iconst 0, 1) := dk_3 (dk_at dksX5_isSo_9 5 rfl rfl)
theorem dX5_isSo_227 : decode cX5_isSo 227 = .ok (.istore 7, 2) := dk_54 7 (dk_at dksX5_isSo_9 6 rfl rfl)
theorem dX5_isSo_229 : decode cX5_isSo 229 = .ok (.iload 7, 2) := dk_21 7 (dk_at dksX5_isSo_9 8 rfl rfl)
theorem dX5_isSo_231 : decode cX5_isSo 231 = .ok (.aload_n 0, 1) := dk_42 (dk_at dksX5_isSo_9 10 rfl rfl)
theorem dX5_isSo_232 : decode cX5_isSo 232 = .ok (.getfield 111, 3) := dk_180 0 111 (dk_at dksX5_isSo_9 11 rfl rfl)
theorem dX5_isSo_235 : decode cX5_isSo 235 = .ok (.iload_n 2, 1) := dk_28 (dk_at dksX5_isSo_9 14 rfl rfl)
theorem dX5_isSo_236 : decode cX5_isSo 236 = .ok (.iaload, 1) := dk_46 (dk_at dksX5_isSo_9 15 rfl rfl)
theorem dX5_isSo_237 : decode cX5_isSo 237 = .ok (.if_icmp .ge 33, 3) := dk_162 0 33 (dk_at dksX5_isSo_9 16 rfl rfl)
theorem dX5_isSo_240 : decode cX5_isSo 240 = .ok (.aload_n 0, 1) := dk_42 (dk_at dksX5_isSo_9 19 rfl rfl)
theorem dX5_isSo_241 : decode cX5_isSo 241 = .ok (.getfield 114, 3) := dk_180 0 114 (dk_at dksX5_isSo_9 20 rfl rfl)
theorem dX5_isSo_244 : decode cX5_isSo 244 = .ok (.bipush 8, 2) := dk_16 8 (dk_at dksX5_isSo_10 0 rfl rfl)
theorem dX5_isSo_246 : decode cX5_isSo 246 = .ok (.iload_n 2, 1) := dk_28 (dk_at dksX5_isSo_10 2 rfl rfl)
theorem dX5_isSo_247 : decode cX5_isSo 247 = .ok (.imul, 1) := dk_104 (dk_at dksX5_isSo_10 3 rfl rfl)
theorem dX5_isSo_248 : decode cX5_isSo 248 = .ok (.iload 7, 2) := dk_21 7 (dk_at dksX5_isSo_10 4 rfl rfl)
theorem dX5_isSo_250 : decode cX5_isSo 250 = .ok (.iadd, 1) := dk_96 (dk_at dksX5_isSo_10 6 rfl rfl)
theorem dX5_isSo_251 : decode cX5_isSo 251 = .ok (.iaload, 1) := dk_46 (dk_at dksX5_isSo_10 7 rfl rfl)
theorem dX5_isSo_252 : decode cX5_isSo 252 = .ok (.iload 5, 2) := dk_21 5 (dk_at dksX5_isSo_10 8 rfl rfl)
theorem dX5_isSo_254 : decode cX5_isSo 254 = .ok (.iload 6, 2) := dk_21 6 (dk_at dksX5_isSo_10 10 rfl rfl)
theorem dX5_isSo_256 : decode cX5_isSo 256 = .ok (.invokestatic 170, 3) := dk_184 0 170 (dk_at dksX5_isSo_10 12 rfl rfl)
theorem dX5_isSo_259 : decode cX5_isSo 259 = .ok (.ifCond .eq 5, 3) := dk_153 0 5 (dk_at dksX5_isSo_10 15 rfl rfl)
theorem dX5_isSo_262 : decode cX5_isSo 262 = .ok (.iconst 1, 1) := dk_4 (dk_at dksX5_isSo_10 18 rfl rfl)
theorem dX5_isSo_263 : decode cX5_isSo 263 = .ok (.ireturn, 1) := dk_172 (dk_at dksX5_isSo_10 19 rfl rfl)
theorem dX5_isSo_264 : decode cX5_isSo 264 = .ok (.iinc 7 1, 3) := dk_132 7 1 (dk_at dksX5_isSo_10 20 rfl rfl)
theorem dX5_isSo_267 : decode cX5_isSo 267 = .ok (.goto (-38), 3) := dk_167 255 218 (dk_at dksX5_isSo_11 0 rfl rfl)
theorem dX5_isSo_270 : decode cX5_isSo 270 = .ok (.iconst 0, 1) := dk_3 (dk_at dksX5_isSo_11 3 rfl rfl)
theorem dX5_isSo_271 : decode cX5_isSo 271 = .ok (.ireturn, 1) := dk_172 (dk_at dksX5_isSo_11 4 rfl rfl)
theorem dX5_isSo_272 : decode cX5_isSo 272 = .ok (.aload_n 0, 1) := dk_42 (dk_at dksX5_isSo_11 5 rfl rfl)
theorem dX5_isSo_273 : decode cX5_isSo 273 = .ok (.getfield 102, 3) := dk_180 0 102 (dk_at dksX5_isSo_11 6 rfl rfl)
theorem dX5_isSo_276 : decode cX5_isSo 276 = .ok (.iload_n 2, 1) := dk_28 (dk_at dksX5_isSo_11 9 rfl rfl)
theorem dX5_isSo_277 : decode cX5_isSo 277 = .ok (.iaload, 1) := dk_46 (dk_at dksX5_isSo_11 10 rfl rfl)
theorem dX5_isSo_278 : decode cX5_isSo 278 = .ok (.iload 5, 2) := dk_21 5 (dk_at dksX5_isSo_11 11 rfl rfl)
theorem dX5_isSo_280 : decode cX5_isSo 280 = .ok (.iload 6, 2) := dk_21 6 (dk_at dksX5_isSo_11 13 rfl rfl)
theorem dX5_isSo_282 : decode cX5_isSo 282 = .ok (.invokestatic 170, 3) := dk_184 0 170 (dk_at dksX5_isSo_11 15 rfl rfl)
theorem dX5_isSo_285 : decode cX5_isSo 285 = .ok (.ireturn, 1) := dk_172 (dk_at dksX5_isSo_11 18 rfl rfl)
theorem dX5_isSo_286 : decode cX5_isSo 286 = .ok (.iconst 0, 1) := dk_3 (dk_at dksX5_isSo_11 19 rfl rfl)
theorem dX5_isSo_287 : decode cX5_isSo 287 = .ok (.istore 7, 2) := dk_54 7 (dk_at dksX5_isSo_11 20 rfl rfl)
theorem dX5_isSo_289 : decode cX5_isSo 289 = .ok (.iload 7, 2) := dk_21 7 (dk_at dksX5_isSo_11 22 rfl rfl)
theorem dX5_isSo_291 : decode cX5_isSo 291 = .ok (.aload_n 0, 1) := dk_42 (dk_at dksX5_isSo_12 0 rfl rfl)
theorem dX5_isSo_292 : decode cX5_isSo 292 = .ok (.getfield 117, 3) := dk_180 0 117 (dk_at dksX5_isSo_12 1 rfl rfl)
theorem dX5_isSo_295 : decode cX5_isSo 295 = .ok (.iload_n 2, 1) := dk_28 (dk_at dksX5_isSo_12 4 rfl rfl)
theorem dX5_isSo_296 : decode cX5_isSo 296 = .ok (.iaload, 1) := dk_46 (dk_at dksX5_isSo_12 5 rfl rfl)
theorem dX5_isSo_297 : decode cX5_isSo 297 = .ok (.if_icmp .ge 33, 3) := dk_162 0 33 (dk_at dksX5_isSo_12 6 rfl rfl)
theorem dX5_isSo_300 : decode cX5_isSo 300 = .ok (.aload_n 0, 1) := dk_42 (dk_at dksX5_isSo_12 9 rfl rfl)
theorem dX5_isSo_301 : decode cX5_isSo 301 = .ok (.getfield 120, 3) := dk_180 0 120 (dk_at dksX5_isSo_12 10 rfl rfl)
theorem dX5_isSo_304 : decode cX5_isSo 304 = .ok (.bipush 6, 2) := dk_16 6 (dk_at dksX5_isSo_12 13 rfl rfl)
theorem dX5_isSo_306 : decode cX5_isSo 306 = .ok (.iload_n 2, 1) := dk_28 (dk_at dksX5_isSo_12 15 rfl rfl)
theorem dX5_isSo_307 : decode cX5_isSo 307 = .ok (.imul, 1) := dk_104 (dk_at dksX5_isSo_12 16 rfl rfl)
theorem dX5_isSo_308 : decode cX5_isSo 308 = .ok (.iload 7, 2) := dk_21 7 (dk_at dksX5_isSo_12 17 rfl rfl)
theorem dX5_isSo_310 : decode cX5_isSo 310 = .ok (.iadd, 1) := dk_96 (dk_at dksX5_isSo_12 19 rfl rfl)
theorem dX5_isSo_311 : decode cX5_isSo 311 = .ok (.iaload, 1) := dk_46 (dk_at dksX5_isSo_12 20 rfl rfl)
theorem dX5_isSo_312 : decode cX5_isSo 312 = .ok (.iload 5, 2) := dk_21 5 (dk_at dksX5_isSo_12 21 rfl rfl)
theorem dX5_isSo_314 : decode cX5_isSo 314 = .ok (.iload 6, 2) := dk_21 6 (dk_at dksX5_isSo_13 0 rfl rfl)
theorem dX5_isSo_316 : decode cX5_isSo 316 = .ok (.invokestatic 170, 3) := dk_184 0 170 (dk_at dksX5_isSo_13 2 rfl rfl)
theorem dX5_isSo_319 : decode cX5_isSo 319 = .ok (.ifCond .eq 5, 3) := dk_153 0 5 (dk_at dksX5_isSo_13 5 rfl rfl)
theorem dX5_isSo_322 : decode cX5_isSo 322 = .ok (.iconst 1, 1) := dk_4 (dk_at dksX5_isSo_13 8 rfl rfl)
theorem dX5_isSo_323 : decode cX5_isSo 323 = .ok (.ireturn, 1) := dk_172 (dk_at dksX5_isSo_13 9 rfl rfl)
theorem dX5_isSo_324 : decode cX5_isSo 324 = .ok (.iinc 7 1, 3) := dk_132 7 1 (dk_at dksX5_isSo_13 10 rfl rfl)
theorem dX5_isSo_327 : decode cX5_isSo 327 = .ok (.goto (-38), 3) := dk_167 255 218 (dk_at dksX5_isSo_13 13 rfl rfl)
theorem dX5_isSo_330 : decode cX5_isSo 330 = .ok (.iconst 0, 1) := dk_3 (dk_at dksX5_isSo_13 16 rfl rfl)
theorem dX5_isSo_331 : decode cX5_isSo 331 = .ok (.ireturn, 1) := dk_172 (dk_at dksX5_isSo_13 17 rfl rfl)
theorem dX5_isSo_332 : decode cX5_isSo 332 = .ok (.aload_n 0, 1) := dk_42 (dk_at dksX5_isSo_13 18 rfl rfl)
theorem dX5_isSo_333 : decode cX5_isSo 333 = .ok (.getfield 105, 3) := dk_180 0 105 (dk_at dksX5_isSo_13 19 rfl rfl)
theorem dX5_isSo_336 : decode cX5_isSo 336 = .ok (.iload_n 2, 1) := dk_28 (dk_at dksX5_isSo_13 22 rfl rfl)
theorem dX5_isSo_337 : decode cX5_isSo 337 = .ok (.iaload, 1) := dk_46 (dk_at dksX5_isSo_13 23 rfl rfl)
theorem dX5_isSo_338 : decode cX5_isSo 338 = .ok (.iload 5, 2) := dk_21 5 (dk_at dksX5_isSo_14 0 rfl rfl)
theorem dX5_isSo_340 : decode cX5_isSo 340 = .ok (.iload 6, 2) := dk_21 6 (dk_at dksX5_isSo_14 2 rfl rfl)
theorem dX5_isSo_342 : decode cX5_isSo 342 = .ok (.invokestatic 448, 3) := dk_184 1 192 (dk_at dksX5_isSo_14 4 rfl rfl)
theorem dX5_isSo_345 : decode cX5_isSo 345 = .ok (.ireturn, 1) := dk_172 (dk_at dksX5_isSo_14 7 rfl rfl)
theorem dX5_isSo_346 : decode cX5_isSo 346 = .ok (.aload_n 0, 1) := dk_42 (dk_at dksX5_isSo_14 8 rfl rfl)
theorem dX5_isSo_347 : decode cX5_isSo 347 = .ok (.getfield 108, 3) := dk_180 0 108 (dk_at dksX5_isSo_14 9 rfl rfl)
theorem dX5_isSo_350 : decode cX5_isSo 350 = .ok (.iload_n 2, 1) := dk_28 (dk_at dksX5_isSo_14 12 rfl rfl)
theorem dX5_isSo_351 : decode cX5_isSo 351 = .ok (.iaload, 1) := dk_46 (dk_at dksX5_isSo_14 13 rfl rfl)
theorem dX5_isSo_352 : decode cX5_isSo 352 = .ok (.iload 5, 2) := dk_21 5 (dk_at dksX5_isSo_14 14 rfl rfl)
theorem dX5_isSo_354 : decode cX5_isSo 354 = .ok (.iload 6, 2) := dk_21 6 (dk_at dksX5_isSo_14 16 rfl rfl)
theorem dX5_isSo_356 : decode cX5_isSo 356 = .ok (.invokestatic 448, 3) := dk_184 1 192 (dk_at dksX5_isSo_14 18 rfl rfl)
theorem dX5_isSo_359 : decode cX5_isSo 359 = .ok (.ireturn, 1) := dk_172 (dk_at dksX5_isSo_14 21 rfl rfl)
theorem dX5_isSo_360 : decode cX5_isSo 360 = .ok (.aload_n 0, 1) := dk_42 (dk_at dksX5_isSo_14 22 rfl rfl)
theorem dX5_isSo_361 : decode cX5_isSo 361 = .ok (.getfield 451, 3) := dk_180 1 195 (dk_at dksX5_isSo_15 0 rfl rfl)
theorem dX5_isSo_364 : decode cX5_isSo 364 = .ok (.iload 5, 2) := dk_21 5 (dk_at dksX5_isSo_15 3 rfl rfl)
theorem dX5_isSo_366 : decode cX5_isSo 366 = .ok (.iload 6, 2) := dk_21 6 (dk_at dksX5_isSo_15 5 rfl rfl)
theorem dX5_isSo_368 : decode cX5_isSo 368 = .ok (.invokestatic 448, 3) := dk_184 1 192 (dk_at dksX5_isSo_15 7 rfl rfl)
theorem dX5_isSo_371 : decode cX5_isSo 371 = .ok (.ireturn, 1) := dk_172 (dk_at dksX5_isSo_15 10 rfl rfl)
theorem dX5_isSo_372 : decode cX5_isSo 372 = .ok (.aload_n 0, 1) := dk_42 (dk_at dksX5_isSo_15 11 rfl rfl)
theorem dX5_isSo_373 : decode cX5_isSo 373 = .ok (.getfield 453, 3) := dk_180 1 197 (dk_at dksX5_isSo_15 12 rfl rfl)
theorem dX5_isSo_376 : decode cX5_isSo 376 = .ok (.iload 5, 2) := dk_21 5 (dk_at dksX5_isSo_15 15 rfl rfl)
theorem dX5_isSo_378 : decode cX5_isSo 378 = .ok (.iload 6, 2) := dk_21 6 (dk_at dksX5_isSo_15 17 rfl rfl)
theorem dX5_isSo_380 : decode cX5_isSo 380 = .ok (.invokestatic 448, 3) := dk_184 1 192 (dk_at dksX5_isSo_15 19 rfl rfl)
theorem dX5_isSo_383 : decode cX5_isSo 383 = .ok (.ireturn, 1) := dk_172 (dk_at dksX5_isSo_15 22 rfl rfl)
abbrev cX5_weightFor : ByteArray := prog_20_method_72_code
def yX5_weightFor : MethodName := ⟨RX5, "weightFor", "(II)I"⟩
def dkwX5_weightFor_1 : List UInt8 := [96, 46, 172]
abbrev dktX5_weightFor_1 : List UInt8 := dkwX5_weightFor_1 ++ []
def dkwX5_weightFor_0 : List UInt8 := [42, 27, 28, 182, 1, 214, 62, 29, 156, 0, 7, 3, 167, 0, 14, 42, 180, 0, 62, 16, 16, 27, 104, 29]
abbrev dktX5_weightFor_0 : List UInt8 := dkwX5_weightFor_0 ++ dktX5_weightFor_1
theorem dksX5_weightFor_0 : cX5_weightFor.data.toList.drop 0 = dktX5_weightFor_0 := by decide +kernel
theorem dksX5_weightFor_1 : cX5_weightFor.data.toList.drop 24 = dktX5_weightFor_1 := dk_seg dksX5_weightFor_0 24 rfl rfl
theorem dX5_weightFor_0 : decode cX5_weightFor 0 = .ok (.aload_n 0, 1) := dk_42 (dk_at dksX5_weightFor_0 0 rfl rfl)
theorem dX5_weightFor_1 : decode cX5_weightFor 1 = .ok (.iload_n 1, 1) := dk_27 (dk_at dksX5_weightFor_0 1 rfl rfl)
theorem dX5_weightFor_2 : decode cX5_weightFor 2 = .ok (.iload_n 2, 1) := dk_28 (dk_at dksX5_weightFor_0 2 rfl rfl)
theorem dX5_weightFor_3 : decode cX5_weightFor 3 = .ok (.invokevirtual 470, 3) := dk_182 1 214 (dk_at dksX5_weightFor_0 3 rfl rfl)
theorem dX5_weightFor_6 : decode cX5_weightFor 6 = .ok (.istore_n 3, 1) := dk_62 (dk_at dksX5_weightFor_0 6 rfl rfl)
theorem dX5_weightFor_7 : decode cX5_weightFor 7 = .ok (.iload_n 3, 1) := dk_29 (dk_at dksX5_weightFor_0 7 rfl rfl)
theorem dX5_weightFor_8 : decode cX5_weightFor 8 = .ok (.ifCond .ge 7, 3) := dk_156 0 7 (dk_at dksX5_weightFor_0 8 rfl rfl)
theorem dX5_weightFor_11 : decode cX5_weightFor 11 = .ok (.iconst 0, 1) := dk_3 (dk_at dksX5_weightFor_0 11 rfl rfl)
theorem dX5_weightFor_12 : decode cX5_weightFor 12 = .ok (.goto 14, 3) := dk_167 0 14 (dk_at dksX5_weightFor_0 12 rfl rfl)
theorem dX5_weightFor_15 : decode cX5_weightFor 15 = .ok (.aload_n 0, 1) := dk_42 (dk_at dksX5_weightFor_0 15 rfl rfl)
theorem dX5_weightFor_16 : decode cX5_weightFor 16 = .ok (.getfield 62, 3) := dk_180 0 62 (dk_at dksX5_weightFor_0 16 rfl rfl)
theorem dX5_weightFor_19 : decode cX5_weightFor 19 = .ok (.bipush 16, 2) := dk_16 16 (dk_at dksX5_weightFor_0 19 rfl rfl)
theorem dX5_weightFor_21 : decode cX5_weightFor 21 = .ok (.iload_n 1, 1) := dk_27 (dk_at dksX5_weightFor_0 21 rfl rfl)
theorem dX5_weightFor_22 : decode cX5_weightFor 22 = .ok (.imul, 1) := dk_104 (dk_at dksX5_weightFor_0 22 rfl rfl)
theorem dX5_weightFor_23 : decode cX5_weightFor 23 = .ok (.iload_n 3, 1) := dk_29 (dk_at dksX5_weightFor_0 23 rfl rfl)
theorem dX5_weightFor_24 : decode cX5_weightFor 24 = .ok (.iadd, 1) := dk_96 (dk_at dksX5_weightFor_1 0 rfl rfl)
theorem dX5_weightFor_25 : decode cX5_weightFor 25 = .ok (.iaload, 1) := dk_46 (dk_at dksX5_weightFor_1 1 rfl rfl)
theorem dX5_weightFor_26 : decode cX5_weightFor 26 = .ok (.ireturn, 1) := dk_172 (dk_at dksX5_weightFor_1 2 rfl rfl)
abbrev cX5_leafNumber : ByteArray := prog_20_method_79_code
def yX5_leafNumber : MethodName := ⟨RX5, "leafNumber", "(I)I"⟩
def dkwX5_leafNumber_0 : List UInt8 := [27, 156, 0, 7, 2, 167, 0, 16, 42, 180, 0, 144, 3, 42, 180, 1, 217, 27, 184, 1, 156, 172]
abbrev dktX5_leafNumber_0 : List UInt8 := dkwX5_leafNumber_0 ++ []
theorem dksX5_leafNumber_0 : cX5_leafNumber.data.toList.drop 0 = dktX5_leafNumber_0 := by decide +kernel
theorem dX5_leafNumber_0 : decode cX5_leafNumber 0 = .ok (.iload_n 1, 1) := dk_27 (dk_at dksX5_leafNumber_0 0 rfl rfl)
theorem dX5_leafNumber_1 : decode cX5_leafNumber 1 = .ok (.ifCond .ge 7, 3) := dk_156 0 7 (dk_at dksX5_leafNumber_0 1 rfl rfl)
theorem dX5_leafNumber_4 : decode cX5_leafNumber 4 = .ok (.iconst (-1), 1) := dk_2 (dk_at dksX5_leafNumber_0 4 rfl rfl)
theorem dX5_leafNumber_5 : decode cX5_leafNumber 5 = .ok (.goto 16, 3) := dk_167 0 16 (dk_at dksX5_leafNumber_0 5 rfl rfl)
theorem dX5_leafNumber_8 : decode cX5_leafNumber 8 = .ok (.aload_n 0, 1) := dk_42 (dk_at dksX5_leafNumber_0 8 rfl rfl)
theorem dX5_leafNumber_9 : decode cX5_leafNumber 9 = .ok (.getfield 144, 3) := dk_180 0 144 (dk_at dksX5_leafNumber_0 9 rfl rfl)
theorem dX5_leafNumber_12 : decode cX5_leafNumber 12 = .ok (.iconst 0, 1) := dk_3 (dk_at dksX5_leafNumber_0 12 rfl rfl)
theorem dX5_leafNumber_13 : decode cX5_leafNumber 13 = .ok (.aload_n 0, 1) := dk_42 (dk_at dksX5_leafNumber_0 13 rfl rfl)
theorem dX5_leafNumber_14 : decode cX5_leafNumber 14 = .ok (.getfield 473, 3) := dk_180 1 217 (dk_at dksX5_leafNumber_0 14 rfl rfl)
theorem dX5_leafNumber_17 : decode cX5_leafNumber 17 = .ok (.iload_n 1, 1) := dk_27 (dk_at dksX5_leafNumber_0 17 rfl rfl)
theorem dX5_leafNumber_18 : decode cX5_leafNumber 18 = .ok (.invokestatic 412, 3) := dk_184 1 156 (dk_at dksX5_leafNumber_0 18 rfl rfl)
theorem dX5_leafNumber_21 : decode cX5_leafNumber 21 = .ok (.ireturn, 1) := dk_172 (dk_at dksX5_leafNumber_0 21 rfl rfl)
abbrev cX5_listed : ByteArray := prog_20_method_81_code
def yX5_listed : MethodName := ⟨RX5, "listed", "(III)I"⟩
def dkwX5_listed_4 : List UInt8 := [172]
abbrev dktX5_listed_4 : List UInt8 := dkwX5_listed_4 ++ []
def dkwX5_listed_3 : List UInt8 := [180, 0, 114, 16, 8, 27, 104, 29, 96, 46, 167, 0, 14, 42, 180, 0, 120, 16, 6, 27, 104, 29, 96, 46]
abbrev dktX5_listed_3 : List UInt8 := dkwX5_listed_3 ++ dktX5_listed_4
def dkwX5_listed_2 : List UInt8 := [167, 0, 4, 4, 181, 0, 160, 42, 180, 0, 160, 4, 160, 0, 5, 3, 172, 28, 154, 0, 17, 42]
abbrev dktX5_listed_2 : List UInt8 := dkwX5_listed_2 ++ dktX5_listed_3
def dkwX5_listed_1 : List UInt8 := [42, 180, 0, 111, 27, 46, 167, 0, 9, 42, 180, 0, 117, 27, 46, 4, 100, 184, 0, 170, 153, 0, 7, 3]
abbrev dktX5_listed_1 : List UInt8 := dkwX5_listed_1 ++ dktX5_listed_2
def dkwX5_listed_0 : List UInt8 := [42, 42, 27, 182, 1, 153, 153, 0, 45, 28, 3, 4, 184, 0, 170, 153, 0, 36, 29, 3, 28, 154, 0, 12]
abbrev dktX5_listed_0 : List UInt8 := dkwX5_listed_0 ++ dktX5_listed_1
theorem dksX5_listed_0 : cX5_listed.data.toList.drop 0 = dktX5_listed_0 := by decide +kernel
theorem dksX5_listed_1 : cX5_listed.data.toList.drop 24 = dktX5_listed_1 := dk_seg dksX5_listed_0 24 rfl rfl
theorem dksX5_listed_2 : cX5_listed.data.toList.drop 48 = dktX5_listed_2 := dk_seg dksX5_listed_1 24 rfl rfl
theorem dksX5_listed_3 : cX5_listed.data.toList.drop 70 = dktX5_listed_3 := dk_seg dksX5_listed_2 22 rfl rfl
theorem dksX5_listed_4 : cX5_listed.data.toList.drop 94 = dktX5_listed_4 := dk_seg dksX5_listed_3 24 rfl rfl
theorem dX5_listed_0 : decode cX5_listed 0 = .ok (.aload_n 0, 1) := dk_42 (dk_at dksX5_listed_0 0 rfl rfl)
theorem dX5_listed_1 : decode cX5_listed 1 = .ok (.aload_n 0, 1) := dk_42 (dk_at dksX5_listed_0 1 rfl rfl)
theorem dX5_listed_2 : decode cX5_listed 2 = .ok (.iload_n 1, 1) := dk_27 (dk_at dksX5_listed_0 2 rfl rfl)
theorem dX5_listed_3 : decode cX5_listed 3 = .ok (.invokevirtual 409, 3) := dk_182 1 153 (dk_at dksX5_listed_0 3 rfl rfl)
theorem dX5_listed_6 : decode cX5_listed 6 = .ok (.ifCond .eq 45, 3) := dk_153 0 45 (dk_at dksX5_listed_0 6 rfl rfl)
theorem dX5_listed_9 : decode cX5_listed 9 = .ok (.iload_n 2, 1) := dk_28 (dk_at dksX5_listed_0 9 rfl rfl)
theorem dX5_listed_10 : decode cX5_listed 10 = .ok (.iconst 0, 1) := dk_3 (dk_at dksX5_listed_0 10 rfl rfl)
theorem dX5_listed_11 : decode cX5_listed 11 = .ok (.iconst 1, 1) := dk_4 (dk_at dksX5_listed_0 11 rfl rfl)
theorem dX5_listed_12 : decode cX5_listed 12 = .ok (.invokestatic 170, 3) := dk_184 0 170 (dk_at dksX5_listed_0 12 rfl rfl)
theorem dX5_listed_15 : decode cX5_listed 15 = .ok (.ifCond .eq 36, 3) := dk_153 0 36 (dk_at dksX5_listed_0 15 rfl rfl)
theorem dX5_listed_18 : decode cX5_listed 18 = .ok (.iload_n 3, 1) := dk_29 (dk_at dksX5_listed_0 18 rfl rfl)
theorem dX5_listed_19 : decode cX5_listed 19 = .ok (.iconst 0, 1) := dk_3 (dk_at dksX5_listed_0 19 rfl rfl)
theorem dX5_listed_20 : decode cX5_listed 20 = .ok (.iload_n 2, 1) := dk_28 (dk_at dksX5_listed_0 20 rfl rfl)
theorem dX5_listed_21 : decode cX5_listed 21 = .ok (.ifCond .ne 12, 3) := dk_154 0 12 (dk_at dksX5_listed_0 21 rfl rfl)
theorem dX5_listed_24 : decode cX5_listed 24 = .ok (.aload_n 0, 1) := dk_42 (dk_at dksX5_listed_1 0 rfl rfl)
theorem dX5_listed_25 : decode cX5_listed 25 = .ok (.getfield 111, 3) := dk_180 0 111 (dk_at dksX5_listed_1 1 rfl rfl)
theorem dX5_listed_28 : decode cX5_listed 28 = .ok (.iload_n 1, 1) := dk_27 (dk_at dksX5_listed_1 4 rfl rfl)
theorem dX5_listed_29 : decode cX5_listed 29 = .ok (.iaload, 1) := dk_46 (dk_at dksX5_listed_1 5 rfl rfl)
theorem dX5_listed_30 : decode cX5_listed 30 = .ok (.goto 9, 3) := dk_167 0 9 (dk_at dksX5_listed_1 6 rfl rfl)
theorem dX5_listed_33 : decode cX5_listed 33 = .ok (.aload_n 0, 1) := dk_42 (dk_at dksX5_listed_1 9 rfl rfl)
theorem dX5_listed_34 : decode cX5_listed 34 = .ok (.getfield 117, 3) := dk_180 0 117 (dk_at dksX5_listed_1 10 rfl rfl)
theorem dX5_listed_37 : decode cX5_listed 37 = .ok (.iload_n 1, 1) := dk_27 (dk_at dksX5_listed_1 13 rfl rfl)
theorem dX5_listed_38 : decode cX5_listed 38 = .ok (.iaload, 1) := dk_46 (dk_at dksX5_listed_1 14 rfl rfl)
theorem dX5_listed_39 : decode cX5_listed 39 = .ok (.iconst 1, 1) := dk_4 (dk_at dksX5_listed_1 15 rfl rfl)
theorem dX5_listed_40 : decode cX5_listed 40 = .ok (.isub, 1) := dk_100 (dk_at dksX5_listed_1 16 rfl rfl)
theorem dX5_listed_41 : decode cX5_listed 41 = .ok (.invokestatic 170, 3) := dk_184 0 170 (dk_at dksX5_listed_1 17 rfl rfl)
theorem dX5_listed_44 : decode cX5_listed 44 = .ok (.ifCond .eq 7, 3) := dk_153 0 7 (dk_at dksX5_listed_1 20 rfl rfl)
theorem dX5_listed_47 : decode cX5_listed 47 = .ok (.iconst 0, 1) := dk_3 (dk_at dksX5_listed_1 23 rfl rfl)
theorem dX5_listed_48 : decode cX5_listed 48 = .ok (.goto 4, 3) := dk_167 0 4 (dk_at dksX5_listed_2 0 rfl rfl)
theorem dX5_listed_51 : decode cX5_listed 51 = .ok (.iconst 1, 1) := dk_4 (dk_at dksX5_listed_2 3 rfl rfl)
theorem dX5_listed_52 : decode cX5_listed 52 = .ok (.putfield 160, 3) := dk_181 0 160 (dk_at dksX5_listed_2 4 rfl rfl)
theorem dX5_listed_55 : decode cX5_listed 55 = .ok (.aload_n 0, 1) := dk_42 (dk_at dksX5_listed_2 7 rfl rfl)
theorem dX5_listed_56 : decode cX5_listed 56 = .ok (.getfield 160, 3) := dk_180 0 160 (dk_at dksX5_listed_2 8 rfl rfl)
theorem dX5_listed_59 : decode cX5_listed 59 = .ok (.iconst 1, 1) := dk_4 (dk_at dksX5_listed_2 11 rfl rfl)
theorem dX5_listed_60 : decode cX5_listed 60 = .ok (.if_icmp .ne 5, 3) := dk_160 0 5 (dk_at dksX5_listed_2 12 rfl rfl)
theorem dX5_listed_63 : decode cX5_listed 63 = .ok (.iconst 0, 1) := dk_3 (dk_at dksX5_listed_2 15 rfl rfl)
theorem dX5_listed_64 : decode cX5_listed 64 = .ok (.ireturn, 1) := dk_172 (dk_at dksX5_listed_2 16 rfl rfl)
theorem dX5_listed_65 : decode cX5_listed 65 = .ok (.iload_n 2, 1) := dk_28 (dk_at dksX5_listed_2 17 rfl rfl)
theorem dX5_listed_66 : decode cX5_listed 66 = .ok (.ifCond .ne 17, 3) := dk_154 0 17 (dk_at dksX5_listed_2 18 rfl rfl)
theorem dX5_listed_69 : decode cX5_listed 69 = .ok (.aload_n 0, 1) := dk_42 (dk_at dksX5_listed_2 21 rfl rfl)
theorem dX5_listed_70 : decode cX5_listed 70 = .ok (.getfield 114, 3) := dk_180 0 114 (dk_at dksX5_listed_3 0 rfl rfl)
theorem dX5_listed_73 : decode cX5_listed 73 = .ok (.bipush 8, 2) := dk_16 8 (dk_at dksX5_listed_3 3 rfl rfl)
theorem dX5_listed_75 : decode cX5_listed 75 = .ok (.iload_n 1, 1) := dk_27 (dk_at dksX5_listed_3 5 rfl rfl)
theorem dX5_listed_76 : decode cX5_listed 76 = .ok (.imul, 1) := dk_104 (dk_at dksX5_listed_3 6 rfl rfl)
theorem dX5_listed_77 : decode cX5_listed 77 = .ok (.iload_n 3, 1) := dk_29 (dk_at dksX5_listed_3 7 rfl rfl)
theorem dX5_listed_78 : decode cX5_listed 78 = .ok (.iadd, 1) := dk_96 (dk_at dksX5_listed_3 8 rfl rfl)
theorem dX5_listed_79 : decode cX5_listed 79 = .ok (.iaload, 1) := dk_46 (dk_at dksX5_listed_3 9 rfl rfl)
theorem dX5_listed_80 : decode cX5_listed 80 = .ok (.goto 14, 3) := dk_167 0 14 (dk_at dksX5_listed_3 10 rfl rfl)
theorem dX5_listed_83 : decode cX5_listed 83 = .ok (.aload_n 0, 1) := dk_42 (dk_at dksX5_listed_3 13 rfl rfl)
theorem dX5_listed_84 : decode cX5_listed 84 = .ok (.getfield 120, 3) := dk_180 0 120 (dk_at dksX5_listed_3 14 rfl rfl)
theorem dX5_listed_87 : decode cX5_listed 87 = .ok (.bipush 6, 2) := dk_16 6 (dk_at dksX5_listed_3 17 rfl rfl)
theorem dX5_listed_89 : decode cX5_listed 89 = .ok (.iload_n 1, 1) := dk_27 (dk_at dksX5_listed_3 19 rfl rfl)
theorem dX5_listed_90 : decode cX5_listed 90 = .ok (.imul, 1) := dk_104 (dk_at dksX5_listed_3 20 rfl rfl)
theorem dX5_listed_91 : decode cX5_listed 91 = .ok (.iload_n 3, 1) := dk_29 (dk_at dksX5_listed_3 21 rfl rfl)
theorem dX5_listed_92 : decode cX5_listed 92 = .ok (.iadd, 1) := dk_96 (dk_at dksX5_listed_3 22 rfl rfl)
theorem dX5_listed_93 : decode cX5_listed 93 = .ok (.iaload, 1) := dk_46 (dk_at dksX5_listed_3 23 rfl rfl)
theorem dX5_listed_94 : decode cX5_listed 94 = .ok (.ireturn, 1) := dk_172 (dk_at dksX5_listed_4 0 rfl rfl)
abbrev cX5_way : ByteArray := prog_20_method_82_code
def yX5_way : MethodName := ⟨RX5, "way", "(II)I"⟩
def dkwX5_way_2 : List UInt8 := [46, 167, 0, 4, 2, 172]
abbrev dktX5_way_2 : List UInt8 := dkwX5_way_2 ++ []
def dkwX5_way_1 : List UInt8 := [62, 29, 155, 0, 26, 28, 3, 42, 180, 1, 199, 4, 100, 184, 0, 170, 153, 0, 12, 42, 180, 0, 141, 28]
abbrev dktX5_way_1 : List UInt8 := dkwX5_way_1 ++ dktX5_way_2
def dkwX5_way_0 : List UInt8 := [42, 3, 181, 0, 160, 42, 27, 182, 1, 153, 154, 0, 5, 2, 172, 42, 42, 180, 1, 144, 27, 182, 1, 211]
abbrev dktX5_way_0 : List UInt8 := dkwX5_way_0 ++ dktX5_way_1
theorem dksX5_way_0 : cX5_way.data.toList.drop 0 = dktX5_way_0 := by decide +kernel
theorem dksX5_way_1 : cX5_way.data.toList.drop 24 = dktX5_way_1 := dk_seg dksX5_way_0 24 rfl rfl
theorem dksX5_way_2 : cX5_way.data.toList.drop 48 = dktX5_way_2 := dk_seg dksX5_way_1 24 rfl rfl
theorem dX5_way_0 : decode cX5_way 0 = .ok (.aload_n 0, 1) := dk_42 (dk_at dksX5_way_0 0 rfl rfl)
theorem dX5_way_1 : decode cX5_way 1 = .ok (.iconst 0, 1) := dk_3 (dk_at dksX5_way_0 1 rfl rfl)
theorem dX5_way_2 : decode cX5_way 2 = .ok (.putfield 160, 3) := dk_181 0 160 (dk_at dksX5_way_0 2 rfl rfl)
theorem dX5_way_5 : decode cX5_way 5 = .ok (.aload_n 0, 1) := dk_42 (dk_at dksX5_way_0 5 rfl rfl)
theorem dX5_way_6 : decode cX5_way 6 = .ok (.iload_n 1, 1) := dk_27 (dk_at dksX5_way_0 6 rfl rfl)
theorem dX5_way_7 : decode cX5_way 7 = .ok (.invokevirtual 409, 3) := dk_182 1 153 (dk_at dksX5_way_0 7 rfl rfl)
theorem dX5_way_10 : decode cX5_way 10 = .ok (.ifCond .ne 5, 3) := dk_154 0 5 (dk_at dksX5_way_0 10 rfl rfl)
theorem dX5_way_13 : decode cX5_way 13 = .ok (.iconst (-1), 1) := dk_2 (dk_at dksX5_way_0 13 rfl rfl)
theorem dX5_way_14 : decode cX5_way 14 = .ok (.ireturn, 1) := dk_172 (dk_at dksX5_way_0 14 rfl rfl)
theorem dX5_way_15 : decode cX5_way 15 = .ok (.aload_n 0, 1) := dk_42 (dk_at dksX5_way_0 15 rfl rfl)
theorem dX5_way_16 : decode cX5_way 16 = .ok (.aload_n 0, 1) := dk_42 (dk_at dksX5_way_0 16 rfl rfl)
theorem dX5_way_17 : decode cX5_way 17 = .ok (.getfield 400, 3) := dk_180 1 144 (dk_at dksX5_way_0 17 rfl rfl)
theorem dX5_way_20 : decode cX5_way 20 = .ok (.iload_n 1, 1) := dk_27 (dk_at dksX5_way_0 20 rfl rfl)
theorem dX5_way_21 : decode cX5_way 21 = .ok (.invokevirtual 467, 3) := dk_182 1 211 (dk_at dksX5_way_0 21 rfl rfl)
theorem dX5_way_24 : decode cX5_way 24 = .ok (.istore_n 3, 1) := dk_62 (dk_at dksX5_way_1 0 rfl rfl)
theorem dX5_way_25 : decode cX5_way 25 = .ok (.iload_n 3, 1) := dk_29 (dk_at dksX5_way_1 1 rfl rfl)
theorem dX5_way_26 : decode cX5_way 26 = .ok (.ifCond .lt 26, 3) := dk_155 0 26 (dk_at dksX5_way_1 2 rfl rfl)
theorem dX5_way_29 : decode cX5_way 29 = .ok (.iload_n 2, 1) := dk_28 (dk_at dksX5_way_1 5 rfl rfl)
theorem dX5_way_30 : decode cX5_way 30 = .ok (.iconst 0, 1) := dk_3 (dk_at dksX5_way_1 6 rfl rfl)
theorem dX5_way_31 : decode cX5_way 31 = .ok (.aload_n 0, 1) := dk_42 (dk_at dksX5_way_1 7 rfl rfl)
theorem dX5_way_32 : decode cX5_way 32 = .ok (.getfield 455, 3) := dk_180 1 199 (dk_at dksX5_way_1 8 rfl rfl)
theorem dX5_way_35 : decode cX5_way 35 = .ok (.iconst 1, 1) := dk_4 (dk_at dksX5_way_1 11 rfl rfl)
theorem dX5_way_36 : decode cX5_way 36 = .ok (.isub, 1) := dk_100 (dk_at dksX5_way_1 12 rfl rfl)
theorem dX5_way_37 : decode cX5_way 37 = .ok (.invokestatic 170, 3) := dk_184 0 170 (dk_at dksX5_way_1 13 rfl rfl)
theorem dX5_way_40 : decode cX5_way 40 = .ok (.ifCond .eq 12, 3) := dk_153 0 12 (dk_at dksX5_way_1 16 rfl rfl)
theorem dX5_way_43 : decode cX5_way 43 = .ok (.aload_n 0, 1) := dk_42 (dk_at dksX5_way_1 19 rfl rfl)
theorem dX5_way_44 : decode cX5_way 44 = .ok (.getfield 141, 3) := dk_180 0 141 (dk_at dksX5_way_1 20 rfl rfl)
theorem dX5_way_47 : decode cX5_way 47 = .ok (.iload_n 2, 1) := dk_28 (dk_at dksX5_way_1 23 rfl rfl)
theorem dX5_way_48 : decode cX5_way 48 = .ok (.iaload, 1) := dk_46 (dk_at dksX5_way_2 0 rfl rfl)
theorem dX5_way_49 : decode cX5_way 49 = .ok (.goto 4, 3) := dk_167 0 4 (dk_at dksX5_way_2 1 rfl rfl)
theorem dX5_way_52 : decode cX5_way 52 = .ok (.iconst (-1), 1) := dk_2 (dk_at dksX5_way_2 4 rfl rfl)
theorem dX5_way_53 : decode cX5_way 53 = .ok (.ireturn, 1) := dk_172 (dk_at dksX5_way_2 5 rfl rfl)
abbrev cX5_partner : ByteArray := prog_20_method_83_code
def yX5_partner : MethodName := ⟨RX5, "partner", "(III)I"⟩
def dkwX5_partner_3 : List UInt8 := [182, 1, 186, 153, 0, 7, 4, 167, 0, 4, 3, 172]
abbrev dktX5_partner_3 : List UInt8 := dkwX5_partner_3 ++ []
def dkwX5_partner_2 : List UInt8 := [154, 0, 15, 42, 42, 180, 1, 144, 28, 182, 1, 180, 167, 0, 21, 42, 42, 180, 1, 144, 27, 28]
abbrev dktX5_partner_2 : List UInt8 := dkwX5_partner_2 ++ dktX5_partner_3
def dkwX5_partner_1 : List UInt8 := [180, 0, 114, 16, 8, 27, 104, 42, 180, 0, 111, 27, 46, 28, 184, 1, 156, 156, 0, 5, 2, 172, 29]
abbrev dktX5_partner_1 : List UInt8 := dkwX5_partner_1 ++ dktX5_partner_2
def dkwX5_partner_0 : List UInt8 := [42, 3, 181, 0, 160, 42, 27, 182, 1, 153, 153, 0, 33, 29, 3, 4, 184, 0, 170, 153, 0, 24, 42]
abbrev dktX5_partner_0 : List UInt8 := dkwX5_partner_0 ++ dktX5_partner_1
theorem dksX5_partner_0 : cX5_partner.data.toList.drop 0 = dktX5_partner_0 := by decide +kernel
theorem dksX5_partner_1 : cX5_partner.data.toList.drop 23 = dktX5_partner_1 := dk_seg dksX5_partner_0 23 rfl rfl
theorem dksX5_partner_2 : cX5_partner.data.toList.drop 46 = dktX5_partner_2 := dk_seg dksX5_partner_1 23 rfl rfl
theorem dksX5_partner_3 : cX5_partner.data.toList.drop 68 = dktX5_partner_3 := dk_seg dksX5_partner_2 22 rfl rfl
theorem dX5_partner_0 : decode cX5_partner 0 = .ok (.aload_n 0, 1) := dk_42 (dk_at dksX5_partner_0 0 rfl rfl)
theorem dX5_partner_1 : decode cX5_partner 1 = .ok (.iconst 0, 1) := dk_3 (dk_at dksX5_partner_0 1 rfl rfl)
theorem dX5_partner_2 : decode cX5_partner 2 = .ok (.putfield 160, 3) := dk_181 0 160 (dk_at dksX5_partner_0 2 rfl rfl)
theorem dX5_partner_5 : decode cX5_partner 5 = .ok (.aload_n 0, 1) := dk_42 (dk_at dksX5_partner_0 5 rfl rfl)
theorem dX5_partner_6 : decode cX5_partner 6 = .ok (.iload_n 1, 1) := dk_27 (dk_at dksX5_partner_0 6 rfl rfl)
theorem dX5_partner_7 : decode cX5_partner 7 = .ok (.invokevirtual 409, 3) := dk_182 1 153 (dk_at dksX5_partner_0 7 rfl rfl)
theorem dX5_partner_10 : decode cX5_partner 10 = .ok (.ifCond .eq 33, 3) := dk_153 0 33 (dk_at dksX5_partner_0 10 rfl rfl)
theorem dX5_partner_13 : decode cX5_partner 13 = .ok (.iload_n 3, 1) := dk_29 (dk_at dksX5_partner_0 13 rfl rfl)
theorem dX5_partner_14 : decode cX5_partner 14 = .ok (.iconst 0, 1) := dk_3 (dk_at dksX5_partner_0 14 rfl rfl)
theorem dX5_partner_15 : decode cX5_partner 15 = .ok (.iconst 1, 1) := dk_4 (dk_at dksX5_partner_0 15 rfl rfl)
theorem dX5_partner_16 : decode cX5_partner 16 = .ok (.invokestatic 170, 3) := dk_184 0 170 (dk_at dksX5_partner_0 16 rfl rfl)
theorem dX5_partner_19 : decode cX5_partner 19 = .ok (.ifCond .eq 24, 3) := dk_153 0 24 (dk_at dksX5_partner_0 19 rfl rfl)
theorem dX5_partner_22 : decode cX5_partner 22 = .ok (.aload_n 0, 1) := dk_42 (dk_at dksX5_partner_0 22 rfl rfl)
theorem dX5_partner_23 : decode cX5_partner 23 = .ok (.getfield 114, 3) := dk_180 0 114 (dk_at dksX5_partner_1 0 rfl rfl)
theorem dX5_partner_26 : decode cX5_partner 26 = .ok (.bipush 8, 2) := dk_16 8 (dk_at dksX5_partner_1 3 rfl rfl)
theorem dX5_partner_28 : decode cX5_partner 28 = .ok (.iload_n 1, 1) := dk_27 (dk_at dksX5_partner_1 5 rfl rfl)
theorem dX5_partner_29 : decode cX5_partner 29 = .ok (.imul, 1) := dk_104 (dk_at dksX5_partner_1 6 rfl rfl)
theorem dX5_partner_30 : decode cX5_partner 30 = .ok (.aload_n 0, 1) := dk_42 (dk_at dksX5_partner_1 7 rfl rfl)
theorem dX5_partner_31 : decode cX5_partner 31 = .ok (.getfield 111, 3) := dk_180 0 111 (dk_at dksX5_partner_1 8 rfl rfl)
theorem dX5_partner_34 : decode cX5_partner 34 = .ok (.iload_n 1, 1) := dk_27 (dk_at dksX5_partner_1 11 rfl rfl)
theorem dX5_partner_35 : decode cX5_partner 35 = .ok (.iaload, 1) := dk_46 (dk_at dksX5_partner_1 12 rfl rfl)
theorem dX5_partner_36 : decode cX5_partner 36 = .ok (.iload_n 2, 1) := dk_28 (dk_at dksX5_partner_1 13 rfl rfl)
theorem dX5_partner_37 : decode cX5_partner 37 = .ok (.invokestatic 412, 3) := dk_184 1 156 (dk_at dksX5_partner_1 14 rfl rfl)
theorem dX5_partner_40 : decode cX5_partner 40 = .ok (.ifCond .ge 5, 3) := dk_156 0 5 (dk_at dksX5_partner_1 17 rfl rfl)
theorem dX5_partner_43 : decode cX5_partner 43 = .ok (.iconst (-1), 1) := dk_2 (dk_at dksX5_partner_1 20 rfl rfl)
theorem dX5_partner_44 : decode cX5_partner 44 = .ok (.ireturn, 1) := dk_172 (dk_at dksX5_partner_1 21 rfl rfl)
theorem dX5_partner_45 : decode cX5_partner 45 = .ok (.iload_n 3, 1) := dk_29 (dk_at dksX5_partner_1 22 rfl rfl)
theorem dX5_partner_46 : decode cX5_partner 46 = .ok (.ifCond .ne 15, 3) := dk_154 0 15 (dk_at dksX5_partner_2 0 rfl rfl)
theorem dX5_partner_49 : decode cX5_partner 49 = .ok (.aload_n 0, 1) := dk_42 (dk_at dksX5_partner_2 3 rfl rfl)
theorem dX5_partner_50 : decode cX5_partner 50 = .ok (.aload_n 0, 1) := dk_42 (dk_at dksX5_partner_2 4 rfl rfl)
theorem dX5_partner_51 : decode cX5_partner 51 = .ok (.getfield 400, 3) := dk_180 1 144 (dk_at dksX5_partner_2 5 rfl rfl)
theorem dX5_partner_54 : decode cX5_partner 54 = .ok (.iload_n 2, 1) := dk_28 (dk_at dksX5_partner_2 8 rfl rfl)
theorem dX5_partner_55 : decode cX5_partner 55 = .ok (.invokevirtual 436, 3) := dk_182 1 180 (dk_at dksX5_partner_2 9 rfl rfl)
theorem dX5_partner_58 : decode cX5_partner 58 = .ok (.goto 21, 3) := dk_167 0 21 (dk_at dksX5_partner_2 12 rfl rfl)
theorem dX5_partner_61 : decode cX5_partner 61 = .ok (.aload_n 0, 1) := dk_42 (dk_at dksX5_partner_2 15 rfl rfl)
theorem dX5_partner_62 : decode cX5_partner 62 = .ok (.aload_n 0, 1) := dk_42 (dk_at dksX5_partner_2 16 rfl rfl)
theorem dX5_partner_63 : decode cX5_partner 63 = .ok (.getfield 400, 3) := dk_180 1 144 (dk_at dksX5_partner_2 17 rfl rfl)
theorem dX5_partner_66 : decode cX5_partner 66 = .ok (.iload_n 1, 1) := dk_27 (dk_at dksX5_partner_2 20 rfl rfl)
theorem dX5_partner_67 : decode cX5_partner 67 = .ok (.iload_n 2, 1) := dk_28 (dk_at dksX5_partner_2 21 rfl rfl)
theorem dX5_partner_68 : decode cX5_partner 68 = .ok (.invokevirtual 442, 3) := dk_182 1 186 (dk_at dksX5_partner_3 0 rfl rfl)
theorem dX5_partner_71 : decode cX5_partner 71 = .ok (.ifCond .eq 7, 3) := dk_153 0 7 (dk_at dksX5_partner_3 3 rfl rfl)
theorem dX5_partner_74 : decode cX5_partner 74 = .ok (.iconst 1, 1) := dk_4 (dk_at dksX5_partner_3 6 rfl rfl)
theorem dX5_partner_75 : decode cX5_partner 75 = .ok (.goto 4, 3) := dk_167 0 4 (dk_at dksX5_partner_3 7 rfl rfl)
theorem dX5_partner_78 : decode cX5_partner 78 = .ok (.iconst 0, 1) := dk_3 (dk_at dksX5_partner_3 10 rfl rfl)
theorem dX5_partner_79 : decode cX5_partner 79 = .ok (.ireturn, 1) := dk_172 (dk_at dksX5_partner_3 11 rfl rfl)
abbrev cX5_with : ByteArray := prog_20_method_84_code
def yX5_with : MethodName := ⟨RX5, "with", "(II)I"⟩
def dkwX5_with_1 : List UInt8 := [42, 180, 1, 144, 27, 182, 1, 214, 62, 42, 27, 28, 182, 1, 177, 29, 172]
abbrev dktX5_with_1 : List UInt8 := dkwX5_with_1 ++ []
def dkwX5_with_0 : List UInt8 := [42, 3, 181, 0, 160, 42, 27, 28, 182, 1, 167, 154, 0, 6, 16, 254, 172, 42, 27, 28, 182, 1, 171, 42]
abbrev dktX5_with_0 : List UInt8 := dkwX5_with_0 ++ dktX5_with_1
theorem dksX5_with_0 : cX5_with.data.toList.drop 0 = dktX5_with_0 := by decide +kernel
theorem dksX5_with_1 : cX5_with.data.toList.drop 24 = dktX5_with_1 := dk_seg dksX5_with_0 24 rfl rfl
theorem dX5_with_0 : decode cX5_with 0 = .ok (.aload_n 0, 1) := dk_42 (dk_at dksX5_with_0 0 rfl rfl)
theorem dX5_with_1 : decode cX5_with 1 = .ok (.iconst 0, 1) := dk_3 (dk_at dksX5_with_0 1 rfl rfl)
theorem dX5_with_2 : decode cX5_with 2 = .ok (.putfield 160, 3) := dk_181 0 160 (dk_at dksX5_with_0 2 rfl rfl)
theorem dX5_with_5 : decode cX5_with 5 = .ok (.aload_n 0, 1) := dk_42 (dk_at dksX5_with_0 5 rfl rfl)
theorem dX5_with_6 : decode cX5_with 6 = .ok (.iload_n 1, 1) := dk_27 (dk_at dksX5_with_0 6 rfl rfl)
theorem dX5_with_7 : decode cX5_with 7 = .ok (.iload_n 2, 1) := dk_28 (dk_at dksX5_with_0 7 rfl rfl)
theorem dX5_with_8 : decode cX5_with 8 = .ok (.invokevirtual 423, 3) := dk_182 1 167 (dk_at dksX5_with_0 8 rfl rfl)
theorem dX5_with_11 : decode cX5_with 11 = .ok (.ifCond .ne 6, 3) := dk_154 0 6 (dk_at dksX5_with_0 11 rfl rfl)
theorem dX5_with_14 : decode cX5_with 14 = .ok (.bipush (-2), 2) := dk_16 254 (dk_at dksX5_with_0 14 rfl rfl)
theorem dX5_with_16 : decode cX5_with 16 = .ok (.ireturn, 1) := dk_172 (dk_at dksX5_with_0 16 rfl rfl)
theorem dX5_with_17 : decode cX5_with 17 = .ok (.aload_n 0, 1) := dk_42 (dk_at dksX5_with_0 17 rfl rfl)
theorem dX5_with_18 : decode cX5_with 18 = .ok (.iload_n 1, 1) := dk_27 (dk_at dksX5_with_0 18 rfl rfl)
theorem dX5_with_19 : decode cX5_with 19 = .ok (.iload_n 2, 1) := dk_28 (dk_at dksX5_with_0 19 rfl rfl)
theorem dX5_with_20 : decode cX5_with 20 = .ok (.invokevirtual 427, 3) := dk_182 1 171 (dk_at dksX5_with_0 20 rfl rfl)
theorem dX5_with_23 : decode cX5_with 23 = .ok (.aload_n 0, 1) := dk_42 (dk_at dksX5_with_0 23 rfl rfl)
theorem dX5_with_24 : decode cX5_with 24 = .ok (.aload_n 0, 1) := dk_42 (dk_at dksX5_with_1 0 rfl rfl)
theorem dX5_with_25 : decode cX5_with 25 = .ok (.getfield 400, 3) := dk_180 1 144 (dk_at dksX5_with_1 1 rfl rfl)
theorem dX5_with_28 : decode cX5_with 28 = .ok (.iload_n 1, 1) := dk_27 (dk_at dksX5_with_1 4 rfl rfl)
theorem dX5_with_29 : decode cX5_with 29 = .ok (.invokevirtual 470, 3) := dk_182 1 214 (dk_at dksX5_with_1 5 rfl rfl)
theorem dX5_with_32 : decode cX5_with 32 = .ok (.istore_n 3, 1) := dk_62 (dk_at dksX5_with_1 8 rfl rfl)
theorem dX5_with_33 : decode cX5_with 33 = .ok (.aload_n 0, 1) := dk_42 (dk_at dksX5_with_1 9 rfl rfl)
theorem dX5_with_34 : decode cX5_with 34 = .ok (.iload_n 1, 1) := dk_27 (dk_at dksX5_with_1 10 rfl rfl)
theorem dX5_with_35 : decode cX5_with 35 = .ok (.iload_n 2, 1) := dk_28 (dk_at dksX5_with_1 11 rfl rfl)
theorem dX5_with_36 : decode cX5_with 36 = .ok (.invokevirtual 433, 3) := dk_182 1 177 (dk_at dksX5_with_1 12 rfl rfl)
theorem dX5_with_39 : decode cX5_with 39 = .ok (.iload_n 3, 1) := dk_29 (dk_at dksX5_with_1 15 rfl rfl)
theorem dX5_with_40 : decode cX5_with 40 = .ok (.ireturn, 1) := dk_172 (dk_at dksX5_with_1 16 rfl rfl)
abbrev cX5_without : ByteArray := prog_20_method_86_code
def yX5_without : MethodName := ⟨RX5, "without", "(II)I"⟩
def dkwX5_without_1 : List UInt8 := [16, 254, 172]
abbrev dktX5_without_1 : List UInt8 := dkwX5_without_1 ++ []
def dkwX5_without_0 : List UInt8 := [42, 3, 181, 0, 160, 42, 27, 28, 182, 1, 174, 153, 0, 12, 42, 27, 28, 182, 1, 245, 167, 0, 5]
abbrev dktX5_without_0 : List UInt8 := dkwX5_without_0 ++ dktX5_without_1
theorem dksX5_without_0 : cX5_without.data.toList.drop 0 = dktX5_without_0 := by decide +kernel
theorem dksX5_without_1 : cX5_without.data.toList.drop 23 = dktX5_without_1 := dk_seg dksX5_without_0 23 rfl rfl
theorem dX5_without_0 : decode cX5_without 0 = .ok (.aload_n 0, 1) := dk_42 (dk_at dksX5_without_0 0 rfl rfl)
theorem dX5_without_1 : decode cX5_without 1 = .ok (.iconst 0, 1) := dk_3 (dk_at dksX5_without_0 1 rfl rfl)
theorem dX5_without_2 : decode cX5_without 2 = .ok (.putfield 160, 3) := dk_181 0 160 (dk_at dksX5_without_0 2 rfl rfl)
theorem dX5_without_5 : decode cX5_without 5 = .ok (.aload_n 0, 1) := dk_42 (dk_at dksX5_without_0 5 rfl rfl)
theorem dX5_without_6 : decode cX5_without 6 = .ok (.iload_n 1, 1) := dk_27 (dk_at dksX5_without_0 6 rfl rfl)
theorem dX5_without_7 : decode cX5_without 7 = .ok (.iload_n 2, 1) := dk_28 (dk_at dksX5_without_0 7 rfl rfl)
theorem dX5_without_8 : decode cX5_without 8 = .ok (.invokevirtual 430, 3) := dk_182 1 174 (dk_at dksX5_without_0 8 rfl rfl)
theorem dX5_without_11 : decode cX5_without 11 = .ok (.ifCond .eq 12, 3) := dk_153 0 12 (dk_at dksX5_without_0 11 rfl rfl)
theorem dX5_without_14 : decode cX5_without 14 = .ok (.aload_n 0, 1) := dk_42 (dk_at dksX5_without_0 14 rfl rfl)
theorem dX5_without_15 : decode cX5_without 15 = .ok (.iload_n 1, 1) := dk_27 (dk_at dksX5_without_0 15 rfl rfl)
theorem dX5_without_16 : decode cX5_without 16 = .ok (.iload_n 2, 1) := dk_28 (dk_at dksX5_without_0 16 rfl rfl)
theorem dX5_without_17 : decode cX5_without 17 = .ok (.invokevirtual 501, 3) := dk_182 1 245 (dk_at dksX5_without_0 17 rfl rfl)
theorem dX5_without_20 : decode cX5_without 20 = .ok (.goto 5, 3) := dk_167 0 5 (dk_at dksX5_without_0 20 rfl rfl)
theorem dX5_without_23 : decode cX5_without 23 = .ok (.bipush (-2), 2) := dk_16 254 (dk_at dksX5_without_1 0 rfl rfl)
theorem dX5_without_25 : decode cX5_without 25 = .ok (.ireturn, 1) := dk_172 (dk_at dksX5_without_1 2 rfl rfl)
abbrev cX5_classWithout : ByteArray := prog_20_method_85_code
def yX5_classWithout : MethodName := ⟨RX5, "classWithout", "(II)I"⟩
def dkwX5_classWithout_0 : List UInt8 := [42, 27, 28, 182, 1, 177, 42, 42, 180, 1, 144, 27, 182, 1, 214, 62, 42, 27, 28, 182, 1, 171, 29, 172]
abbrev dktX5_classWithout_0 : List UInt8 := dkwX5_classWithout_0 ++ []
theorem dksX5_classWithout_0 : cX5_classWithout.data.toList.drop 0 = dktX5_classWithout_0 := by decide +kernel
theorem dX5_classWithout_0 : decode cX5_classWithout 0 = .ok (.aload_n 0, 1) := dk_42 (dk_at dksX5_classWithout_0 0 rfl rfl)
theorem dX5_classWithout_1 : decode cX5_classWithout 1 = .ok (.iload_n 1, 1) := dk_27 (dk_at dksX5_classWithout_0 1 rfl rfl)
theorem dX5_classWithout_2 : decode cX5_classWithout 2 = .ok (.iload_n 2, 1) := dk_28 (dk_at dksX5_classWithout_0 2 rfl rfl)
theorem dX5_classWithout_3 : decode cX5_classWithout 3 = .ok (.invokevirtual 433, 3) := dk_182 1 177 (dk_at dksX5_classWithout_0 3 rfl rfl)
theorem dX5_classWithout_6 : decode cX5_classWithout 6 = .ok (.aload_n 0, 1) := dk_42 (dk_at dksX5_classWithout_0 6 rfl rfl)
theorem dX5_classWithout_7 : decode cX5_classWithout 7 = .ok (.aload_n 0, 1) := dk_42 (dk_at dksX5_classWithout_0 7 rfl rfl)
theorem dX5_classWithout_8 : decode cX5_classWithout 8 = .ok (.getfield 400, 3) := dk_180 1 144 (dk_at dksX5_classWithout_0 8 rfl rfl)
theorem dX5_classWithout_11 : decode cX5_classWithout 11 = .ok (.iload_n 1, 1) := dk_27 (dk_at dksX5_classWithout_0 11 rfl rfl)
theorem dX5_classWithout_12 : decode cX5_classWithout 12 = .ok (.invokevirtual 470, 3) := dk_182 1 214 (dk_at dksX5_classWithout_0 12 rfl rfl)
theorem dX5_classWithout_15 : decode cX5_classWithout 15 = .ok (.istore_n 3, 1) := dk_62 (dk_at dksX5_classWithout_0 15 rfl rfl)
theorem dX5_classWithout_16 : decode cX5_classWithout 16 = .ok (.aload_n 0, 1) := dk_42 (dk_at dksX5_classWithout_0 16 rfl rfl)
theorem dX5_classWithout_17 : decode cX5_classWithout 17 = .ok (.iload_n 1, 1) := dk_27 (dk_at dksX5_classWithout_0 17 rfl rfl)
theorem dX5_classWithout_18 : decode cX5_classWithout 18 = .ok (.iload_n 2, 1) := dk_28 (dk_at dksX5_classWithout_0 18 rfl rfl)
theorem dX5_classWithout_19 : decode cX5_classWithout 19 = .ok (.invokevirtual 427, 3) := dk_182 1 171 (dk_at dksX5_classWithout_0 19 rfl rfl)
theorem dX5_classWithout_22 : decode cX5_classWithout 22 = .ok (.iload_n 3, 1) := dk_29 (dk_at dksX5_classWithout_0 22 rfl rfl)
theorem dX5_classWithout_23 : decode cX5_classWithout 23 = .ok (.ireturn, 1) := dk_172 (dk_at dksX5_classWithout_0 23 rfl rfl)
abbrev cX5_matters : ByteArray := prog_20_method_87_code
def yX5_matters : MethodName := ⟨RX5, "matters", "(I)I"⟩
def dkwX5_matters_5 : List UInt8 := [27, 46, 21, 4, 96, 120, 128, 62, 132, 4, 1, 167, 255, 207, 29, 172]
abbrev dktX5_matters_5 : List UInt8 := dkwX5_matters_5 ++ []
def dkwX5_matters_4 : List UInt8 := [180, 0, 120, 16, 6, 27, 104, 21, 4, 96, 46, 182, 1, 245, 28, 159, 0, 17, 29, 4, 42, 180, 0, 111]
abbrev dktX5_matters_4 : List UInt8 := dkwX5_matters_4 ++ dktX5_matters_5
def dkwX5_matters_3 : List UInt8 := [132, 4, 1, 167, 255, 214, 3, 54, 4, 21, 4, 42, 180, 0, 117, 27, 46, 162, 0, 44, 42, 27, 42]
abbrev dktX5_matters_3 : List UInt8 := dkwX5_matters_3 ++ dktX5_matters_4
def dkwX5_matters_2 : List UInt8 := [16, 8, 27, 104, 21, 4, 96, 46, 182, 1, 245, 28, 159, 0, 10, 29, 4, 21, 4, 120, 128, 62]
abbrev dktX5_matters_2 : List UInt8 := dkwX5_matters_2 ++ dktX5_matters_3
def dkwX5_matters_1 : List UInt8 := [61, 3, 62, 3, 54, 4, 21, 4, 42, 180, 0, 111, 27, 46, 162, 0, 37, 42, 27, 42, 180, 0, 114]
abbrev dktX5_matters_1 : List UInt8 := dkwX5_matters_1 ++ dktX5_matters_2
def dkwX5_matters_0 : List UInt8 := [42, 3, 181, 0, 160, 42, 27, 182, 1, 153, 154, 0, 5, 2, 172, 42, 42, 180, 1, 144, 27, 182, 1, 214]
abbrev dktX5_matters_0 : List UInt8 := dkwX5_matters_0 ++ dktX5_matters_1
theorem dksX5_matters_0 : cX5_matters.data.toList.drop 0 = dktX5_matters_0 := by decide +kernel
theorem dksX5_matters_1 : cX5_matters.data.toList.drop 24 = dktX5_matters_1 := dk_seg dksX5_matters_0 24 rfl rfl
theorem dksX5_matters_2 : cX5_matters.data.toList.drop 47 = dktX5_matters_2 := dk_seg dksX5_matters_1 23 rfl rfl
theorem dksX5_matters_3 : cX5_matters.data.toList.drop 69 = dktX5_matters_3 := dk_seg dksX5_matters_2 22 rfl rfl
theorem dksX5_matters_4 : cX5_matters.data.toList.drop 92 = dktX5_matters_4 := dk_seg dksX5_matters_3 23 rfl rfl
theorem dksX5_matters_5 : cX5_matters.data.toList.drop 116 = dktX5_matters_5 := dk_seg dksX5_matters_4 24 rfl rfl
theorem dX5_matters_0 : decode cX5_matters 0 = .ok (.aload_n 0, 1) := dk_42 (dk_at dksX5_matters_0 0 rfl rfl)
theorem dX5_matters_1 : decode cX5_matters 1 = .ok (.iconst 0, 1) := dk_3 (dk_at dksX5_matters_0 1 rfl rfl)
theorem dX5_matters_2 : decode cX5_matters 2 = .ok (.putfield 160, 3) := dk_181 0 160 (dk_at dksX5_matters_0 2 rfl rfl)
theorem dX5_matters_5 : decode cX5_matters 5 = .ok (.aload_n 0, 1) := dk_42 (dk_at dksX5_matters_0 5 rfl rfl)
theorem dX5_matters_6 : decode cX5_matters 6 = .ok (.iload_n 1, 1) := dk_27 (dk_at dksX5_matters_0 6 rfl rfl)
theorem dX5_matters_7 : decode cX5_matters 7 = .ok (.invokevirtual 409, 3) := dk_182 1 153 (dk_at dksX5_matters_0 7 rfl rfl)
theorem dX5_matters_10 : decode cX5_matters 10 = .ok (.ifCond .ne 5, 3) := dk_154 0 5 (dk_at dksX5_matters_0 10 rfl rfl)
theorem dX5_matters_13 : decode cX5_matters 13 = .ok (.iconst (-1), 1) := dk_2 (dk_at dksX5_matters_0 13 rfl rfl)
theorem dX5_matters_14 : decode cX5_matters 14 = .ok (.ireturn, 1) := dk_172 (dk_at dksX5_matters_0 14 rfl rfl)
theorem dX5_matters_15 : decode cX5_matters 15 = .ok (.aload_n 0, 1) := dk_42 (dk_at dksX5_matters_0 15 rfl rfl)
theorem dX5_matters_16 : decode cX5_matters 16 = .ok (.aload_n 0, 1) := dk_42 (dk_at dksX5_matters_0 16 rfl rfl)
theorem dX5_matters_17 : decode cX5_matters 17 = .ok (.getfield 400, 3) := dk_180 1 144 (dk_at dksX5_matters_0 17 rfl rfl)
theorem dX5_matters_20 : decode cX5_matters 20 = .ok (.iload_n 1, 1) := dk_27 (dk_at dksX5_matters_0 20 rfl rfl)
theorem dX5_matters_21 : decode cX5_matters 21 = .ok (.invokevirtual 470, 3) := dk_182 1 214 (dk_at dksX5_matters_0 21 rfl rfl)
theorem dX5_matters_24 : decode cX5_matters 24 = .ok (.istore_n 2, 1) := dk_61 (dk_at dksX5_matters_1 0 rfl rfl)
theorem dX5_matters_25 : decode cX5_matters 25 = .ok (.iconst 0, 1) := dk_3 (dk_at dksX5_matters_1 1 rfl rfl)
theorem dX5_matters_26 : decode cX5_matters 26 = .ok (.istore_n 3, 1) := dk_62 (dk_at dksX5_matters_1 2 rfl rfl)
theorem dX5_matters_27 : decode cX5_matters 27 = .ok (.iconst 0, 1) := dk_3 (dk_at dksX5_matters_1 3 rfl rfl)
theorem dX5_matters_28 : decode cX5_matters 28 = .ok (.istore 4, 2) := dk_54 4 (dk_at dksX5_matters_1 4 rfl rfl)
theorem dX5_matters_30 : decode cX5_matters 30 = .ok (.iload 4, 2) := dk_21 4 (dk_at dksX5_matters_1 6 rfl rfl)
theorem dX5_matters_32 : decode cX5_matters 32 = .ok (.aload_n 0, 1) := dk_42 (dk_at dksX5_matters_1 8 rfl rfl)
theorem dX5_matters_33 : decode cX5_matters 33 = .ok (.getfield 111, 3) := dk_180 0 111 (dk_at dksX5_matters_1 9 rfl rfl)
theorem dX5_matters_36 : decode cX5_matters 36 = .ok (.iload_n 1, 1) := dk_27 (dk_at dksX5_matters_1 12 rfl rfl)
theorem dX5_matters_37 : decode cX5_matters 37 = .ok (.iaload, 1) := dk_46 (dk_at dksX5_matters_1 13 rfl rfl)
theorem dX5_matters_38 : decode cX5_matters 38 = .ok (.if_icmp .ge 37, 3) := dk_162 0 37 (dk_at dksX5_matters_1 14 rfl rfl)
theorem dX5_matters_41 : decode cX5_matters 41 = .ok (.aload_n 0, 1) := dk_42 (dk_at dksX5_matters_1 17 rfl rfl)
theorem dX5_matters_42 : decode cX5_matters 42 = .ok (.iload_n 1, 1) := dk_27 (dk_at dksX5_matters_1 18 rfl rfl)
theorem dX5_matters_43 : decode cX5_matters 43 = .ok (.aload_n 0, 1) := dk_42 (dk_at dksX5_matters_1 19 rfl rfl)
theorem dX5_matters_44 : decode cX5_matters 44 = .ok (.getfield 114, 3) := dk_180 0 114 (dk_at dksX5_matters_1 20 rfl rfl)
theorem dX5_matters_47 : decode cX5_matters 47 = .ok (.bipush 8, 2) := dk_16 8 (dk_at dksX5_matters_2 0 rfl rfl)
theorem dX5_matters_49 : decode cX5_matters 49 = .ok (.iload_n 1, 1) := dk_27 (dk_at dksX5_matters_2 2 rfl rfl)
theorem dX5_matters_50 : decode cX5_matters 50 = .ok (.imul, 1) := dk_104 (dk_at dksX5_matters_2 3 rfl rfl)
theorem dX5_matters_51 : decode cX5_matters 51 = .ok (.iload 4, 2) := dk_21 4 (dk_at dksX5_matters_2 4 rfl rfl)
theorem dX5_matters_53 : decode cX5_matters 53 = .ok (.iadd, 1) := dk_96 (dk_at dksX5_matters_2 6 rfl rfl)
theorem dX5_matters_54 : decode cX5_matters 54 = .ok (.iaload, 1) := dk_46 (dk_at dksX5_matters_2 7 rfl rfl)
theorem dX5_matters_55 : decode cX5_matters 55 = .ok (.invokevirtual 501, 3) := dk_182 1 245 (dk_at dksX5_matters_2 8 rfl rfl)
theorem dX5_matters_58 : decode cX5_matters 58 = .ok (.iload_n 2, 1) := dk_28 (dk_at dksX5_matters_2 11 rfl rfl)
theorem dX5_matters_59 : decode cX5_matters 59 = .ok (.if_icmp .eq 10, 3) := dk_159 0 10 (dk_at dksX5_matters_2 12 rfl rfl)
theorem dX5_matters_62 : decode cX5_matters 62 = .ok (.iload_n 3, 1) := dk_29 (dk_at dksX5_matters_2 15 rfl rfl)
theorem dX5_matters_63 : decode cX5_matters 63 = .ok (.iconst 1, 1) := dk_4 (dk_at dksX5_matters_2 16 rfl rfl)
theorem dX5_matters_64 : decode cX5_matters 64 = .ok (.iload 4, 2) := dk_21 4 (dk_at dksX5_matters_2 17 rfl rfl)
theorem dX5_matters_66 : decode cX5_matters 66 = .ok (.ishl, 1) := dk_120 (dk_at dksX5_matters_2 19 rfl rfl)
theorem dX5_matters_67 : decode cX5_matters 67 = .ok (.ior, 1) := dk_128 (dk_at dksX5_matters_2 20 rfl rfl)
theorem dX5_matters_68 : decode cX5_matters 68 = .ok (.istore_n 3, 1) := dk_62 (dk_at dksX5_matters_2 21 rfl rfl)
theorem dX5_matters_69 : decode cX5_matters 69 = .ok (.iinc 4 1, 3) := dk_132 4 1 (dk_at dksX5_matters_3 0 rfl rfl)
theorem dX5_matters_72 : decode cX5_matters 72 = .ok (.goto (-42), 3) := dk_167 255 214 (dk_at dksX5_matters_3 3 rfl rfl)
theorem dX5_matters_75 : decode cX5_matters 75 = .ok (.iconst 0, 1) := dk_3 (dk_at dksX5_matters_3 6 rfl rfl)
theorem dX5_matters_76 : decode cX5_matters 76 = .ok (.istore 4, 2) := dk_54 4 (dk_at dksX5_matters_3 7 rfl rfl)
theorem dX5_matters_78 : decode cX5_matters 78 = .ok (.iload 4, 2) := dk_21 4 (dk_at dksX5_matters_3 9 rfl rfl)
theorem dX5_matters_80 : decode cX5_matters 80 = .ok (.aload_n 0, 1) := dk_42 (dk_at dksX5_matters_3 11 rfl rfl)
theorem dX5_matters_81 : decode cX5_matters 81 = .ok (.getfield 117, 3) := dk_180 0 117 (dk_at dksX5_matters_3 12 rfl rfl)
theorem dX5_matters_84 : decode cX5_matters 84 = .ok (.iload_n 1, 1) := dk_27 (dk_at dksX5_matters_3 15 rfl rfl)
theorem dX5_matters_85 : decode cX5_matters 85 = .ok (.iaload, 1) := dk_46 (dk_at dksX5_matters_3 16 rfl rfl)
theorem dX5_matters_86 : decode cX5_matters 86 = .ok (.if_icmp .ge 44, 3) := dk_162 0 44 (dk_at dksX5_matters_3 17 rfl rfl)
theorem dX5_matters_89 : decode cX5_matters 89 = .ok (.aload_n 0, 1) := dk_42 (dk_at dksX5_matters_3 20 rfl rfl)
theorem dX5_matters_90 : decode cX5_matters 90 = .ok (.iload_n 1, 1) := dk_27 (dk_at dksX5_matters_3 21 rfl rfl)
theorem dX5_matters_91 : decode cX5_matters 91 = .ok (.aload_n 0, 1) := dk_42 (dk_at dksX5_matters_3 22 rfl rfl)
theorem dX5_matters_92 : decode cX5_matters 92 = .ok (.getfield 120, 3) := dk_180 0 120 (dk_at dksX5_matters_4 0 rfl rfl)
theorem dX5_matters_95 : decode cX5_matters 95 = .ok (.bipush 6, 2) := dk_16 6 (dk_at dksX5_matters_4 3 rfl rfl)
theorem dX5_matters_97 : decode cX5_matters 97 = .ok (.iload_n 1, 1) := dk_27 (dk_at dksX5_matters_4 5 rfl rfl)
theorem dX5_matters_98 : decode cX5_matters 98 = .ok (.imul, 1) := dk_104 (dk_at dksX5_matters_4 6 rfl rfl)
theorem dX5_matters_99 : decode cX5_matters 99 = .ok (.iload 4, 2) := dk_21 4 (dk_at dksX5_matters_4 7 rfl rfl)
theorem dX5_matters_101 : decode cX5_matters 101 = .ok (.iadd, 1) := dk_96 (dk_at dksX5_matters_4 9 rfl rfl)
theorem dX5_matters_102 : decode cX5_matters 102 = .ok (.iaload, 1) := dk_46 (dk_at dksX5_matters_4 10 rfl rfl)
theorem dX5_matters_103 : decode cX5_matters 103 = .ok (.invokevirtual 501, 3) := dk_182 1 245 (dk_at dksX5_matters_4 11 rfl rfl)
theorem dX5_matters_106 : decode cX5_matters 106 = .ok (.iload_n 2, 1) := dk_28 (dk_at dksX5_matters_4 14 rfl rfl)
theorem dX5_matters_107 : decode cX5_matters 107 = .ok (.if_icmp .eq 17, 3) := dk_159 0 17 (dk_at dksX5_matters_4 15 rfl rfl)
theorem dX5_matters_110 : decode cX5_matters 110 = .ok (.iload_n 3, 1) := dk_29 (dk_at dksX5_matters_4 18 rfl rfl)
theorem dX5_matters_111 : decode cX5_matters 111 = .ok (.iconst 1, 1) := dk_4 (dk_at dksX5_matters_4 19 rfl rfl)
theorem dX5_matters_112 : decode cX5_matters 112 = .ok (.aload_n 0, 1) := dk_42 (dk_at dksX5_matters_4 20 rfl rfl)
theorem dX5_matters_113 : decode cX5_matters 113 = .ok (.getfield 111, 3) := dk_180 0 111 (dk_at dksX5_matters_4 21 rfl rfl)
theorem dX5_matters_116 : decode cX5_matters 116 = .ok (.iload_n 1, 1) := dk_27 (dk_at dksX5_matters_5 0 rfl rfl)
theorem dX5_matters_117 : decode cX5_matters 117 = .ok (.iaload, 1) := dk_46 (dk_at dksX5_matters_5 1 rfl rfl)
theorem dX5_matters_118 : decode cX5_matters 118 = .ok (.iload 4, 2) := dk_21 4 (dk_at dksX5_matters_5 2 rfl rfl)
theorem dX5_matters_120 : decode cX5_matters 120 = .ok (.iadd, 1) := dk_96 (dk_at dksX5_matters_5 4 rfl rfl)
theorem dX5_matters_121 : decode cX5_matters 121 = .ok (.ishl, 1) := dk_120 (dk_at dksX5_matters_5 5 rfl rfl)
theorem dX5_matters_122 : decode cX5_matters 122 = .ok (.ior, 1) := dk_128 (dk_at dksX5_matters_5 6 rfl rfl)
theorem dX5_matters_123 : decode cX5_matters 123 = .ok (.istore_n 3, 1) := dk_62 (dk_at dksX5_matters_5 7 rfl rfl)
theorem dX5_matters_124 : decode cX5_matters 124 = .ok (.iinc 4 1, 3) := dk_132 4 1 (dk_at dksX5_matters_5 8 rfl rfl)
theorem dX5_matters_127 : decode cX5_matters 127 = .ok (.goto (-49), 3) := dk_167 255 207 (dk_at dksX5_matters_5 11 rfl rfl)
theorem dX5_matters_130 : decode cX5_matters 130 = .ok (.iload_n 3, 1) := dk_29 (dk_at dksX5_matters_5 14 rfl rfl)
theorem dX5_matters_131 : decode cX5_matters 131 = .ok (.ireturn, 1) := dk_172 (dk_at dksX5_matters_5 15 rfl rfl)
abbrev cX5_raises : ByteArray := prog_20_method_88_code
def yX5_raises : MethodName := ⟨RX5, "raises", "(I)I"⟩
def dkwX5_raises_3 : List UInt8 := [164, 0, 5, 29, 172, 132, 3, 1, 167, 255, 203, 2, 172]
abbrev dktX5_raises_3 : List UInt8 := dkwX5_raises_3 ++ []
def dkwX5_raises_2 : List UInt8 := [29, 182, 1, 171, 42, 42, 180, 1, 144, 27, 182, 1, 239, 54, 4, 42, 27, 29, 182, 1, 177, 21, 4, 28]
abbrev dktX5_raises_2 : List UInt8 := dkwX5_raises_2 ++ dktX5_raises_3
def dkwX5_raises_1 : List UInt8 := [61, 3, 62, 29, 17, 5, 220, 162, 0, 52, 42, 27, 29, 182, 1, 167, 154, 0, 6, 167, 0, 34, 42, 27]
abbrev dktX5_raises_1 : List UInt8 := dkwX5_raises_1 ++ dktX5_raises_2
def dkwX5_raises_0 : List UInt8 := [42, 3, 181, 0, 160, 42, 27, 182, 1, 153, 154, 0, 5, 2, 172, 42, 42, 180, 1, 144, 27, 182, 1, 239]
abbrev dktX5_raises_0 : List UInt8 := dkwX5_raises_0 ++ dktX5_raises_1
theorem dksX5_raises_0 : cX5_raises.data.toList.drop 0 = dktX5_raises_0 := by decide +kernel
theorem dksX5_raises_1 : cX5_raises.data.toList.drop 24 = dktX5_raises_1 := dk_seg dksX5_raises_0 24 rfl rfl
theorem dksX5_raises_2 : cX5_raises.data.toList.drop 48 = dktX5_raises_2 := dk_seg dksX5_raises_1 24 rfl rfl
theorem dksX5_raises_3 : cX5_raises.data.toList.drop 72 = dktX5_raises_3 := dk_seg dksX5_raises_2 24 rfl rfl
theorem dX5_raises_0 : decode cX5_raises 0 = .ok (.aload_n 0, 1) := dk_42 (dk_at dksX5_raises_0 0 rfl rfl)
theorem dX5_raises_1 : decode cX5_raises 1 = .ok (.iconst 0, 1) := dk_3 (dk_at dksX5_raises_0 1 rfl rfl)
theorem dX5_raises_2 : decode cX5_raises 2 = .ok (.putfield 160, 3) := dk_181 0 160 (dk_at dksX5_raises_0 2 rfl rfl)
theorem dX5_raises_5 : decode cX5_raises 5 = .ok (.aload_n 0, 1) := dk_42 (dk_at dksX5_raises_0 5 rfl rfl)
theorem dX5_raises_6 : decode cX5_raises 6 = .ok (.iload_n 1, 1) := dk_27 (dk_at dksX5_raises_0 6 rfl rfl)
theorem dX5_raises_7 : decode cX5_raises 7 = .ok (.invokevirtual 409, 3) := dk_182 1 153 (dk_at dksX5_raises_0 7 rfl rfl)
theorem dX5_raises_10 : decode cX5_raises 10 = .ok (.ifCond .ne 5, 3) := dk_154 0 5 (dk_at dksX5_raises_0 10 rfl rfl)
theorem dX5_raises_13 : decode cX5_raises 13 = .ok (.iconst (-1), 1) := dk_2 (dk_at dksX5_raises_0 13 rfl rfl)
theorem dX5_raises_14 : decode cX5_raises 14 = .ok (.ireturn, 1) := dk_172 (dk_at dksX5_raises_0 14 rfl rfl)
theorem dX5_raises_15 : decode cX5_raises 15 = .ok (.aload_n 0, 1) := dk_42 (dk_at dksX5_raises_0 15 rfl rfl)
theorem dX5_raises_16 : decode cX5_raises 16 = .ok (.aload_n 0, 1) := dk_42 (dk_at dksX5_raises_0 16 rfl rfl)
theorem dX5_raises_17 : decode cX5_raises 17 = .ok (.getfield 400, 3) := dk_180 1 144 (dk_at dksX5_raises_0 17 rfl rfl)
theorem dX5_raises_20 : decode cX5_raises 20 = .ok (.iload_n 1, 1) := dk_27 (dk_at dksX5_raises_0 20 rfl rfl)
theorem dX5_raises_21 : decode cX5_raises 21 = .ok (.invokevirtual 495, 3) := dk_182 1 239 (dk_at dksX5_raises_0 21 rfl rfl)
theorem dX5_raises_24 : decode cX5_raises 24 = .ok (.istore_n 2, 1) := dk_61 (dk_at dksX5_raises_1 0 rfl rfl)
theorem dX5_raises_25 : decode cX5_raises 25 = .ok (.iconst 0, 1) := dk_3 (dk_at dksX5_raises_1 1 rfl rfl)
theorem dX5_raises_26 : decode cX5_raises 26 = .ok (.istore_n 3, 1) := dk_62 (dk_at dksX5_raises_1 2 rfl rfl)
theorem dX5_raises_27 : decode cX5_raises 27 = .ok (.iload_n 3, 1) := dk_29 (dk_at dksX5_raises_1 3 rfl rfl)
theorem dX5_raises_28 : decode cX5_raises 28 = .ok (.sipush 1500, 3) := dk_17 5 220 (dk_at dksX5_raises_1 4 rfl rfl)
theorem dX5_raises_31 : decode cX5_raises 31 = .ok (.if_icmp .ge 52, 3) := dk_162 0 52 (dk_at dksX5_raises_1 7 rfl rfl)
theorem dX5_raises_34 : decode cX5_raises 34 = .ok (.aload_n 0, 1) := dk_42 (dk_at dksX5_raises_1 10 rfl rfl)
theorem dX5_raises_35 : decode cX5_raises 35 = .ok (.iload_n 1, 1) := dk_27 (dk_at dksX5_raises_1 11 rfl rfl)
theorem dX5_raises_36 : decode cX5_raises 36 = .ok (.iload_n 3, 1) := dk_29 (dk_at dksX5_raises_1 12 rfl rfl)
theorem dX5_raises_37 : decode cX5_raises 37 = .ok (.invokevirtual 423, 3) := dk_182 1 167 (dk_at dksX5_raises_1 13 rfl rfl)
theorem dX5_raises_40 : decode cX5_raises 40 = .ok (.ifCond .ne 6, 3) := dk_154 0 6 (dk_at dksX5_raises_1 16 rfl rfl)
theorem dX5_raises_43 : decode cX5_raises 43 = .ok (.goto 34, 3) := dk_167 0 34 (dk_at dksX5_raises_1 19 rfl rfl)
theorem dX5_raises_46 : decode cX5_raises 46 = .ok (.aload_n 0, 1) := dk_42 (dk_at dksX5_raises_1 22 rfl rfl)
theorem dX5_raises_47 : decode cX5_raises 47 = .ok (.iload_n 1, 1) := dk_27 (dk_at dksX5_raises_1 23 rfl rfl)
theorem dX5_raises_48 : decode cX5_raises 48 = .ok (.iload_n 3, 1) := dk_29 (dk_at dksX5_raises_2 0 rfl rfl)
theorem dX5_raises_49 : decode cX5_raises 49 = .ok (.invokevirtual 427, 3) := dk_182 1 171 (dk_at dksX5_raises_2 1 rfl rfl)
theorem dX5_raises_52 : decode cX5_raises 52 = .ok (.aload_n 0, 1) := dk_42 (dk_at dksX5_raises_2 4 rfl rfl)
theorem dX5_raises_53 : decode cX5_raises 53 = .ok (.aload_n 0, 1) := dk_42 (dk_at dksX5_raises_2 5 rfl rfl)
theorem dX5_raises_54 : decode cX5_raises 54 = .ok (.getfield 400, 3) := dk_180 1 144 (dk_at dksX5_raises_2 6 rfl rfl)
theorem dX5_raises_57 : decode cX5_raises 57 = .ok (.iload_n 1, 1) := dk_27 (dk_at dksX5_raises_2 9 rfl rfl)
theorem dX5_raises_58 : decode cX5_raises 58 = .ok (.invokevirtual 495, 3) := dk_182 1 239 (dk_at dksX5_raises_2 10 rfl rfl)
theorem dX5_raises_61 : decode cX5_raises 61 = .ok (.istore 4, 2) := dk_54 4 (dk_at dksX5_raises_2 13 rfl rfl)
theorem dX5_raises_63 : decode cX5_raises 63 = .ok (.aload_n 0, 1) := dk_42 (dk_at dksX5_raises_2 15 rfl rfl)
theorem dX5_raises_64 : decode cX5_raises 64 = .ok (.iload_n 1, 1) := dk_27 (dk_at dksX5_raises_2 16 rfl rfl)
theorem dX5_raises_65 : decode cX5_raises 65 = .ok (.iload_n 3, 1) := dk_29 (dk_at dksX5_raises_2 17 rfl rfl)
theorem dX5_raises_66 : decode cX5_raises 66 = .ok (.invokevirtual 433, 3) := dk_182 1 177 (dk_at dksX5_raises_2 18 rfl rfl)
theorem dX5_raises_69 : decode cX5_raises 69 = .ok (.iload 4, 2) := dk_21 4 (dk_at dksX5_raises_2 21 rfl rfl)
theorem dX5_raises_71 : decode cX5_raises 71 = .ok (.iload_n 2, 1) := dk_28 (dk_at dksX5_raises_2 23 rfl rfl)
theorem dX5_raises_72 : decode cX5_raises 72 = .ok (.if_icmp .le 5, 3) := dk_164 0 5 (dk_at dksX5_raises_3 0 rfl rfl)
theorem dX5_raises_75 : decode cX5_raises 75 = .ok (.iload_n 3, 1) := dk_29 (dk_at dksX5_raises_3 3 rfl rfl)
theorem dX5_raises_76 : decode cX5_raises 76 = .ok (.ireturn, 1) := dk_172 (dk_at dksX5_raises_3 4 rfl rfl)
theorem dX5_raises_77 : decode cX5_raises 77 = .ok (.iinc 3 1, 3) := dk_132 3 1 (dk_at dksX5_raises_3 5 rfl rfl)
theorem dX5_raises_80 : decode cX5_raises 80 = .ok (.goto (-53), 3) := dk_167 255 203 (dk_at dksX5_raises_3 8 rfl rfl)
theorem dX5_raises_83 : decode cX5_raises 83 = .ok (.iconst (-1), 1) := dk_2 (dk_at dksX5_raises_3 11 rfl rfl)
theorem dX5_raises_84 : decode cX5_raises 84 = .ok (.ireturn, 1) := dk_172 (dk_at dksX5_raises_3 12 rfl rfl)
abbrev cX5_ofClass : ByteArray := prog_20_method_89_code
def yX5_ofClass : MethodName := ⟨RX5, "ofClass", "(II)I"⟩
def dkwX5_ofClass_6 : List UInt8 := [167, 255, 227, 29, 172]
abbrev dktX5_ofClass_6 : List UInt8 := dkwX5_ofClass_6 ++ []
def dkwX5_ofClass_5 : List UInt8 := [162, 0, 26, 42, 42, 180, 1, 144, 21, 4, 182, 1, 214, 27, 160, 0, 6, 132, 3, 1, 132, 4, 1]
abbrev dktX5_ofClass_5 : List UInt8 := dkwX5_ofClass_5 ++ dktX5_ofClass_6
def dkwX5_ofClass_4 : List UInt8 := [132, 3, 1, 132, 4, 1, 167, 255, 217, 28, 5, 160, 0, 38, 3, 54, 4, 21, 4, 42, 180, 1, 150]
abbrev dktX5_ofClass_4 : List UInt8 := dkwX5_ofClass_4 ++ dktX5_ofClass_5
def dkwX5_ofClass_3 : List UInt8 := [42, 180, 0, 65, 16, 40, 42, 180, 1, 144, 104, 42, 180, 0, 144, 21, 4, 46, 96, 46, 27, 160, 0, 6]
abbrev dktX5_ofClass_3 : List UInt8 := dkwX5_ofClass_3 ++ dktX5_ofClass_4
def dkwX5_ofClass_2 : List UInt8 := [104, 27, 96, 46, 172, 3, 62, 28, 4, 160, 0, 48, 3, 54, 4, 21, 4, 42, 180, 1, 217, 162, 0, 36]
abbrev dktX5_ofClass_2 : List UInt8 := dkwX5_ofClass_2 ++ dktX5_ofClass_3
def dkwX5_ofClass_1 : List UInt8 := [3, 5, 184, 0, 170, 154, 0, 5, 2, 172, 28, 154, 0, 18, 42, 180, 0, 62, 16, 16, 42, 180, 1, 144]
abbrev dktX5_ofClass_1 : List UInt8 := dkwX5_ofClass_1 ++ dktX5_ofClass_2
def dkwX5_ofClass_0 : List UInt8 := [42, 3, 181, 0, 160, 27, 3, 42, 42, 180, 1, 144, 182, 1, 109, 4, 100, 184, 0, 170, 153, 0, 12, 28]
abbrev dktX5_ofClass_0 : List UInt8 := dkwX5_ofClass_0 ++ dktX5_ofClass_1
theorem dksX5_ofClass_0 : cX5_ofClass.data.toList.drop 0 = dktX5_ofClass_0 := by decide +kernel
theorem dksX5_ofClass_1 : cX5_ofClass.data.toList.drop 24 = dktX5_ofClass_1 := dk_seg dksX5_ofClass_0 24 rfl rfl
theorem dksX5_ofClass_2 : cX5_ofClass.data.toList.drop 48 = dktX5_ofClass_2 := dk_seg dksX5_ofClass_1 24 rfl rfl
theorem dksX5_ofClass_3 : cX5_ofClass.data.toList.drop 72 = dktX5_ofClass_3 := dk_seg dksX5_ofClass_2 24 rfl rfl
theorem dksX5_ofClass_4 : cX5_ofClass.data.toList.drop 96 = dktX5_ofClass_4 := dk_seg dksX5_ofClass_3 24 rfl rfl
theorem dksX5_ofClass_5 : cX5_ofClass.data.toList.drop 119 = dktX5_ofClass_5 := dk_seg dksX5_ofClass_4 23 rfl rfl
theorem dksX5_ofClass_6 : cX5_ofClass.data.toList.drop 142 = dktX5_ofClass_6 := dk_seg dksX5_ofClass_5 23 rfl rfl
theorem dX5_ofClass_0 : decode cX5_ofClass 0 = .ok (.aload_n 0, 1) := dk_42 (dk_at dksX5_ofClass_0 0 rfl rfl)
theorem dX5_ofClass_1 : decode cX5_ofClass 1 = .ok (.iconst 0, 1) := dk_3 (dk_at dksX5_ofClass_0 1 rfl rfl)
theorem dX5_ofClass_2 : decode cX5_ofClass 2 = .ok (.putfield 160, 3) := dk_181 0 160 (dk_at dksX5_ofClass_0 2 rfl rfl)
theorem dX5_ofClass_5 : decode cX5_ofClass 5 = .ok (.iload_n 1, 1) := dk_27 (dk_at dksX5_ofClass_0 5 rfl rfl)
theorem dX5_ofClass_6 : decode cX5_ofClass 6 = .ok (.iconst 0, 1) := dk_3 (dk_at dksX5_ofClass_0 6 rfl rfl)
theorem dX5_ofClass_7 : decode cX5_ofClass 7 = .ok (.aload_n 0, 1) := dk_42 (dk_at dksX5_ofClass_0 7 rfl rfl)
theorem dX5_ofClass_8 : decode cX5_ofClass 8 = .ok (.aload_n 0, 1) := dk_42 (dk_at dksX5_ofClass_0 8 rfl rfl)
theorem dX5_ofClass_9 : decode cX5_ofClass 9 = .ok (.getfield 400, 3) := dk_180 1 144 (dk_at dksX5_ofClass_0 9 rfl rfl)
theorem dX5_ofClass_12 : decode cX5_ofClass 12 = .ok (.invokevirtual 365, 3) := dk_182 1 109 (dk_at dksX5_ofClass_0 12 rfl rfl)
theorem dX5_ofClass_15 : decode cX5_ofClass 15 = .ok (.iconst 1, 1) := dk_4 (dk_at dksX5_ofClass_0 15 rfl rfl)
theorem dX5_ofClass_16 : decode cX5_ofClass 16 = .ok (.isub, 1) := dk_100 (dk_at dksX5_ofClass_0 16 rfl rfl)
theorem dX5_ofClass_17 : decode cX5_ofClass 17 = .ok (.invokestatic 170, 3) := dk_184 0 170 (dk_at dksX5_ofClass_0 17 rfl rfl)
theorem dX5_ofClass_20 : decode cX5_ofClass 20 = .ok (.ifCond .eq 12, 3) := dk_153 0 12 (dk_at dksX5_ofClass_0 20 rfl rfl)
theorem dX5_ofClass_23 : decode cX5_ofClass 23 = .ok (.iload_n 2, 1) := dk_28 (dk_at dksX5_ofClass_0 23 rfl rfl)
theorem dX5_ofClass_24 : decode cX5_ofClass 24 = .ok (.iconst 0, 1) := dk_3 (dk_at dksX5_ofClass_1 0 rfl rfl)
theorem dX5_ofClass_25 : decode cX5_ofClass 25 = .ok (.iconst 2, 1) := dk_5 (dk_at dksX5_ofClass_1 1 rfl rfl)
theorem dX5_ofClass_26 : decode cX5_ofClass 26 = .ok (.invokestatic 170, 3) := dk_184 0 170 (dk_at dksX5_ofClass_1 2 rfl rfl)
theorem dX5_ofClass_29 : decode cX5_ofClass 29 = .ok (.ifCond .ne 5, 3) := dk_154 0 5 (dk_at dksX5_ofClass_1 5 rfl rfl)
theorem dX5_ofClass_32 : decode cX5_ofClass 32 = .ok (.iconst (-1), 1) := dk_2 (dk_at dksX5_ofClass_1 8 rfl rfl)
theorem dX5_ofClass_33 : decode cX5_ofClass 33 = .ok (.ireturn, 1) := dk_172 (dk_at dksX5_ofClass_1 9 rfl rfl)
theorem dX5_ofClass_34 : decode cX5_ofClass 34 = .ok (.iload_n 2, 1) := dk_28 (dk_at dksX5_ofClass_1 10 rfl rfl)
theorem dX5_ofClass_35 : decode cX5_ofClass 35 = .ok (.ifCond .ne 18, 3) := dk_154 0 18 (dk_at dksX5_ofClass_1 11 rfl rfl)
theorem dX5_ofClass_38 : decode cX5_ofClass 38 = .ok (.aload_n 0, 1) := dk_42 (dk_at dksX5_ofClass_1 14 rfl rfl)
theorem dX5_ofClass_39 : decode cX5_ofClass 39 = .ok (.getfield 62, 3) := dk_180 0 62 (dk_at dksX5_ofClass_1 15 rfl rfl)
theorem dX5_ofClass_42 : decode cX5_ofClass 42 = .ok (.bipush 16, 2) := dk_16 16 (dk_at dksX5_ofClass_1 18 rfl rfl)
theorem dX5_ofClass_44 : decode cX5_ofClass 44 = .ok (.aload_n 0, 1) := dk_42 (dk_at dksX5_ofClass_1 20 rfl rfl)
theorem dX5_ofClass_45 : decode cX5_ofClass 45 = .ok (.getfield 400, 3) := dk_180 1 144 (dk_at dksX5_ofClass_1 21 rfl rfl)
theorem dX5_ofClass_48 : decode cX5_ofClass 48 = .ok (.imul, 1) := dk_104 (dk_at dksX5_ofClass_2 0 rfl rfl)
theorem dX5_ofClass_49 : decode cX5_ofClass 49 = .ok (.iload_n 1, 1) := dk_27 (dk_at dksX5_ofClass_2 1 rfl rfl)
theorem dX5_ofClass_50 : decode cX5_ofClass 50 = .ok (.iadd, 1) := dk_96 (dk_at dksX5_ofClass_2 2 rfl rfl)
theorem dX5_ofClass_51 : decode cX5_ofClass 51 = .ok (.iaload, 1) := dk_46 (dk_at dksX5_ofClass_2 3 rfl rfl)
theorem dX5_ofClass_52 : decode cX5_ofClass 52 = .ok (.ireturn, 1) := dk_172 (dk_at dksX5_ofClass_2 4 rfl rfl)
theorem dX5_ofClass_53 : decode cX5_ofClass 53 = .ok (.iconst 0, 1) := dk_3 (dk_at dksX5_ofClass_2 5 rfl rfl)
theorem dX5_ofClass_54 : decode cX5_ofClass 54 = .ok (.istore_n 3, 1) := dk_62 (dk_at dksX5_ofClass_2 6 rfl rfl)
theorem dX5_ofClass_55 : decode cX5_ofClass 55 = .ok (.iload_n 2, 1) := dk_28 (dk_at dksX5_ofClass_2 7 rfl rfl)
theorem dX5_ofClass_56 : decode cX5_ofClass 56 = .ok (.iconst 1, 1) := dk_4 (dk_at dksX5_ofClass_2 8 rfl rfl)
theorem dX5_ofClass_57 : decode cX5_ofClass 57 = .ok (.if_icmp .ne 48, 3) := dk_160 0 48 (dk_at dksX5_ofClass_2 9 rfl rfl)
theorem dX5_ofClass_60 : decode cX5_ofClass 60 = .ok (.iconst 0, 1) := dk_3 (dk_at dksX5_ofClass_2 12 rfl rfl)
theorem dX5_ofClass_61 : decode cX5_ofClass 61 = .ok (.istore 4, 2) := dk_54 4 (dk_at dksX5_ofClass_2 13 rfl rfl)
theorem dX5_ofClass_63 : decode cX5_ofClass 63 = .ok (.iload 4, 2) := dk_21 4 (dk_at dksX5_ofClass_2 15 rfl rfl)
theorem dX5_ofClass_65 : decode cX5_ofClass 65 = .ok (.aload_n 0, 1) := dk_42 (dk_at dksX5_ofClass_2 17 rfl rfl)
theorem dX5_ofClass_66 : decode cX5_ofClass 66 = .ok (.getfield 473, 3) := dk_180 1 217 (dk_at dksX5_ofClass_2 18 rfl rfl)
theorem dX5_ofClass_69 : decode cX5_ofClass 69 = .ok (.if_icmp .ge 36, 3) := dk_162 0 36 (dk_at dksX5_ofClass_2 21 rfl rfl)
theorem dX5_ofClass_72 : decode cX5_ofClass 72 = .ok (.aload_n 0, 1) := dk_42 (dk_at dksX5_ofClass_3 0 rfl rfl)
theorem dX5_ofClass_73 : decode cX5_ofClass 73 = .ok (.getfield 65, 3) := dk_180 0 65 (dk_at dksX5_ofClass_3 1 rfl rfl)
theorem dX5_ofClass_76 : decode cX5_ofClass 76 = .ok (.bipush 40, 2) := dk_16 40 (dk_at dksX5_ofClass_3 4 rfl rfl)
theorem dX5_ofClass_78 : decode cX5_ofClass 78 = .ok (.aload_n 0, 1) := dk_42 (dk_at dksX5_ofClass_3 6 rfl rfl)
theorem dX5_ofClass_79 : decode cX5_ofClass 79 = .ok (.getfield 400, 3) := dk_180 1 144 (dk_at dksX5_ofClass_3 7 rfl rfl)
theorem dX5_ofClass_82 : decode cX5_ofClass 82 = .ok (.imul, 1) := dk_104 (dk_at dksX5_ofClass_3 10 rfl rfl)
theorem dX5_ofClass_83 : decode cX5_ofClass 83 = .ok (.aload_n 0, 1) := dk_42 (dk_at dksX5_ofClass_3 11 rfl rfl)
theorem dX5_ofClass_84 : decode cX5_ofClass 84 = .ok (.getfield 144, 3) := dk_180 0 144 (dk_at dksX5_ofClass_3 12 rfl rfl)
theorem dX5_ofClass_87 : decode cX5_ofClass 87 = .ok (.iload 4, 2) := dk_21 4 (dk_at dksX5_ofClass_3 15 rfl rfl)
theorem dX5_ofClass_89 : decode cX5_ofClass 89 = .ok (.iaload, 1) := dk_46 (dk_at dksX5_ofClass_3 17 rfl rfl)
theorem dX5_ofClass_90 : decode cX5_ofClass 90 = .ok (.iadd, 1) := dk_96 (dk_at dksX5_ofClass_3 18 rfl rfl)
theorem dX5_ofClass_91 : decode cX5_ofClass 91 = .ok (.iaload, 1) := dk_46 (dk_at dksX5_ofClass_3 19 rfl rfl)
theorem dX5_ofClass_92 : decode cX5_ofClass 92 = .ok (.iload_n 1, 1) := dk_27 (dk_at dksX5_ofClass_3 20 rfl rfl)
theorem dX5_ofClass_93 : decode cX5_ofClass 93 = .ok (.if_icmp .ne 6, 3) := dk_160 0 6 (dk_at dksX5_ofClass_3 21 rfl rfl)
theorem dX5_ofClass_96 : decode cX5_ofClass 96 = .ok (.iinc 3 1, 3) := dk_132 3 1 (dk_at dksX5_ofClass_4 0 rfl rfl)
theorem dX5_ofClass_99 : decode cX5_ofClass 99 = .ok (.iinc 4 1, 3) := dk_132 4 1 (dk_at dksX5_ofClass_4 3 rfl rfl)
theorem dX5_ofClass_102 : decode cX5_ofClass 102 = .ok (.goto (-39), 3) := dk_167 255 217 (dk_at dksX5_ofClass_4 6 rfl rfl)
theorem dX5_ofClass_105 : decode cX5_ofClass 105 = .ok (.iload_n 2, 1) := dk_28 (dk_at dksX5_ofClass_4 9 rfl rfl)
theorem dX5_ofClass_106 : decode cX5_ofClass 106 = .ok (.iconst 2, 1) := dk_5 (dk_at dksX5_ofClass_4 10 rfl rfl)
theorem dX5_ofClass_107 : decode cX5_ofClass 107 = .ok (.if_icmp .ne 38, 3) := dk_160 0 38 (dk_at dksX5_ofClass_4 11 rfl rfl)
theorem dX5_ofClass_110 : decode cX5_ofClass 110 = .ok (.iconst 0, 1) := dk_3 (dk_at dksX5_ofClass_4 14 rfl rfl)
theorem dX5_ofClass_111 : decode cX5_ofClass 111 = .ok (.istore 4, 2) := dk_54 4 (dk_at dksX5_ofClass_4 15 rfl rfl)
theorem dX5_ofClass_113 : decode cX5_ofClass 113 = .ok (.iload 4, 2) := dk_21 4 (dk_at dksX5_ofClass_4 17 rfl rfl)
theorem dX5_ofClass_115 : decode cX5_ofClass 115 = .ok (.aload_n 0, 1) := dk_42 (dk_at dksX5_ofClass_4 19 rfl rfl)
theorem dX5_ofClass_116 : decode cX5_ofClass 116 = .ok (.getfield 406, 3) := dk_180 1 150 (dk_at dksX5_ofClass_4 20 rfl rfl)
theorem dX5_ofClass_119 : decode cX5_ofClass 119 = .ok (.if_icmp .ge 26, 3) := dk_162 0 26 (dk_at dksX5_ofClass_5 0 rfl rfl)
theorem dX5_ofClass_122 : decode cX5_ofClass 122 = .ok (.aload_n 0, 1) := dk_42 (dk_at dksX5_ofClass_5 3 rfl rfl)
theorem dX5_ofClass_123 : decode cX5_ofClass 123 = .ok (.aload_n 0, 1) := dk_42 (dk_at dksX5_ofClass_5 4 rfl rfl)
theorem dX5_ofClass_124 : decode cX5_ofClass 124 = .ok (.getfield 400, 3) := dk_180 1 144 (dk_at dksX5_ofClass_5 5 rfl rfl)
theorem dX5_ofClass_127 : decode cX5_ofClass 127 = .ok (.iload 4, 2) := dk_21 4 (dk_at dksX5_ofClass_5 8 rfl rfl)
theorem dX5_ofClass_129 : decode cX5_ofClass 129 = .ok (.invokevirtual 470, 3) := dk_182 1 214 (dk_at dksX5_ofClass_5 10 rfl rfl)
theorem dX5_ofClass_132 : decode cX5_ofClass 132 = .ok (.iload_n 1, 1) := dk_27 (dk_at dksX5_ofClass_5 13 rfl rfl)
theorem dX5_ofClass_133 : decode cX5_ofClass 133 = .ok (.if_icmp .ne 6, 3) := dk_160 0 6 (dk_at dksX5_ofClass_5 14 rfl rfl)
theorem dX5_ofClass_136 : decode cX5_ofClass 136 = .ok (.iinc 3 1, 3) := dk_132 3 1 (dk_at dksX5_ofClass_5 17 rfl rfl)
theorem dX5_ofClass_139 : decode cX5_ofClass 139 = .ok (.iinc 4 1, 3) := dk_132 4 1 (dk_at dksX5_ofClass_5 20 rfl rfl)
theorem dX5_ofClass_142 : decode cX5_ofClass 142 = .ok (.goto (-29), 3) := dk_167 255 227 (dk_at dksX5_ofClass_6 0 rfl rfl)
theorem dX5_ofClass_145 : decode cX5_ofClass 145 = .ok (.iload_n 3, 1) := dk_29 (dk_at dksX5_ofClass_6 3 rfl rfl)
theorem dX5_ofClass_146 : decode cX5_ofClass 146 = .ok (.ireturn, 1) := dk_172 (dk_at dksX5_ofClass_6 4 rfl rfl)
abbrev cX5_name_2 : ByteArray := prog_20_method_90_code
def yX5_name_2 : MethodName := ⟨RX5, "name", "(II)I"⟩
def dkwX5_name_2_4 : List UInt8 := [66, 132, 6, 255, 167, 255, 241, 33, 20, 0, 211, 113, 136, 16, 97, 100, 4, 96, 172]
abbrev dktX5_name_2_4 : List UInt8 := dkwX5_name_2_4 ++ []
def dkwX5_name_2_3 : List UInt8 := [21, 5, 161, 0, 5, 3, 172, 21, 5, 4, 100, 54, 6, 21, 6, 28, 164, 0, 15, 33, 20, 0, 211, 109]
abbrev dktX5_name_2_3 : List UInt8 := dkwX5_name_2_3 ++ dktX5_name_2_4
def dkwX5_name_2_2 : List UInt8 := [55, 6, 22, 6, 9, 148, 158, 0, 17, 132, 5, 1, 22, 6, 20, 0, 211, 109, 55, 6, 167, 255, 238, 28]
abbrev dktX5_name_2_2 : List UInt8 := dkwX5_name_2_2 ++ dktX5_name_2_3
def dkwX5_name_2_1 : List UInt8 := [156, 0, 5, 2, 172, 42, 180, 0, 59, 16, 16, 42, 180, 1, 144, 104, 27, 96, 47, 66, 3, 54, 5, 33]
abbrev dktX5_name_2_1 : List UInt8 := dkwX5_name_2_1 ++ dktX5_name_2_2
def dkwX5_name_2_0 : List UInt8 := [42, 3, 181, 0, 160, 27, 3, 42, 42, 180, 1, 144, 182, 1, 109, 4, 100, 184, 0, 170, 153, 0, 7, 28]
abbrev dktX5_name_2_0 : List UInt8 := dkwX5_name_2_0 ++ dktX5_name_2_1
theorem dksX5_name_2_0 : cX5_name_2.data.toList.drop 0 = dktX5_name_2_0 := by decide +kernel
theorem dksX5_name_2_1 : cX5_name_2.data.toList.drop 24 = dktX5_name_2_1 := dk_seg dksX5_name_2_0 24 rfl rfl
theorem dksX5_name_2_2 : cX5_name_2.data.toList.drop 48 = dktX5_name_2_2 := dk_seg dksX5_name_2_1 24 rfl rfl
theorem dksX5_name_2_3 : cX5_name_2.data.toList.drop 72 = dktX5_name_2_3 := dk_seg dksX5_name_2_2 24 rfl rfl
theorem dksX5_name_2_4 : cX5_name_2.data.toList.drop 96 = dktX5_name_2_4 := dk_seg dksX5_name_2_3 24 rfl rfl
theorem dX5_name_2_0 : decode cX5_name_2 0 = .ok (.aload_n 0, 1) := dk_42 (dk_at dksX5_name_2_0 0 rfl rfl)
theorem dX5_name_2_1 : decode cX5_name_2 1 = .ok (.iconst 0, 1) := dk_3 (dk_at dksX5_name_2_0 1 rfl rfl)
theorem dX5_name_2_2 : decode cX5_name_2 2 = .ok (.putfield 160, 3) := dk_181 0 160 (dk_at dksX5_name_2_0 2 rfl rfl)
theorem dX5_name_2_5 : decode cX5_name_2 5 = .ok (.iload_n 1, 1) := dk_27 (dk_at dksX5_name_2_0 5 rfl rfl)
theorem dX5_name_2_6 : decode cX5_name_2 6 = .ok (.iconst 0, 1) := dk_3 (dk_at dksX5_name_2_0 6 rfl rfl)
theorem dX5_name_2_7 : decode cX5_name_2 7 = .ok (.aload_n 0, 1) := dk_42 (dk_at dksX5_name_2_0 7 rfl rfl)
theorem dX5_name_2_8 : decode cX5_name_2 8 = .ok (.aload_n 0, 1) := dk_42 (dk_at dksX5_name_2_0 8 rfl rfl)
theorem dX5_name_2_9 : decode cX5_name_2 9 = .ok (.getfield 400, 3) := dk_180 1 144 (dk_at dksX5_name_2_0 9 rfl rfl)
theorem dX5_name_2_12 : decode cX5_name_2 12 = .ok (.invokevirtual 365, 3) := dk_182 1 109 (dk_at dksX5_name_2_0 12 rfl rfl)
theorem dX5_name_2_15 : decode cX5_name_2 15 = .ok (.iconst 1, 1) := dk_4 (dk_at dksX5_name_2_0 15 rfl rfl)
theorem dX5_name_2_16 : decode cX5_name_2 16 = .ok (.isub, 1) := dk_100 (dk_at dksX5_name_2_0 16 rfl rfl)
theorem dX5_name_2_17 : decode cX5_name_2 17 = .ok (.invokestatic 170, 3) := dk_184 0 170 (dk_at dksX5_name_2_0 17 rfl rfl)
theorem dX5_name_2_20 : decode cX5_name_2 20 = .ok (.ifCond .eq 7, 3) := dk_153 0 7 (dk_at dksX5_name_2_0 20 rfl rfl)
theorem dX5_name_2_23 : decode cX5_name_2 23 = .ok (.iload_n 2, 1) := dk_28 (dk_at dksX5_name_2_0 23 rfl rfl)
theorem dX5_name_2_24 : decode cX5_name_2 24 = .ok (.ifCond .ge 5, 3) := dk_156 0 5 (dk_at dksX5_name_2_1 0 rfl rfl)
theorem dX5_name_2_27 : decode cX5_name_2 27 = .ok (.iconst (-1), 1) := dk_2 (dk_at dksX5_name_2_1 3 rfl rfl)
theorem dX5_name_2_28 : decode cX5_name_2 28 = .ok (.ireturn, 1) := dk_172 (dk_at dksX5_name_2_1 4 rfl rfl)
theorem dX5_name_2_29 : decode cX5_name_2 29 = .ok (.aload_n 0, 1) := dk_42 (dk_at dksX5_name_2_1 5 rfl rfl)
theorem dX5_name_2_30 : decode cX5_name_2 30 = .ok (.getfield 59, 3) := dk_180 0 59 (dk_at dksX5_name_2_1 6 rfl rfl)
theorem dX5_name_2_33 : decode cX5_name_2 33 = .ok (.bipush 16, 2) := dk_16 16 (dk_at dksX5_name_2_1 9 rfl rfl)
theorem dX5_name_2_35 : decode cX5_name_2 35 = .ok (.aload_n 0, 1) := dk_42 (dk_at dksX5_name_2_1 11 rfl rfl)
theorem dX5_name_2_36 : decode cX5_name_2 36 = .ok (.getfield 400, 3) := dk_180 1 144 (dk_at dksX5_name_2_1 12 rfl rfl)
theorem dX5_name_2_39 : decode cX5_name_2 39 = .ok (.imul, 1) := dk_104 (dk_at dksX5_name_2_1 15 rfl rfl)
theorem dX5_name_2_40 : decode cX5_name_2 40 = .ok (.iload_n 1, 1) := dk_27 (dk_at dksX5_name_2_1 16 rfl rfl)
theorem dX5_name_2_41 : decode cX5_name_2 41 = .ok (.iadd, 1) := dk_96 (dk_at dksX5_name_2_1 17 rfl rfl)
theorem dX5_name_2_42 : decode cX5_name_2 42 = .ok (.laload, 1) := dk_47 (dk_at dksX5_name_2_1 18 rfl rfl)
theorem dX5_name_2_43 : decode cX5_name_2 43 = .ok (.lstore_n 3, 1) := dk_66 (dk_at dksX5_name_2_1 19 rfl rfl)
theorem dX5_name_2_44 : decode cX5_name_2 44 = .ok (.iconst 0, 1) := dk_3 (dk_at dksX5_name_2_1 20 rfl rfl)
theorem dX5_name_2_45 : decode cX5_name_2 45 = .ok (.istore 5, 2) := dk_54 5 (dk_at dksX5_name_2_1 21 rfl rfl)
theorem dX5_name_2_47 : decode cX5_name_2 47 = .ok (.lload_n 3, 1) := dk_33 (dk_at dksX5_name_2_1 23 rfl rfl)
theorem dX5_name_2_48 : decode cX5_name_2 48 = .ok (.lstore 6, 2) := dk_55 6 (dk_at dksX5_name_2_2 0 rfl rfl)
theorem dX5_name_2_50 : decode cX5_name_2 50 = .ok (.lload 6, 2) := dk_22 6 (dk_at dksX5_name_2_2 2 rfl rfl)
theorem dX5_name_2_52 : decode cX5_name_2 52 = .ok (.lconst 0, 1) := dk_9 (dk_at dksX5_name_2_2 4 rfl rfl)
theorem dX5_name_2_53 : decode cX5_name_2 53 = .ok (.lcmp, 1) := dk_148 (dk_at dksX5_name_2_2 5 rfl rfl)
theorem dX5_name_2_54 : decode cX5_name_2 54 = .ok (.ifCond .le 17, 3) := dk_158 0 17 (dk_at dksX5_name_2_2 6 rfl rfl)
theorem dX5_name_2_57 : decode cX5_name_2 57 = .ok (.iinc 5 1, 3) := dk_132 5 1 (dk_at dksX5_name_2_2 9 rfl rfl)
theorem dX5_name_2_60 : decode cX5_name_2 60 = .ok (.lload 6, 2) := dk_22 6 (dk_at dksX5_name_2_2 12 rfl rfl)
theorem dX5_name_2_62 : decode cX5_name_2 62 = .ok (.ldc2_w 211, 3) := dk_20 0 211 (dk_at dksX5_name_2_2 14 rfl rfl)
theorem dX5_name_2_65 : decode cX5_name_2 65 = .ok (.ldiv, 1) := dk_109 (dk_at dksX5_name_2_2 17 rfl rfl)
theorem dX5_name_2_66 : decode cX5_name_2 66 = .ok (.lstore 6, 2) := dk_55 6 (dk_at dksX5_name_2_2 18 rfl rfl)
theorem dX5_name_2_68 : decode cX5_name_2 68 = .ok (.goto (-18), 3) := dk_167 255 238 (dk_at dksX5_name_2_2 20 rfl rfl)
theorem dX5_name_2_71 : decode cX5_name_2 71 = .ok (.iload_n 2, 1) := dk_28 (dk_at dksX5_name_2_2 23 rfl rfl)
theorem dX5_name_2_72 : decode cX5_name_2 72 = .ok (.iload 5, 2) := dk_21 5 (dk_at dksX5_name_2_3 0 rfl rfl)
theorem dX5_name_2_74 : decode cX5_name_2 74 = .ok (.if_icmp .lt 5, 3) := dk_161 0 5 (dk_at dksX5_name_2_3 2 rfl rfl)
theorem dX5_name_2_77 : decode cX5_name_2 77 = .ok (.iconst 0, 1) := dk_3 (dk_at dksX5_name_2_3 5 rfl rfl)
theorem dX5_name_2_78 : decode cX5_name_2 78 = .ok (.ireturn, 1) := dk_172 (dk_at dksX5_name_2_3 6 rfl rfl)
theorem dX5_name_2_79 : decode cX5_name_2 79 = .ok (.iload 5, 2) := dk_21 5 (dk_at dksX5_name_2_3 7 rfl rfl)
theorem dX5_name_2_81 : decode cX5_name_2 81 = .ok (.iconst 1, 1) := dk_4 (dk_at dksX5_name_2_3 9 rfl rfl)
theorem dX5_name_2_82 : decode cX5_name_2 82 = .ok (.isub, 1) := dk_100 (dk_at dksX5_name_2_3 10 rfl rfl)
theorem dX5_name_2_83 : decode cX5_name_2 83 = .ok (.istore 6, 2) := dk_54 6 (dk_at dksX5_name_2_3 11 rfl rfl)
theorem dX5_name_2_85 : decode cX5_name_2 85 = .ok (.iload 6, 2) := dk_21 6 (dk_at dksX5_name_2_3 13 rfl rfl)
theorem dX5_name_2_87 : decode cX5_name_2 87 = .ok (.iload_n 2, 1) := dk_28 (dk_at dksX5_name_2_3 15 rfl rfl)
theorem dX5_name_2_88 : decode cX5_name_2 88 = .ok (.if_icmp .le 15, 3) := dk_164 0 15 (dk_at dksX5_name_2_3 16 rfl rfl)
theorem dX5_name_2_91 : decode cX5_name_2 91 = .ok (.lload_n 3, 1) := dk_33 (dk_at dksX5_name_2_3 19 rfl rfl)
theorem dX5_name_2_92 : decode cX5_name_2 92 = .ok (.ldc2_w 211, 3) := dk_20 0 211 (dk_at dksX5_name_2_3 20 rfl rfl)
theorem dX5_name_2_95 : decode cX5_name_2 95 = .ok (.ldiv, 1) := dk_109 (dk_at dksX5_name_2_3 23 rfl rfl)
theorem dX5_name_2_96 : decode cX5_name_2 96 = .ok (.lstore_n 3, 1) := dk_66 (dk_at dksX5_name_2_4 0 rfl rfl)
theorem dX5_name_2_97 : decode cX5_name_2 97 = .ok (.iinc 6 (-1), 3) := dk_132 6 255 (dk_at dksX5_name_2_4 1 rfl rfl)
theorem dX5_name_2_100 : decode cX5_name_2 100 = .ok (.goto (-15), 3) := dk_167 255 241 (dk_at dksX5_name_2_4 4 rfl rfl)
theorem dX5_name_2_103 : decode cX5_name_2 103 = .ok (.lload_n 3, 1) := dk_33 (dk_at dksX5_name_2_4 7 rfl rfl)
theorem dX5_name_2_104 : decode cX5_name_2 104 = .ok (.ldc2_w 211, 3) := dk_20 0 211 (dk_at dksX5_name_2_4 8 rfl rfl)
theorem dX5_name_2_107 : decode cX5_name_2 107 = .ok (.lrem, 1) := dk_113 (dk_at dksX5_name_2_4 11 rfl rfl)
theorem dX5_name_2_108 : decode cX5_name_2 108 = .ok (.l2i, 1) := dk_136 (dk_at dksX5_name_2_4 12 rfl rfl)
theorem dX5_name_2_109 : decode cX5_name_2 109 = .ok (.bipush 97, 2) := dk_16 97 (dk_at dksX5_name_2_4 13 rfl rfl)
theorem dX5_name_2_111 : decode cX5_name_2 111 = .ok (.isub, 1) := dk_100 (dk_at dksX5_name_2_4 15 rfl rfl)
theorem dX5_name_2_112 : decode cX5_name_2 112 = .ok (.iconst 1, 1) := dk_4 (dk_at dksX5_name_2_4 16 rfl rfl)
theorem dX5_name_2_113 : decode cX5_name_2 113 = .ok (.iadd, 1) := dk_96 (dk_at dksX5_name_2_4 17 rfl rfl)
theorem dX5_name_2_114 : decode cX5_name_2 114 = .ok (.ireturn, 1) := dk_172 (dk_at dksX5_name_2_4 18 rfl rfl)
abbrev cX5_leaf_2 : ByteArray := prog_20_method_91_code
def yX5_leaf_2 : MethodName := ⟨RX5, "leaf", "(II)I"⟩
def dkwX5_leaf_2_5 : List UInt8 := [180, 1, 144, 21, 5, 182, 1, 211, 29, 160, 0, 6, 132, 4, 1, 132, 5, 1, 167, 255, 227, 21, 4, 172]
abbrev dktX5_leaf_2_5 : List UInt8 := dkwX5_leaf_2_5 ++ []
def dkwX5_leaf_2_4 : List UInt8 := [167, 0, 4, 4, 172, 3, 54, 4, 3, 54, 5, 21, 5, 42, 180, 1, 150, 162, 0, 26, 42, 42]
abbrev dktX5_leaf_2_4 : List UInt8 := dkwX5_leaf_2_4 ++ dktX5_leaf_2_5
def dkwX5_leaf_2_3 : List UInt8 := [180, 1, 144, 104, 29, 96, 46, 172, 28, 5, 160, 0, 18, 42, 180, 0, 147, 29, 51, 153, 0, 7, 3]
abbrev dktX5_leaf_2_3 : List UInt8 := dkwX5_leaf_2_3 ++ dktX5_leaf_2_4
def dkwX5_leaf_2_2 : List UInt8 := [16, 40, 42, 180, 1, 144, 104, 29, 96, 46, 172, 28, 4, 160, 0, 18, 42, 180, 0, 77, 16, 40, 42]
abbrev dktX5_leaf_2_2 : List UInt8 := dkwX5_leaf_2_2 ++ dktX5_leaf_2_3
def dkwX5_leaf_2_1 : List UInt8 := [184, 0, 170, 154, 0, 5, 2, 172, 42, 180, 0, 144, 27, 46, 62, 28, 154, 0, 18, 42, 180, 0, 65]
abbrev dktX5_leaf_2_1 : List UInt8 := dkwX5_leaf_2_1 ++ dktX5_leaf_2_2
def dkwX5_leaf_2_0 : List UInt8 := [42, 3, 181, 0, 160, 27, 3, 42, 180, 1, 217, 4, 100, 184, 0, 170, 153, 0, 12, 28, 3, 6]
abbrev dktX5_leaf_2_0 : List UInt8 := dkwX5_leaf_2_0 ++ dktX5_leaf_2_1
theorem dksX5_leaf_2_0 : cX5_leaf_2.data.toList.drop 0 = dktX5_leaf_2_0 := by decide +kernel
theorem dksX5_leaf_2_1 : cX5_leaf_2.data.toList.drop 22 = dktX5_leaf_2_1 := dk_seg dksX5_leaf_2_0 22 rfl rfl
theorem dksX5_leaf_2_2 : cX5_leaf_2.data.toList.drop 45 = dktX5_leaf_2_2 := dk_seg dksX5_leaf_2_1 23 rfl rfl
theorem dksX5_leaf_2_3 : cX5_leaf_2.data.toList.drop 68 = dktX5_leaf_2_3 := dk_seg dksX5_leaf_2_2 23 rfl rfl
theorem dksX5_leaf_2_4 : cX5_leaf_2.data.toList.drop 91 = dktX5_leaf_2_4 := dk_seg dksX5_leaf_2_3 23 rfl rfl
theorem dksX5_leaf_2_5 : cX5_leaf_2.data.toList.drop 113 = dktX5_leaf_2_5 := dk_seg dksX5_leaf_2_4 22 rfl rfl
theorem dX5_leaf_2_0 : decode cX5_leaf_2 0 = .ok (.aload_n 0, 1) := dk_42 (dk_at dksX5_leaf_2_0 0 rfl rfl)
theorem dX5_leaf_2_1 : decode cX5_leaf_2 1 = .ok (.iconst 0, 1) := dk_3 (dk_at dksX5_leaf_2_0 1 rfl rfl)
theorem dX5_leaf_2_2 : decode cX5_leaf_2 2 = .ok (.putfield 160, 3) := dk_181 0 160 (dk_at dksX5_leaf_2_0 2 rfl rfl)
theorem dX5_leaf_2_5 : decode cX5_leaf_2 5 = .ok (.iload_n 1, 1) := dk_27 (dk_at dksX5_leaf_2_0 5 rfl rfl)
theorem dX5_leaf_2_6 : decode cX5_leaf_2 6 = .ok (.iconst 0, 1) := dk_3 (dk_at dksX5_leaf_2_0 6 rfl rfl)
theorem dX5_leaf_2_7 : decode cX5_leaf_2 7 = .ok (.aload_n 0, 1) := dk_42 (dk_at dksX5_leaf_2_0 7 rfl rfl)
theorem dX5_leaf_2_8 : decode cX5_leaf_2 8 = .ok (.getfield 473, 3) := dk_180 1 217 (dk_at dksX5_leaf_2_0 8 rfl rfl)
theorem dX5_leaf_2_11 : decode cX5_leaf_2 11 = .ok (.iconst 1, 1) := dk_4 (dk_at dksX5_leaf_2_0 11 rfl rfl)
theorem dX5_leaf_2_12 : decode cX5_leaf_2 12 = .ok (.isub, 1) := dk_100 (dk_at dksX5_leaf_2_0 12 rfl rfl)
theorem dX5_leaf_2_13 : decode cX5_leaf_2 13 = .ok (.invokestatic 170, 3) := dk_184 0 170 (dk_at dksX5_leaf_2_0 13 rfl rfl)
theorem dX5_leaf_2_16 : decode cX5_leaf_2 16 = .ok (.ifCond .eq 12, 3) := dk_153 0 12 (dk_at dksX5_leaf_2_0 16 rfl rfl)
theorem dX5_leaf_2_19 : decode cX5_leaf_2 19 = .ok (.iload_n 2, 1) := dk_28 (dk_at dksX5_leaf_2_0 19 rfl rfl)
theorem dX5_leaf_2_20 : decode cX5_leaf_2 20 = .ok (.iconst 0, 1) := dk_3 (dk_at dksX5_leaf_2_0 20 rfl rfl)
theorem dX5_leaf_2_21 : decode cX5_leaf_2 21 = .ok (.iconst 3, 1) := dk_6 (dk_at dksX5_leaf_2_0 21 rfl rfl)
theorem dX5_leaf_2_22 : decode cX5_leaf_2 22 = .ok (.invokestatic 170, 3) := dk_184 0 170 (dk_at dksX5_leaf_2_1 0 rfl rfl)
theorem dX5_leaf_2_25 : decode cX5_leaf_2 25 = .ok (.ifCond .ne 5, 3) := dk_154 0 5 (dk_at dksX5_leaf_2_1 3 rfl rfl)
theorem dX5_leaf_2_28 : decode cX5_leaf_2 28 = .ok (.iconst (-1), 1) := dk_2 (dk_at dksX5_leaf_2_1 6 rfl rfl)
theorem dX5_leaf_2_29 : decode cX5_leaf_2 29 = .ok (.ireturn, 1) := dk_172 (dk_at dksX5_leaf_2_1 7 rfl rfl)
theorem dX5_leaf_2_30 : decode cX5_leaf_2 30 = .ok (.aload_n 0, 1) := dk_42 (dk_at dksX5_leaf_2_1 8 rfl rfl)
theorem dX5_leaf_2_31 : decode cX5_leaf_2 31 = .ok (.getfield 144, 3) := dk_180 0 144 (dk_at dksX5_leaf_2_1 9 rfl rfl)
theorem dX5_leaf_2_34 : decode cX5_leaf_2 34 = .ok (.iload_n 1, 1) := dk_27 (dk_at dksX5_leaf_2_1 12 rfl rfl)
theorem dX5_leaf_2_35 : decode cX5_leaf_2 35 = .ok (.iaload, 1) := dk_46 (dk_at dksX5_leaf_2_1 13 rfl rfl)
theorem dX5_leaf_2_36 : decode cX5_leaf_2 36 = .ok (.istore_n 3, 1) := dk_62 (dk_at dksX5_leaf_2_1 14 rfl rfl)
theorem dX5_leaf_2_37 : decode cX5_leaf_2 37 = .ok (.iload_n 2, 1) := dk_28 (dk_at dksX5_leaf_2_1 15 rfl rfl)
theorem dX5_leaf_2_38 : decode cX5_leaf_2 38 = .ok (.ifCond .ne 18, 3) := dk_154 0 18 (dk_at dksX5_leaf_2_1 16 rfl rfl)
theorem dX5_leaf_2_41 : decode cX5_leaf_2 41 = .ok (.aload_n 0, 1) := dk_42 (dk_at dksX5_leaf_2_1 19 rfl rfl)
theorem dX5_leaf_2_42 : decode cX5_leaf_2 42 = .ok (.getfield 65, 3) := dk_180 0 65 (dk_at dksX5_leaf_2_1 20 rfl rfl)
theorem dX5_leaf_2_45 : decode cX5_leaf_2 45 = .ok (.bipush 40, 2) := dk_16 40 (dk_at dksX5_leaf_2_2 0 rfl rfl)
theorem dX5_leaf_2_47 : decode cX5_leaf_2 47 = .ok (.aload_n 0, 1) := dk_42 (dk_at dksX5_leaf_2_2 2 rfl rfl)
theorem dX5_leaf_2_48 : decode cX5_leaf_2 48 = .ok (.getfield 400, 3) := dk_180 1 144 (dk_at dksX5_leaf_2_2 3 rfl rfl)
theorem dX5_leaf_2_51 : decode cX5_leaf_2 51 = .ok (.imul, 1) := dk_104 (dk_at dksX5_leaf_2_2 6 rfl rfl)
theorem dX5_leaf_2_52 : decode cX5_leaf_2 52 = .ok (.iload_n 3, 1) := dk_29 (dk_at dksX5_leaf_2_2 7 rfl rfl)
theorem dX5_leaf_2_53 : decode cX5_leaf_2 53 = .ok (.iadd, 1) := dk_96 (dk_at dksX5_leaf_2_2 8 rfl rfl)
theorem dX5_leaf_2_54 : decode cX5_leaf_2 54 = .ok (.iaload, 1) := dk_46 (dk_at dksX5_leaf_2_2 9 rfl rfl)
theorem dX5_leaf_2_55 : decode cX5_leaf_2 55 = .ok (.ireturn, 1) := dk_172 (dk_at dksX5_leaf_2_2 10 rfl rfl)
theorem dX5_leaf_2_56 : decode cX5_leaf_2 56 = .ok (.iload_n 2, 1) := dk_28 (dk_at dksX5_leaf_2_2 11 rfl rfl)
theorem dX5_leaf_2_57 : decode cX5_leaf_2 57 = .ok (.iconst 1, 1) := dk_4 (dk_at dksX5_leaf_2_2 12 rfl rfl)
theorem dX5_leaf_2_58 : decode cX5_leaf_2 58 = .ok (.if_icmp .ne 18, 3) := dk_160 0 18 (dk_at dksX5_leaf_2_2 13 rfl rfl)
theorem dX5_leaf_2_61 : decode cX5_leaf_2 61 = .ok (.aload_n 0, 1) := dk_42 (dk_at dksX5_leaf_2_2 16 rfl rfl)
theorem dX5_leaf_2_62 : decode cX5_leaf_2 62 = .ok (.getfield 77, 3) := dk_180 0 77 (dk_at dksX5_leaf_2_2 17 rfl rfl)
theorem dX5_leaf_2_65 : decode cX5_leaf_2 65 = .ok (.bipush 40, 2) := dk_16 40 (dk_at dksX5_leaf_2_2 20 rfl rfl)
theorem dX5_leaf_2_67 : decode cX5_leaf_2 67 = .ok (.aload_n 0, 1) := dk_42 (dk_at dksX5_leaf_2_2 22 rfl rfl)
theorem dX5_leaf_2_68 : decode cX5_leaf_2 68 = .ok (.getfield 400, 3) := dk_180 1 144 (dk_at dksX5_leaf_2_3 0 rfl rfl)
theorem dX5_leaf_2_71 : decode cX5_leaf_2 71 = .ok (.imul, 1) := dk_104 (dk_at dksX5_leaf_2_3 3 rfl rfl)
theorem dX5_leaf_2_72 : decode cX5_leaf_2 72 = .ok (.iload_n 3, 1) := dk_29 (dk_at dksX5_leaf_2_3 4 rfl rfl)
theorem dX5_leaf_2_73 : decode cX5_leaf_2 73 = .ok (.iadd, 1) := dk_96 (dk_at dksX5_leaf_2_3 5 rfl rfl)
theorem dX5_leaf_2_74 : decode cX5_leaf_2 74 = .ok (.iaload, 1) := dk_46 (dk_at dksX5_leaf_2_3 6 rfl rfl)
theorem dX5_leaf_2_75 : decode cX5_leaf_2 75 = .ok (.ireturn, 1) := dk_172 (dk_at dksX5_leaf_2_3 7 rfl rfl)
theorem dX5_leaf_2_76 : decode cX5_leaf_2 76 = .ok (.iload_n 2, 1) := dk_28 (dk_at dksX5_leaf_2_3 8 rfl rfl)
theorem dX5_leaf_2_77 : decode cX5_leaf_2 77 = .ok (.iconst 2, 1) := dk_5 (dk_at dksX5_leaf_2_3 9 rfl rfl)
theorem dX5_leaf_2_78 : decode cX5_leaf_2 78 = .ok (.if_icmp .ne 18, 3) := dk_160 0 18 (dk_at dksX5_leaf_2_3 10 rfl rfl)
theorem dX5_leaf_2_81 : decode cX5_leaf_2 81 = .ok (.aload_n 0, 1) := dk_42 (dk_at dksX5_leaf_2_3 13 rfl rfl)
theorem dX5_leaf_2_82 : decode cX5_leaf_2 82 = .ok (.getfield 147, 3) := dk_180 0 147 (dk_at dksX5_leaf_2_3 14 rfl rfl)
theorem dX5_leaf_2_85 : decode cX5_leaf_2 85 = .ok (.iload_n 3, 1) := dk_29 (dk_at dksX5_leaf_2_3 17 rfl rfl)
theorem dX5_leaf_2_86 : decode cX5_leaf_2 86 = .ok (.baload, 1) := dk_51 (dk_at dksX5_leaf_2_3 18 rfl rfl)
theorem dX5_leaf_2_87 : decode cX5_leaf_2 87 = .ok (.ifCond .eq 7, 3) := dk_153 0 7 (dk_at dksX5_leaf_2_3 19 rfl rfl)
theorem dX5_leaf_2_90 : decode cX5_leaf_2 90 = .ok (.iconst 0, 1) := dk_3 (dk_at dksX5_leaf_2_3 22 rfl rfl)
theorem dX5_leaf_2_91 : decode cX5_leaf_2 91 = .ok (.goto 4, 3) := dk_167 0 4 (dk_at dksX5_leaf_2_4 0 rfl rfl)
theorem dX5_leaf_2_94 : decode cX5_leaf_2 94 = .ok (.iconst 1, 1) := dk_4 (dk_at dksX5_leaf_2_4 3 rfl rfl)
theorem dX5_leaf_2_95 : decode cX5_leaf_2 95 = .ok (.ireturn, 1) := dk_172 (dk_at dksX5_leaf_2_4 4 rfl rfl)
theorem dX5_leaf_2_96 : decode cX5_leaf_2 96 = .ok (.iconst 0, 1) := dk_3 (dk_at dksX5_leaf_2_4 5 rfl rfl)
theorem dX5_leaf_2_97 : decode cX5_leaf_2 97 = .ok (.istore 4, 2) := dk_54 4 (dk_at dksX5_leaf_2_4 6 rfl rfl)
theorem dX5_leaf_2_99 : decode cX5_leaf_2 99 = .ok (.iconst 0, 1) := dk_3 (dk_at dksX5_leaf_2_4 8 rfl rfl)
theorem dX5_leaf_2_100 : decode cX5_leaf_2 100 = .ok (.istore 5, 2) := dk_54 5 (dk_at dksX5_leaf_2_4 9 rfl rfl)
theorem dX5_leaf_2_102 : decode cX5_leaf_2 102 = .ok (.iload 5, 2) := dk_21 5 (dk_at dksX5_leaf_2_4 11 rfl rfl)
theorem dX5_leaf_2_104 : decode cX5_leaf_2 104 = .ok (.aload_n 0, 1) := dk_42 (dk_at dksX5_leaf_2_4 13 rfl rfl)
theorem dX5_leaf_2_105 : decode cX5_leaf_2 105 = .ok (.getfield 406, 3) := dk_180 1 150 (dk_at dksX5_leaf_2_4 14 rfl rfl)
theorem dX5_leaf_2_108 : decode cX5_leaf_2 108 = .ok (.if_icmp .ge 26, 3) := dk_162 0 26 (dk_at dksX5_leaf_2_4 17 rfl rfl)
theorem dX5_leaf_2_111 : decode cX5_leaf_2 111 = .ok (.aload_n 0, 1) := dk_42 (dk_at dksX5_leaf_2_4 20 rfl rfl)
theorem dX5_leaf_2_112 : decode cX5_leaf_2 112 = .ok (.aload_n 0, 1) := dk_42 (dk_at dksX5_leaf_2_4 21 rfl rfl)
theorem dX5_leaf_2_113 : decode cX5_leaf_2 113 = .ok (.getfield 400, 3) := dk_180 1 144 (dk_at dksX5_leaf_2_5 0 rfl rfl)
theorem dX5_leaf_2_116 : decode cX5_leaf_2 116 = .ok (.iload 5, 2) := dk_21 5 (dk_at dksX5_leaf_2_5 3 rfl rfl)
theorem dX5_leaf_2_118 : decode cX5_leaf_2 118 = .ok (.invokevirtual 467, 3) := dk_182 1 211 (dk_at dksX5_leaf_2_5 5 rfl rfl)
theorem dX5_leaf_2_121 : decode cX5_leaf_2 121 = .ok (.iload_n 3, 1) := dk_29 (dk_at dksX5_leaf_2_5 8 rfl rfl)
theorem dX5_leaf_2_122 : decode cX5_leaf_2 122 = .ok (.if_icmp .ne 6, 3) := dk_160 0 6 (dk_at dksX5_leaf_2_5 9 rfl rfl)
theorem dX5_leaf_2_125 : decode cX5_leaf_2 125 = .ok (.iinc 4 1, 3) := dk_132 4 1 (dk_at dksX5_leaf_2_5 12 rfl rfl)
theorem dX5_leaf_2_128 : decode cX5_leaf_2 128 = .ok (.iinc 5 1, 3) := dk_132 5 1 (dk_at dksX5_leaf_2_5 15 rfl rfl)
theorem dX5_leaf_2_131 : decode cX5_leaf_2 131 = .ok (.goto (-29), 3) := dk_167 255 227 (dk_at dksX5_leaf_2_5 18 rfl rfl)
theorem dX5_leaf_2_134 : decode cX5_leaf_2 134 = .ok (.iload 4, 2) := dk_21 4 (dk_at dksX5_leaf_2_5 21 rfl rfl)
theorem dX5_leaf_2_136 : decode cX5_leaf_2 136 = .ok (.ireturn, 1) := dk_172 (dk_at dksX5_leaf_2_5 23 rfl rfl)
abbrev cX5_keep : ByteArray := prog_20_method_93_code
def yX5_keep : MethodName := ⟨RX5, "keep", "()I"⟩
def dkwX5_keep_1 : List UInt8 := [180, 1, 144, 182, 1, 109, 172]
abbrev dktX5_keep_1 : List UInt8 := dkwX5_keep_1 ++ []
def dkwX5_keep_0 : List UInt8 := [42, 3, 181, 0, 160, 42, 42, 180, 1, 144, 42, 180, 0, 92, 182, 1, 248, 42, 4, 181, 1, 251, 42, 42]
abbrev dktX5_keep_0 : List UInt8 := dkwX5_keep_0 ++ dktX5_keep_1
theorem dksX5_keep_0 : cX5_keep.data.toList.drop 0 = dktX5_keep_0 := by decide +kernel
theorem dksX5_keep_1 : cX5_keep.data.toList.drop 24 = dktX5_keep_1 := dk_seg dksX5_keep_0 24 rfl rfl
theorem dX5_keep_0 : decode cX5_keep 0 = .ok (.aload_n 0, 1) := dk_42 (dk_at dksX5_keep_0 0 rfl rfl)
theorem dX5_keep_1 : decode cX5_keep 1 = .ok (.iconst 0, 1) := dk_3 (dk_at dksX5_keep_0 1 rfl rfl)
theorem dX5_keep_2 : decode cX5_keep 2 = .ok (.putfield 160, 3) := dk_181 0 160 (dk_at dksX5_keep_0 2 rfl rfl)
theorem dX5_keep_5 : decode cX5_keep 5 = .ok (.aload_n 0, 1) := dk_42 (dk_at dksX5_keep_0 5 rfl rfl)
theorem dX5_keep_6 : decode cX5_keep 6 = .ok (.aload_n 0, 1) := dk_42 (dk_at dksX5_keep_0 6 rfl rfl)
theorem dX5_keep_7 : decode cX5_keep 7 = .ok (.getfield 400, 3) := dk_180 1 144 (dk_at dksX5_keep_0 7 rfl rfl)
theorem dX5_keep_10 : decode cX5_keep 10 = .ok (.aload_n 0, 1) := dk_42 (dk_at dksX5_keep_0 10 rfl rfl)
theorem dX5_keep_11 : decode cX5_keep 11 = .ok (.getfield 92, 3) := dk_180 0 92 (dk_at dksX5_keep_0 11 rfl rfl)
theorem dX5_keep_14 : decode cX5_keep 14 = .ok (.invokevirtual 504, 3) := dk_182 1 248 (dk_at dksX5_keep_0 14 rfl rfl)
theorem dX5_keep_17 : decode cX5_keep 17 = .ok (.aload_n 0, 1) := dk_42 (dk_at dksX5_keep_0 17 rfl rfl)
theorem dX5_keep_18 : decode cX5_keep 18 = .ok (.iconst 1, 1) := dk_4 (dk_at dksX5_keep_0 18 rfl rfl)
theorem dX5_keep_19 : decode cX5_keep 19 = .ok (.putfield 507, 3) := dk_181 1 251 (dk_at dksX5_keep_0 19 rfl rfl)
theorem dX5_keep_22 : decode cX5_keep 22 = .ok (.aload_n 0, 1) := dk_42 (dk_at dksX5_keep_0 22 rfl rfl)
theorem dX5_keep_23 : decode cX5_keep 23 = .ok (.aload_n 0, 1) := dk_42 (dk_at dksX5_keep_0 23 rfl rfl)
theorem dX5_keep_24 : decode cX5_keep 24 = .ok (.getfield 400, 3) := dk_180 1 144 (dk_at dksX5_keep_1 0 rfl rfl)
theorem dX5_keep_27 : decode cX5_keep 27 = .ok (.invokevirtual 365, 3) := dk_182 1 109 (dk_at dksX5_keep_1 3 rfl rfl)
theorem dX5_keep_30 : decode cX5_keep 30 = .ok (.ireturn, 1) := dk_172 (dk_at dksX5_keep_1 6 rfl rfl)
abbrev cX5_copies : ByteArray := prog_20_method_92_code
def yX5_copies : MethodName := ⟨RX5, "copies", "(II)V"⟩
def dkwX5_copies_29 : List UInt8 := [180, 0, 89, 17, 1, 144, 27, 104, 29, 96, 46, 79, 132, 3, 1, 167, 255, 150, 177]
abbrev dktX5_copies_29 : List UInt8 := dkwX5_copies_29 ++ []
def dkwX5_copies_28 : List UInt8 := [180, 0, 86, 17, 1, 144, 27, 104, 29, 96, 46, 79, 42, 180, 0, 89, 17, 1, 144, 28, 104, 29, 96, 42]
abbrev dktX5_copies_28 : List UInt8 := dkwX5_copies_28 ++ dktX5_copies_29
def dkwX5_copies_27 : List UInt8 := [180, 0, 83, 17, 1, 144, 27, 104, 29, 96, 46, 79, 42, 180, 0, 86, 17, 1, 144, 28, 104, 29, 96, 42]
abbrev dktX5_copies_27 : List UInt8 := dkwX5_copies_27 ++ dktX5_copies_28
def dkwX5_copies_26 : List UInt8 := [180, 0, 80, 17, 1, 144, 27, 104, 29, 96, 46, 79, 42, 180, 0, 83, 17, 1, 144, 28, 104, 29, 96, 42]
abbrev dktX5_copies_26 : List UInt8 := dkwX5_copies_26 ++ dktX5_copies_27
def dkwX5_copies_25 : List UInt8 := [167, 255, 137, 3, 62, 29, 17, 1, 144, 162, 0, 105, 42, 180, 0, 80, 17, 1, 144, 28, 104, 29, 96, 42]
abbrev dktX5_copies_25 : List UInt8 := dkwX5_copies_25 ++ dktX5_copies_26
def dkwX5_copies_24 : List UInt8 := [180, 0, 77, 16, 40, 28, 104, 29, 96, 42, 180, 0, 77, 16, 40, 27, 104, 29, 96, 46, 79, 132, 3, 1]
abbrev dktX5_copies_24 : List UInt8 := dkwX5_copies_24 ++ dktX5_copies_25
def dkwX5_copies_23 : List UInt8 := [180, 0, 74, 16, 40, 28, 104, 29, 96, 42, 180, 0, 74, 16, 40, 27, 104, 29, 96, 46, 79, 42]
abbrev dktX5_copies_23 : List UInt8 := dkwX5_copies_23 ++ dktX5_copies_24
def dkwX5_copies_22 : List UInt8 := [180, 0, 71, 16, 40, 28, 104, 29, 96, 42, 180, 0, 71, 16, 40, 27, 104, 29, 96, 46, 79, 42]
abbrev dktX5_copies_22 : List UInt8 := dkwX5_copies_22 ++ dktX5_copies_23
def dkwX5_copies_21 : List UInt8 := [79, 42, 180, 0, 68, 16, 40, 28, 104, 29, 96, 42, 180, 0, 68, 16, 40, 27, 104, 29, 96, 46, 79, 42]
abbrev dktX5_copies_21 : List UInt8 := dkwX5_copies_21 ++ dktX5_copies_22
def dkwX5_copies_20 : List UInt8 := [162, 0, 119, 42, 180, 0, 65, 16, 40, 28, 104, 29, 96, 42, 180, 0, 65, 16, 40, 27, 104, 29, 96, 46]
abbrev dktX5_copies_20 : List UInt8 := dkwX5_copies_20 ++ dktX5_copies_21
def dkwX5_copies_19 : List UInt8 := [180, 0, 62, 16, 16, 27, 104, 29, 96, 46, 79, 132, 3, 1, 167, 255, 203, 3, 62, 29, 16, 40]
abbrev dktX5_copies_19 : List UInt8 := dkwX5_copies_19 ++ dktX5_copies_20
def dkwX5_copies_18 : List UInt8 := [42, 180, 0, 59, 16, 16, 27, 104, 29, 96, 47, 80, 42, 180, 0, 62, 16, 16, 28, 104, 29, 96, 42]
abbrev dktX5_copies_18 : List UInt8 := dkwX5_copies_18 ++ dktX5_copies_19
def dkwX5_copies_17 : List UInt8 := [132, 3, 1, 167, 255, 203, 3, 62, 29, 16, 16, 162, 0, 53, 42, 180, 0, 59, 16, 16, 28, 104, 29, 96]
abbrev dktX5_copies_17 : List UInt8 := dkwX5_copies_17 ++ dktX5_copies_18
def dkwX5_copies_16 : List UInt8 := [79, 42, 180, 0, 56, 16, 30, 28, 104, 29, 96, 42, 180, 0, 56, 16, 30, 27, 104, 29, 96, 46, 79]
abbrev dktX5_copies_16 : List UInt8 := dkwX5_copies_16 ++ dktX5_copies_17
def dkwX5_copies_15 : List UInt8 := [162, 0, 53, 42, 180, 0, 53, 16, 30, 28, 104, 29, 96, 42, 180, 0, 53, 16, 30, 27, 104, 29, 96, 46]
abbrev dktX5_copies_15 : List UInt8 := dkwX5_copies_15 ++ dktX5_copies_16
def dkwX5_copies_14 : List UInt8 := [180, 0, 50, 16, 10, 27, 104, 29, 96, 46, 79, 132, 3, 1, 167, 255, 93, 3, 62, 29, 16, 30]
abbrev dktX5_copies_14 : List UInt8 := dkwX5_copies_14 ++ dktX5_copies_15
def dkwX5_copies_13 : List UInt8 := [180, 0, 47, 16, 10, 27, 104, 29, 96, 46, 79, 42, 180, 0, 50, 16, 10, 28, 104, 29, 96, 42]
abbrev dktX5_copies_13 : List UInt8 := dkwX5_copies_13 ++ dktX5_copies_14
def dkwX5_copies_12 : List UInt8 := [180, 0, 44, 16, 10, 27, 104, 29, 96, 46, 79, 42, 180, 0, 47, 16, 10, 28, 104, 29, 96, 42]
abbrev dktX5_copies_12 : List UInt8 := dkwX5_copies_12 ++ dktX5_copies_13
def dkwX5_copies_11 : List UInt8 := [180, 0, 41, 16, 10, 27, 104, 29, 96, 46, 79, 42, 180, 0, 44, 16, 10, 28, 104, 29, 96, 42]
abbrev dktX5_copies_11 : List UInt8 := dkwX5_copies_11 ++ dktX5_copies_12
def dkwX5_copies_10 : List UInt8 := [180, 0, 38, 16, 10, 27, 104, 29, 96, 46, 79, 42, 180, 0, 41, 16, 10, 28, 104, 29, 96, 42]
abbrev dktX5_copies_10 : List UInt8 := dkwX5_copies_10 ++ dktX5_copies_11
def dkwX5_copies_9 : List UInt8 := [180, 0, 35, 16, 10, 27, 104, 29, 96, 46, 79, 42, 180, 0, 38, 16, 10, 28, 104, 29, 96, 42]
abbrev dktX5_copies_9 : List UInt8 := dkwX5_copies_9 ++ dktX5_copies_10
def dkwX5_copies_8 : List UInt8 := [96, 42, 180, 0, 32, 16, 10, 27, 104, 29, 96, 46, 79, 42, 180, 0, 35, 16, 10, 28, 104, 29, 96, 42]
abbrev dktX5_copies_8 : List UInt8 := dkwX5_copies_8 ++ dktX5_copies_9
def dkwX5_copies_7 : List UInt8 := [79, 132, 3, 1, 167, 255, 203, 3, 62, 29, 16, 10, 162, 0, 163, 42, 180, 0, 32, 16, 10, 28, 104, 29]
abbrev dktX5_copies_7 : List UInt8 := dkwX5_copies_7 ++ dktX5_copies_8
def dkwX5_copies_6 : List UInt8 := [96, 46, 79, 42, 180, 0, 26, 16, 18, 28, 104, 29, 96, 42, 180, 0, 26, 16, 18, 27, 104, 29, 96, 46]
abbrev dktX5_copies_6 : List UInt8 := dkwX5_copies_6 ++ dktX5_copies_7
def dkwX5_copies_5 : List UInt8 := [16, 18, 162, 0, 53, 42, 180, 0, 23, 16, 18, 28, 104, 29, 96, 42, 180, 0, 23, 16, 18, 27, 104, 29]
abbrev dktX5_copies_5 : List UInt8 := dkwX5_copies_5 ++ dktX5_copies_6
def dkwX5_copies_4 : List UInt8 := [29, 96, 42, 180, 0, 29, 16, 6, 27, 104, 29, 96, 46, 79, 132, 3, 1, 167, 255, 181, 3, 62, 29]
abbrev dktX5_copies_4 : List UInt8 := dkwX5_copies_4 ++ dktX5_copies_5
def dkwX5_copies_3 : List UInt8 := [28, 104, 29, 96, 42, 180, 0, 20, 16, 6, 27, 104, 29, 96, 46, 79, 42, 180, 0, 29, 16, 6, 28, 104]
abbrev dktX5_copies_3 : List UInt8 := dkwX5_copies_3 ++ dktX5_copies_4
def dkwX5_copies_2 : List UInt8 := [16, 6, 28, 104, 29, 96, 42, 180, 0, 16, 16, 6, 27, 104, 29, 96, 47, 80, 42, 180, 0, 20, 16, 6]
abbrev dktX5_copies_2 : List UInt8 := dkwX5_copies_2 ++ dktX5_copies_3
def dkwX5_copies_1 : List UInt8 := [27, 104, 29, 96, 46, 79, 132, 3, 1, 167, 255, 225, 3, 62, 29, 16, 6, 162, 0, 75, 42, 180, 0, 16]
abbrev dktX5_copies_1 : List UInt8 := dkwX5_copies_1 ++ dktX5_copies_2
def dkwX5_copies_0 : List UInt8 := [3, 62, 29, 16, 7, 162, 0, 31, 42, 180, 0, 13, 16, 7, 28, 104, 29, 96, 42, 180, 0, 13, 16, 7]
abbrev dktX5_copies_0 : List UInt8 := dkwX5_copies_0 ++ dktX5_copies_1
theorem dksX5_copies_0 : cX5_copies.data.toList.drop 0 = dktX5_copies_0 := by decide +kernel
theorem dksX5_copies_1 : cX5_copies.data.toList.drop 24 = dktX5_copies_1 := dk_seg dksX5_copies_0 24 rfl rfl
theorem dksX5_copies_2 : cX5_copies.data.toList.drop 48 = dktX5_copies_2 := dk_seg dksX5_copies_1 24 rfl rfl
theorem dksX5_copies_3 : cX5_copies.data.toList.drop 72 = dktX5_copies_3 := dk_seg dksX5_copies_2 24 rfl rfl
theorem dksX5_copies_4 : cX5_copies.data.toList.drop 96 = dktX5_copies_4 := dk_seg dksX5_copies_3 24 rfl rfl
theorem dksX5_copies_5 : cX5_copies.data.toList.drop 119 = dktX5_copies_5 := dk_seg dksX5_copies_4 23 rfl rfl
theorem dksX5_copies_6 : cX5_copies.data.toList.drop 143 = dktX5_copies_6 := dk_seg dksX5_copies_5 24 rfl rfl
theorem dksX5_copies_7 : cX5_copies.data.toList.drop 167 = dktX5_copies_7 := dk_seg dksX5_copies_6 24 rfl rfl
theorem dksX5_copies_8 : cX5_copies.data.toList.drop 191 = dktX5_copies_8 := dk_seg dksX5_copies_7 24 rfl rfl
theorem dksX5_copies_9 : cX5_copies.data.toList.drop 215 = dktX5_copies_9 := dk_seg dksX5_copies_8 24 rfl rfl
theorem dksX5_copies_10 : cX5_copies.data.toList.drop 237 = dktX5_copies_10 := dk_seg dksX5_copies_9 22 rfl rfl
theorem dksX5_copies_11 : cX5_copies.data.toList.drop 259 = dktX5_copies_11 := dk_seg dksX5_copies_10 22 rfl rfl
theorem dksX5_copies_12 : cX5_copies.data.toList.drop 281 = dktX5_copies_12 := dk_seg dksX5_copies_11 22 rfl rfl
theorem dksX5_copies_13 : cX5_copies.data.toList.drop 303 = dktX5_copies_13 := dk_seg dksX5_copies_12 22 rfl rfl
theorem dksX5_copies_14 : cX5_copies.data.toList.drop 325 = dktX5_copies_14 := dk_seg dksX5_copies_13 22 rfl rfl
theorem dksX5_copies_15 : cX5_copies.data.toList.drop 347 = dktX5_copies_15 := dk_seg dksX5_copies_14 22 rfl rfl
theorem dksX5_copies_16 : cX5_copies.data.toList.drop 371 = dktX5_copies_16 := dk_seg dksX5_copies_15 24 rfl rfl
theorem dksX5_copies_17 : cX5_copies.data.toList.drop 394 = dktX5_copies_17 := dk_seg dksX5_copies_16 23 rfl rfl
theorem dksX5_copies_18 : cX5_copies.data.toList.drop 418 = dktX5_copies_18 := dk_seg dksX5_copies_17 24 rfl rfl
theorem dksX5_copies_19 : cX5_copies.data.toList.drop 441 = dktX5_copies_19 := dk_seg dksX5_copies_18 23 rfl rfl
theorem dksX5_copies_20 : cX5_copies.data.toList.drop 463 = dktX5_copies_20 := dk_seg dksX5_copies_19 22 rfl rfl
theorem dksX5_copies_21 : cX5_copies.data.toList.drop 487 = dktX5_copies_21 := dk_seg dksX5_copies_20 24 rfl rfl
theorem dksX5_copies_22 : cX5_copies.data.toList.drop 511 = dktX5_copies_22 := dk_seg dksX5_copies_21 24 rfl rfl
theorem dksX5_copies_23 : cX5_copies.data.toList.drop 533 = dktX5_copies_23 := dk_seg dksX5_copies_22 22 rfl rfl
theorem dksX5_copies_24 : cX5_copies.data.toList.drop 555 = dktX5_copies_24 := dk_seg dksX5_copies_23 22 rfl rfl
theorem dksX5_copies_25 : cX5_copies.data.toList.drop 579 = dktX5_copies_25 := dk_seg dksX5_copies_24 24 rfl rfl
theorem dksX5_copies_26 : cX5_copies.data.toList.drop 603 = dktX5_copies_26 := dk_seg dksX5_copies_25 24 rfl rfl
theorem dksX5_copies_27 : cX5_copies.data.toList.drop 627 = dktX5_copies_27 := dk_seg dksX5_copies_26 24 rfl rfl
theorem dksX5_copies_28 : cX5_copies.data.toList.drop 651 = dktX5_copies_28 := dk_seg dksX5_copies_27 24 rfl rfl
theorem dksX5_copies_29 : cX5_copies.data.toList.drop 675 = dktX5_copies_29 := dk_seg dksX5_copies_28 24 rfl rfl
theorem dX5_copies_0 : decode cX5_copies 0 = .ok (.iconst 0, 1) := dk_3 (dk_at dksX5_copies_0 0 rfl rfl)
theorem dX5_copies_1 : decode cX5_copies 1 = .ok (.istore_n 3, 1) := dk_62 (dk_at dksX5_copies_0 1 rfl rfl)
theorem dX5_copies_2 : decode cX5_copies 2 = .ok (.iload_n 3, 1) := dk_29 (dk_at dksX5_copies_0 2 rfl rfl)
theorem dX5_copies_3 : decode cX5_copies 3 = .ok (.bipush 7, 2) := dk_16 7 (dk_at dksX5_copies_0 3 rfl rfl)
theorem dX5_copies_5 : decode cX5_copies 5 = .ok (.if_icmp .ge 31, 3) := dk_162 0 31 (dk_at dksX5_copies_0 5 rfl rfl)
theorem dX5_copies_8 : decode cX5_copies 8 = .ok (.aload_n 0, 1) := dk_42 (dk_at dksX5_copies_0 8 rfl rfl)
theorem dX5_copies_9 : decode cX5_copies 9 = .ok (.getfield 13, 3) := dk_180 0 13 (dk_at dksX5_copies_0 9 rfl rfl)
theorem dX5_copies_12 : decode cX5_copies 12 = .ok (.bipush 7, 2) := dk_16 7 (dk_at dksX5_copies_0 12 rfl rfl)
theorem dX5_copies_14 : decode cX5_copies 14 = .ok (.iload_n 2, 1) := dk_28 (dk_at dksX5_copies_0 14 rfl rfl)
theorem dX5_copies_15 : decode cX5_copies 15 = .ok (.imul, 1) := dk_104 (dk_at dksX5_copies_0 15 rfl rfl)
theorem dX5_copies_16 : decode cX5_copies 16 = .ok (.iload_n 3, 1) := dk_29 (dk_at dksX5_copies_0 16 rfl rfl)
theorem dX5_copies_17 : decode cX5_copies 17 = .ok (.iadd, 1) := dk_96 (dk_at dksX5_copies_0 17 rfl rfl)
theorem dX5_copies_18 : decode cX5_copies 18 = .ok (.aload_n 0, 1) := dk_42 (dk_at dksX5_copies_0 18 rfl rfl)
theorem dX5_copies_19 : decode cX5_copies 19 = .ok (.getfield 13, 3) := dk_180 0 13 (dk_at dksX5_copies_0 19 rfl rfl)
theorem dX5_copies_22 : decode cX5_copies 22 = .ok (.bipush 7, 2) := dk_16 7 (dk_at dksX5_copies_0 22 rfl rfl)
theorem dX5_copies_24 : decode cX5_copies 24 = .ok (.iload_n 1, 1) := dk_27 (dk_at dksX5_copies_1 0 rfl rfl)
theorem dX5_copies_25 : decode cX5_copies 25 = .ok (.imul, 1) := dk_104 (dk_at dksX5_copies_1 1 rfl rfl)
theorem dX5_copies_26 : decode cX5_copies 26 = .ok (.iload_n 3, 1) := dk_29 (dk_at dksX5_copies_1 2 rfl rfl)
theorem dX5_copies_27 : decode cX5_copies 27 = .ok (.iadd, 1) := dk_96 (dk_at dksX5_copies_1 3 rfl rfl)
theorem dX5_copies_28 : decode cX5_copies 28 = .ok (.iaload, 1) := dk_46 (dk_at dksX5_copies_1 4 rfl rfl)
theorem dX5_copies_29 : decode cX5_copies 29 = .ok (.iastore, 1) := dk_79 (dk_at dksX5_copies_1 5 rfl rfl)
theorem dX5_copies_30 : decode cX5_copies 30 = .ok (.iinc 3 1, 3) := dk_132 3 1 (dk_at dksX5_copies_1 6 rfl rfl)
theorem dX5_copies_33 : decode cX5_copies 33 = .ok (.goto (-31), 3) := dk_167 255 225 (dk_at dksX5_copies_1 9 rfl rfl)
theorem dX5_copies_36 : decode cX5_copies 36 = .ok (.iconst 0, 1) := dk_3 (dk_at dksX5_copies_1 12 rfl rfl)
theorem dX5_copies_37 : decode cX5_copies 37 = .ok (.istore_n 3, 1) := dk_62 (dk_at dksX5_copies_1 13 rfl rfl)
theorem dX5_copies_38 : decode cX5_copies 38 = .ok (.iload_n 3, 1) := dk_29 (dk_at dksX5_copies_1 14 rfl rfl)
theorem dX5_copies_39 : decode cX5_copies 39 = .ok (.bipush 6, 2) := dk_16 6 (dk_at dksX5_copies_1 15 rfl rfl)
theorem dX5_copies_41 : decode cX5_copies 41 = .ok (.if_icmp .ge 75, 3) := dk_162 0 75 (dk_at dksX5_copies_1 17 rfl rfl)
theorem dX5_copies_44 : decode cX5_copies 44 = .ok (.aload_n 0, 1) := dk_42 (dk_at dksX5_copies_1 20 rfl rfl)
theorem dX5_copies_45 : decode cX5_copies 45 = .ok (.getfield 16, 3) := dk_180 0 16 (dk_at dksX5_copies_1 21 rfl rfl)
theorem dX5_copies_48 : decode cX5_copies 48 = .ok (.bipush 6, 2) := dk_16 6 (dk_at dksX5_copies_2 0 rfl rfl)
theorem dX5_copies_50 : decode cX5_copies 50 = .ok (.iload_n 2, 1) := dk_28 (dk_at dksX5_copies_2 2 rfl rfl)
theorem dX5_copies_51 : decode cX5_copies 51 = .ok (.imul, 1) := dk_104 (dk_at dksX5_copies_2 3 rfl rfl)
theorem dX5_copies_52 : decode cX5_copies 52 = .ok (.iload_n 3, 1) := dk_29 (dk_at dksX5_copies_2 4 rfl rfl)
theorem dX5_copies_53 : decode cX5_copies 53 = .ok (.iadd, 1) := dk_96 (dk_at dksX5_copies_2 5 rfl rfl)
theorem dX5_copies_54 : decode cX5_copies 54 = .ok (.aload_n 0, 1) := dk_42 (dk_at dksX5_copies_2 6 rfl rfl)
theorem dX5_copies_55 : decode cX5_copies 55 = .ok (.getfield 16, 3) := dk_180 0 16 (dk_at dksX5_copies_2 7 rfl rfl)
theorem dX5_copies_58 : decode cX5_copies 58 = .ok (.bipush 6, 2) := dk_16 6 (dk_at dksX5_copies_2 10 rfl rfl)
theorem dX5_copies_60 : decode cX5_copies 60 = .ok (.iload_n 1, 1) := dk_27 (dk_at dksX5_copies_2 12 rfl rfl)
theorem dX5_copies_61 : decode cX5_copies 61 = .ok (.imul, 1) := dk_104 (dk_at dksX5_copies_2 13 rfl rfl)
theorem dX5_copies_62 : decode cX5_copies 62 = .ok (.iload_n 3, 1) := dk_29 (dk_at dksX5_copies_2 14 rfl rfl)
theorem dX5_copies_63 : decode cX5_copies 63 = .ok (.iadd, 1) := dk_96 (dk_at dksX5_copies_2 15 rfl rfl)
theorem dX5_copies_64 : decode cX5_copies 64 = .ok (.laload, 1) := dk_47 (dk_at dksX5_copies_2 16 rfl rfl)
theorem dX5_copies_65 : decode cX5_copies 65 = .ok (.lastore, 1) := dk_80 (dk_at dksX5_copies_2 17 rfl rfl)
theorem dX5_copies_66 : decode cX5_copies 66 = .ok (.aload_n 0, 1) := dk_42 (dk_at dksX5_copies_2 18 rfl rfl)
theorem dX5_copies_67 : decode cX5_copies 67 = .ok (.getfield 20, 3) := dk_180 0 20 (dk_at dksX5_copies_2 19 rfl rfl)
theorem dX5_copies_70 : decode cX5_copies 70 = .ok (.bipush 6, 2) := dk_16 6 (dk_at dksX5_copies_2 22 rfl rfl)
theorem dX5_copies_72 : decode cX5_copies 72 = .ok (.iload_n 2, 1) := dk_28 (dk_at dksX5_copies_3 0 rfl rfl)
theorem dX5_copies_73 : decode cX5_copies 73 = .ok (.imul, 1) := dk_104 (dk_at dksX5_copies_3 1 rfl rfl)
theorem dX5_copies_74 : decode cX5_copies 74 = .ok (.iload_n 3, 1) := dk_29 (dk_at dksX5_copies_3 2 rfl rfl)
theorem dX5_copies_75 : decode cX5_copies 75 = .ok (.iadd, 1) := dk_96 (dk_at dksX5_copies_3 3 rfl rfl)
theorem dX5_copies_76 : decode cX5_copies 76 = .ok (.aload_n 0, 1) := dk_42 (dk_at dksX5_copies_3 4 rfl rfl)
theorem dX5_copies_77 : decode cX5_copies 77 = .ok (.getfield 20, 3) := dk_180 0 20 (dk_at dksX5_copies_3 5 rfl rfl)
theorem dX5_copies_80 : decode cX5_copies 80 = .ok (.bipush 6, 2) := dk_16 6 (dk_at dksX5_copies_3 8 rfl rfl)
theorem dX5_copies_82 : decode cX5_copies 82 = .ok (.iload_n 1, 1) := dk_27 (dk_at dksX5_copies_3 10 rfl rfl)
theorem dX5_copies_83 : decode cX5_copies 83 = .ok (.imul, 1) := dk_104 (dk_at dksX5_copies_3 11 rfl rfl)
theorem dX5_copies_84 : decode cX5_copies 84 = .ok (.iload_n 3, 1) := dk_29 (dk_at dksX5_copies_3 12 rfl rfl)
theorem dX5_copies_85 : decode cX5_copies 85 = .ok (.iadd, 1) := dk_96 (dk_at dksX5_copies_3 13 rfl rfl)
theorem dX5_copies_86 : decode cX5_copies 86 = .ok (.iaload, 1) := dk_46 (dk_at dksX5_copies_3 14 rfl rfl)
theorem dX5_copies_87 : decode cX5_copies 87 = .ok (.iastore, 1) := dk_79 (dk_at dksX5_copies_3 15 rfl rfl)
theorem dX5_copies_88 : decode cX5_copies 88 = .ok (.aload_n 0, 1) := dk_42 (dk_at dksX5_copies_3 16 rfl rfl)
theorem dX5_copies_89 : decode cX5_copies 89 = .ok (.getfield 29, 3) := dk_180 0 29 (dk_at dksX5_copies_3 17 rfl rfl)
theorem dX5_copies_92 : decode cX5_copies 92 = .ok (.bipush 6, 2) := dk_16 6 (dk_at dksX5_copies_3 20 rfl rfl)
theorem dX5_copies_94 : decode cX5_copies 94 = .ok (.iload_n 2, 1) := dk_28 (dk_at dksX5_copies_3 22 rfl rfl)
theorem dX5_copies_95 : decode cX5_copies 95 = .ok (.imul, 1) := dk_104 (dk_at dksX5_copies_3 23 rfl rfl)
theorem dX5_copies_96 : decode cX5_copies 96 = .ok (.iload_n 3, 1) := dk_29 (dk_at dksX5_copies_4 0 rfl rfl)
theorem dX5_copies_97 : decode cX5_copies 97 = .ok (.iadd, 1) := dk_96 (dk_at dksX5_copies_4 1 rfl rfl)
theorem dX5_copies_98 : decode cX5_copies 98 = .ok (.aload_n 0, 1) := dk_42 (dk_at dksX5_copies_4 2 rfl rfl)
theorem dX5_copies_99 : decode cX5_copies 99 = .ok (.getfield 29, 3) := dk_180 0 29 (dk_at dksX5_copies_4 3 rfl rfl)
theorem dX5_copies_102 : decode cX5_copies 102 = .ok (.bipush 6, 2) := dk_16 6 (dk_at dksX5_copies_4 6 rfl rfl)
theorem dX5_copies_104 : decode cX5_copies 104 = .ok (.iload_n 1, 1) := dk_27 (dk_at dksX5_copies_4 8 rfl rfl)
theorem dX5_copies_105 : decode cX5_copies 105 = .ok (.imul, 1) := dk_104 (dk_at dksX5_copies_4 9 rfl rfl)
theorem dX5_copies_106 : decode cX5_copies 106 = .ok (.iload_n 3, 1) := dk_29 (dk_at dksX5_copies_4 10 rfl rfl)
theorem dX5_copies_107 : decode cX5_copies 107 = .ok (.iadd, 1) := dk_96 (dk_at dksX5_copies_4 11 rfl rfl)
theorem dX5_copies_108 : decode cX5_copies 108 = .ok (.iaload, 1) := dk_46 (dk_at dksX5_copies_4 12 rfl rfl)
theorem dX5_copies_109 : decode cX5_copies 109 = .ok (.iastore, 1) := dk_79 (dk_at dksX5_copies_4 13 rfl rfl)
theorem dX5_copies_110 : decode cX5_copies 110 = .ok (.iinc 3 1, 3) := dk_132 3 1 (dk_at dksX5_copies_4 14 rfl rfl)
theorem dX5_copies_113 : decode cX5_copies 113 = .ok (.goto (-75), 3) := dk_167 255 181 (dk_at dksX5_copies_4 17 rfl rfl)
theorem dX5_copies_116 : decode cX5_copies 116 = .ok (.iconst 0, 1) := dk_3 (dk_at dksX5_copies_4 20 rfl rfl)
theorem dX5_copies_117 : decode cX5_copies 117 = .ok (.istore_n 3, 1) := dk_62 (dk_at dksX5_copies_4 21 rfl rfl)
theorem dX5_copies_118 : decode cX5_copies 118 = .ok (.iload_n 3, 1) := dk_29 (dk_at dksX5_copies_4 22 rfl rfl)
theorem dX5_copies_119 : decode cX5_copies 119 = .ok (.bipush 18, 2) := dk_16 18 (dk_at dksX5_copies_5 0 rfl rfl)
theorem dX5_copies_121 : decode cX5_copies 121 = .ok (.if_icmp .ge 53, 3) := dk_162 0 53 (dk_at dksX5_copies_5 2 rfl rfl)
theorem dX5_copies_124 : decode cX5_copies 124 = .ok (.aload_n 0, 1) := dk_42 (dk_at dksX5_copies_5 5 rfl rfl)
theorem dX5_copies_125 : decode cX5_copies 125 = .ok (.getfield 23, 3) := dk_180 0 23 (dk_at dksX5_copies_5 6 rfl rfl)
theorem dX5_copies_128 : decode cX5_copies 128 = .ok (.bipush 18, 2) := dk_16 18 (dk_at dksX5_copies_5 9 rfl rfl)
theorem dX5_copies_130 : decode cX5_copies 130 = .ok (.iload_n 2, 1) := dk_28 (dk_at dksX5_copies_5 11 rfl rfl)
theorem dX5_copies_131 : decode cX5_copies 131 = .ok (.imul, 1) := dk_104 (dk_at dksX5_copies_5 12 rfl rfl)
theorem dX5_copies_132 : decode cX5_copies 132 = .ok (.iload_n 3, 1) := dk_29 (dk_at dksX5_copies_5 13 rfl rfl)
theorem dX5_copies_133 : decode cX5_copies 133 = .ok (.iadd, 1) := dk_96 (dk_at dksX5_copies_5 14 rfl rfl)
theorem dX5_copies_134 : decode cX5_copies 134 = .ok (.aload_n 0, 1) := dk_42 (dk_at dksX5_copies_5 15 rfl rfl)
theorem dX5_copies_135 : decode cX5_copies 135 = .ok (.getfield 23, 3) := dk_180 0 23 (dk_at dksX5_copies_5 16 rfl rfl)
theorem dX5_copies_138 : decode cX5_copies 138 = .ok (.bipush 18, 2) := dk_16 18 (dk_at dksX5_copies_5 19 rfl rfl)
theorem dX5_copies_140 : decode cX5_copies 140 = .ok (.iload_n 1, 1) := dk_27 (dk_at dksX5_copies_5 21 rfl rfl)
theorem dX5_copies_141 : decode cX5_copies 141 = .ok (.imul, 1) := dk_104 (dk_at dksX5_copies_5 22 rfl rfl)
theorem dX5_copies_142 : decode cX5_copies 142 = .ok (.iload_n 3, 1) := dk_29 (dk_at dksX5_copies_5 23 rfl rfl)
theorem dX5_copies_143 : decode cX5_copies 143 = .ok (.iadd, 1) := dk_96 (dk_at dksX5_copies_6 0 rfl rfl)
theorem dX5_copies_144 : decode cX5_copies 144 = .ok (.iaload, 1) := dk_46 (dk_at dksX5_copies_6 1 rfl rfl)
theorem dX5_copies_145 : decode cX5_copies 145 = .ok (.iastore, 1) := dk_79 (dk_at dksX5_copies_6 2 rfl rfl)
theorem dX5_copies_146 : decode cX5_copies 146 = .ok (.aload_n 0, 1) := dk_42 (dk_at dksX5_copies_6 3 rfl rfl)
theorem dX5_copies_147 : decode cX5_copies 147 = .ok (.getfield 26, 3) := dk_180 0 26 (dk_at dksX5_copies_6 4 rfl rfl)
theorem dX5_copies_150 : decode cX5_copies 150 = .ok (.bipush 18, 2) := dk_16 18 (dk_at dksX5_copies_6 7 rfl rfl)
theorem dX5_copies_152 : decode cX5_copies 152 = .ok (.iload_n 2, 1) := dk_28 (dk_at dksX5_copies_6 9 rfl rfl)
theorem dX5_copies_153 : decode cX5_copies 153 = .ok (.imul, 1) := dk_104 (dk_at dksX5_copies_6 10 rfl rfl)
theorem dX5_copies_154 : decode cX5_copies 154 = .ok (.iload_n 3, 1) := dk_29 (dk_at dksX5_copies_6 11 rfl rfl)
theorem dX5_copies_155 : decode cX5_copies 155 = .ok (.iadd, 1) := dk_96 (dk_at dksX5_copies_6 12 rfl rfl)
theorem dX5_copies_156 : decode cX5_copies 156 = .ok (.aload_n 0, 1) := dk_42 (dk_at dksX5_copies_6 13 rfl rfl)
theorem dX5_copies_157 : decode cX5_copies 157 = .ok (.getfield 26, 3) := dk_180 0 26 (dk_at dksX5_copies_6 14 rfl rfl)
theorem dX5_copies_160 : decode cX5_copies 160 = .ok (.bipush 18, 2) := dk_16 18 (dk_at dksX5_copies_6 17 rfl rfl)
theorem dX5_copies_162 : decode cX5_copies 162 = .ok (.iload_n 1, 1) := dk_27 (dk_at dksX5_copies_6 19 rfl rfl)
theorem dX5_copies_163 : decode cX5_copies 163 = .ok (.imul, 1) := dk_104 (dk_at dksX5_copies_6 20 rfl rfl)
theorem dX5_copies_164 : decode cX5_copies 164 = .ok (.iload_n 3, 1) := dk_29 (dk_at dksX5_copies_6 21 rfl rfl)
theorem dX5_copies_165 : decode cX5_copies 165 = .ok (.iadd, 1) := dk_96 (dk_at dksX5_copies_6 22 rfl rfl)
theorem dX5_copies_166 : decode cX5_copies 166 = .ok (.iaload, 1) := dk_46 (dk_at dksX5_copies_6 23 rfl rfl)
theorem dX5_copies_167 : decode cX5_copies 167 = .ok (.iastore, 1) := dk_79 (dk_at dksX5_copies_7 0 rfl rfl)
theorem dX5_copies_168 : decode cX5_copies 168 = .ok (.iinc 3 1, 3) := dk_132 3 1 (dk_at dksX5_copies_7 1 rfl rfl)
theorem dX5_copies_171 : decode cX5_copies 171 = .ok (.goto (-53), 3) := dk_167 255 203 (dk_at dksX5_copies_7 4 rfl rfl)
theorem dX5_copies_174 : decode cX5_copies 174 = .ok (.iconst 0, 1) := dk_3 (dk_at dksX5_copies_7 7 rfl rfl)
theorem dX5_copies_175 : decode cX5_copies 175 = .ok (.istore_n 3, 1) := dk_62 (dk_at dksX5_copies_7 8 rfl rfl)
theorem dX5_copies_176 : decode cX5_copies 176 = .ok (.iload_n 3, 1) := dk_29 (dk_at dksX5_copies_7 9 rfl rfl)
theorem dX5_copies_177 : decode cX5_copies 177 = .ok (.bipush 10, 2) := dk_16 10 (dk_at dksX5_copies_7 10 rfl rfl)
theorem dX5_copies_179 : decode cX5_copies 179 = .ok (.if_icmp .ge 163, 3) := dk_162 0 163 (dk_at dksX5_copies_7 12 rfl rfl)
theorem dX5_copies_182 : decode cX5_copies 182 = .ok (.aload_n 0, 1) := dk_42 (dk_at dksX5_copies_7 15 rfl rfl)
theorem dX5_copies_183 : decode cX5_copies 183 = .ok (.getfield 32, 3) := dk_180 0 32 (dk_at dksX5_copies_7 16 rfl rfl)
theorem dX5_copies_186 : decode cX5_copies 186 = .ok (.bipush 10, 2) := dk_16 10 (dk_at dksX5_copies_7 19 rfl rfl)
theorem dX5_copies_188 : decode cX5_copies 188 = .ok (.iload_n 2, 1) := dk_28 (dk_at dksX5_copies_7 21 rfl rfl)
theorem dX5_copies_189 : decode cX5_copies 189 = .ok (.imul, 1) := dk_104 (dk_at dksX5_copies_7 22 rfl rfl)
theorem dX5_copies_190 : decode cX5_copies 190 = .ok (.iload_n 3, 1) := dk_29 (dk_at dksX5_copies_7 23 rfl rfl)
theorem dX5_copies_191 : decode cX5_copies 191 = .ok (.iadd, 1) := dk_96 (dk_at dksX5_copies_8 0 rfl rfl)
theorem dX5_copies_192 : decode cX5_copies 192 = .ok (.aload_n 0, 1) := dk_42 (dk_at dksX5_copies_8 1 rfl rfl)
theorem dX5_copies_193 : decode cX5_copies 193 = .ok (.getfield 32, 3) := dk_180 0 32 (dk_at dksX5_copies_8 2 rfl rfl)
theorem dX5_copies_196 : decode cX5_copies 196 = .ok (.bipush 10, 2) := dk_16 10 (dk_at dksX5_copies_8 5 rfl rfl)
theorem dX5_copies_198 : decode cX5_copies 198 = .ok (.iload_n 1, 1) := dk_27 (dk_at dksX5_copies_8 7 rfl rfl)
theorem dX5_copies_199 : decode cX5_copies 199 = .ok (.imul, 1) := dk_104 (dk_at dksX5_copies_8 8 rfl rfl)
theorem dX5_copies_200 : decode cX5_copies 200 = .ok (.iload_n 3, 1) := dk_29 (dk_at dksX5_copies_8 9 rfl rfl)
theorem dX5_copies_201 : decode cX5_copies 201 = .ok (.iadd, 1) := dk_96 (dk_at dksX5_copies_8 10 rfl rfl)
theorem dX5_copies_202 : decode cX5_copies 202 = .ok (.iaload, 1) := dk_46 (dk_at dksX5_copies_8 11 rfl rfl)
theorem dX5_copies_203 : decode cX5_copies 203 = .ok (.iastore, 1) := dk_79 (dk_at dksX5_copies_8 12 rfl rfl)
theorem dX5_copies_204 : decode cX5_copies 204 = .ok (.aload_n 0, 1) := dk_42 (dk_at dksX5_copies_8 13 rfl rfl)
theorem dX5_copies_205 : decode cX5_copies 205 = .ok (.getfield 35, 3) := dk_180 0 35 (dk_at dksX5_copies_8 14 rfl rfl)
theorem dX5_copies_208 : decode cX5_copies 208 = .ok (.bipush 10, 2) := dk_16 10 (dk_at dksX5_copies_8 17 rfl rfl)
theorem dX5_copies_210 : decode cX5_copies 210 = .ok (.iload_n 2, 1) := dk_28 (dk_at dksX5_copies_8 19 rfl rfl)
theorem dX5_copies_211 : decode cX5_copies 211 = .ok (.imul, 1) := dk_104 (dk_at dksX5_copies_8 20 rfl rfl)
theorem dX5_copies_212 : decode cX5_copies 212 = .ok (.iload_n 3, 1) := dk_29 (dk_at dksX5_copies_8 21 rfl rfl)
theorem dX5_copies_213 : decode cX5_copies 213 = .ok (.iadd, 1) := dk_96 (dk_at dksX5_copies_8 22 rfl rfl)
theorem dX5_copies_214 : decode cX5_copies 214 = .ok (.aload_n 0, 1) := dk_42 (dk_at dksX5_copies_8 23 rfl rfl)
theorem dX5_copies_215 : decode cX5_copies 215 = .ok (.getfield 35, 3) := dk_180 0 35 (dk_at dksX5_copies_9 0 rfl rfl)
theorem dX5_copies_218 : decode cX5_copies 218 = .ok (.bipush 10, 2) := dk_16 10 (dk_at dksX5_copies_9 3 rfl rfl)
theorem dX5_copies_220 : decode cX5_copies 220 = .ok (.iload_n 1, 1) := dk_27 (dk_at dksX5_copies_9 5 rfl rfl)
theorem dX5_copies_221 : decode cX5_copies 221 = .ok (.imul, 1) := dk_104 (dk_at dksX5_copies_9 6 rfl rfl)
theorem dX5_copies_222 : decode cX5_copies 222 = .ok (.iload_n 3, 1) := dk_29 (dk_at dksX5_copies_9 7 rfl rfl)
theorem dX5_copies_223 : decode cX5_copies 223 = .ok (.iadd, 1) := dk_96 (dk_at dksX5_copies_9 8 rfl rfl)
theorem dX5_copies_224 : decode cX5_copies 224 = .ok (.iaload, 1) := dk_46 (dk_at dksX5_copies_9 9 rfl rfl)
theorem dX5_copies_225 : decode cX5_copies 225 = .ok (.iastore, 1) := dk_79 (dk_at dksX5_copies_9 10 rfl rfl)
theorem dX5_copies_226 : decode cX5_copies 226 = .ok (.aload_n 0, 1) := dk_42 (dk_at dksX5_copies_9 11 rfl rfl)
theorem dX5_copies_227 : decode cX5_copies 227 = .ok (.getfield 38, 3) := dk_180 0 38 (dk_at dksX5_copies_9 12 rfl rfl)
theorem dX5_copies_230 : decode cX5_copies 230 = .ok (.bipush 10, 2) := dk_16 10 (dk_at dksX5_copies_9 15 rfl rfl)
theorem dX5_copies_232 : decode cX5_copies 232 = .ok (.iload_n 2, 1) := dk_28 (dk_at dksX5_copies_9 17 rfl rfl)
theorem dX5_copies_233 : decode cX5_copies 233 = .ok (.imul, 1) := dk_104 (dk_at dksX5_copies_9 18 rfl rfl)
theorem dX5_copies_234 : decode cX5_copies 234 = .ok (.iload_n 3, 1) := dk_29 (dk_at dksX5_copies_9 19 rfl rfl)
theorem dX5_copies_235 : decode cX5_copies 235 = .ok (.iadd, 1) := dk_96 (dk_at dksX5_copies_9 20 rfl rfl)
theorem dX5_copies_236 : decode cX5_copies 236 = .ok (.aload_n 0, 1) := dk_42 (dk_at dksX5_copies_9 21 rfl rfl)
theorem dX5_copies_237 : decode cX5_copies 237 = .ok (.getfield 38, 3) := dk_180 0 38 (dk_at dksX5_copies_10 0 rfl rfl)
theorem dX5_copies_240 : decode cX5_copies 240 = .ok (.bipush 10, 2) := dk_16 10 (dk_at dksX5_copies_10 3 rfl rfl)
theorem dX5_copies_242 : decode cX5_copies 242 = .ok (.iload_n 1, 1) := dk_27 (dk_at dksX5_copies_10 5 rfl rfl)
theorem dX5_copies_243 : decode cX5_copies 243 = .ok (.imul, 1) := dk_104 (dk_at dksX5_copies_10 6 rfl rfl)
theorem dX5_copies_244 : decode cX5_copies 244 = .ok (.iload_n 3, 1) := dk_29 (dk_at dksX5_copies_10 7 rfl rfl)
theorem dX5_copies_245 : decode cX5_copies 245 = .ok (.iadd, 1) := dk_96 (dk_at dksX5_copies_10 8 rfl rfl)
theorem dX5_copies_246 : decode cX5_copies 246 = .ok (.iaload, 1) := dk_46 (dk_at dksX5_copies_10 9 rfl rfl)
theorem dX5_copies_247 : decode cX5_copies 247 = .ok (.iastore, 1) := dk_79 (dk_at dksX5_copies_10 10 rfl rfl)
theorem dX5_copies_248 : decode cX5_copies 248 = .ok (.aload_n 0, 1) := dk_42 (dk_at dksX5_copies_10 11 rfl rfl)
theorem dX5_copies_249 : decode cX5_copies 249 = .ok (.getfield 41, 3) := dk_180 0 41 (dk_at dksX5_copies_10 12 rfl rfl)
theorem dX5_copies_252 : decode cX5_copies 252 = .ok (.bipush 10, 2) := dk_16 10 (dk_at dksX5_copies_10 15 rfl rfl)
theorem dX5_copies_254 : decode cX5_copies 254 = .ok (.iload_n 2, 1) := dk_28 (dk_at dksX5_copies_10 17 rfl rfl)
theorem dX5_copies_255 : decode cX5_copies 255 = .ok (.imul, 1) := dk_104 (dk_at dksX5_copies_10 18 rfl rfl)
theorem dX5_copies_256 : decode cX5_copies 256 = .ok (.iload_n 3, 1) := dk_29 (dk_at dksX5_copies_10 19 rfl rfl)
theorem dX5_copies_257 : decode cX5_copies 257 = .ok (.iadd, 1) := dk_96 (dk_at dksX5_copies_10 20 rfl rfl)
theorem dX5_copies_258 : decode cX5_copies 258 = .ok (.aload_n 0, 1) := dk_42 (dk_at dksX5_copies_10 21 rfl rfl)
theorem dX5_copies_259 : decode cX5_copies 259 = .ok (.getfield 41, 3) := dk_180 0 41 (dk_at dksX5_copies_11 0 rfl rfl)
theorem dX5_copies_262 : decode cX5_copies 262 = .ok (.bipush 10, 2) := dk_16 10 (dk_at dksX5_copies_11 3 rfl rfl)
theorem dX5_copies_264 : decode cX5_copies 264 = .ok (.iload_n 1, 1) := dk_27 (dk_at dksX5_copies_11 5 rfl rfl)
theorem dX5_copies_265 : decode cX5_copies 265 = .ok (.imul, 1) := dk_104 (dk_at dksX5_copies_11 6 rfl rfl)
theorem dX5_copies_266 : decode cX5_copies 266 = .ok (.iload_n 3, 1) := dk_29 (dk_at dksX5_copies_11 7 rfl rfl)
theorem dX5_copies_267 : decode cX5_copies 267 = .ok (.iadd, 1) := dk_96 (dk_at dksX5_copies_11 8 rfl rfl)
theorem dX5_copies_268 : decode cX5_copies 268 = .ok (.iaload, 1) := dk_46 (dk_at dksX5_copies_11 9 rfl rfl)
theorem dX5_copies_269 : decode cX5_copies 269 = .ok (.iastore, 1) := dk_79 (dk_at dksX5_copies_11 10 rfl rfl)
theorem dX5_copies_270 : decode cX5_copies 270 = .ok (.aload_n 0, 1) := dk_42 (dk_at dksX5_copies_11 11 rfl rfl)
theorem dX5_copies_271 : decode cX5_copies 271 = .ok (.getfield 44, 3) := dk_180 0 44 (dk_at dksX5_copies_11 12 rfl rfl)
theorem dX5_copies_274 : decode cX5_copies 274 = .ok (.bipush 10, 2) := dk_16 10 (dk_at dksX5_copies_11 15 rfl rfl)
theorem dX5_copies_276 : decode cX5_copies 276 = .ok (.iload_n 2, 1) := dk_28 (dk_at dksX5_copies_11 17 rfl rfl)
theorem dX5_copies_277 : decode cX5_copies 277 = .ok (.imul, 1) := dk_104 (dk_at dksX5_copies_11 18 rfl rfl)
theorem dX5_copies_278 : decode cX5_copies 278 = .ok (.iload_n 3, 1) := dk_29 (dk_at dksX5_copies_11 19 rfl rfl)
theorem dX5_copies_279 : decode cX5_copies 279 = .ok (.iadd, 1) := dk_96 (dk_at dksX5_copies_11 20 rfl rfl)
theorem dX5_copies_280 : decode cX5_copies 280 = .ok (.aload_n 0, 1) := dk_42 (dk_at dksX5_copies_11 21 rfl rfl)
theorem dX5_copies_281 : decode cX5_copies 281 = .ok (.getfield 44, 3) := dk_180 0 44 (dk_at dksX5_copies_12 0 rfl rfl)
theorem dX5_copies_284 : decode cX5_copies 284 = .ok (.bipush 10, 2) := dk_16 10 (dk_at dksX5_copies_12 3 rfl rfl)
theorem dX5_copies_286 : decode cX5_copies 286 = .ok (.iload_n 1, 1) := dk_27 (dk_at dksX5_copies_12 5 rfl rfl)
theorem dX5_copies_287 : decode cX5_copies 287 = .ok (.imul, 1) := dk_104 (dk_at dksX5_copies_12 6 rfl rfl)
theorem dX5_copies_288 : decode cX5_copies 288 = .ok (.iload_n 3, 1) := dk_29 (dk_at dksX5_copies_12 7 rfl rfl)
theorem dX5_copies_289 : decode cX5_copies 289 = .ok (.iadd, 1) := dk_96 (dk_at dksX5_copies_12 8 rfl rfl)
theorem dX5_copies_290 : decode cX5_copies 290 = .ok (.iaload, 1) := dk_46 (dk_at dksX5_copies_12 9 rfl rfl)
theorem dX5_copies_291 : decode cX5_copies 291 = .ok (.iastore, 1) := dk_79 (dk_at dksX5_copies_12 10 rfl rfl)
theorem dX5_copies_292 : decode cX5_copies 292 = .ok (.aload_n 0, 1) := dk_42 (dk_at dksX5_copies_12 11 rfl rfl)
theorem dX5_copies_293 : decode cX5_copies 293 = .ok (.getfield 47, 3) := dk_180 0 47 (dk_at dksX5_copies_12 12 rfl rfl)
theorem dX5_copies_296 : decode cX5_copies 296 = .ok (.bipush 10, 2) := dk_16 10 (dk_at dksX5_copies_12 15 rfl rfl)
theorem dX5_copies_298 : decode cX5_copies 298 = .ok (.iload_n 2, 1) := dk_28 (dk_at dksX5_copies_12 17 rfl rfl)
theorem dX5_copies_299 : decode cX5_copies 299 = .ok (.imul, 1) := dk_104 (dk_at dksX5_copies_12 18 rfl rfl)
theorem dX5_copies_300 : decode cX5_copies 300 = .ok (.iload_n 3, 1) := dk_29 (dk_at dksX5_copies_12 19 rfl rfl)
theorem dX5_copies_301 : decode cX5_copies 301 = .ok (.iadd, 1) := dk_96 (dk_at dksX5_copies_12 20 rfl rfl)
theorem dX5_copies_302 : decode cX5_copies 302 = .ok (.aload_n 0, 1) := dk_42 (dk_at dksX5_copies_12 21 rfl rfl)
theorem dX5_copies_303 : decode cX5_copies 303 = .ok (.getfield 47, 3) := dk_180 0 47 (dk_at dksX5_copies_13 0 rfl rfl)
theorem dX5_copies_306 : decode cX5_copies 306 = .ok (.bipush 10, 2) := dk_16 10 (dk_at dksX5_copies_13 3 rfl rfl)
theorem dX5_copies_308 : decode cX5_copies 308 = .ok (.iload_n 1, 1) := dk_27 (dk_at dksX5_copies_13 5 rfl rfl)
theorem dX5_copies_309 : decode cX5_copies 309 = .ok (.imul, 1) := dk_104 (dk_at dksX5_copies_13 6 rfl rfl)
theorem dX5_copies_310 : decode cX5_copies 310 = .ok (.iload_n 3, 1) := dk_29 (dk_at dksX5_copies_13 7 rfl rfl)
theorem dX5_copies_311 : decode cX5_copies 311 = .ok (.iadd, 1) := dk_96 (dk_at dksX5_copies_13 8 rfl rfl)
theorem dX5_copies_312 : decode cX5_copies 312 = .ok (.iaload, 1) := dk_46 (dk_at dksX5_copies_13 9 rfl rfl)
theorem dX5_copies_313 : decode cX5_copies 313 = .ok (.iastore, 1) := dk_79 (dk_at dksX5_copies_13 10 rfl rfl)
theorem dX5_copies_314 : decode cX5_copies 314 = .ok (.aload_n 0, 1) := dk_42 (dk_at dksX5_copies_13 11 rfl rfl)
theorem dX5_copies_315 : decode cX5_copies 315 = .ok (.getfield 50, 3) := dk_180 0 50 (dk_at dksX5_copies_13 12 rfl rfl)
theorem dX5_copies_318 : decode cX5_copies 318 = .ok (.bipush 10, 2) := dk_16 10 (dk_at dksX5_copies_13 15 rfl rfl)
theorem dX5_copies_320 : decode cX5_copies 320 = .ok (.iload_n 2, 1) := dk_28 (dk_at dksX5_copies_13 17 rfl rfl)
theorem dX5_copies_321 : decode cX5_copies 321 = .ok (.imul, 1) := dk_104 (dk_at dksX5_copies_13 18 rfl rfl)
theorem dX5_copies_322 : decode cX5_copies 322 = .ok (.iload_n 3, 1) := dk_29 (dk_at dksX5_copies_13 19 rfl rfl)
theorem dX5_copies_323 : decode cX5_copies 323 = .ok (.iadd, 1) := dk_96 (dk_at dksX5_copies_13 20 rfl rfl)
theorem dX5_copies_324 : decode cX5_copies 324 = .ok (.aload_n 0, 1) := dk_42 (dk_at dksX5_copies_13 21 rfl rfl)
theorem dX5_copies_325 : decode cX5_copies 325 = .ok (.getfield 50, 3) := dk_180 0 50 (dk_at dksX5_copies_14 0 rfl rfl)
theorem dX5_copies_328 : decode cX5_copies 328 = .ok (.bipush 10, 2) := dk_16 10 (dk_at dksX5_copies_14 3 rfl rfl)
theorem dX5_copies_330 : decode cX5_copies 330 = .ok (.iload_n 1, 1) := dk_27 (dk_at dksX5_copies_14 5 rfl rfl)
theorem dX5_copies_331 : decode cX5_copies 331 = .ok (.imul, 1) := dk_104 (dk_at dksX5_copies_14 6 rfl rfl)
theorem dX5_copies_332 : decode cX5_copies 332 = .ok (.iload_n 3, 1) := dk_29 (dk_at dksX5_copies_14 7 rfl rfl)
theorem dX5_copies_333 : decode cX5_copies 333 = .ok (.iadd, 1) := dk_96 (dk_at dksX5_copies_14 8 rfl rfl)
theorem dX5_copies_334 : decode cX5_copies 334 = .ok (.iaload, 1) := dk_46 (dk_at dksX5_copies_14 9 rfl rfl)
theorem dX5_copies_335 : decode cX5_copies 335 = .ok (.iastore, 1) := dk_79 (dk_at dksX5_copies_14 10 rfl rfl)
theorem dX5_copies_336 : decode cX5_copies 336 = .ok (.iinc 3 1, 3) := dk_132 3 1 (dk_at dksX5_copies_14 11 rfl rfl)
theorem dX5_copies_339 : decode cX5_copies 339 = .ok (.goto (-163), 3) := dk_167 255 93 (dk_at dksX5_copies_14 14 rfl rfl)
theorem dX5_copies_342 : decode cX5_copies 342 = .ok (.iconst 0, 1) := dk_3 (dk_at dksX5_copies_14 17 rfl rfl)
theorem dX5_copies_343 : decode cX5_copies 343 = .ok (.istore_n 3, 1) := dk_62 (dk_at dksX5_copies_14 18 rfl rfl)
theorem dX5_copies_344 : decode cX5_copies 344 = .ok (.iload_n 3, 1) := dk_29 (dk_at dksX5_copies_14 19 rfl rfl)
theorem dX5_copies_345 : decode cX5_copies 345 = .ok (.bipush 30, 2) := dk_16 30 (dk_at dksX5_copies_14 20 rfl rfl)
theorem dX5_copies_347 : decode cX5_copies 347 = .ok (.if_icmp .ge 53, 3) := dk_162 0 53 (dk_at dksX5_copies_15 0 rfl rfl)
theorem dX5_copies_350 : decode cX5_copies 350 = .ok (.aload_n 0, 1) := dk_42 (dk_at dksX5_copies_15 3 rfl rfl)
theorem dX5_copies_351 : decode cX5_copies 351 = .ok (.getfield 53, 3) := dk_180 0 53 (dk_at dksX5_copies_15 4 rfl rfl)
theorem dX5_copies_354 : decode cX5_copies 354 = .ok (.bipush 30, 2) := dk_16 30 (dk_at dksX5_copies_15 7 rfl rfl)
theorem dX5_copies_356 : decode cX5_copies 356 = .ok (.iload_n 2, 1) := dk_28 (dk_at dksX5_copies_15 9 rfl rfl)
theorem dX5_copies_357 : decode cX5_copies 357 = .ok (.imul, 1) := dk_104 (dk_at dksX5_copies_15 10 rfl rfl)
theorem dX5_copies_358 : decode cX5_copies 358 = .ok (.iload_n 3, 1) := dk_29 (dk_at dksX5_copies_15 11 rfl rfl)
theorem dX5_copies_359 : decode cX5_copies 359 = .ok (.iadd, 1) := dk_96 (dk_at dksX5_copies_15 12 rfl rfl)
theorem dX5_copies_360 : decode cX5_copies 360 = .ok (.aload_n 0, 1) := dk_42 (dk_at dksX5_copies_15 13 rfl rfl)
theorem dX5_copies_361 : decode cX5_copies 361 = .ok (.getfield 53, 3) := dk_180 0 53 (dk_at dksX5_copies_15 14 rfl rfl)
theorem dX5_copies_364 : decode cX5_copies 364 = .ok (.bipush 30, 2) := dk_16 30 (dk_at dksX5_copies_15 17 rfl rfl)
theorem dX5_copies_366 : decode cX5_copies 366 = .ok (.iload_n 1, 1) := dk_27 (dk_at dksX5_copies_15 19 rfl rfl)
theorem dX5_copies_367 : decode cX5_copies 367 = .ok (.imul, 1) := dk_104 (dk_at dksX5_copies_15 20 rfl rfl)
theorem dX5_copies_368 : decode cX5_copies 368 = .ok (.iload_n 3, 1) := dk_29 (dk_at dksX5_copies_15 21 rfl rfl)
theorem dX5_copies_369 : decode cX5_copies 369 = .ok (.iadd, 1) := dk_96 (dk_at dksX5_copies_15 22 rfl rfl)
theorem dX5_copies_370 : decode cX5_copies 370 = .ok (.iaload, 1) := dk_46 (dk_at dksX5_copies_15 23 rfl rfl)
theorem dX5_copies_371 : decode cX5_copies 371 = .ok (.iastore, 1) := dk_79 (dk_at dksX5_copies_16 0 rfl rfl)
theorem dX5_copies_372 : decode cX5_copies 372 = .ok (.aload_n 0, 1) := dk_42 (dk_at dksX5_copies_16 1 rfl rfl)
theorem dX5_copies_373 : decode cX5_copies 373 = .ok (.getfield 56, 3) := dk_180 0 56 (dk_at dksX5_copies_16 2 rfl rfl)
theorem dX5_copies_376 : decode cX5_copies 376 = .ok (.bipush 30, 2) := dk_16 30 (dk_at dksX5_copies_16 5 rfl rfl)
theorem dX5_copies_378 : decode cX5_copies 378 = .ok (.iload_n 2, 1) := dk_28 (dk_at dksX5_copies_16 7 rfl rfl)
theorem dX5_copies_379 : decode cX5_copies 379 = .ok (.imul, 1) := dk_104 (dk_at dksX5_copies_16 8 rfl rfl)
theorem dX5_copies_380 : decode cX5_copies 380 = .ok (.iload_n 3, 1) := dk_29 (dk_at dksX5_copies_16 9 rfl rfl)
theorem dX5_copies_381 : decode cX5_copies 381 = .ok (.iadd, 1) := dk_96 (dk_at dksX5_copies_16 10 rfl rfl)
theorem dX5_copies_382 : decode cX5_copies 382 = .ok (.aload_n 0, 1) := dk_42 (dk_at dksX5_copies_16 11 rfl rfl)
theorem dX5_copies_383 : decode cX5_copies 383 = .ok (.getfield 56, 3) := dk_180 0 56 (dk_at dksX5_copies_16 12 rfl rfl)
theorem dX5_copies_386 : decode cX5_copies 386 = .ok (.bipush 30, 2) := dk_16 30 (dk_at dksX5_copies_16 15 rfl rfl)
theorem dX5_copies_388 : decode cX5_copies 388 = .ok (.iload_n 1, 1) := dk_27 (dk_at dksX5_copies_16 17 rfl rfl)
theorem dX5_copies_389 : decode cX5_copies 389 = .ok (.imul, 1) := dk_104 (dk_at dksX5_copies_16 18 rfl rfl)
theorem dX5_copies_390 : decode cX5_copies 390 = .ok (.iload_n 3, 1) := dk_29 (dk_at dksX5_copies_16 19 rfl rfl)
theorem dX5_copies_391 : decode cX5_copies 391 = .ok (.iadd, 1) := dk_96 (dk_at dksX5_copies_16 20 rfl rfl)
theorem dX5_copies_392 : decode cX5_copies 392 = .ok (.iaload, 1) := dk_46 (dk_at dksX5_copies_16 21 rfl rfl)
theorem dX5_copies_393 : decode cX5_copies 393 = .ok (.iastore, 1) := dk_79 (dk_at dksX5_copies_16 22 rfl rfl)
theorem dX5_copies_394 : decode cX5_copies 394 = .ok (.iinc 3 1, 3) := dk_132 3 1 (dk_at dksX5_copies_17 0 rfl rfl)
theorem dX5_copies_397 : decode cX5_copies 397 = .ok (.goto (-53), 3) := dk_167 255 203 (dk_at dksX5_copies_17 3 rfl rfl)
theorem dX5_copies_400 : decode cX5_copies 400 = .ok (.iconst 0, 1) := dk_3 (dk_at dksX5_copies_17 6 rfl rfl)
theorem dX5_copies_401 : decode cX5_copies 401 = .ok (.istore_n 3, 1) := dk_62 (dk_at dksX5_copies_17 7 rfl rfl)
theorem dX5_copies_402 : decode cX5_copies 402 = .ok (.iload_n 3, 1) := dk_29 (dk_at dksX5_copies_17 8 rfl rfl)
theorem dX5_copies_403 : decode cX5_copies 403 = .ok (.bipush 16, 2) := dk_16 16 (dk_at dksX5_copies_17 9 rfl rfl)
theorem dX5_copies_405 : decode cX5_copies 405 = .ok (.if_icmp .ge 53, 3) := dk_162 0 53 (dk_at dksX5_copies_17 11 rfl rfl)
theorem dX5_copies_408 : decode cX5_copies 408 = .ok (.aload_n 0, 1) := dk_42 (dk_at dksX5_copies_17 14 rfl rfl)
theorem dX5_copies_409 : decode cX5_copies 409 = .ok (.getfield 59, 3) := dk_180 0 59 (dk_at dksX5_copies_17 15 rfl rfl)
theorem dX5_copies_412 : decode cX5_copies 412 = .ok (.bipush 16, 2) := dk_16 16 (dk_at dksX5_copies_17 18 rfl rfl)
theorem dX5_copies_414 : decode cX5_copies 414 = .ok (.iload_n 2, 1) := dk_28 (dk_at dksX5_copies_17 20 rfl rfl)
theorem dX5_copies_415 : decode cX5_copies 415 = .ok (.imul, 1) := dk_104 (dk_at dksX5_copies_17 21 rfl rfl)
theorem dX5_copies_416 : decode cX5_copies 416 = .ok (.iload_n 3, 1) := dk_29 (dk_at dksX5_copies_17 22 rfl rfl)
theorem dX5_copies_417 : decode cX5_copies 417 = .ok (.iadd, 1) := dk_96 (dk_at dksX5_copies_17 23 rfl rfl)
theorem dX5_copies_418 : decode cX5_copies 418 = .ok (.aload_n 0, 1) := dk_42 (dk_at dksX5_copies_18 0 rfl rfl)
theorem dX5_copies_419 : decode cX5_copies 419 = .ok (.getfield 59, 3) := dk_180 0 59 (dk_at dksX5_copies_18 1 rfl rfl)
theorem dX5_copies_422 : decode cX5_copies 422 = .ok (.bipush 16, 2) := dk_16 16 (dk_at dksX5_copies_18 4 rfl rfl)
theorem dX5_copies_424 : decode cX5_copies 424 = .ok (.iload_n 1, 1) := dk_27 (dk_at dksX5_copies_18 6 rfl rfl)
theorem dX5_copies_425 : decode cX5_copies 425 = .ok (.imul, 1) := dk_104 (dk_at dksX5_copies_18 7 rfl rfl)
theorem dX5_copies_426 : decode cX5_copies 426 = .ok (.iload_n 3, 1) := dk_29 (dk_at dksX5_copies_18 8 rfl rfl)
theorem dX5_copies_427 : decode cX5_copies 427 = .ok (.iadd, 1) := dk_96 (dk_at dksX5_copies_18 9 rfl rfl)
theorem dX5_copies_428 : decode cX5_copies 428 = .ok (.laload, 1) := dk_47 (dk_at dksX5_copies_18 10 rfl rfl)
theorem dX5_copies_429 : decode cX5_copies 429 = .ok (.lastore, 1) := dk_80 (dk_at dksX5_copies_18 11 rfl rfl)
theorem dX5_copies_430 : decode cX5_copies 430 = .ok (.aload_n 0, 1) := dk_42 (dk_at dksX5_copies_18 12 rfl rfl)
theorem dX5_copies_431 : decode cX5_copies 431 = .ok (.getfield 62, 3) := dk_180 0 62 (dk_at dksX5_copies_18 13 rfl rfl)
theorem dX5_copies_434 : decode cX5_copies 434 = .ok (.bipush 16, 2) := dk_16 16 (dk_at dksX5_copies_18 16 rfl rfl)
theorem dX5_copies_436 : decode cX5_copies 436 = .ok (.iload_n 2, 1) := dk_28 (dk_at dksX5_copies_18 18 rfl rfl)
theorem dX5_copies_437 : decode cX5_copies 437 = .ok (.imul, 1) := dk_104 (dk_at dksX5_copies_18 19 rfl rfl)
theorem dX5_copies_438 : decode cX5_copies 438 = .ok (.iload_n 3, 1) := dk_29 (dk_at dksX5_copies_18 20 rfl rfl)
theorem dX5_copies_439 : decode cX5_copies 439 = .ok (.iadd, 1) := dk_96 (dk_at dksX5_copies_18 21 rfl rfl)
theorem dX5_copies_440 : decode cX5_copies 440 = .ok (.aload_n 0, 1) := dk_42 (dk_at dksX5_copies_18 22 rfl rfl)
theorem dX5_copies_441 : decode cX5_copies 441 = .ok (.getfield 62, 3) := dk_180 0 62 (dk_at dksX5_copies_19 0 rfl rfl)
theorem dX5_copies_444 : decode cX5_copies 444 = .ok (.bipush 16, 2) := dk_16 16 (dk_at dksX5_copies_19 3 rfl rfl)
theorem dX5_copies_446 : decode cX5_copies 446 = .ok (.iload_n 1, 1) := dk_27 (dk_at dksX5_copies_19 5 rfl rfl)
theorem dX5_copies_447 : decode cX5_copies 447 = .ok (.imul, 1) := dk_104 (dk_at dksX5_copies_19 6 rfl rfl)
theorem dX5_copies_448 : decode cX5_copies 448 = .ok (.iload_n 3, 1) := dk_29 (dk_at dksX5_copies_19 7 rfl rfl)
theorem dX5_copies_449 : decode cX5_copies 449 = .ok (.iadd, 1) := dk_96 (dk_at dksX5_copies_19 8 rfl rfl)
theorem dX5_copies_450 : decode cX5_copies 450 = .ok (.iaload, 1) := dk_46 (dk_at dksX5_copies_19 9 rfl rfl)
theorem dX5_copies_451 : decode cX5_copies 451 = .ok (.iastore, 1) := dk_79 (dk_at dksX5_copies_19 10 rfl rfl)
theorem dX5_copies_452 : decode cX5_copies 452 = .ok (.iinc 3 1, 3) := dk_132 3 1 (dk_at dksX5_copies_19 11 rfl rfl)
theorem dX5_copies_455 : decode cX5_copies 455 = .ok (.goto (-53), 3) := dk_167 255 203 (dk_at dksX5_copies_19 14 rfl rfl)
theorem dX5_copies_458 : decode cX5_copies 458 = .ok (.iconst 0, 1) := dk_3 (dk_at dksX5_copies_19 17 rfl rfl)
theorem dX5_copies_459 : decode cX5_copies 459 = .ok (.istore_n 3, 1) := dk_62 (dk_at dksX5_copies_19 18 rfl rfl)
theorem dX5_copies_460 : decode cX5_copies 460 = .ok (.iload_n 3, 1) := dk_29 (dk_at dksX5_copies_19 19 rfl rfl)
theorem dX5_copies_461 : decode cX5_copies 461 = .ok (.bipush 40, 2) := dk_16 40 (dk_at dksX5_copies_19 20 rfl rfl)
theorem dX5_copies_463 : decode cX5_copies 463 = .ok (.if_icmp .ge 119, 3) := dk_162 0 119 (dk_at dksX5_copies_20 0 rfl rfl)
theorem dX5_copies_466 : decode cX5_copies 466 = .ok (.aload_n 0, 1) := dk_42 (dk_at dksX5_copies_20 3 rfl rfl)
theorem dX5_copies_467 : decode cX5_copies 467 = .ok (.getfield 65, 3) := dk_180 0 65 (dk_at dksX5_copies_20 4 rfl rfl)
theorem dX5_copies_470 : decode cX5_copies 470 = .ok (.bipush 40, 2) := dk_16 40 (dk_at dksX5_copies_20 7 rfl rfl)
theorem dX5_copies_472 : decode cX5_copies 472 = .ok (.iload_n 2, 1) := dk_28 (dk_at dksX5_copies_20 9 rfl rfl)
theorem dX5_copies_473 : decode cX5_copies 473 = .ok (.imul, 1) := dk_104 (dk_at dksX5_copies_20 10 rfl rfl)
theorem dX5_copies_474 : decode cX5_copies 474 = .ok (.iload_n 3, 1) := dk_29 (dk_at dksX5_copies_20 11 rfl rfl)
theorem dX5_copies_475 : decode cX5_copies 475 = .ok (.iadd, 1) := dk_96 (dk_at dksX5_copies_20 12 rfl rfl)
theorem dX5_copies_476 : decode cX5_copies 476 = .ok (.aload_n 0, 1) := dk_42 (dk_at dksX5_copies_20 13 rfl rfl)
theorem dX5_copies_477 : decode cX5_copies 477 = .ok (.getfield 65, 3) := dk_180 0 65 (dk_at dksX5_copies_20 14 rfl rfl)
theorem dX5_copies_480 : decode cX5_copies 480 = .ok (.bipush 40, 2) := dk_16 40 (dk_at dksX5_copies_20 17 rfl rfl)
theorem dX5_copies_482 : decode cX5_copies 482 = .ok (.iload_n 1, 1) := dk_27 (dk_at dksX5_copies_20 19 rfl rfl)
theorem dX5_copies_483 : decode cX5_copies 483 = .ok (.imul, 1) := dk_104 (dk_at dksX5_copies_20 20 rfl rfl)
theorem dX5_copies_484 : decode cX5_copies 484 = .ok (.iload_n 3, 1) := dk_29 (dk_at dksX5_copies_20 21 rfl rfl)
theorem dX5_copies_485 : decode cX5_copies 485 = .ok (.iadd, 1) := dk_96 (dk_at dksX5_copies_20 22 rfl rfl)
theorem dX5_copies_486 : decode cX5_copies 486 = .ok (.iaload, 1) := dk_46 (dk_at dksX5_copies_20 23 rfl rfl)
theorem dX5_copies_487 : decode cX5_copies 487 = .ok (.iastore, 1) := dk_79 (dk_at dksX5_copies_21 0 rfl rfl)
theorem dX5_copies_488 : decode cX5_copies 488 = .ok (.aload_n 0, 1) := dk_42 (dk_at dksX5_copies_21 1 rfl rfl)
theorem dX5_copies_489 : decode cX5_copies 489 = .ok (.getfield 68, 3) := dk_180 0 68 (dk_at dksX5_copies_21 2 rfl rfl)
theorem dX5_copies_492 : decode cX5_copies 492 = .ok (.bipush 40, 2) := dk_16 40 (dk_at dksX5_copies_21 5 rfl rfl)
theorem dX5_copies_494 : decode cX5_copies 494 = .ok (.iload_n 2, 1) := dk_28 (dk_at dksX5_copies_21 7 rfl rfl)
theorem dX5_copies_495 : decode cX5_copies 495 = .ok (.imul, 1) := dk_104 (dk_at dksX5_copies_21 8 rfl rfl)
theorem dX5_copies_496 : decode cX5_copies 496 = .ok (.iload_n 3, 1) := dk_29 (dk_at dksX5_copies_21 9 rfl rfl)
theorem dX5_copies_497 : decode cX5_copies 497 = .ok (.iadd, 1) := dk_96 (dk_at dksX5_copies_21 10 rfl rfl)
theorem dX5_copies_498 : decode cX5_copies 498 = .ok (.aload_n 0, 1) := dk_42 (dk_at dksX5_copies_21 11 rfl rfl)
theorem dX5_copies_499 : decode cX5_copies 499 = .ok (.getfield 68, 3) := dk_180 0 68 (dk_at dksX5_copies_21 12 rfl rfl)
theorem dX5_copies_502 : decode cX5_copies 502 = .ok (.bipush 40, 2) := dk_16 40 (dk_at dksX5_copies_21 15 rfl rfl)
theorem dX5_copies_504 : decode cX5_copies 504 = .ok (.iload_n 1, 1) := dk_27 (dk_at dksX5_copies_21 17 rfl rfl)
theorem dX5_copies_505 : decode cX5_copies 505 = .ok (.imul, 1) := dk_104 (dk_at dksX5_copies_21 18 rfl rfl)
theorem dX5_copies_506 : decode cX5_copies 506 = .ok (.iload_n 3, 1) := dk_29 (dk_at dksX5_copies_21 19 rfl rfl)
theorem dX5_copies_507 : decode cX5_copies 507 = .ok (.iadd, 1) := dk_96 (dk_at dksX5_copies_21 20 rfl rfl)
theorem dX5_copies_508 : decode cX5_copies 508 = .ok (.iaload, 1) := dk_46 (dk_at dksX5_copies_21 21 rfl rfl)
theorem dX5_copies_509 : decode cX5_copies 509 = .ok (.iastore, 1) := dk_79 (dk_at dksX5_copies_21 22 rfl rfl)
theorem dX5_copies_510 : decode cX5_copies 510 = .ok (.aload_n 0, 1) := dk_42 (dk_at dksX5_copies_21 23 rfl rfl)
theorem dX5_copies_511 : decode cX5_copies 511 = .ok (.getfield 71, 3) := dk_180 0 71 (dk_at dksX5_copies_22 0 rfl rfl)
theorem dX5_copies_514 : decode cX5_copies 514 = .ok (.bipush 40, 2) := dk_16 40 (dk_at dksX5_copies_22 3 rfl rfl)
theorem dX5_copies_516 : decode cX5_copies 516 = .ok (.iload_n 2, 1) := dk_28 (dk_at dksX5_copies_22 5 rfl rfl)
theorem dX5_copies_517 : decode cX5_copies 517 = .ok (.imul, 1) := dk_104 (dk_at dksX5_copies_22 6 rfl rfl)
theorem dX5_copies_518 : decode cX5_copies 518 = .ok (.iload_n 3, 1) := dk_29 (dk_at dksX5_copies_22 7 rfl rfl)
theorem dX5_copies_519 : decode cX5_copies 519 = .ok (.iadd, 1) := dk_96 (dk_at dksX5_copies_22 8 rfl rfl)
theorem dX5_copies_520 : decode cX5_copies 520 = .ok (.aload_n 0, 1) := dk_42 (dk_at dksX5_copies_22 9 rfl rfl)
theorem dX5_copies_521 : decode cX5_copies 521 = .ok (.getfield 71, 3) := dk_180 0 71 (dk_at dksX5_copies_22 10 rfl rfl)
theorem dX5_copies_524 : decode cX5_copies 524 = .ok (.bipush 40, 2) := dk_16 40 (dk_at dksX5_copies_22 13 rfl rfl)
theorem dX5_copies_526 : decode cX5_copies 526 = .ok (.iload_n 1, 1) := dk_27 (dk_at dksX5_copies_22 15 rfl rfl)
theorem dX5_copies_527 : decode cX5_copies 527 = .ok (.imul, 1) := dk_104 (dk_at dksX5_copies_22 16 rfl rfl)
theorem dX5_copies_528 : decode cX5_copies 528 = .ok (.iload_n 3, 1) := dk_29 (dk_at dksX5_copies_22 17 rfl rfl)
theorem dX5_copies_529 : decode cX5_copies 529 = .ok (.iadd, 1) := dk_96 (dk_at dksX5_copies_22 18 rfl rfl)
theorem dX5_copies_530 : decode cX5_copies 530 = .ok (.iaload, 1) := dk_46 (dk_at dksX5_copies_22 19 rfl rfl)
theorem dX5_copies_531 : decode cX5_copies 531 = .ok (.iastore, 1) := dk_79 (dk_at dksX5_copies_22 20 rfl rfl)
theorem dX5_copies_532 : decode cX5_copies 532 = .ok (.aload_n 0, 1) := dk_42 (dk_at dksX5_copies_22 21 rfl rfl)
theorem dX5_copies_533 : decode cX5_copies 533 = .ok (.getfield 74, 3) := dk_180 0 74 (dk_at dksX5_copies_23 0 rfl rfl)
theorem dX5_copies_536 : decode cX5_copies 536 = .ok (.bipush 40, 2) := dk_16 40 (dk_at dksX5_copies_23 3 rfl rfl)
theorem dX5_copies_538 : decode cX5_copies 538 = .ok (.iload_n 2, 1) := dk_28 (dk_at dksX5_copies_23 5 rfl rfl)
theorem dX5_copies_539 : decode cX5_copies 539 = .ok (.imul, 1) := dk_104 (dk_at dksX5_copies_23 6 rfl rfl)
theorem dX5_copies_540 : decode cX5_copies 540 = .ok (.iload_n 3, 1) := dk_29 (dk_at dksX5_copies_23 7 rfl rfl)
theorem dX5_copies_541 : decode cX5_copies 541 = .ok (.iadd, 1) := dk_96 (dk_at dksX5_copies_23 8 rfl rfl)
theorem dX5_copies_542 : decode cX5_copies 542 = .ok (.aload_n 0, 1) := dk_42 (dk_at dksX5_copies_23 9 rfl rfl)
theorem dX5_copies_543 : decode cX5_copies 543 = .ok (.getfield 74, 3) := dk_180 0 74 (dk_at dksX5_copies_23 10 rfl rfl)
theorem dX5_copies_546 : decode cX5_copies 546 = .ok (.bipush 40, 2) := dk_16 40 (dk_at dksX5_copies_23 13 rfl rfl)
theorem dX5_copies_548 : decode cX5_copies 548 = .ok (.iload_n 1, 1) := dk_27 (dk_at dksX5_copies_23 15 rfl rfl)
theorem dX5_copies_549 : decode cX5_copies 549 = .ok (.imul, 1) := dk_104 (dk_at dksX5_copies_23 16 rfl rfl)
theorem dX5_copies_550 : decode cX5_copies 550 = .ok (.iload_n 3, 1) := dk_29 (dk_at dksX5_copies_23 17 rfl rfl)
theorem dX5_copies_551 : decode cX5_copies 551 = .ok (.iadd, 1) := dk_96 (dk_at dksX5_copies_23 18 rfl rfl)
theorem dX5_copies_552 : decode cX5_copies 552 = .ok (.iaload, 1) := dk_46 (dk_at dksX5_copies_23 19 rfl rfl)
theorem dX5_copies_553 : decode cX5_copies 553 = .ok (.iastore, 1) := dk_79 (dk_at dksX5_copies_23 20 rfl rfl)
theorem dX5_copies_554 : decode cX5_copies 554 = .ok (.aload_n 0, 1) := dk_42 (dk_at dksX5_copies_23 21 rfl rfl)
theorem dX5_copies_555 : decode cX5_copies 555 = .ok (.getfield 77, 3) := dk_180 0 77 (dk_at dksX5_copies_24 0 rfl rfl)
theorem dX5_copies_558 : decode cX5_copies 558 = .ok (.bipush 40, 2) := dk_16 40 (dk_at dksX5_copies_24 3 rfl rfl)
theorem dX5_copies_560 : decode cX5_copies 560 = .ok (.iload_n 2, 1) := dk_28 (dk_at dksX5_copies_24 5 rfl rfl)
theorem dX5_copies_561 : decode cX5_copies 561 = .ok (.imul, 1) := dk_104 (dk_at dksX5_copies_24 6 rfl rfl)
theorem dX5_copies_562 : decode cX5_copies 562 = .ok (.iload_n 3, 1) := dk_29 (dk_at dksX5_copies_24 7 rfl rfl)
theorem dX5_copies_563 : decode cX5_copies 563 = .ok (.iadd, 1) := dk_96 (dk_at dksX5_copies_24 8 rfl rfl)
theorem dX5_copies_564 : decode cX5_copies 564 = .ok (.aload_n 0, 1) := dk_42 (dk_at dksX5_copies_24 9 rfl rfl)
theorem dX5_copies_565 : decode cX5_copies 565 = .ok (.getfield 77, 3) := dk_180 0 77 (dk_at dksX5_copies_24 10 rfl rfl)
theorem dX5_copies_568 : decode cX5_copies 568 = .ok (.bipush 40, 2) := dk_16 40 (dk_at dksX5_copies_24 13 rfl rfl)
theorem dX5_copies_570 : decode cX5_copies 570 = .ok (.iload_n 1, 1) := dk_27 (dk_at dksX5_copies_24 15 rfl rfl)
theorem dX5_copies_571 : decode cX5_copies 571 = .ok (.imul, 1) := dk_104 (dk_at dksX5_copies_24 16 rfl rfl)
theorem dX5_copies_572 : decode cX5_copies 572 = .ok (.iload_n 3, 1) := dk_29 (dk_at dksX5_copies_24 17 rfl rfl)
theorem dX5_copies_573 : decode cX5_copies 573 = .ok (.iadd, 1) := dk_96 (dk_at dksX5_copies_24 18 rfl rfl)
theorem dX5_copies_574 : decode cX5_copies 574 = .ok (.iaload, 1) := dk_46 (dk_at dksX5_copies_24 19 rfl rfl)
theorem dX5_copies_575 : decode cX5_copies 575 = .ok (.iastore, 1) := dk_79 (dk_at dksX5_copies_24 20 rfl rfl)
theorem dX5_copies_576 : decode cX5_copies 576 = .ok (.iinc 3 1, 3) := dk_132 3 1 (dk_at dksX5_copies_24 21 rfl rfl)
theorem dX5_copies_579 : decode cX5_copies 579 = .ok (.goto (-119), 3) := dk_167 255 137 (dk_at dksX5_copies_25 0 rfl rfl)
theorem dX5_copies_582 : decode cX5_copies 582 = .ok (.iconst 0, 1) := dk_3 (dk_at dksX5_copies_25 3 rfl rfl)
theorem dX5_copies_583 : decode cX5_copies 583 = .ok (.istore_n 3, 1) := dk_62 (dk_at dksX5_copies_25 4 rfl rfl)
theorem dX5_copies_584 : decode cX5_copies 584 = .ok (.iload_n 3, 1) := dk_29 (dk_at dksX5_copies_25 5 rfl rfl)
theorem dX5_copies_585 : decode cX5_copies 585 = .ok (.sipush 400, 3) := dk_17 1 144 (dk_at dksX5_copies_25 6 rfl rfl)
theorem dX5_copies_588 : decode cX5_copies 588 = .ok (.if_icmp .ge 105, 3) := dk_162 0 105 (dk_at dksX5_copies_25 9 rfl rfl)
theorem dX5_copies_591 : decode cX5_copies 591 = .ok (.aload_n 0, 1) := dk_42 (dk_at dksX5_copies_25 12 rfl rfl)
theorem dX5_copies_592 : decode cX5_copies 592 = .ok (.getfield 80, 3) := dk_180 0 80 (dk_at dksX5_copies_25 13 rfl rfl)
theorem dX5_copies_595 : decode cX5_copies 595 = .ok (.sipush 400, 3) := dk_17 1 144 (dk_at dksX5_copies_25 16 rfl rfl)
theorem dX5_copies_598 : decode cX5_copies 598 = .ok (.iload_n 2, 1) := dk_28 (dk_at dksX5_copies_25 19 rfl rfl)
theorem dX5_copies_599 : decode cX5_copies 599 = .ok (.imul, 1) := dk_104 (dk_at dksX5_copies_25 20 rfl rfl)
theorem dX5_copies_600 : decode cX5_copies 600 = .ok (.iload_n 3, 1) := dk_29 (dk_at dksX5_copies_25 21 rfl rfl)
theorem dX5_copies_601 : decode cX5_copies 601 = .ok (.iadd, 1) := dk_96 (dk_at dksX5_copies_25 22 rfl rfl)
theorem dX5_copies_602 : decode cX5_copies 602 = .ok (.aload_n 0, 1) := dk_42 (dk_at dksX5_copies_25 23 rfl rfl)
theorem dX5_copies_603 : decode cX5_copies 603 = .ok (.getfield 80, 3) := dk_180 0 80 (dk_at dksX5_copies_26 0 rfl rfl)
theorem dX5_copies_606 : decode cX5_copies 606 = .ok (.sipush 400, 3) := dk_17 1 144 (dk_at dksX5_copies_26 3 rfl rfl)
theorem dX5_copies_609 : decode cX5_copies 609 = .ok (.iload_n 1, 1) := dk_27 (dk_at dksX5_copies_26 6 rfl rfl)
theorem dX5_copies_610 : decode cX5_copies 610 = .ok (.imul, 1) := dk_104 (dk_at dksX5_copies_26 7 rfl rfl)
theorem dX5_copies_611 : decode cX5_copies 611 = .ok (.iload_n 3, 1) := dk_29 (dk_at dksX5_copies_26 8 rfl rfl)
theorem dX5_copies_612 : decode cX5_copies 612 = .ok (.iadd, 1) := dk_96 (dk_at dksX5_copies_26 9 rfl rfl)
theorem dX5_copies_613 : decode cX5_copies 613 = .ok (.iaload, 1) := dk_46 (dk_at dksX5_copies_26 10 rfl rfl)
theorem dX5_copies_614 : decode cX5_copies 614 = .ok (.iastore, 1) := dk_79 (dk_at dksX5_copies_26 11 rfl rfl)
theorem dX5_copies_615 : decode cX5_copies 615 = .ok (.aload_n 0, 1) := dk_42 (dk_at dksX5_copies_26 12 rfl rfl)
theorem dX5_copies_616 : decode cX5_copies 616 = .ok (.getfield 83, 3) := dk_180 0 83 (dk_at dksX5_copies_26 13 rfl rfl)
theorem dX5_copies_619 : decode cX5_copies 619 = .ok (.sipush 400, 3) := dk_17 1 144 (dk_at dksX5_copies_26 16 rfl rfl)
theorem dX5_copies_622 : decode cX5_copies 622 = .ok (.iload_n 2, 1) := dk_28 (dk_at dksX5_copies_26 19 rfl rfl)
theorem dX5_copies_623 : decode cX5_copies 623 = .ok (.imul, 1) := dk_104 (dk_at dksX5_copies_26 20 rfl rfl)
theorem dX5_copies_624 : decode cX5_copies 624 = .ok (.iload_n 3, 1) := dk_29 (dk_at dksX5_copies_26 21 rfl rfl)
theorem dX5_copies_625 : decode cX5_copies 625 = .ok (.iadd, 1) := dk_96 (dk_at dksX5_copies_26 22 rfl rfl)
theorem dX5_copies_626 : decode cX5_copies 626 = .ok (.aload_n 0, 1) := dk_42 (dk_at dksX5_copies_26 23 rfl rfl)
theorem dX5_copies_627 : decode cX5_copies 627 = .ok (.getfield 83, 3) := dk_180 0 83 (dk_at dksX5_copies_27 0 rfl rfl)
theorem dX5_copies_630 : decode cX5_copies 630 = .ok (.sipush 400, 3) := dk_17 1 144 (dk_at dksX5_copies_27 3 rfl rfl)
theorem dX5_copies_633 : decode cX5_copies 633 = .ok (.iload_n 1, 1) := dk_27 (dk_at dksX5_copies_27 6 rfl rfl)
theorem dX5_copies_634 : decode cX5_copies 634 = .ok (.imul, 1) := dk_104 (dk_at dksX5_copies_27 7 rfl rfl)
theorem dX5_copies_635 : decode cX5_copies 635 = .ok (.iload_n 3, 1) := dk_29 (dk_at dksX5_copies_27 8 rfl rfl)
theorem dX5_copies_636 : decode cX5_copies 636 = .ok (.iadd, 1) := dk_96 (dk_at dksX5_copies_27 9 rfl rfl)
theorem dX5_copies_637 : decode cX5_copies 637 = .ok (.iaload, 1) := dk_46 (dk_at dksX5_copies_27 10 rfl rfl)
theorem dX5_copies_638 : decode cX5_copies 638 = .ok (.iastore, 1) := dk_79 (dk_at dksX5_copies_27 11 rfl rfl)
theorem dX5_copies_639 : decode cX5_copies 639 = .ok (.aload_n 0, 1) := dk_42 (dk_at dksX5_copies_27 12 rfl rfl)
theorem dX5_copies_640 : decode cX5_copies 640 = .ok (.getfield 86, 3) := dk_180 0 86 (dk_at dksX5_copies_27 13 rfl rfl)
theorem dX5_copies_643 : decode cX5_copies 643 = .ok (.sipush 400, 3) := dk_17 1 144 (dk_at dksX5_copies_27 16 rfl rfl)
theorem dX5_copies_646 : decode cX5_copies 646 = .ok (.iload_n 2, 1) := dk_28 (dk_at dksX5_copies_27 19 rfl rfl)
theorem dX5_copies_647 : decode cX5_copies 647 = .ok (.imul, 1) := dk_104 (dk_at dksX5_copies_27 20 rfl rfl)
theorem dX5_copies_648 : decode cX5_copies 648 = .ok (.iload_n 3, 1) := dk_29 (dk_at dksX5_copies_27 21 rfl rfl)
theorem dX5_copies_649 : decode cX5_copies 649 = .ok (.iadd, 1) := dk_96 (dk_at dksX5_copies_27 22 rfl rfl)
theorem dX5_copies_650 : decode cX5_copies 650 = .ok (.aload_n 0, 1) := dk_42 (dk_at dksX5_copies_27 23 rfl rfl)
theorem dX5_copies_651 : decode cX5_copies 651 = .ok (.getfield 86, 3) := dk_180 0 86 (dk_at dksX5_copies_28 0 rfl rfl)
theorem dX5_copies_654 : decode cX5_copies 654 = .ok (.sipush 400, 3) := dk_17 1 144 (dk_at dksX5_copies_28 3 rfl rfl)
theorem dX5_copies_657 : decode cX5_copies 657 = .ok (.iload_n 1, 1) := dk_27 (dk_at dksX5_copies_28 6 rfl rfl)
theorem dX5_copies_658 : decode cX5_copies 658 = .ok (.imul, 1) := dk_104 (dk_at dksX5_copies_28 7 rfl rfl)
theorem dX5_copies_659 : decode cX5_copies 659 = .ok (.iload_n 3, 1) := dk_29 (dk_at dksX5_copies_28 8 rfl rfl)
theorem dX5_copies_660 : decode cX5_copies 660 = .ok (.iadd, 1) := dk_96 (dk_at dksX5_copies_28 9 rfl rfl)
theorem dX5_copies_661 : decode cX5_copies 661 = .ok (.iaload, 1) := dk_46 (dk_at dksX5_copies_28 10 rfl rfl)
theorem dX5_copies_662 : decode cX5_copies 662 = .ok (.iastore, 1) := dk_79 (dk_at dksX5_copies_28 11 rfl rfl)
theorem dX5_copies_663 : decode cX5_copies 663 = .ok (.aload_n 0, 1) := dk_42 (dk_at dksX5_copies_28 12 rfl rfl)
theorem dX5_copies_664 : decode cX5_copies 664 = .ok (.getfield 89, 3) := dk_180 0 89 (dk_at dksX5_copies_28 13 rfl rfl)
theorem dX5_copies_667 : decode cX5_copies 667 = .ok (.sipush 400, 3) := dk_17 1 144 (dk_at dksX5_copies_28 16 rfl rfl)
theorem dX5_copies_670 : decode cX5_copies 670 = .ok (.iload_n 2, 1) := dk_28 (dk_at dksX5_copies_28 19 rfl rfl)
theorem dX5_copies_671 : decode cX5_copies 671 = .ok (.imul, 1) := dk_104 (dk_at dksX5_copies_28 20 rfl rfl)
theorem dX5_copies_672 : decode cX5_copies 672 = .ok (.iload_n 3, 1) := dk_29 (dk_at dksX5_copies_28 21 rfl rfl)
theorem dX5_copies_673 : decode cX5_copies 673 = .ok (.iadd, 1) := dk_96 (dk_at dksX5_copies_28 22 rfl rfl)
theorem dX5_copies_674 : decode cX5_copies 674 = .ok (.aload_n 0, 1) := dk_42 (dk_at dksX5_copies_28 23 rfl rfl)
theorem dX5_copies_675 : decode cX5_copies 675 = .ok (.getfield 89, 3) := dk_180 0 89 (dk_at dksX5_copies_29 0 rfl rfl)
theorem dX5_copies_678 : decode cX5_copies 678 = .ok (.sipush 400, 3) := dk_17 1 144 (dk_at dksX5_copies_29 3 rfl rfl)
theorem dX5_copies_681 : decode cX5_copies 681 = .ok (.iload_n 1, 1) := dk_27 (dk_at dksX5_copies_29 6 rfl rfl)
theorem dX5_copies_682 : decode cX5_copies 682 = .ok (.imul, 1) := dk_104 (dk_at dksX5_copies_29 7 rfl rfl)
theorem dX5_copies_683 : decode cX5_copies 683 = .ok (.iload_n 3, 1) := dk_29 (dk_at dksX5_copies_29 8 rfl rfl)
theorem dX5_copies_684 : decode cX5_copies 684 = .ok (.iadd, 1) := dk_96 (dk_at dksX5_copies_29 9 rfl rfl)
theorem dX5_copies_685 : decode cX5_copies 685 = .ok (.iaload, 1) := dk_46 (dk_at dksX5_copies_29 10 rfl rfl)
theorem dX5_copies_686 : decode cX5_copies 686 = .ok (.iastore, 1) := dk_79 (dk_at dksX5_copies_29 11 rfl rfl)
theorem dX5_copies_687 : decode cX5_copies 687 = .ok (.iinc 3 1, 3) := dk_132 3 1 (dk_at dksX5_copies_29 12 rfl rfl)
theorem dX5_copies_690 : decode cX5_copies 690 = .ok (.goto (-106), 3) := dk_167 255 150 (dk_at dksX5_copies_29 15 rfl rfl)
theorem dX5_copies_693 : decode cX5_copies 693 = .ok (.return_, 1) := dk_177 (dk_at dksX5_copies_29 18 rfl rfl)
abbrev cX5_compare : ByteArray := prog_20_method_95_code
def yX5_compare : MethodName := ⟨RX5, "compare", "(I)I"⟩
def dkwX5_compare_4 : List UInt8 := [167, 255, 196, 27, 154, 0, 7, 28, 167, 0, 14, 27, 4, 160, 0, 8, 21, 4, 167, 0, 4, 29, 172]
abbrev dktX5_compare_4 : List UInt8 := dkwX5_compare_4 ++ []
def dkwX5_compare_3 : List UInt8 := [21, 5, 182, 2, 0, 154, 0, 6, 167, 0, 13, 132, 2, 1, 29, 156, 0, 6, 21, 5, 62, 132, 5, 1]
abbrev dktX5_compare_3 : List UInt8 := dkwX5_compare_3 ++ dktX5_compare_4
def dkwX5_compare_2 : List UInt8 := [180, 0, 92, 21, 5, 182, 1, 239, 42, 42, 180, 1, 144, 21, 5, 182, 1, 239, 100, 96, 54, 4, 42]
abbrev dktX5_compare_2 : List UInt8 := dkwX5_compare_2 ++ dktX5_compare_3
def dkwX5_compare_1 : List UInt8 := [172, 3, 61, 2, 62, 3, 54, 4, 3, 54, 5, 21, 5, 42, 180, 1, 150, 162, 0, 57, 21, 4, 42, 42]
abbrev dktX5_compare_1 : List UInt8 := dkwX5_compare_1 ++ dktX5_compare_2
def dkwX5_compare_0 : List UInt8 := [42, 3, 181, 0, 160, 42, 180, 1, 251, 153, 0, 12, 27, 3, 5, 184, 0, 170, 154, 0, 7, 19, 1, 255]
abbrev dktX5_compare_0 : List UInt8 := dkwX5_compare_0 ++ dktX5_compare_1
theorem dksX5_compare_0 : cX5_compare.data.toList.drop 0 = dktX5_compare_0 := by decide +kernel
theorem dksX5_compare_1 : cX5_compare.data.toList.drop 24 = dktX5_compare_1 := dk_seg dksX5_compare_0 24 rfl rfl
theorem dksX5_compare_2 : cX5_compare.data.toList.drop 48 = dktX5_compare_2 := dk_seg dksX5_compare_1 24 rfl rfl
theorem dksX5_compare_3 : cX5_compare.data.toList.drop 71 = dktX5_compare_3 := dk_seg dksX5_compare_2 23 rfl rfl
theorem dksX5_compare_4 : cX5_compare.data.toList.drop 95 = dktX5_compare_4 := dk_seg dksX5_compare_3 24 rfl rfl
theorem dX5_compare_0 : decode cX5_compare 0 = .ok (.aload_n 0, 1) := dk_42 (dk_at dksX5_compare_0 0 rfl rfl)
theorem dX5_compare_1 : decode cX5_compare 1 = .ok (.iconst 0, 1) := dk_3 (dk_at dksX5_compare_0 1 rfl rfl)
theorem dX5_compare_2 : decode cX5_compare 2 = .ok (.putfield 160, 3) := dk_181 0 160 (dk_at dksX5_compare_0 2 rfl rfl)
theorem dX5_compare_5 : decode cX5_compare 5 = .ok (.aload_n 0, 1) := dk_42 (dk_at dksX5_compare_0 5 rfl rfl)
theorem dX5_compare_6 : decode cX5_compare 6 = .ok (.getfield 507, 3) := dk_180 1 251 (dk_at dksX5_compare_0 6 rfl rfl)
theorem dX5_compare_9 : decode cX5_compare 9 = .ok (.ifCond .eq 12, 3) := dk_153 0 12 (dk_at dksX5_compare_0 9 rfl rfl)
theorem dX5_compare_12 : decode cX5_compare 12 = .ok (.iload_n 1, 1) := dk_27 (dk_at dksX5_compare_0 12 rfl rfl)
theorem dX5_compare_13 : decode cX5_compare 13 = .ok (.iconst 0, 1) := dk_3 (dk_at dksX5_compare_0 13 rfl rfl)
theorem dX5_compare_14 : decode cX5_compare 14 = .ok (.iconst 2, 1) := dk_5 (dk_at dksX5_compare_0 14 rfl rfl)
theorem dX5_compare_15 : decode cX5_compare 15 = .ok (.invokestatic 170, 3) := dk_184 0 170 (dk_at dksX5_compare_0 15 rfl rfl)
theorem dX5_compare_18 : decode cX5_compare 18 = .ok (.ifCond .ne 7, 3) := dk_154 0 7 (dk_at dksX5_compare_0 18 rfl rfl)
theorem dX5_compare_21 : decode cX5_compare 21 = .ok (.ldc_w 511, 3) := dk_19 1 255 (dk_at dksX5_compare_0 21 rfl rfl)
theorem dX5_compare_24 : decode cX5_compare 24 = .ok (.ireturn, 1) := dk_172 (dk_at dksX5_compare_1 0 rfl rfl)
theorem dX5_compare_25 : decode cX5_compare 25 = .ok (.iconst 0, 1) := dk_3 (dk_at dksX5_compare_1 1 rfl rfl)
theorem dX5_compare_26 : decode cX5_compare 26 = .ok (.istore_n 2, 1) := dk_61 (dk_at dksX5_compare_1 2 rfl rfl)
theorem dX5_compare_27 : decode cX5_compare 27 = .ok (.iconst (-1), 1) := dk_2 (dk_at dksX5_compare_1 3 rfl rfl)
theorem dX5_compare_28 : decode cX5_compare 28 = .ok (.istore_n 3, 1) := dk_62 (dk_at dksX5_compare_1 4 rfl rfl)
theorem dX5_compare_29 : decode cX5_compare 29 = .ok (.iconst 0, 1) := dk_3 (dk_at dksX5_compare_1 5 rfl rfl)
theorem dX5_compare_30 : decode cX5_compare 30 = .ok (.istore 4, 2) := dk_54 4 (dk_at dksX5_compare_1 6 rfl rfl)
theorem dX5_compare_32 : decode cX5_compare 32 = .ok (.iconst 0, 1) := dk_3 (dk_at dksX5_compare_1 8 rfl rfl)
theorem dX5_compare_33 : decode cX5_compare 33 = .ok (.istore 5, 2) := dk_54 5 (dk_at dksX5_compare_1 9 rfl rfl)
theorem dX5_compare_35 : decode cX5_compare 35 = .ok (.iload 5, 2) := dk_21 5 (dk_at dksX5_compare_1 11 rfl rfl)
theorem dX5_compare_37 : decode cX5_compare 37 = .ok (.aload_n 0, 1) := dk_42 (dk_at dksX5_compare_1 13 rfl rfl)
theorem dX5_compare_38 : decode cX5_compare 38 = .ok (.getfield 406, 3) := dk_180 1 150 (dk_at dksX5_compare_1 14 rfl rfl)
theorem dX5_compare_41 : decode cX5_compare 41 = .ok (.if_icmp .ge 57, 3) := dk_162 0 57 (dk_at dksX5_compare_1 17 rfl rfl)
theorem dX5_compare_44 : decode cX5_compare 44 = .ok (.iload 4, 2) := dk_21 4 (dk_at dksX5_compare_1 20 rfl rfl)
theorem dX5_compare_46 : decode cX5_compare 46 = .ok (.aload_n 0, 1) := dk_42 (dk_at dksX5_compare_1 22 rfl rfl)
theorem dX5_compare_47 : decode cX5_compare 47 = .ok (.aload_n 0, 1) := dk_42 (dk_at dksX5_compare_1 23 rfl rfl)
theorem dX5_compare_48 : decode cX5_compare 48 = .ok (.getfield 92, 3) := dk_180 0 92 (dk_at dksX5_compare_2 0 rfl rfl)
theorem dX5_compare_51 : decode cX5_compare 51 = .ok (.iload 5, 2) := dk_21 5 (dk_at dksX5_compare_2 3 rfl rfl)
theorem dX5_compare_53 : decode cX5_compare 53 = .ok (.invokevirtual 495, 3) := dk_182 1 239 (dk_at dksX5_compare_2 5 rfl rfl)
theorem dX5_compare_56 : decode cX5_compare 56 = .ok (.aload_n 0, 1) := dk_42 (dk_at dksX5_compare_2 8 rfl rfl)
theorem dX5_compare_57 : decode cX5_compare 57 = .ok (.aload_n 0, 1) := dk_42 (dk_at dksX5_compare_2 9 rfl rfl)
theorem dX5_compare_58 : decode cX5_compare 58 = .ok (.getfield 400, 3) := dk_180 1 144 (dk_at dksX5_compare_2 10 rfl rfl)
theorem dX5_compare_61 : decode cX5_compare 61 = .ok (.iload 5, 2) := dk_21 5 (dk_at dksX5_compare_2 13 rfl rfl)
theorem dX5_compare_63 : decode cX5_compare 63 = .ok (.invokevirtual 495, 3) := dk_182 1 239 (dk_at dksX5_compare_2 15 rfl rfl)
theorem dX5_compare_66 : decode cX5_compare 66 = .ok (.isub, 1) := dk_100 (dk_at dksX5_compare_2 18 rfl rfl)
theorem dX5_compare_67 : decode cX5_compare 67 = .ok (.iadd, 1) := dk_96 (dk_at dksX5_compare_2 19 rfl rfl)
theorem dX5_compare_68 : decode cX5_compare 68 = .ok (.istore 4, 2) := dk_54 4 (dk_at dksX5_compare_2 20 rfl rfl)
theorem dX5_compare_70 : decode cX5_compare 70 = .ok (.aload_n 0, 1) := dk_42 (dk_at dksX5_compare_2 22 rfl rfl)
theorem dX5_compare_71 : decode cX5_compare 71 = .ok (.iload 5, 2) := dk_21 5 (dk_at dksX5_compare_3 0 rfl rfl)
theorem dX5_compare_73 : decode cX5_compare 73 = .ok (.invokevirtual 512, 3) := dk_182 2 0 (dk_at dksX5_compare_3 2 rfl rfl)
theorem dX5_compare_76 : decode cX5_compare 76 = .ok (.ifCond .ne 6, 3) := dk_154 0 6 (dk_at dksX5_compare_3 5 rfl rfl)
theorem dX5_compare_79 : decode cX5_compare 79 = .ok (.goto 13, 3) := dk_167 0 13 (dk_at dksX5_compare_3 8 rfl rfl)
theorem dX5_compare_82 : decode cX5_compare 82 = .ok (.iinc 2 1, 3) := dk_132 2 1 (dk_at dksX5_compare_3 11 rfl rfl)
theorem dX5_compare_85 : decode cX5_compare 85 = .ok (.iload_n 3, 1) := dk_29 (dk_at dksX5_compare_3 14 rfl rfl)
theorem dX5_compare_86 : decode cX5_compare 86 = .ok (.ifCond .ge 6, 3) := dk_156 0 6 (dk_at dksX5_compare_3 15 rfl rfl)
theorem dX5_compare_89 : decode cX5_compare 89 = .ok (.iload 5, 2) := dk_21 5 (dk_at dksX5_compare_3 18 rfl rfl)
theorem dX5_compare_91 : decode cX5_compare 91 = .ok (.istore_n 3, 1) := dk_62 (dk_at dksX5_compare_3 20 rfl rfl)
theorem dX5_compare_92 : decode cX5_compare 92 = .ok (.iinc 5 1, 3) := dk_132 5 1 (dk_at dksX5_compare_3 21 rfl rfl)
theorem dX5_compare_95 : decode cX5_compare 95 = .ok (.goto (-60), 3) := dk_167 255 196 (dk_at dksX5_compare_4 0 rfl rfl)
theorem dX5_compare_98 : decode cX5_compare 98 = .ok (.iload_n 1, 1) := dk_27 (dk_at dksX5_compare_4 3 rfl rfl)
theorem dX5_compare_99 : decode cX5_compare 99 = .ok (.ifCond .ne 7, 3) := dk_154 0 7 (dk_at dksX5_compare_4 4 rfl rfl)
theorem dX5_compare_102 : decode cX5_compare 102 = .ok (.iload_n 2, 1) := dk_28 (dk_at dksX5_compare_4 7 rfl rfl)
theorem dX5_compare_103 : decode cX5_compare 103 = .ok (.goto 14, 3) := dk_167 0 14 (dk_at dksX5_compare_4 8 rfl rfl)
theorem dX5_compare_106 : decode cX5_compare 106 = .ok (.iload_n 1, 1) := dk_27 (dk_at dksX5_compare_4 11 rfl rfl)
theorem dX5_compare_107 : decode cX5_compare 107 = .ok (.iconst 1, 1) := dk_4 (dk_at dksX5_compare_4 12 rfl rfl)
theorem dX5_compare_108 : decode cX5_compare 108 = .ok (.if_icmp .ne 8, 3) := dk_160 0 8 (dk_at dksX5_compare_4 13 rfl rfl)
theorem dX5_compare_111 : decode cX5_compare 111 = .ok (.iload 4, 2) := dk_21 4 (dk_at dksX5_compare_4 16 rfl rfl)
theorem dX5_compare_113 : decode cX5_compare 113 = .ok (.goto 4, 3) := dk_167 0 4 (dk_at dksX5_compare_4 18 rfl rfl)
theorem dX5_compare_116 : decode cX5_compare 116 = .ok (.iload_n 3, 1) := dk_29 (dk_at dksX5_compare_4 21 rfl rfl)
theorem dX5_compare_117 : decode cX5_compare 117 = .ok (.ireturn, 1) := dk_172 (dk_at dksX5_compare_4 22 rfl rfl)
abbrev cX5_isMoved : ByteArray := prog_20_method_94_code
def yX5_isMoved : MethodName := ⟨RX5, "isMoved", "(I)Z"⟩
def dkwX5_isMoved_3 : List UInt8 := [153, 0, 7, 4, 167, 0, 4, 3, 172]
abbrev dktX5_isMoved_3 : List UInt8 := dkwX5_isMoved_3 ++ []
def dkwX5_isMoved_2 : List UInt8 := [42, 180, 1, 144, 104, 28, 96, 47, 42, 180, 0, 59, 16, 16, 42, 180, 0, 92, 104, 29, 96, 47, 148]
abbrev dktX5_isMoved_2 : List UInt8 := dkwX5_isMoved_2 ++ dktX5_isMoved_3
def dkwX5_isMoved_1 : List UInt8 := [29, 156, 0, 17, 28, 156, 0, 7, 29, 155, 0, 7, 4, 167, 0, 4, 3, 172, 42, 180, 0, 59, 16, 16]
abbrev dktX5_isMoved_1 : List UInt8 := dkwX5_isMoved_1 ++ dktX5_isMoved_2
def dkwX5_isMoved_0 : List UInt8 := [42, 42, 180, 1, 144, 27, 182, 1, 214, 61, 42, 42, 180, 0, 92, 27, 182, 1, 214, 62, 28, 155, 0, 7]
abbrev dktX5_isMoved_0 : List UInt8 := dkwX5_isMoved_0 ++ dktX5_isMoved_1
theorem dksX5_isMoved_0 : cX5_isMoved.data.toList.drop 0 = dktX5_isMoved_0 := by decide +kernel
theorem dksX5_isMoved_1 : cX5_isMoved.data.toList.drop 24 = dktX5_isMoved_1 := dk_seg dksX5_isMoved_0 24 rfl rfl
theorem dksX5_isMoved_2 : cX5_isMoved.data.toList.drop 48 = dktX5_isMoved_2 := dk_seg dksX5_isMoved_1 24 rfl rfl
theorem dksX5_isMoved_3 : cX5_isMoved.data.toList.drop 71 = dktX5_isMoved_3 := dk_seg dksX5_isMoved_2 23 rfl rfl
theorem dX5_isMoved_0 : decode cX5_isMoved 0 = .ok (.aload_n 0, 1) := dk_42 (dk_at dksX5_isMoved_0 0 rfl rfl)
theorem dX5_isMoved_1 : decode cX5_isMoved 1 = .ok (.aload_n 0, 1) := dk_42 (dk_at dksX5_isMoved_0 1 rfl rfl)
theorem dX5_isMoved_2 : decode cX5_isMoved 2 = .ok (.getfield 400, 3) := dk_180 1 144 (dk_at dksX5_isMoved_0 2 rfl rfl)
theorem dX5_isMoved_5 : decode cX5_isMoved 5 = .ok (.iload_n 1, 1) := dk_27 (dk_at dksX5_isMoved_0 5 rfl rfl)
theorem dX5_isMoved_6 : decode cX5_isMoved 6 = .ok (.invokevirtual 470, 3) := dk_182 1 214 (dk_at dksX5_isMoved_0 6 rfl rfl)
theorem dX5_isMoved_9 : decode cX5_isMoved 9 = .ok (.istore_n 2, 1) := dk_61 (dk_at dksX5_isMoved_0 9 rfl rfl)
theorem dX5_isMoved_10 : decode cX5_isMoved 10 = .ok (.aload_n 0, 1) := dk_42 (dk_at dksX5_isMoved_0 10 rfl rfl)
theorem dX5_isMoved_11 : decode cX5_isMoved 11 = .ok (.aload_n 0, 1) := dk_42 (dk_at dksX5_isMoved_0 11 rfl rfl)
theorem dX5_isMoved_12 : decode cX5_isMoved 12 = .ok (.getfield 92, 3) := dk_180 0 92 (dk_at dksX5_isMoved_0 12 rfl rfl)
theorem dX5_isMoved_15 : decode cX5_isMoved 15 = .ok (.iload_n 1, 1) := dk_27 (dk_at dksX5_isMoved_0 15 rfl rfl)
theorem dX5_isMoved_16 : decode cX5_isMoved 16 = .ok (.invokevirtual 470, 3) := dk_182 1 214 (dk_at dksX5_isMoved_0 16 rfl rfl)
theorem dX5_isMoved_19 : decode cX5_isMoved 19 = .ok (.istore_n 3, 1) := dk_62 (dk_at dksX5_isMoved_0 19 rfl rfl)
theorem dX5_isMoved_20 : decode cX5_isMoved 20 = .ok (.iload_n 2, 1) := dk_28 (dk_at dksX5_isMoved_0 20 rfl rfl)
theorem dX5_isMoved_21 : decode cX5_isMoved 21 = .ok (.ifCond .lt 7, 3) := dk_155 0 7 (dk_at dksX5_isMoved_0 21 rfl rfl)
theorem dX5_isMoved_24 : decode cX5_isMoved 24 = .ok (.iload_n 3, 1) := dk_29 (dk_at dksX5_isMoved_1 0 rfl rfl)
theorem dX5_isMoved_25 : decode cX5_isMoved 25 = .ok (.ifCond .ge 17, 3) := dk_156 0 17 (dk_at dksX5_isMoved_1 1 rfl rfl)
theorem dX5_isMoved_28 : decode cX5_isMoved 28 = .ok (.iload_n 2, 1) := dk_28 (dk_at dksX5_isMoved_1 4 rfl rfl)
theorem dX5_isMoved_29 : decode cX5_isMoved 29 = .ok (.ifCond .ge 7, 3) := dk_156 0 7 (dk_at dksX5_isMoved_1 5 rfl rfl)
theorem dX5_isMoved_32 : decode cX5_isMoved 32 = .ok (.iload_n 3, 1) := dk_29 (dk_at dksX5_isMoved_1 8 rfl rfl)
theorem dX5_isMoved_33 : decode cX5_isMoved 33 = .ok (.ifCond .lt 7, 3) := dk_155 0 7 (dk_at dksX5_isMoved_1 9 rfl rfl)
theorem dX5_isMoved_36 : decode cX5_isMoved 36 = .ok (.iconst 1, 1) := dk_4 (dk_at dksX5_isMoved_1 12 rfl rfl)
theorem dX5_isMoved_37 : decode cX5_isMoved 37 = .ok (.goto 4, 3) := dk_167 0 4 (dk_at dksX5_isMoved_1 13 rfl rfl)
theorem dX5_isMoved_40 : decode cX5_isMoved 40 = .ok (.iconst 0, 1) := dk_3 (dk_at dksX5_isMoved_1 16 rfl rfl)
theorem dX5_isMoved_41 : decode cX5_isMoved 41 = .ok (.ireturn, 1) := dk_172 (dk_at dksX5_isMoved_1 17 rfl rfl)
theorem dX5_isMoved_42 : decode cX5_isMoved 42 = .ok (.aload_n 0, 1) := dk_42 (dk_at dksX5_isMoved_1 18 rfl rfl)
theorem dX5_isMoved_43 : decode cX5_isMoved 43 = .ok (.getfield 59, 3) := dk_180 0 59 (dk_at dksX5_isMoved_1 19 rfl rfl)
theorem dX5_isMoved_46 : decode cX5_isMoved 46 = .ok (.bipush 16, 2) := dk_16 16 (dk_at dksX5_isMoved_1 22 rfl rfl)
theorem dX5_isMoved_48 : decode cX5_isMoved 48 = .ok (.aload_n 0, 1) := dk_42 (dk_at dksX5_isMoved_2 0 rfl rfl)
theorem dX5_isMoved_49 : decode cX5_isMoved 49 = .ok (.getfield 400, 3) := dk_180 1 144 (dk_at dksX5_isMoved_2 1 rfl rfl)
theorem dX5_isMoved_52 : decode cX5_isMoved 52 = .ok (.imul, 1) := dk_104 (dk_at dksX5_isMoved_2 4 rfl rfl)
theorem dX5_isMoved_53 : decode cX5_isMoved 53 = .ok (.iload_n 2, 1) := dk_28 (dk_at dksX5_isMoved_2 5 rfl rfl)
theorem dX5_isMoved_54 : decode cX5_isMoved 54 = .ok (.iadd, 1) := dk_96 (dk_at dksX5_isMoved_2 6 rfl rfl)
theorem dX5_isMoved_55 : decode cX5_isMoved 55 = .ok (.laload, 1) := dk_47 (dk_at dksX5_isMoved_2 7 rfl rfl)
theorem dX5_isMoved_56 : decode cX5_isMoved 56 = .ok (.aload_n 0, 1) := dk_42 (dk_at dksX5_isMoved_2 8 rfl rfl)
theorem dX5_isMoved_57 : decode cX5_isMoved 57 = .ok (.getfield 59, 3) := dk_180 0 59 (dk_at dksX5_isMoved_2 9 rfl rfl)
theorem dX5_isMoved_60 : decode cX5_isMoved 60 = .ok (.bipush 16, 2) := dk_16 16 (dk_at dksX5_isMoved_2 12 rfl rfl)
theorem dX5_isMoved_62 : decode cX5_isMoved 62 = .ok (.aload_n 0, 1) := dk_42 (dk_at dksX5_isMoved_2 14 rfl rfl)
theorem dX5_isMoved_63 : decode cX5_isMoved 63 = .ok (.getfield 92, 3) := dk_180 0 92 (dk_at dksX5_isMoved_2 15 rfl rfl)
theorem dX5_isMoved_66 : decode cX5_isMoved 66 = .ok (.imul, 1) := dk_104 (dk_at dksX5_isMoved_2 18 rfl rfl)
theorem dX5_isMoved_67 : decode cX5_isMoved 67 = .ok (.iload_n 3, 1) := dk_29 (dk_at dksX5_isMoved_2 19 rfl rfl)
theorem dX5_isMoved_68 : decode cX5_isMoved 68 = .ok (.iadd, 1) := dk_96 (dk_at dksX5_isMoved_2 20 rfl rfl)
theorem dX5_isMoved_69 : decode cX5_isMoved 69 = .ok (.laload, 1) := dk_47 (dk_at dksX5_isMoved_2 21 rfl rfl)
theorem dX5_isMoved_70 : decode cX5_isMoved 70 = .ok (.lcmp, 1) := dk_148 (dk_at dksX5_isMoved_2 22 rfl rfl)
theorem dX5_isMoved_71 : decode cX5_isMoved 71 = .ok (.ifCond .eq 7, 3) := dk_153 0 7 (dk_at dksX5_isMoved_3 0 rfl rfl)
theorem dX5_isMoved_74 : decode cX5_isMoved 74 = .ok (.iconst 1, 1) := dk_4 (dk_at dksX5_isMoved_3 3 rfl rfl)
theorem dX5_isMoved_75 : decode cX5_isMoved 75 = .ok (.goto 4, 3) := dk_167 0 4 (dk_at dksX5_isMoved_3 4 rfl rfl)
theorem dX5_isMoved_78 : decode cX5_isMoved 78 = .ok (.iconst 0, 1) := dk_3 (dk_at dksX5_isMoved_3 7 rfl rfl)
theorem dX5_isMoved_79 : decode cX5_isMoved 79 = .ok (.ireturn, 1) := dk_172 (dk_at dksX5_isMoved_3 8 rfl rfl)
abbrev cX5_keptWeight : ByteArray := prog_20_method_96_code
def yX5_keptWeight : MethodName := ⟨RX5, "keptWeight", "(I)I"⟩
def dkwX5_keptWeight_1 : List UInt8 := [180, 0, 92, 27, 182, 1, 239, 167, 0, 4, 2, 172]
abbrev dktX5_keptWeight_1 : List UInt8 := dkwX5_keptWeight_1 ++ []
def dkwX5_keptWeight_0 : List UInt8 := [42, 3, 181, 0, 160, 42, 180, 1, 251, 153, 0, 23, 42, 27, 182, 1, 153, 153, 0, 15, 42, 42]
abbrev dktX5_keptWeight_0 : List UInt8 := dkwX5_keptWeight_0 ++ dktX5_keptWeight_1
theorem dksX5_keptWeight_0 : cX5_keptWeight.data.toList.drop 0 = dktX5_keptWeight_0 := by decide +kernel
theorem dksX5_keptWeight_1 : cX5_keptWeight.data.toList.drop 22 = dktX5_keptWeight_1 := dk_seg dksX5_keptWeight_0 22 rfl rfl
theorem dX5_keptWeight_0 : decode cX5_keptWeight 0 = .ok (.aload_n 0, 1) := dk_42 (dk_at dksX5_keptWeight_0 0 rfl rfl)
theorem dX5_keptWeight_1 : decode cX5_keptWeight 1 = .ok (.iconst 0, 1) := dk_3 (dk_at dksX5_keptWeight_0 1 rfl rfl)
theorem dX5_keptWeight_2 : decode cX5_keptWeight 2 = .ok (.putfield 160, 3) := dk_181 0 160 (dk_at dksX5_keptWeight_0 2 rfl rfl)
theorem dX5_keptWeight_5 : decode cX5_keptWeight 5 = .ok (.aload_n 0, 1) := dk_42 (dk_at dksX5_keptWeight_0 5 rfl rfl)
theorem dX5_keptWeight_6 : decode cX5_keptWeight 6 = .ok (.getfield 507, 3) := dk_180 1 251 (dk_at dksX5_keptWeight_0 6 rfl rfl)
theorem dX5_keptWeight_9 : decode cX5_keptWeight 9 = .ok (.ifCond .eq 23, 3) := dk_153 0 23 (dk_at dksX5_keptWeight_0 9 rfl rfl)
theorem dX5_keptWeight_12 : decode cX5_keptWeight 12 = .ok (.aload_n 0, 1) := dk_42 (dk_at dksX5_keptWeight_0 12 rfl rfl)
theorem dX5_keptWeight_13 : decode cX5_keptWeight 13 = .ok (.iload_n 1, 1) := dk_27 (dk_at dksX5_keptWeight_0 13 rfl rfl)
theorem dX5_keptWeight_14 : decode cX5_keptWeight 14 = .ok (.invokevirtual 409, 3) := dk_182 1 153 (dk_at dksX5_keptWeight_0 14 rfl rfl)
theorem dX5_keptWeight_17 : decode cX5_keptWeight 17 = .ok (.ifCond .eq 15, 3) := dk_153 0 15 (dk_at dksX5_keptWeight_0 17 rfl rfl)
theorem dX5_keptWeight_20 : decode cX5_keptWeight 20 = .ok (.aload_n 0, 1) := dk_42 (dk_at dksX5_keptWeight_0 20 rfl rfl)
theorem dX5_keptWeight_21 : decode cX5_keptWeight 21 = .ok (.aload_n 0, 1) := dk_42 (dk_at dksX5_keptWeight_0 21 rfl rfl)
theorem dX5_keptWeight_22 : decode cX5_keptWeight 22 = .ok (.getfield 92, 3) := dk_180 0 92 (dk_at dksX5_keptWeight_1 0 rfl rfl)
theorem dX5_keptWeight_25 : decode cX5_keptWeight 25 = .ok (.iload_n 1, 1) := dk_27 (dk_at dksX5_keptWeight_1 3 rfl rfl)
theorem dX5_keptWeight_26 : decode cX5_keptWeight 26 = .ok (.invokevirtual 495, 3) := dk_182 1 239 (dk_at dksX5_keptWeight_1 4 rfl rfl)
theorem dX5_keptWeight_29 : decode cX5_keptWeight 29 = .ok (.goto 4, 3) := dk_167 0 4 (dk_at dksX5_keptWeight_1 7 rfl rfl)
theorem dX5_keptWeight_32 : decode cX5_keptWeight 32 = .ok (.iconst (-1), 1) := dk_2 (dk_at dksX5_keptWeight_1 10 rfl rfl)
theorem dX5_keptWeight_33 : decode cX5_keptWeight 33 = .ok (.ireturn, 1) := dk_172 (dk_at dksX5_keptWeight_1 11 rfl rfl)
abbrev cX5_swap : ByteArray := prog_20_method_97_code
def yX5_swap : MethodName := ⟨RX5, "swap", "()Z"⟩
def dkwX5_swap_1 : List UInt8 := [181, 1, 144, 42, 27, 181, 0, 92, 42, 182, 1, 147, 4, 172]
abbrev dktX5_swap_1 : List UInt8 := dkwX5_swap_1 ++ []
def dkwX5_swap_0 : List UInt8 := [42, 3, 181, 0, 160, 42, 180, 1, 251, 154, 0, 5, 3, 172, 42, 180, 1, 144, 60, 42, 42, 180, 0, 92]
abbrev dktX5_swap_0 : List UInt8 := dkwX5_swap_0 ++ dktX5_swap_1
theorem dksX5_swap_0 : cX5_swap.data.toList.drop 0 = dktX5_swap_0 := by decide +kernel
theorem dksX5_swap_1 : cX5_swap.data.toList.drop 24 = dktX5_swap_1 := dk_seg dksX5_swap_0 24 rfl rfl
theorem dX5_swap_0 : decode cX5_swap 0 = .ok (.aload_n 0, 1) := dk_42 (dk_at dksX5_swap_0 0 rfl rfl)
theorem dX5_swap_1 : decode cX5_swap 1 = .ok (.iconst 0, 1) := dk_3 (dk_at dksX5_swap_0 1 rfl rfl)
theorem dX5_swap_2 : decode cX5_swap 2 = .ok (.putfield 160, 3) := dk_181 0 160 (dk_at dksX5_swap_0 2 rfl rfl)
theorem dX5_swap_5 : decode cX5_swap 5 = .ok (.aload_n 0, 1) := dk_42 (dk_at dksX5_swap_0 5 rfl rfl)
theorem dX5_swap_6 : decode cX5_swap 6 = .ok (.getfield 507, 3) := dk_180 1 251 (dk_at dksX5_swap_0 6 rfl rfl)
theorem dX5_swap_9 : decode cX5_swap 9 = .ok (.ifCond .ne 5, 3) := dk_154 0 5 (dk_at dksX5_swap_0 9 rfl rfl)
theorem dX5_swap_12 : decode cX5_swap 12 = .ok (.iconst 0, 1) := dk_3 (dk_at dksX5_swap_0 12 rfl rfl)
theorem dX5_swap_13 : decode cX5_swap 13 = .ok (.ireturn, 1) := dk_172 (dk_at dksX5_swap_0 13 rfl rfl)
theorem dX5_swap_14 : decode cX5_swap 14 = .ok (.aload_n 0, 1) := dk_42 (dk_at dksX5_swap_0 14 rfl rfl)
theorem dX5_swap_15 : decode cX5_swap 15 = .ok (.getfield 400, 3) := dk_180 1 144 (dk_at dksX5_swap_0 15 rfl rfl)
theorem dX5_swap_18 : decode cX5_swap 18 = .ok (.istore_n 1, 1) := dk_60 (dk_at dksX5_swap_0 18 rfl rfl)
theorem dX5_swap_19 : decode cX5_swap 19 = .ok (.aload_n 0, 1) := dk_42 (dk_at dksX5_swap_0 19 rfl rfl)
theorem dX5_swap_20 : decode cX5_swap 20 = .ok (.aload_n 0, 1) := dk_42 (dk_at dksX5_swap_0 20 rfl rfl)
theorem dX5_swap_21 : decode cX5_swap 21 = .ok (.getfield 92, 3) := dk_180 0 92 (dk_at dksX5_swap_0 21 rfl rfl)
theorem dX5_swap_24 : decode cX5_swap 24 = .ok (.putfield 400, 3) := dk_181 1 144 (dk_at dksX5_swap_1 0 rfl rfl)
theorem dX5_swap_27 : decode cX5_swap 27 = .ok (.aload_n 0, 1) := dk_42 (dk_at dksX5_swap_1 3 rfl rfl)
theorem dX5_swap_28 : decode cX5_swap 28 = .ok (.iload_n 1, 1) := dk_27 (dk_at dksX5_swap_1 4 rfl rfl)
theorem dX5_swap_29 : decode cX5_swap 29 = .ok (.putfield 92, 3) := dk_181 0 92 (dk_at dksX5_swap_1 5 rfl rfl)
theorem dX5_swap_32 : decode cX5_swap 32 = .ok (.aload_n 0, 1) := dk_42 (dk_at dksX5_swap_1 8 rfl rfl)
theorem dX5_swap_33 : decode cX5_swap 33 = .ok (.invokevirtual 403, 3) := dk_182 1 147 (dk_at dksX5_swap_1 9 rfl rfl)
theorem dX5_swap_36 : decode cX5_swap 36 = .ok (.iconst 1, 1) := dk_4 (dk_at dksX5_swap_1 12 rfl rfl)
theorem dX5_swap_37 : decode cX5_swap 37 = .ok (.ireturn, 1) := dk_172 (dk_at dksX5_swap_1 13 rfl rfl)
abbrev cX5_count : ByteArray := prog_20_method_98_code
def yX5_count : MethodName := ⟨RX5, "count", "(I)I"⟩
def dkwX5_count_8 : List UInt8 := [167, 255, 230, 28, 172, 42, 180, 0, 163, 172, 42, 42, 180, 1, 144, 182, 1, 87, 172, 2, 172]
abbrev dktX5_count_8 : List UInt8 := dkwX5_count_8 ++ []
def dkwX5_count_7 : List UInt8 := [180, 1, 150, 162, 0, 24, 42, 42, 180, 1, 144, 29, 182, 1, 214, 156, 0, 6, 132, 2, 1, 132, 3, 1]
abbrev dktX5_count_7 : List UInt8 := dkwX5_count_7 ++ dktX5_count_8
def dkwX5_count_6 : List UInt8 := [42, 42, 180, 1, 144, 29, 182, 1, 239, 96, 61, 132, 3, 1, 167, 255, 233, 28, 172, 3, 62, 29, 42]
abbrev dktX5_count_6 : List UInt8 := dkwX5_count_6 ++ dktX5_count_7
def dkwX5_count_5 : List UInt8 := [132, 3, 1, 167, 255, 228, 28, 172, 42, 180, 1, 150, 172, 3, 62, 29, 42, 180, 1, 150, 162, 0, 21, 28]
abbrev dktX5_count_5 : List UInt8 := dkwX5_count_5 ++ dktX5_count_6
def dkwX5_count_4 : List UInt8 := [180, 1, 217, 162, 0, 26, 42, 180, 0, 147, 42, 180, 0, 144, 29, 46, 51, 154, 0, 6, 132, 2, 1]
abbrev dktX5_count_4 : List UInt8 := dkwX5_count_4 ++ dktX5_count_5
def dkwX5_count_3 : List UInt8 := [182, 1, 69, 172, 42, 42, 180, 1, 144, 182, 1, 109, 172, 42, 180, 1, 217, 172, 3, 62, 29, 42]
abbrev dktX5_count_3 : List UInt8 := dkwX5_count_3 ++ dktX5_count_4
def dkwX5_count_2 : List UInt8 := [42, 42, 180, 1, 144, 182, 1, 44, 172, 42, 42, 180, 1, 144, 182, 1, 62, 172, 42, 42, 180, 1, 144]
abbrev dktX5_count_2 : List UInt8 := dkwX5_count_2 ++ dktX5_count_3
def dkwX5_count_1 : List UInt8 := [170, 0, 0, 0, 0, 0, 0, 218, 0, 0, 0, 0, 0, 0, 0, 10, 0, 0, 0, 60, 0, 0, 0, 69, 0, 0, 0, 78, 0, 0, 0, 87, 0, 0, 0, 96, 0, 0, 0, 101, 0, 0, 0, 136, 0, 0, 0, 141, 0, 0, 0, 171, 0, 0, 0, 204, 0, 0, 0, 209]
abbrev dktX5_count_1 : List UInt8 := dkwX5_count_1 ++ dktX5_count_2
def dkwX5_count_0 : List UInt8 := [42, 3, 181, 0, 160, 3, 61, 27]
abbrev dktX5_count_0 : List UInt8 := dkwX5_count_0 ++ dktX5_count_1
theorem dksX5_count_0 : cX5_count.data.toList.drop 0 = dktX5_count_0 := by decide +kernel
theorem dksX5_count_1 : cX5_count.data.toList.drop 8 = dktX5_count_1 := dk_seg dksX5_count_0 8 rfl rfl
theorem dksX5_count_2 : cX5_count.data.toList.drop 68 = dktX5_count_2 := dk_seg dksX5_count_1 60 rfl rfl
theorem dksX5_count_3 : cX5_count.data.toList.drop 91 = dktX5_count_3 := dk_seg dksX5_count_2 23 rfl rfl
theorem dksX5_count_4 : cX5_count.data.toList.drop 113 = dktX5_count_4 := dk_seg dksX5_count_3 22 rfl rfl
theorem dksX5_count_5 : cX5_count.data.toList.drop 136 = dktX5_count_5 := dk_seg dksX5_count_4 23 rfl rfl
theorem dksX5_count_6 : cX5_count.data.toList.drop 160 = dktX5_count_6 := dk_seg dksX5_count_5 24 rfl rfl
theorem dksX5_count_7 : cX5_count.data.toList.drop 183 = dktX5_count_7 := dk_seg dksX5_count_6 23 rfl rfl
theorem dksX5_count_8 : cX5_count.data.toList.drop 207 = dktX5_count_8 := dk_seg dksX5_count_7 24 rfl rfl
theorem dX5_count_0 : decode cX5_count 0 = .ok (.aload_n 0, 1) := dk_42 (dk_at dksX5_count_0 0 rfl rfl)
theorem dX5_count_1 : decode cX5_count 1 = .ok (.iconst 0, 1) := dk_3 (dk_at dksX5_count_0 1 rfl rfl)
theorem dX5_count_2 : decode cX5_count 2 = .ok (.putfield 160, 3) := dk_181 0 160 (dk_at dksX5_count_0 2 rfl rfl)
theorem dX5_count_5 : decode cX5_count 5 = .ok (.iconst 0, 1) := dk_3 (dk_at dksX5_count_0 5 rfl rfl)
theorem dX5_count_6 : decode cX5_count 6 = .ok (.istore_n 2, 1) := dk_61 (dk_at dksX5_count_0 6 rfl rfl)
theorem dX5_count_7 : decode cX5_count 7 = .ok (.iload_n 1, 1) := dk_27 (dk_at dksX5_count_0 7 rfl rfl)
theorem dX5_count_8 : decode cX5_count 8 = .ok (.tableswitch 218 0 10 #[60, 69, 78, 87, 96, 101, 136, 141, 171, 204, 209], 60) := by decide +kernel
theorem dX5_count_68 : decode cX5_count 68 = .ok (.aload_n 0, 1) := dk_42 (dk_at dksX5_count_2 0 rfl rfl)
theorem dX5_count_69 : decode cX5_count 69 = .ok (.aload_n 0, 1) := dk_42 (dk_at dksX5_count_2 1 rfl rfl)
theorem dX5_count_70 : decode cX5_count 70 = .ok (.getfield 400, 3) := dk_180 1 144 (dk_at dksX5_count_2 2 rfl rfl)
theorem dX5_count_73 : decode cX5_count 73 = .ok (.invokevirtual 300, 3) := dk_182 1 44 (dk_at dksX5_count_2 5 rfl rfl)
theorem dX5_count_76 : decode cX5_count 76 = .ok (.ireturn, 1) := dk_172 (dk_at dksX5_count_2 8 rfl rfl)
theorem dX5_count_77 : decode cX5_count 77 = .ok (.aload_n 0, 1) := dk_42 (dk_at dksX5_count_2 9 rfl rfl)
theorem dX5_count_78 : decode cX5_count 78 = .ok (.aload_n 0, 1) := dk_42 (dk_at dksX5_count_2 10 rfl rfl)
theorem dX5_count_79 : decode cX5_count 79 = .ok (.getfield 400, 3) := dk_180 1 144 (dk_at dksX5_count_2 11 rfl rfl)
theorem dX5_count_82 : decode cX5_count 82 = .ok (.invokevirtual 318, 3) := dk_182 1 62 (dk_at dksX5_count_2 14 rfl rfl)
theorem dX5_count_85 : decode cX5_count 85 = .ok (.ireturn, 1) := dk_172 (dk_at dksX5_count_2 17 rfl rfl)
theorem dX5_count_86 : decode cX5_count 86 = .ok (.aload_n 0, 1) := dk_42 (dk_at dksX5_count_2 18 rfl rfl)
theorem dX5_count_87 : decode cX5_count 87 = .ok (.aload_n 0, 1) := dk_42 (dk_at dksX5_count_2 19 rfl rfl)
theorem dX5_count_88 : decode cX5_count 88 = .ok (.getfield 400, 3) := dk_180 1 144 (dk_at dksX5_count_2 20 rfl rfl)
theorem dX5_count_91 : decode cX5_count 91 = .ok (.invokevirtual 325, 3) := dk_182 1 69 (dk_at dksX5_count_3 0 rfl rfl)
theorem dX5_count_94 : decode cX5_count 94 = .ok (.ireturn, 1) := dk_172 (dk_at dksX5_count_3 3 rfl rfl)
theorem dX5_count_95 : decode cX5_count 95 = .ok (.aload_n 0, 1) := dk_42 (dk_at dksX5_count_3 4 rfl rfl)
theorem dX5_count_96 : decode cX5_count 96 = .ok (.aload_n 0, 1) := dk_42 (dk_at dksX5_count_3 5 rfl rfl)
theorem dX5_count_97 : decode cX5_count 97 = .ok (.getfield 400, 3) := dk_180 1 144 (dk_at dksX5_count_3 6 rfl rfl)
theorem dX5_count_100 : decode cX5_count 100 = .ok (.invokevirtual 365, 3) := dk_182 1 109 (dk_at dksX5_count_3 9 rfl rfl)
theorem dX5_count_103 : decode cX5_count 103 = .ok (.ireturn, 1) := dk_172 (dk_at dksX5_count_3 12 rfl rfl)
theorem dX5_count_104 : decode cX5_count 104 = .ok (.aload_n 0, 1) := dk_42 (dk_at dksX5_count_3 13 rfl rfl)
theorem dX5_count_105 : decode cX5_count 105 = .ok (.getfield 473, 3) := dk_180 1 217 (dk_at dksX5_count_3 14 rfl rfl)
theorem dX5_count_108 : decode cX5_count 108 = .ok (.ireturn, 1) := dk_172 (dk_at dksX5_count_3 17 rfl rfl)
theorem dX5_count_109 : decode cX5_count 109 = .ok (.iconst 0, 1) := dk_3 (dk_at dksX5_count_3 18 rfl rfl)
theorem dX5_count_110 : decode cX5_count 110 = .ok (.istore_n 3, 1) := dk_62 (dk_at dksX5_count_3 19 rfl rfl)
theorem dX5_count_111 : decode cX5_count 111 = .ok (.iload_n 3, 1) := dk_29 (dk_at dksX5_count_3 20 rfl rfl)
theorem dX5_count_112 : decode cX5_count 112 = .ok (.aload_n 0, 1) := dk_42 (dk_at dksX5_count_3 21 rfl rfl)
theorem dX5_count_113 : decode cX5_count 113 = .ok (.getfield 473, 3) := dk_180 1 217 (dk_at dksX5_count_4 0 rfl rfl)
theorem dX5_count_116 : decode cX5_count 116 = .ok (.if_icmp .ge 26, 3) := dk_162 0 26 (dk_at dksX5_count_4 3 rfl rfl)
theorem dX5_count_119 : decode cX5_count 119 = .ok (.aload_n 0, 1) := dk_42 (dk_at dksX5_count_4 6 rfl rfl)
theorem dX5_count_120 : decode cX5_count 120 = .ok (.getfield 147, 3) := dk_180 0 147 (dk_at dksX5_count_4 7 rfl rfl)
theorem dX5_count_123 : decode cX5_count 123 = .ok (.aload_n 0, 1) := dk_42 (dk_at dksX5_count_4 10 rfl rfl)
theorem dX5_count_124 : decode cX5_count 124 = .ok (.getfield 144, 3) := dk_180 0 144 (dk_at dksX5_count_4 11 rfl rfl)
theorem dX5_count_127 : decode cX5_count 127 = .ok (.iload_n 3, 1) := dk_29 (dk_at dksX5_count_4 14 rfl rfl)
theorem dX5_count_128 : decode cX5_count 128 = .ok (.iaload, 1) := dk_46 (dk_at dksX5_count_4 15 rfl rfl)
theorem dX5_count_129 : decode cX5_count 129 = .ok (.baload, 1) := dk_51 (dk_at dksX5_count_4 16 rfl rfl)
theorem dX5_count_130 : decode cX5_count 130 = .ok (.ifCond .ne 6, 3) := dk_154 0 6 (dk_at dksX5_count_4 17 rfl rfl)
theorem dX5_count_133 : decode cX5_count 133 = .ok (.iinc 2 1, 3) := dk_132 2 1 (dk_at dksX5_count_4 20 rfl rfl)
theorem dX5_count_136 : decode cX5_count 136 = .ok (.iinc 3 1, 3) := dk_132 3 1 (dk_at dksX5_count_5 0 rfl rfl)
theorem dX5_count_139 : decode cX5_count 139 = .ok (.goto (-28), 3) := dk_167 255 228 (dk_at dksX5_count_5 3 rfl rfl)
theorem dX5_count_142 : decode cX5_count 142 = .ok (.iload_n 2, 1) := dk_28 (dk_at dksX5_count_5 6 rfl rfl)
theorem dX5_count_143 : decode cX5_count 143 = .ok (.ireturn, 1) := dk_172 (dk_at dksX5_count_5 7 rfl rfl)
theorem dX5_count_144 : decode cX5_count 144 = .ok (.aload_n 0, 1) := dk_42 (dk_at dksX5_count_5 8 rfl rfl)
theorem dX5_count_145 : decode cX5_count 145 = .ok (.getfield 406, 3) := dk_180 1 150 (dk_at dksX5_count_5 9 rfl rfl)
theorem dX5_count_148 : decode cX5_count 148 = .ok (.ireturn, 1) := dk_172 (dk_at dksX5_count_5 12 rfl rfl)
theorem dX5_count_149 : decode cX5_count 149 = .ok (.iconst 0, 1) := dk_3 (dk_at dksX5_count_5 13 rfl rfl)
theorem dX5_count_150 : decode cX5_count 150 = .ok (.istore_n 3, 1) := dk_62 (dk_at dksX5_count_5 14 rfl rfl)
theorem dX5_count_151 : decode cX5_count 151 = .ok (.iload_n 3, 1) := dk_29 (dk_at dksX5_count_5 15 rfl rfl)
theorem dX5_count_152 : decode cX5_count 152 = .ok (.aload_n 0, 1) := dk_42 (dk_at dksX5_count_5 16 rfl rfl)
theorem dX5_count_153 : decode cX5_count 153 = .ok (.getfield 406, 3) := dk_180 1 150 (dk_at dksX5_count_5 17 rfl rfl)
theorem dX5_count_156 : decode cX5_count 156 = .ok (.if_icmp .ge 21, 3) := dk_162 0 21 (dk_at dksX5_count_5 20 rfl rfl)
theorem dX5_count_159 : decode cX5_count 159 = .ok (.iload_n 2, 1) := dk_28 (dk_at dksX5_count_5 23 rfl rfl)
theorem dX5_count_160 : decode cX5_count 160 = .ok (.aload_n 0, 1) := dk_42 (dk_at dksX5_count_6 0 rfl rfl)
theorem dX5_count_161 : decode cX5_count 161 = .ok (.aload_n 0, 1) := dk_42 (dk_at dksX5_count_6 1 rfl rfl)
theorem dX5_count_162 : decode cX5_count 162 = .ok (.getfield 400, 3) := dk_180 1 144 (dk_at dksX5_count_6 2 rfl rfl)
theorem dX5_count_165 : decode cX5_count 165 = .ok (.iload_n 3, 1) := dk_29 (dk_at dksX5_count_6 5 rfl rfl)
theorem dX5_count_166 : decode cX5_count 166 = .ok (.invokevirtual 495, 3) := dk_182 1 239 (dk_at dksX5_count_6 6 rfl rfl)
theorem dX5_count_169 : decode cX5_count 169 = .ok (.iadd, 1) := dk_96 (dk_at dksX5_count_6 9 rfl rfl)
theorem dX5_count_170 : decode cX5_count 170 = .ok (.istore_n 2, 1) := dk_61 (dk_at dksX5_count_6 10 rfl rfl)
theorem dX5_count_171 : decode cX5_count 171 = .ok (.iinc 3 1, 3) := dk_132 3 1 (dk_at dksX5_count_6 11 rfl rfl)
theorem dX5_count_174 : decode cX5_count 174 = .ok (.goto (-23), 3) := dk_167 255 233 (dk_at dksX5_count_6 14 rfl rfl)
theorem dX5_count_177 : decode cX5_count 177 = .ok (.iload_n 2, 1) := dk_28 (dk_at dksX5_count_6 17 rfl rfl)
theorem dX5_count_178 : decode cX5_count 178 = .ok (.ireturn, 1) := dk_172 (dk_at dksX5_count_6 18 rfl rfl)
theorem dX5_count_179 : decode cX5_count 179 = .ok (.iconst 0, 1) := dk_3 (dk_at dksX5_count_6 19 rfl rfl)
theorem dX5_count_180 : decode cX5_count 180 = .ok (.istore_n 3, 1) := dk_62 (dk_at dksX5_count_6 20 rfl rfl)
theorem dX5_count_181 : decode cX5_count 181 = .ok (.iload_n 3, 1) := dk_29 (dk_at dksX5_count_6 21 rfl rfl)
theorem dX5_count_182 : decode cX5_count 182 = .ok (.aload_n 0, 1) := dk_42 (dk_at dksX5_count_6 22 rfl rfl)
theorem dX5_count_183 : decode cX5_count 183 = .ok (.getfield 406, 3) := dk_180 1 150 (dk_at dksX5_count_7 0 rfl rfl)
theorem dX5_count_186 : decode cX5_count 186 = .ok (.if_icmp .ge 24, 3) := dk_162 0 24 (dk_at dksX5_count_7 3 rfl rfl)
theorem dX5_count_189 : decode cX5_count 189 = .ok (.aload_n 0, 1) := dk_42 (dk_at dksX5_count_7 6 rfl rfl)
theorem dX5_count_190 : decode cX5_count 190 = .ok (.aload_n 0, 1) := dk_42 (dk_at dksX5_count_7 7 rfl rfl)
theorem dX5_count_191 : decode cX5_count 191 = .ok (.getfield 400, 3) := dk_180 1 144 (dk_at dksX5_count_7 8 rfl rfl)
theorem dX5_count_194 : decode cX5_count 194 = .ok (.iload_n 3, 1) := dk_29 (dk_at dksX5_count_7 11 rfl rfl)
theorem dX5_count_195 : decode cX5_count 195 = .ok (.invokevirtual 470, 3) := dk_182 1 214 (dk_at dksX5_count_7 12 rfl rfl)
theorem dX5_count_198 : decode cX5_count 198 = .ok (.ifCond .ge 6, 3) := dk_156 0 6 (dk_at dksX5_count_7 15 rfl rfl)
theorem dX5_count_201 : decode cX5_count 201 = .ok (.iinc 2 1, 3) := dk_132 2 1 (dk_at dksX5_count_7 18 rfl rfl)
theorem dX5_count_204 : decode cX5_count 204 = .ok (.iinc 3 1, 3) := dk_132 3 1 (dk_at dksX5_count_7 21 rfl rfl)
theorem dX5_count_207 : decode cX5_count 207 = .ok (.goto (-26), 3) := dk_167 255 230 (dk_at dksX5_count_8 0 rfl rfl)
theorem dX5_count_210 : decode cX5_count 210 = .ok (.iload_n 2, 1) := dk_28 (dk_at dksX5_count_8 3 rfl rfl)
theorem dX5_count_211 : decode cX5_count 211 = .ok (.ireturn, 1) := dk_172 (dk_at dksX5_count_8 4 rfl rfl)
theorem dX5_count_212 : decode cX5_count 212 = .ok (.aload_n 0, 1) := dk_42 (dk_at dksX5_count_8 5 rfl rfl)
theorem dX5_count_213 : decode cX5_count 213 = .ok (.getfield 163, 3) := dk_180 0 163 (dk_at dksX5_count_8 6 rfl rfl)
theorem dX5_count_216 : decode cX5_count 216 = .ok (.ireturn, 1) := dk_172 (dk_at dksX5_count_8 9 rfl rfl)
theorem dX5_count_217 : decode cX5_count 217 = .ok (.aload_n 0, 1) := dk_42 (dk_at dksX5_count_8 10 rfl rfl)
theorem dX5_count_218 : decode cX5_count 218 = .ok (.aload_n 0, 1) := dk_42 (dk_at dksX5_count_8 11 rfl rfl)
theorem dX5_count_219 : decode cX5_count 219 = .ok (.getfield 400, 3) := dk_180 1 144 (dk_at dksX5_count_8 12 rfl rfl)
theorem dX5_count_222 : decode cX5_count 222 = .ok (.invokevirtual 343, 3) := dk_182 1 87 (dk_at dksX5_count_8 15 rfl rfl)
theorem dX5_count_225 : decode cX5_count 225 = .ok (.ireturn, 1) := dk_172 (dk_at dksX5_count_8 18 rfl rfl)
theorem dX5_count_226 : decode cX5_count 226 = .ok (.iconst (-1), 1) := dk_2 (dk_at dksX5_count_8 19 rfl rfl)
theorem dX5_count_227 : decode cX5_count 227 = .ok (.ireturn, 1) := dk_172 (dk_at dksX5_count_8 20 rfl rfl)
theorem q128 : (Jvm.Cond.initialized "CaseGrouperModel") ∈ lw_all := lw_g (lw_at lw_m1 8 rfl) rfl
theorem q949 : (Jvm.Cond.selects "CaseGrouperModel" ({ cls := "java/lang/Object", name := "getClass", desc := "()Ljava/lang/Class;" } : Jvm.MethodName) ({ cls := "java/lang/Object", name := "getClass", desc := "()Ljava/lang/Class;" } : Jvm.MethodName)) ∈ lw_all := lw_g (lw_at lw_m4 109 rfl) rfl
theorem q1542 : (Jvm.Cond.selects "CaseGrouperModel" ({ cls := "java/lang/Object", name := "equals", desc := "(Ljava/lang/Object;)Z" } : Jvm.MethodName) ({ cls := "java/lang/Object", name := "equals", desc := "(Ljava/lang/Object;)Z" } : Jvm.MethodName)) ∈ lw_all := lw_g (lw_at lw_m6 222 rfl) rfl
theorem q1805 : (Jvm.Cond.instantiable "CaseGrouperModel" (73 : Nat)) ∈ lw_all := lw_g (lw_at lw_m8 5 rfl) rfl
theorem q1807 : (Jvm.Cond.instanceMethod ({ cls := "CaseGrouperModel", name := "<init>", desc := "()V" } : Jvm.MethodName)) ∈ lw_all := lw_g (lw_at lw_m8 7 rfl) rfl
theorem q1808 : (Jvm.Cond.code ({ cls := "CaseGrouperModel", name := "<init>", desc := "()V" } : Jvm.MethodName) prog_20_method_1_code (1 : Nat) (Option.none : Option Jvm.ClassFile.FieldType)) ∈ lw_all := lw_g (lw_at lw_m8 8 rfl) rfl
theorem q1809 : (Jvm.Cond.methodLink "CaseGrouperModel" (1 : Nat) ({ cls := "java/lang/Object", name := "<init>", desc := "()V" } : Jvm.MethodName)) ∈ lw_all := lw_g (lw_at lw_m8 9 rfl) rfl
theorem q1810 : (Jvm.Cond.fieldLink "CaseGrouperModel" (7 : Nat) "CaseGrouperModel" "tape" "[I") ∈ lw_all := lw_g (lw_at lw_m8 10 rfl) rfl
theorem q1811 : (Jvm.Cond.fieldLink "CaseGrouperModel" (163 : Nat) "CaseGrouperModel" "taped" "I") ∈ lw_all := lw_g (lw_at lw_m8 11 rfl) rfl
theorem q1812 : (Jvm.Cond.fieldLink "CaseGrouperModel" (160 : Nat) "CaseGrouperModel" "thrown" "I") ∈ lw_all := lw_g (lw_at lw_m8 12 rfl) rfl
theorem q1813 : (Jvm.Cond.fieldLink "CaseGrouperModel" (13 : Nat) "CaseGrouperModel" "many" "[I") ∈ lw_all := lw_g (lw_at lw_m8 13 rfl) rfl
theorem q1814 : (Jvm.Cond.fieldLink "CaseGrouperModel" (16 : Nat) "CaseGrouperModel" "chapterName" "[J") ∈ lw_all := lw_g (lw_at lw_m8 14 rfl) rfl
theorem q1815 : (Jvm.Cond.fieldLink "CaseGrouperModel" (20 : Nat) "CaseGrouperModel" "chapterSpans" "[I") ∈ lw_all := lw_g (lw_at lw_m8 15 rfl) rfl
theorem q1816 : (Jvm.Cond.fieldLink "CaseGrouperModel" (23 : Nat) "CaseGrouperModel" "chapterFrom" "[I") ∈ lw_all := lw_g (lw_at lw_m8 16 rfl) rfl
theorem q1817 : (Jvm.Cond.fieldLink "CaseGrouperModel" (26 : Nat) "CaseGrouperModel" "chapterTo" "[I") ∈ lw_all := lw_g (lw_at lw_m8 17 rfl) rfl
theorem q1818 : (Jvm.Cond.fieldLink "CaseGrouperModel" (29 : Nat) "CaseGrouperModel" "chapterTree" "[I") ∈ lw_all := lw_g (lw_at lw_m8 18 rfl) rfl
theorem q1819 : (Jvm.Cond.fieldLink "CaseGrouperModel" (32 : Nat) "CaseGrouperModel" "rankFrom" "[I") ∈ lw_all := lw_g (lw_at lw_m8 19 rfl) rfl
theorem q1820 : (Jvm.Cond.fieldLink "CaseGrouperModel" (35 : Nat) "CaseGrouperModel" "rankTo" "[I") ∈ lw_all := lw_g (lw_at lw_m8 20 rfl) rfl
theorem q1821 : (Jvm.Cond.fieldLink "CaseGrouperModel" (38 : Nat) "CaseGrouperModel" "rankOf" "[I") ∈ lw_all := lw_g (lw_at lw_m8 21 rfl) rfl
theorem q1822 : (Jvm.Cond.fieldLink "CaseGrouperModel" (41 : Nat) "CaseGrouperModel" "partnerFrom" "[I") ∈ lw_all := lw_g (lw_at lw_m8 22 rfl) rfl
theorem q1823 : (Jvm.Cond.fieldLink "CaseGrouperModel" (44 : Nat) "CaseGrouperModel" "partnerTo" "[I") ∈ lw_all := lw_g (lw_at lw_m8 23 rfl) rfl
theorem q1824 : (Jvm.Cond.fieldLink "CaseGrouperModel" (47 : Nat) "CaseGrouperModel" "partnerLevel" "[I") ∈ lw_all := lw_g (lw_at lw_m8 24 rfl) rfl
theorem q1825 : (Jvm.Cond.fieldLink "CaseGrouperModel" (50 : Nat) "CaseGrouperModel" "buts" "[I") ∈ lw_all := lw_g (lw_at lw_m8 25 rfl) rfl
theorem q1826 : (Jvm.Cond.fieldLink "CaseGrouperModel" (53 : Nat) "CaseGrouperModel" "butFrom" "[I") ∈ lw_all := lw_g (lw_at lw_m8 26 rfl) rfl
theorem q1827 : (Jvm.Cond.fieldLink "CaseGrouperModel" (56 : Nat) "CaseGrouperModel" "butTo" "[I") ∈ lw_all := lw_g (lw_at lw_m8 27 rfl) rfl
theorem q1828 : (Jvm.Cond.fieldLink "CaseGrouperModel" (59 : Nat) "CaseGrouperModel" "className" "[J") ∈ lw_all := lw_g (lw_at lw_m8 28 rfl) rfl
theorem q1829 : (Jvm.Cond.fieldLink "CaseGrouperModel" (62 : Nat) "CaseGrouperModel" "classWeight" "[I") ∈ lw_all := lw_g (lw_at lw_m8 29 rfl) rfl
theorem q1830 : (Jvm.Cond.fieldLink "CaseGrouperModel" (65 : Nat) "CaseGrouperModel" "nodeClass" "[I") ∈ lw_all := lw_g (lw_at lw_m8 30 rfl) rfl
theorem q1831 : (Jvm.Cond.fieldLink "CaseGrouperModel" (68 : Nat) "CaseGrouperModel" "nodeCond" "[I") ∈ lw_all := lw_g (lw_at lw_m8 31 rfl) rfl
theorem q1832 : (Jvm.Cond.fieldLink "CaseGrouperModel" (71 : Nat) "CaseGrouperModel" "nodeThen" "[I") ∈ lw_all := lw_g (lw_at lw_m8 32 rfl) rfl
theorem q1833 : (Jvm.Cond.fieldLink "CaseGrouperModel" (74 : Nat) "CaseGrouperModel" "nodeElse" "[I") ∈ lw_all := lw_g (lw_at lw_m8 33 rfl) rfl
theorem q1834 : (Jvm.Cond.fieldLink "CaseGrouperModel" (77 : Nat) "CaseGrouperModel" "nodeChapter" "[I") ∈ lw_all := lw_g (lw_at lw_m8 34 rfl) rfl
theorem q1835 : (Jvm.Cond.fieldLink "CaseGrouperModel" (80 : Nat) "CaseGrouperModel" "condWhat" "[I") ∈ lw_all := lw_g (lw_at lw_m8 35 rfl) rfl
theorem q1836 : (Jvm.Cond.fieldLink "CaseGrouperModel" (83 : Nat) "CaseGrouperModel" "condOne" "[I") ∈ lw_all := lw_g (lw_at lw_m8 36 rfl) rfl
theorem q1837 : (Jvm.Cond.fieldLink "CaseGrouperModel" (86 : Nat) "CaseGrouperModel" "condTwo" "[I") ∈ lw_all := lw_g (lw_at lw_m8 37 rfl) rfl
theorem q1838 : (Jvm.Cond.fieldLink "CaseGrouperModel" (89 : Nat) "CaseGrouperModel" "condUnlike" "[I") ∈ lw_all := lw_g (lw_at lw_m8 38 rfl) rfl
theorem q1839 : (Jvm.Cond.fieldLink "CaseGrouperModel" (400 : Nat) "CaseGrouperModel" "now" "I") ∈ lw_all := lw_g (lw_at lw_m8 39 rfl) rfl
theorem q1840 : (Jvm.Cond.fieldLink "CaseGrouperModel" (92 : Nat) "CaseGrouperModel" "kept" "I") ∈ lw_all := lw_g (lw_at lw_m8 40 rfl) rfl
theorem q1841 : (Jvm.Cond.fieldLink "CaseGrouperModel" (96 : Nat) "CaseGrouperModel" "draft" "I") ∈ lw_all := lw_g (lw_at lw_m8 41 rfl) rfl
theorem q1842 : (Jvm.Cond.fieldLink "CaseGrouperModel" (507 : Nat) "CaseGrouperModel" "isKept" "Z") ∈ lw_all := lw_g (lw_at lw_m8 42 rfl) rfl
theorem q1843 : (Jvm.Cond.fieldLink "CaseGrouperModel" (99 : Nat) "CaseGrouperModel" "faultLine" "I") ∈ lw_all := lw_g (lw_at lw_m8 43 rfl) rfl
theorem q1844 : (Jvm.Cond.fieldLink "CaseGrouperModel" (406 : Nat) "CaseGrouperModel" "stays" "I") ∈ lw_all := lw_g (lw_at lw_m8 44 rfl) rfl
theorem q1845 : (Jvm.Cond.fieldLink "CaseGrouperModel" (102 : Nat) "CaseGrouperModel" "main" "[I") ∈ lw_all := lw_g (lw_at lw_m8 45 rfl) rfl
theorem q1846 : (Jvm.Cond.fieldLink "CaseGrouperModel" (105 : Nat) "CaseGrouperModel" "age" "[I") ∈ lw_all := lw_g (lw_at lw_m8 46 rfl) rfl
theorem q1847 : (Jvm.Cond.fieldLink "CaseGrouperModel" (108 : Nat) "CaseGrouperModel" "days" "[I") ∈ lw_all := lw_g (lw_at lw_m8 47 rfl) rfl
theorem q1848 : (Jvm.Cond.fieldLink "CaseGrouperModel" (111 : Nat) "CaseGrouperModel" "seconds" "[I") ∈ lw_all := lw_g (lw_at lw_m8 48 rfl) rfl
theorem q1849 : (Jvm.Cond.fieldLink "CaseGrouperModel" (114 : Nat) "CaseGrouperModel" "second" "[I") ∈ lw_all := lw_g (lw_at lw_m8 49 rfl) rfl
theorem q1850 : (Jvm.Cond.fieldLink "CaseGrouperModel" (117 : Nat) "CaseGrouperModel" "dones" "[I") ∈ lw_all := lw_g (lw_at lw_m8 50 rfl) rfl
theorem q1851 : (Jvm.Cond.fieldLink "CaseGrouperModel" (120 : Nat) "CaseGrouperModel" "done" "[I") ∈ lw_all := lw_g (lw_at lw_m8 51 rfl) rfl
theorem q1852 : (Jvm.Cond.fieldLink "CaseGrouperModel" (174 : Nat) "CaseGrouperModel" "size" "I") ∈ lw_all := lw_g (lw_at lw_m8 52 rfl) rfl
theorem q1853 : (Jvm.Cond.fieldLink "CaseGrouperModel" (187 : Nat) "CaseGrouperModel" "place" "I") ∈ lw_all := lw_g (lw_at lw_m8 53 rfl) rfl
theorem q1854 : (Jvm.Cond.fieldLink "CaseGrouperModel" (180 : Nat) "CaseGrouperModel" "endOf" "I") ∈ lw_all := lw_g (lw_at lw_m8 54 rfl) rfl
theorem q1855 : (Jvm.Cond.fieldLink "CaseGrouperModel" (190 : Nat) "CaseGrouperModel" "token" "I") ∈ lw_all := lw_g (lw_at lw_m8 55 rfl) rfl
theorem q1856 : (Jvm.Cond.fieldLink "CaseGrouperModel" (207 : Nat) "CaseGrouperModel" "word" "J") ∈ lw_all := lw_g (lw_at lw_m8 56 rfl) rfl
theorem q1857 : (Jvm.Cond.fieldLink "CaseGrouperModel" (193 : Nat) "CaseGrouperModel" "number" "I") ∈ lw_all := lw_g (lw_at lw_m8 57 rfl) rfl
theorem q1858 : (Jvm.Cond.fieldLink "CaseGrouperModel" (177 : Nat) "CaseGrouperModel" "fault" "I") ∈ lw_all := lw_g (lw_at lw_m8 58 rfl) rfl
theorem q1859 : (Jvm.Cond.fieldLink "CaseGrouperModel" (295 : Nat) "CaseGrouperModel" "from" "I") ∈ lw_all := lw_g (lw_at lw_m8 59 rfl) rfl
theorem q1860 : (Jvm.Cond.fieldLink "CaseGrouperModel" (298 : Nat) "CaseGrouperModel" "to" "I") ∈ lw_all := lw_g (lw_at lw_m8 60 rfl) rfl
theorem q1861 : (Jvm.Cond.fieldLink "CaseGrouperModel" (292 : Nat) "CaseGrouperModel" "spanPlace" "I") ∈ lw_all := lw_g (lw_at lw_m8 61 rfl) rfl
theorem q1862 : (Jvm.Cond.fieldLink "CaseGrouperModel" (123 : Nat) "CaseGrouperModel" "spanWhat" "[I") ∈ lw_all := lw_g (lw_at lw_m8 62 rfl) rfl
theorem q1863 : (Jvm.Cond.fieldLink "CaseGrouperModel" (126 : Nat) "CaseGrouperModel" "spanFrom" "[I") ∈ lw_all := lw_g (lw_at lw_m8 63 rfl) rfl
theorem q1864 : (Jvm.Cond.fieldLink "CaseGrouperModel" (129 : Nat) "CaseGrouperModel" "spanTo" "[I") ∈ lw_all := lw_g (lw_at lw_m8 64 rfl) rfl
theorem q1865 : (Jvm.Cond.fieldLink "CaseGrouperModel" (328 : Nat) "CaseGrouperModel" "unlikeSpans" "I") ∈ lw_all := lw_g (lw_at lw_m8 65 rfl) rfl
theorem q1866 : (Jvm.Cond.fieldLink "CaseGrouperModel" (132 : Nat) "CaseGrouperModel" "compWhat" "[I") ∈ lw_all := lw_g (lw_at lw_m8 66 rfl) rfl
theorem q1867 : (Jvm.Cond.fieldLink "CaseGrouperModel" (135 : Nat) "CaseGrouperModel" "compSign" "[I") ∈ lw_all := lw_g (lw_at lw_m8 67 rfl) rfl
theorem q1868 : (Jvm.Cond.fieldLink "CaseGrouperModel" (138 : Nat) "CaseGrouperModel" "compNumber" "[I") ∈ lw_all := lw_g (lw_at lw_m8 68 rfl) rfl
theorem q1869 : (Jvm.Cond.fieldLink "CaseGrouperModel" (331 : Nat) "CaseGrouperModel" "unlikeComps" "I") ∈ lw_all := lw_g (lw_at lw_m8 69 rfl) rfl
theorem q1870 : (Jvm.Cond.fieldLink "CaseGrouperModel" (334 : Nat) "CaseGrouperModel" "open" "I") ∈ lw_all := lw_g (lw_at lw_m8 70 rfl) rfl
theorem q1871 : (Jvm.Cond.fieldLink "CaseGrouperModel" (337 : Nat) "CaseGrouperModel" "treeOf" "I") ∈ lw_all := lw_g (lw_at lw_m8 71 rfl) rfl
theorem q1872 : (Jvm.Cond.fieldLink "CaseGrouperModel" (453 : Nat) "CaseGrouperModel" "top" "I") ∈ lw_all := lw_g (lw_at lw_m8 72 rfl) rfl
theorem q1873 : (Jvm.Cond.fieldLink "CaseGrouperModel" (451 : Nat) "CaseGrouperModel" "level" "I") ∈ lw_all := lw_g (lw_at lw_m8 73 rfl) rfl
theorem q1874 : (Jvm.Cond.fieldLink "CaseGrouperModel" (141 : Nat) "CaseGrouperModel" "way" "[I") ∈ lw_all := lw_g (lw_at lw_m8 74 rfl) rfl
theorem q1875 : (Jvm.Cond.fieldLink "CaseGrouperModel" (455 : Nat) "CaseGrouperModel" "wayLong" "I") ∈ lw_all := lw_g (lw_at lw_m8 75 rfl) rfl
theorem q1876 : (Jvm.Cond.fieldLink "CaseGrouperModel" (473 : Nat) "CaseGrouperModel" "leaves" "I") ∈ lw_all := lw_g (lw_at lw_m8 76 rfl) rfl
theorem q1877 : (Jvm.Cond.fieldLink "CaseGrouperModel" (144 : Nat) "CaseGrouperModel" "leafNode" "[I") ∈ lw_all := lw_g (lw_at lw_m8 77 rfl) rfl
theorem q1878 : (Jvm.Cond.fieldLink "CaseGrouperModel" (147 : Nat) "CaseGrouperModel" "isReached" "[Z") ∈ lw_all := lw_g (lw_at lw_m8 78 rfl) rfl
theorem q1879 : (Jvm.Cond.fieldLink "CaseGrouperModel" (151 : Nat) "CaseGrouperModel" "answers" "[I") ∈ lw_all := lw_g (lw_at lw_m8 79 rfl) rfl
theorem q1880 : (Jvm.Cond.fieldLink "CaseGrouperModel" (154 : Nat) "CaseGrouperModel" "answerFrom" "[I") ∈ lw_all := lw_g (lw_at lw_m8 80 rfl) rfl
theorem q1881 : (Jvm.Cond.fieldLink "CaseGrouperModel" (482 : Nat) "CaseGrouperModel" "answerMany" "I") ∈ lw_all := lw_g (lw_at lw_m8 81 rfl) rfl
theorem q1882 : (Jvm.Cond.fieldLink "CaseGrouperModel" (157 : Nat) "CaseGrouperModel" "condTree" "[I") ∈ lw_all := lw_g (lw_at lw_m8 82 rfl) rfl
theorem q1883 : (Jvm.Cond.laysFinal "CaseGrouperModel" "CaseGrouperModel" "tape" "[I") ∈ lw_all := lw_g (lw_at lw_m8 83 rfl) rfl
theorem q1884 : (Jvm.Cond.soleField "CaseGrouperModel" "tape") ∈ lw_all := lw_g (lw_at lw_m8 84 rfl) rfl
theorem q1885 : (Jvm.Cond.lays "CaseGrouperModel" "CaseGrouperModel" "taped" "I") ∈ lw_all := lw_g (lw_at lw_m8 85 rfl) rfl
theorem q1886 : (Jvm.Cond.soleField "CaseGrouperModel" "taped") ∈ lw_all := lw_g (lw_at lw_m8 86 rfl) rfl
theorem q1887 : (Jvm.Cond.lays "CaseGrouperModel" "CaseGrouperModel" "thrown" "I") ∈ lw_all := lw_g (lw_at lw_m8 87 rfl) rfl
theorem q1888 : (Jvm.Cond.soleField "CaseGrouperModel" "thrown") ∈ lw_all := lw_g (lw_at lw_m8 88 rfl) rfl
theorem q1889 : (Jvm.Cond.laysFinal "CaseGrouperModel" "CaseGrouperModel" "many" "[I") ∈ lw_all := lw_g (lw_at lw_m8 89 rfl) rfl
theorem q1890 : (Jvm.Cond.soleField "CaseGrouperModel" "many") ∈ lw_all := lw_g (lw_at lw_m8 90 rfl) rfl
theorem q1891 : (Jvm.Cond.laysFinal "CaseGrouperModel" "CaseGrouperModel" "chapterName" "[J") ∈ lw_all := lw_g (lw_at lw_m8 91 rfl) rfl
theorem q1892 : (Jvm.Cond.soleField "CaseGrouperModel" "chapterName") ∈ lw_all := lw_g (lw_at lw_m8 92 rfl) rfl
theorem q1893 : (Jvm.Cond.laysFinal "CaseGrouperModel" "CaseGrouperModel" "chapterSpans" "[I") ∈ lw_all := lw_g (lw_at lw_m8 93 rfl) rfl
theorem q1894 : (Jvm.Cond.soleField "CaseGrouperModel" "chapterSpans") ∈ lw_all := lw_g (lw_at lw_m8 94 rfl) rfl
theorem q1895 : (Jvm.Cond.laysFinal "CaseGrouperModel" "CaseGrouperModel" "chapterFrom" "[I") ∈ lw_all := lw_g (lw_at lw_m8 95 rfl) rfl
theorem q1896 : (Jvm.Cond.soleField "CaseGrouperModel" "chapterFrom") ∈ lw_all := lw_g (lw_at lw_m8 96 rfl) rfl
theorem q1897 : (Jvm.Cond.laysFinal "CaseGrouperModel" "CaseGrouperModel" "chapterTo" "[I") ∈ lw_all := lw_g (lw_at lw_m8 97 rfl) rfl
theorem q1898 : (Jvm.Cond.soleField "CaseGrouperModel" "chapterTo") ∈ lw_all := lw_g (lw_at lw_m8 98 rfl) rfl
theorem q1899 : (Jvm.Cond.laysFinal "CaseGrouperModel" "CaseGrouperModel" "chapterTree" "[I") ∈ lw_all := lw_g (lw_at lw_m8 99 rfl) rfl
theorem q1900 : (Jvm.Cond.soleField "CaseGrouperModel" "chapterTree") ∈ lw_all := lw_g (lw_at lw_m8 100 rfl) rfl
theorem q1901 : (Jvm.Cond.laysFinal "CaseGrouperModel" "CaseGrouperModel" "rankFrom" "[I") ∈ lw_all := lw_g (lw_at lw_m8 101 rfl) rfl
theorem q1902 : (Jvm.Cond.soleField "CaseGrouperModel" "rankFrom") ∈ lw_all := lw_g (lw_at lw_m8 102 rfl) rfl
theorem q1903 : (Jvm.Cond.laysFinal "CaseGrouperModel" "CaseGrouperModel" "rankTo" "[I") ∈ lw_all := lw_g (lw_at lw_m8 103 rfl) rfl
theorem q1904 : (Jvm.Cond.soleField "CaseGrouperModel" "rankTo") ∈ lw_all := lw_g (lw_at lw_m8 104 rfl) rfl
theorem q1905 : (Jvm.Cond.laysFinal "CaseGrouperModel" "CaseGrouperModel" "rankOf" "[I") ∈ lw_all := lw_g (lw_at lw_m8 105 rfl) rfl
theorem q1906 : (Jvm.Cond.soleField "CaseGrouperModel" "rankOf") ∈ lw_all := lw_g (lw_at lw_m8 106 rfl) rfl
theorem q1907 : (Jvm.Cond.laysFinal "CaseGrouperModel" "CaseGrouperModel" "partnerFrom" "[I") ∈ lw_all := lw_g (lw_at lw_m8 107 rfl) rfl
theorem q1908 : (Jvm.Cond.soleField "CaseGrouperModel" "partnerFrom") ∈ lw_all := lw_g (lw_at lw_m8 108 rfl) rfl
theorem q1909 : (Jvm.Cond.laysFinal "CaseGrouperModel" "CaseGrouperModel" "partnerTo" "[I") ∈ lw_all := lw_g (lw_at lw_m8 109 rfl) rfl
theorem q1910 : (Jvm.Cond.soleField "CaseGrouperModel" "partnerTo") ∈ lw_all := lw_g (lw_at lw_m8 110 rfl) rfl
theorem q1911 : (Jvm.Cond.laysFinal "CaseGrouperModel" "CaseGrouperModel" "partnerLevel" "[I") ∈ lw_all := lw_g (lw_at lw_m8 111 rfl) rfl
theorem q1912 : (Jvm.Cond.soleField "CaseGrouperModel" "partnerLevel") ∈ lw_all := lw_g (lw_at lw_m8 112 rfl) rfl
theorem q1913 : (Jvm.Cond.laysFinal "CaseGrouperModel" "CaseGrouperModel" "buts" "[I") ∈ lw_all := lw_g (lw_at lw_m8 113 rfl) rfl
theorem q1914 : (Jvm.Cond.soleField "CaseGrouperModel" "buts") ∈ lw_all := lw_g (lw_at lw_m8 114 rfl) rfl
theorem q1915 : (Jvm.Cond.laysFinal "CaseGrouperModel" "CaseGrouperModel" "butFrom" "[I") ∈ lw_all := lw_g (lw_at lw_m8 115 rfl) rfl
theorem q1916 : (Jvm.Cond.soleField "CaseGrouperModel" "butFrom") ∈ lw_all := lw_g (lw_at lw_m8 116 rfl) rfl
theorem q1917 : (Jvm.Cond.laysFinal "CaseGrouperModel" "CaseGrouperModel" "butTo" "[I") ∈ lw_all := lw_g (lw_at lw_m8 117 rfl) rfl
theorem q1918 : (Jvm.Cond.soleField "CaseGrouperModel" "butTo") ∈ lw_all := lw_g (lw_at lw_m8 118 rfl) rfl
theorem q1919 : (Jvm.Cond.laysFinal "CaseGrouperModel" "CaseGrouperModel" "className" "[J") ∈ lw_all := lw_g (lw_at lw_m8 119 rfl) rfl
theorem q1920 : (Jvm.Cond.soleField "CaseGrouperModel" "className") ∈ lw_all := lw_g (lw_at lw_m8 120 rfl) rfl
theorem q1921 : (Jvm.Cond.laysFinal "CaseGrouperModel" "CaseGrouperModel" "classWeight" "[I") ∈ lw_all := lw_g (lw_at lw_m8 121 rfl) rfl
theorem q1922 : (Jvm.Cond.soleField "CaseGrouperModel" "classWeight") ∈ lw_all := lw_g (lw_at lw_m8 122 rfl) rfl
theorem q1923 : (Jvm.Cond.laysFinal "CaseGrouperModel" "CaseGrouperModel" "nodeClass" "[I") ∈ lw_all := lw_g (lw_at lw_m8 123 rfl) rfl
theorem q1924 : (Jvm.Cond.soleField "CaseGrouperModel" "nodeClass") ∈ lw_all := lw_g (lw_at lw_m8 124 rfl) rfl
theorem q1925 : (Jvm.Cond.laysFinal "CaseGrouperModel" "CaseGrouperModel" "nodeCond" "[I") ∈ lw_all := lw_g (lw_at lw_m8 125 rfl) rfl
theorem q1926 : (Jvm.Cond.soleField "CaseGrouperModel" "nodeCond") ∈ lw_all := lw_g (lw_at lw_m8 126 rfl) rfl
theorem q1927 : (Jvm.Cond.laysFinal "CaseGrouperModel" "CaseGrouperModel" "nodeThen" "[I") ∈ lw_all := lw_g (lw_at lw_m8 127 rfl) rfl
theorem q1928 : (Jvm.Cond.soleField "CaseGrouperModel" "nodeThen") ∈ lw_all := lw_g (lw_at lw_m8 128 rfl) rfl
theorem q1929 : (Jvm.Cond.laysFinal "CaseGrouperModel" "CaseGrouperModel" "nodeElse" "[I") ∈ lw_all := lw_g (lw_at lw_m8 129 rfl) rfl
theorem q1930 : (Jvm.Cond.soleField "CaseGrouperModel" "nodeElse") ∈ lw_all := lw_g (lw_at lw_m8 130 rfl) rfl
theorem q1931 : (Jvm.Cond.laysFinal "CaseGrouperModel" "CaseGrouperModel" "nodeChapter" "[I") ∈ lw_all := lw_g (lw_at lw_m8 131 rfl) rfl
theorem q1932 : (Jvm.Cond.soleField "CaseGrouperModel" "nodeChapter") ∈ lw_all := lw_g (lw_at lw_m8 132 rfl) rfl
theorem q1933 : (Jvm.Cond.laysFinal "CaseGrouperModel" "CaseGrouperModel" "condWhat" "[I") ∈ lw_all := lw_g (lw_at lw_m8 133 rfl) rfl
theorem q1934 : (Jvm.Cond.soleField "CaseGrouperModel" "condWhat") ∈ lw_all := lw_g (lw_at lw_m8 134 rfl) rfl
theorem q1935 : (Jvm.Cond.laysFinal "CaseGrouperModel" "CaseGrouperModel" "condOne" "[I") ∈ lw_all := lw_g (lw_at lw_m8 135 rfl) rfl
theorem q1936 : (Jvm.Cond.soleField "CaseGrouperModel" "condOne") ∈ lw_all := lw_g (lw_at lw_m8 136 rfl) rfl
theorem q1937 : (Jvm.Cond.laysFinal "CaseGrouperModel" "CaseGrouperModel" "condTwo" "[I") ∈ lw_all := lw_g (lw_at lw_m8 137 rfl) rfl
theorem q1938 : (Jvm.Cond.soleField "CaseGrouperModel" "condTwo") ∈ lw_all := lw_g (lw_at lw_m8 138 rfl) rfl
theorem q1939 : (Jvm.Cond.laysFinal "CaseGrouperModel" "CaseGrouperModel" "condUnlike" "[I") ∈ lw_all := lw_g (lw_at lw_m8 139 rfl) rfl
theorem q1940 : (Jvm.Cond.soleField "CaseGrouperModel" "condUnlike") ∈ lw_all := lw_g (lw_at lw_m8 140 rfl) rfl
theorem q1941 : (Jvm.Cond.lays "CaseGrouperModel" "CaseGrouperModel" "now" "I") ∈ lw_all := lw_g (lw_at lw_m8 141 rfl) rfl
theorem q1942 : (Jvm.Cond.soleField "CaseGrouperModel" "now") ∈ lw_all := lw_g (lw_at lw_m8 142 rfl) rfl
theorem q1943 : (Jvm.Cond.lays "CaseGrouperModel" "CaseGrouperModel" "kept" "I") ∈ lw_all := lw_g (lw_at lw_m8 143 rfl) rfl
theorem q1944 : (Jvm.Cond.soleField "CaseGrouperModel" "kept") ∈ lw_all := lw_g (lw_at lw_m8 144 rfl) rfl
theorem q1945 : (Jvm.Cond.lays "CaseGrouperModel" "CaseGrouperModel" "draft" "I") ∈ lw_all := lw_g (lw_at lw_m8 145 rfl) rfl
theorem q1946 : (Jvm.Cond.soleField "CaseGrouperModel" "draft") ∈ lw_all := lw_g (lw_at lw_m8 146 rfl) rfl
theorem q1947 : (Jvm.Cond.lays "CaseGrouperModel" "CaseGrouperModel" "isKept" "Z") ∈ lw_all := lw_g (lw_at lw_m8 147 rfl) rfl
theorem q1948 : (Jvm.Cond.soleField "CaseGrouperModel" "isKept") ∈ lw_all := lw_g (lw_at lw_m8 148 rfl) rfl
theorem q1949 : (Jvm.Cond.lays "CaseGrouperModel" "CaseGrouperModel" "faultLine" "I") ∈ lw_all := lw_g (lw_at lw_m8 149 rfl) rfl
theorem q1950 : (Jvm.Cond.soleField "CaseGrouperModel" "faultLine") ∈ lw_all := lw_g (lw_at lw_m8 150 rfl) rfl
theorem q1951 : (Jvm.Cond.lays "CaseGrouperModel" "CaseGrouperModel" "stays" "I") ∈ lw_all := lw_g (lw_at lw_m8 151 rfl) rfl
theorem q1952 : (Jvm.Cond.soleField "CaseGrouperModel" "stays") ∈ lw_all := lw_g (lw_at lw_m8 152 rfl) rfl
theorem q1953 : (Jvm.Cond.laysFinal "CaseGrouperModel" "CaseGrouperModel" "main" "[I") ∈ lw_all := lw_g (lw_at lw_m8 153 rfl) rfl
theorem q1954 : (Jvm.Cond.soleField "CaseGrouperModel" "main") ∈ lw_all := lw_g (lw_at lw_m8 154 rfl) rfl
theorem q1955 : (Jvm.Cond.laysFinal "CaseGrouperModel" "CaseGrouperModel" "age" "[I") ∈ lw_all := lw_g (lw_at lw_m8 155 rfl) rfl
theorem q1956 : (Jvm.Cond.soleField "CaseGrouperModel" "age") ∈ lw_all := lw_g (lw_at lw_m8 156 rfl) rfl
theorem q1957 : (Jvm.Cond.laysFinal "CaseGrouperModel" "CaseGrouperModel" "days" "[I") ∈ lw_all := lw_g (lw_at lw_m8 157 rfl) rfl
theorem q1958 : (Jvm.Cond.soleField "CaseGrouperModel" "days") ∈ lw_all := lw_g (lw_at lw_m8 158 rfl) rfl
theorem q1959 : (Jvm.Cond.laysFinal "CaseGrouperModel" "CaseGrouperModel" "seconds" "[I") ∈ lw_all := lw_g (lw_at lw_m8 159 rfl) rfl
theorem q1960 : (Jvm.Cond.soleField "CaseGrouperModel" "seconds") ∈ lw_all := lw_g (lw_at lw_m8 160 rfl) rfl
theorem q1961 : (Jvm.Cond.laysFinal "CaseGrouperModel" "CaseGrouperModel" "second" "[I") ∈ lw_all := lw_g (lw_at lw_m8 161 rfl) rfl
theorem q1962 : (Jvm.Cond.soleField "CaseGrouperModel" "second") ∈ lw_all := lw_g (lw_at lw_m8 162 rfl) rfl
theorem q1963 : (Jvm.Cond.laysFinal "CaseGrouperModel" "CaseGrouperModel" "dones" "[I") ∈ lw_all := lw_g (lw_at lw_m8 163 rfl) rfl
theorem q1964 : (Jvm.Cond.soleField "CaseGrouperModel" "dones") ∈ lw_all := lw_g (lw_at lw_m8 164 rfl) rfl
theorem q1965 : (Jvm.Cond.laysFinal "CaseGrouperModel" "CaseGrouperModel" "done" "[I") ∈ lw_all := lw_g (lw_at lw_m8 165 rfl) rfl
theorem q1966 : (Jvm.Cond.soleField "CaseGrouperModel" "done") ∈ lw_all := lw_g (lw_at lw_m8 166 rfl) rfl
theorem q1967 : (Jvm.Cond.lays "CaseGrouperModel" "CaseGrouperModel" "size" "I") ∈ lw_all := lw_g (lw_at lw_m8 167 rfl) rfl
theorem q1968 : (Jvm.Cond.soleField "CaseGrouperModel" "size") ∈ lw_all := lw_g (lw_at lw_m8 168 rfl) rfl
theorem q1969 : (Jvm.Cond.lays "CaseGrouperModel" "CaseGrouperModel" "place" "I") ∈ lw_all := lw_g (lw_at lw_m8 169 rfl) rfl
theorem q1970 : (Jvm.Cond.soleField "CaseGrouperModel" "place") ∈ lw_all := lw_g (lw_at lw_m8 170 rfl) rfl
theorem q1971 : (Jvm.Cond.lays "CaseGrouperModel" "CaseGrouperModel" "endOf" "I") ∈ lw_all := lw_g (lw_at lw_m8 171 rfl) rfl
theorem q1972 : (Jvm.Cond.soleField "CaseGrouperModel" "endOf") ∈ lw_all := lw_g (lw_at lw_m8 172 rfl) rfl
theorem q1973 : (Jvm.Cond.lays "CaseGrouperModel" "CaseGrouperModel" "token" "I") ∈ lw_all := lw_g (lw_at lw_m8 173 rfl) rfl
theorem q1974 : (Jvm.Cond.soleField "CaseGrouperModel" "token") ∈ lw_all := lw_g (lw_at lw_m8 174 rfl) rfl
theorem q1975 : (Jvm.Cond.lays "CaseGrouperModel" "CaseGrouperModel" "word" "J") ∈ lw_all := lw_g (lw_at lw_m8 175 rfl) rfl
theorem q1976 : (Jvm.Cond.soleField "CaseGrouperModel" "word") ∈ lw_all := lw_g (lw_at lw_m8 176 rfl) rfl
theorem q1977 : (Jvm.Cond.lays "CaseGrouperModel" "CaseGrouperModel" "number" "I") ∈ lw_all := lw_g (lw_at lw_m8 177 rfl) rfl
theorem q1978 : (Jvm.Cond.soleField "CaseGrouperModel" "number") ∈ lw_all := lw_g (lw_at lw_m8 178 rfl) rfl
theorem q1979 : (Jvm.Cond.lays "CaseGrouperModel" "CaseGrouperModel" "fault" "I") ∈ lw_all := lw_g (lw_at lw_m8 179 rfl) rfl
theorem q1980 : (Jvm.Cond.soleField "CaseGrouperModel" "fault") ∈ lw_all := lw_g (lw_at lw_m8 180 rfl) rfl
theorem q1981 : (Jvm.Cond.lays "CaseGrouperModel" "CaseGrouperModel" "from" "I") ∈ lw_all := lw_g (lw_at lw_m8 181 rfl) rfl
theorem q1982 : (Jvm.Cond.soleField "CaseGrouperModel" "from") ∈ lw_all := lw_g (lw_at lw_m8 182 rfl) rfl
theorem q1983 : (Jvm.Cond.lays "CaseGrouperModel" "CaseGrouperModel" "to" "I") ∈ lw_all := lw_g (lw_at lw_m8 183 rfl) rfl
theorem q1984 : (Jvm.Cond.soleField "CaseGrouperModel" "to") ∈ lw_all := lw_g (lw_at lw_m8 184 rfl) rfl
theorem q1985 : (Jvm.Cond.lays "CaseGrouperModel" "CaseGrouperModel" "spanPlace" "I") ∈ lw_all := lw_g (lw_at lw_m8 185 rfl) rfl
theorem q1986 : (Jvm.Cond.soleField "CaseGrouperModel" "spanPlace") ∈ lw_all := lw_g (lw_at lw_m8 186 rfl) rfl
theorem q1987 : (Jvm.Cond.laysFinal "CaseGrouperModel" "CaseGrouperModel" "spanWhat" "[I") ∈ lw_all := lw_g (lw_at lw_m8 187 rfl) rfl
theorem q1988 : (Jvm.Cond.soleField "CaseGrouperModel" "spanWhat") ∈ lw_all := lw_g (lw_at lw_m8 188 rfl) rfl
theorem q1989 : (Jvm.Cond.laysFinal "CaseGrouperModel" "CaseGrouperModel" "spanFrom" "[I") ∈ lw_all := lw_g (lw_at lw_m8 189 rfl) rfl
theorem q1990 : (Jvm.Cond.soleField "CaseGrouperModel" "spanFrom") ∈ lw_all := lw_g (lw_at lw_m8 190 rfl) rfl
theorem q1991 : (Jvm.Cond.laysFinal "CaseGrouperModel" "CaseGrouperModel" "spanTo" "[I") ∈ lw_all := lw_g (lw_at lw_m8 191 rfl) rfl
theorem q1992 : (Jvm.Cond.soleField "CaseGrouperModel" "spanTo") ∈ lw_all := lw_g (lw_at lw_m8 192 rfl) rfl
theorem q1993 : (Jvm.Cond.lays "CaseGrouperModel" "CaseGrouperModel" "unlikeSpans" "I") ∈ lw_all := lw_g (lw_at lw_m8 193 rfl) rfl
theorem q1994 : (Jvm.Cond.soleField "CaseGrouperModel" "unlikeSpans") ∈ lw_all := lw_g (lw_at lw_m8 194 rfl) rfl
theorem q1995 : (Jvm.Cond.laysFinal "CaseGrouperModel" "CaseGrouperModel" "compWhat" "[I") ∈ lw_all := lw_g (lw_at lw_m8 195 rfl) rfl
theorem q1996 : (Jvm.Cond.soleField "CaseGrouperModel" "compWhat") ∈ lw_all := lw_g (lw_at lw_m8 196 rfl) rfl
theorem q1997 : (Jvm.Cond.laysFinal "CaseGrouperModel" "CaseGrouperModel" "compSign" "[I") ∈ lw_all := lw_g (lw_at lw_m8 197 rfl) rfl
theorem q1998 : (Jvm.Cond.soleField "CaseGrouperModel" "compSign") ∈ lw_all := lw_g (lw_at lw_m8 198 rfl) rfl
theorem q1999 : (Jvm.Cond.laysFinal "CaseGrouperModel" "CaseGrouperModel" "compNumber" "[I") ∈ lw_all := lw_g (lw_at lw_m8 199 rfl) rfl
theorem q2000 : (Jvm.Cond.soleField "CaseGrouperModel" "compNumber") ∈ lw_all := lw_g (lw_at lw_m8 200 rfl) rfl
theorem q2001 : (Jvm.Cond.lays "CaseGrouperModel" "CaseGrouperModel" "unlikeComps" "I") ∈ lw_all := lw_g (lw_at lw_m8 201 rfl) rfl
theorem q2002 : (Jvm.Cond.soleField "CaseGrouperModel" "unlikeComps") ∈ lw_all := lw_g (lw_at lw_m8 202 rfl) rfl
theorem q2003 : (Jvm.Cond.lays "CaseGrouperModel" "CaseGrouperModel" "open" "I") ∈ lw_all := lw_g (lw_at lw_m8 203 rfl) rfl
theorem q2004 : (Jvm.Cond.soleField "CaseGrouperModel" "open") ∈ lw_all := lw_g (lw_at lw_m8 204 rfl) rfl
theorem q2005 : (Jvm.Cond.lays "CaseGrouperModel" "CaseGrouperModel" "treeOf" "I") ∈ lw_all := lw_g (lw_at lw_m8 205 rfl) rfl
theorem q2006 : (Jvm.Cond.soleField "CaseGrouperModel" "treeOf") ∈ lw_all := lw_g (lw_at lw_m8 206 rfl) rfl
theorem q2007 : (Jvm.Cond.lays "CaseGrouperModel" "CaseGrouperModel" "top" "I") ∈ lw_all := lw_g (lw_at lw_m8 207 rfl) rfl
theorem q2008 : (Jvm.Cond.soleField "CaseGrouperModel" "top") ∈ lw_all := lw_g (lw_at lw_m8 208 rfl) rfl
theorem q2009 : (Jvm.Cond.lays "CaseGrouperModel" "CaseGrouperModel" "level" "I") ∈ lw_all := lw_g (lw_at lw_m8 209 rfl) rfl
theorem q2010 : (Jvm.Cond.soleField "CaseGrouperModel" "level") ∈ lw_all := lw_g (lw_at lw_m8 210 rfl) rfl
theorem q2011 : (Jvm.Cond.laysFinal "CaseGrouperModel" "CaseGrouperModel" "way" "[I") ∈ lw_all := lw_g (lw_at lw_m8 211 rfl) rfl
theorem q2012 : (Jvm.Cond.soleField "CaseGrouperModel" "way") ∈ lw_all := lw_g (lw_at lw_m8 212 rfl) rfl
theorem q2013 : (Jvm.Cond.lays "CaseGrouperModel" "CaseGrouperModel" "wayLong" "I") ∈ lw_all := lw_g (lw_at lw_m8 213 rfl) rfl
theorem q2014 : (Jvm.Cond.soleField "CaseGrouperModel" "wayLong") ∈ lw_all := lw_g (lw_at lw_m8 214 rfl) rfl
theorem q2015 : (Jvm.Cond.lays "CaseGrouperModel" "CaseGrouperModel" "leaves" "I") ∈ lw_all := lw_g (lw_at lw_m8 215 rfl) rfl
theorem q2016 : (Jvm.Cond.soleField "CaseGrouperModel" "leaves") ∈ lw_all := lw_g (lw_at lw_m8 216 rfl) rfl
theorem q2017 : (Jvm.Cond.laysFinal "CaseGrouperModel" "CaseGrouperModel" "leafNode" "[I") ∈ lw_all := lw_g (lw_at lw_m8 217 rfl) rfl
theorem q2018 : (Jvm.Cond.soleField "CaseGrouperModel" "leafNode") ∈ lw_all := lw_g (lw_at lw_m8 218 rfl) rfl
theorem q2019 : (Jvm.Cond.laysFinal "CaseGrouperModel" "CaseGrouperModel" "isReached" "[Z") ∈ lw_all := lw_g (lw_at lw_m8 219 rfl) rfl
theorem q2020 : (Jvm.Cond.soleField "CaseGrouperModel" "isReached") ∈ lw_all := lw_g (lw_at lw_m8 220 rfl) rfl
theorem q2021 : (Jvm.Cond.laysFinal "CaseGrouperModel" "CaseGrouperModel" "answers" "[I") ∈ lw_all := lw_g (lw_at lw_m8 221 rfl) rfl
theorem q2022 : (Jvm.Cond.soleField "CaseGrouperModel" "answers") ∈ lw_all := lw_g (lw_at lw_m8 222 rfl) rfl
theorem q2023 : (Jvm.Cond.laysFinal "CaseGrouperModel" "CaseGrouperModel" "answerFrom" "[I") ∈ lw_all := lw_g (lw_at lw_m8 223 rfl) rfl
theorem q2024 : (Jvm.Cond.soleField "CaseGrouperModel" "answerFrom") ∈ lw_all := lw_g (lw_at lw_m8 224 rfl) rfl
theorem q2025 : (Jvm.Cond.lays "CaseGrouperModel" "CaseGrouperModel" "answerMany" "I") ∈ lw_all := lw_g (lw_at lw_m8 225 rfl) rfl
theorem q2026 : (Jvm.Cond.soleField "CaseGrouperModel" "answerMany") ∈ lw_all := lw_g (lw_at lw_m8 226 rfl) rfl
theorem q2027 : (Jvm.Cond.laysFinal "CaseGrouperModel" "CaseGrouperModel" "condTree" "[I") ∈ lw_all := lw_g (lw_at lw_m8 227 rfl) rfl
theorem q2028 : (Jvm.Cond.soleField "CaseGrouperModel" "condTree") ∈ lw_all := lw_g (lw_at lw_m8 228 rfl) rfl
theorem q2029 : (Jvm.Cond.superclass "CaseGrouperModel" "java/lang/Object") ∈ lw_all := lw_g (lw_at lw_m8 229 rfl) rfl
theorem q2033 : (Jvm.Cond.instanceMethod ({ cls := "CaseGrouperModel", name := "thrown", desc := "()I" } : Jvm.MethodName)) ∈ lw_all := lw_g (lw_at lw_m8 233 rfl) rfl
theorem q2034 : (Jvm.Cond.selects "CaseGrouperModel" ({ cls := "CaseGrouperModel", name := "thrown", desc := "()I" } : Jvm.MethodName) ({ cls := "CaseGrouperModel", name := "thrown", desc := "()I" } : Jvm.MethodName)) ∈ lw_all := lw_g (lw_at lw_m8 234 rfl) rfl
theorem q2035 : (Jvm.Cond.code ({ cls := "CaseGrouperModel", name := "thrown", desc := "()I" } : Jvm.MethodName) prog_20_method_2_code (1 : Nat) (Option.some Jvm.ClassFile.FieldType.int)) ∈ lw_all := lw_g (lw_at lw_m8 235 rfl) rfl
theorem q2037 : (Jvm.Cond.instanceMethod ({ cls := "CaseGrouperModel", name := "feed", desc := "(JJJ)I" } : Jvm.MethodName)) ∈ lw_all := lw_g (lw_at lw_m8 237 rfl) rfl
theorem q2038 : (Jvm.Cond.selects "CaseGrouperModel" ({ cls := "CaseGrouperModel", name := "feed", desc := "(JJJ)I" } : Jvm.MethodName) ({ cls := "CaseGrouperModel", name := "feed", desc := "(JJJ)I" } : Jvm.MethodName)) ∈ lw_all := lw_g (lw_at lw_m8 238 rfl) rfl
theorem q2039 : (Jvm.Cond.code ({ cls := "CaseGrouperModel", name := "feed", desc := "(JJJ)I" } : Jvm.MethodName) prog_20_method_10_code (7 : Nat) (Option.some Jvm.ClassFile.FieldType.int)) ∈ lw_all := lw_g (lw_at lw_m8 239 rfl) rfl
theorem q2040 : (Jvm.Cond.methodLink "CaseGrouperModel" (166 : Nat) ({ cls := "CaseGrouperModel", name := "eight", desc := "(J)V" } : Jvm.MethodName)) ∈ lw_all := lw_g (lw_at lw_m9 0 rfl) rfl
theorem q2041 : (Jvm.Cond.privateMethod ({ cls := "CaseGrouperModel", name := "eight", desc := "(J)V" } : Jvm.MethodName)) ∈ lw_tbl := lw_at lw_m9 1 rfl
theorem q2042 : (Jvm.Cond.instanceMethod ({ cls := "CaseGrouperModel", name := "eight", desc := "(J)V" } : Jvm.MethodName)) ∈ lw_all := lw_g (lw_at lw_m9 2 rfl) rfl
theorem q2043 : (Jvm.Cond.code ({ cls := "CaseGrouperModel", name := "eight", desc := "(J)V" } : Jvm.MethodName) prog_20_method_9_code (4 : Nat) (Option.none : Option Jvm.ClassFile.FieldType)) ∈ lw_all := lw_g (lw_at lw_m9 3 rfl) rfl
theorem q2045 : (Jvm.Cond.instanceMethod ({ cls := "CaseGrouperModel", name := "end", desc := "(I)I" } : Jvm.MethodName)) ∈ lw_all := lw_g (lw_at lw_m9 5 rfl) rfl
theorem q2046 : (Jvm.Cond.selects "CaseGrouperModel" ({ cls := "CaseGrouperModel", name := "end", desc := "(I)I" } : Jvm.MethodName) ({ cls := "CaseGrouperModel", name := "end", desc := "(I)I" } : Jvm.MethodName)) ∈ lw_all := lw_g (lw_at lw_m9 6 rfl) rfl
theorem q2047 : (Jvm.Cond.code ({ cls := "CaseGrouperModel", name := "end", desc := "(I)I" } : Jvm.MethodName) prog_20_method_11_code (2 : Nat) (Option.some Jvm.ClassFile.FieldType.int)) ∈ lw_all := lw_g (lw_at lw_m9 7 rfl) rfl
theorem q2048 : (Jvm.Cond.methodLink "CaseGrouperModel" (170 : Nat) ({ cls := "CaseGrouperModel", name := "within", desc := "(III)Z" } : Jvm.MethodName)) ∈ lw_all := lw_g (lw_at lw_m9 8 rfl) rfl
theorem q2049 : (Jvm.Cond.static ({ cls := "CaseGrouperModel", name := "within", desc := "(III)Z" } : Jvm.MethodName)) ∈ lw_all := lw_g (lw_at lw_m9 9 rfl) rfl
theorem q2050 : (Jvm.Cond.code ({ cls := "CaseGrouperModel", name := "within", desc := "(III)Z" } : Jvm.MethodName) prog_20_method_3_code (3 : Nat) (Option.some Jvm.ClassFile.FieldType.boolean)) ∈ lw_all := lw_g (lw_at lw_m9 10 rfl) rfl
theorem q2052 : (Jvm.Cond.instanceMethod ({ cls := "CaseGrouperModel", name := "edition", desc := "()I" } : Jvm.MethodName)) ∈ lw_all := lw_g (lw_at lw_m9 12 rfl) rfl
theorem q2053 : (Jvm.Cond.selects "CaseGrouperModel" ({ cls := "CaseGrouperModel", name := "edition", desc := "()I" } : Jvm.MethodName) ({ cls := "CaseGrouperModel", name := "edition", desc := "()I" } : Jvm.MethodName)) ∈ lw_all := lw_g (lw_at lw_m9 13 rfl) rfl
theorem q2054 : (Jvm.Cond.code ({ cls := "CaseGrouperModel", name := "edition", desc := "()I" } : Jvm.MethodName) prog_20_method_47_code (3 : Nat) (Option.some Jvm.ClassFile.FieldType.int)) ∈ lw_all := lw_g (lw_at lw_m9 14 rfl) rfl
theorem q2055 : (Jvm.Cond.methodLink "CaseGrouperModel" (240 : Nat) ({ cls := "CaseGrouperModel", name := "next", desc := "()V" } : Jvm.MethodName)) ∈ lw_all := lw_g (lw_at lw_m9 15 rfl) rfl
theorem q2056 : (Jvm.Cond.privateMethod ({ cls := "CaseGrouperModel", name := "next", desc := "()V" } : Jvm.MethodName)) ∈ lw_tbl := lw_at lw_m9 16 rfl
theorem q2057 : (Jvm.Cond.instanceMethod ({ cls := "CaseGrouperModel", name := "next", desc := "()V" } : Jvm.MethodName)) ∈ lw_all := lw_g (lw_at lw_m9 17 rfl) rfl
theorem q2058 : (Jvm.Cond.code ({ cls := "CaseGrouperModel", name := "next", desc := "()V" } : Jvm.MethodName) prog_20_method_15_code (3 : Nat) (Option.none : Option Jvm.ClassFile.FieldType)) ∈ lw_all := lw_g (lw_at lw_m9 18 rfl) rfl
theorem q2059 : (Jvm.Cond.methodLink "CaseGrouperModel" (183 : Nat) ({ cls := "CaseGrouperModel", name := "byteAt", desc := "(I)I" } : Jvm.MethodName)) ∈ lw_all := lw_g (lw_at lw_m9 19 rfl) rfl
theorem q2060 : (Jvm.Cond.privateMethod ({ cls := "CaseGrouperModel", name := "byteAt", desc := "(I)I" } : Jvm.MethodName)) ∈ lw_tbl := lw_at lw_m9 20 rfl
theorem q2061 : (Jvm.Cond.instanceMethod ({ cls := "CaseGrouperModel", name := "byteAt", desc := "(I)I" } : Jvm.MethodName)) ∈ lw_all := lw_g (lw_at lw_m9 21 rfl) rfl
theorem q2062 : (Jvm.Cond.code ({ cls := "CaseGrouperModel", name := "byteAt", desc := "(I)I" } : Jvm.MethodName) prog_20_method_12_code (2 : Nat) (Option.some Jvm.ClassFile.FieldType.int)) ∈ lw_all := lw_g (lw_at lw_m9 22 rfl) rfl
theorem q2063 : (Jvm.Cond.methodLink "CaseGrouperModel" (196 : Nat) ({ cls := "CaseGrouperModel", name := "isSmall", desc := "(I)Z" } : Jvm.MethodName)) ∈ lw_all := lw_g (lw_at lw_m9 23 rfl) rfl
theorem q2064 : (Jvm.Cond.static ({ cls := "CaseGrouperModel", name := "isSmall", desc := "(I)Z" } : Jvm.MethodName)) ∈ lw_all := lw_g (lw_at lw_m9 24 rfl) rfl
theorem q2065 : (Jvm.Cond.code ({ cls := "CaseGrouperModel", name := "isSmall", desc := "(I)Z" } : Jvm.MethodName) prog_20_method_13_code (1 : Nat) (Option.some Jvm.ClassFile.FieldType.boolean)) ∈ lw_all := lw_g (lw_at lw_m9 25 rfl) rfl
theorem q2066 : (Jvm.Cond.methodLink "CaseGrouperModel" (200 : Nat) ({ cls := "CaseGrouperModel", name := "isDigit", desc := "(I)Z" } : Jvm.MethodName)) ∈ lw_all := lw_g (lw_at lw_m9 26 rfl) rfl
theorem q2067 : (Jvm.Cond.static ({ cls := "CaseGrouperModel", name := "isDigit", desc := "(I)Z" } : Jvm.MethodName)) ∈ lw_all := lw_g (lw_at lw_m9 27 rfl) rfl
theorem q2068 : (Jvm.Cond.code ({ cls := "CaseGrouperModel", name := "isDigit", desc := "(I)Z" } : Jvm.MethodName) prog_20_method_14_code (1 : Nat) (Option.some Jvm.ClassFile.FieldType.boolean)) ∈ lw_all := lw_g (lw_at lw_m9 28 rfl) rfl
theorem q2069 : (Jvm.Cond.methodLink "CaseGrouperModel" (203 : Nat) ({ cls := "CaseGrouperModel", name := "runs", desc := "(I)V" } : Jvm.MethodName)) ∈ lw_all := lw_g (lw_at lw_m9 29 rfl) rfl
theorem q2070 : (Jvm.Cond.privateMethod ({ cls := "CaseGrouperModel", name := "runs", desc := "(I)V" } : Jvm.MethodName)) ∈ lw_tbl := lw_at lw_m9 30 rfl
theorem q2071 : (Jvm.Cond.instanceMethod ({ cls := "CaseGrouperModel", name := "runs", desc := "(I)V" } : Jvm.MethodName)) ∈ lw_all := lw_g (lw_at lw_m9 31 rfl) rfl
theorem q2072 : (Jvm.Cond.code ({ cls := "CaseGrouperModel", name := "runs", desc := "(I)V" } : Jvm.MethodName) prog_20_method_16_code (5 : Nat) (Option.none : Option Jvm.ClassFile.FieldType)) ∈ lw_all := lw_g (lw_at lw_m9 32 rfl) rfl
theorem q2073 : (Jvm.Cond.constantLong "CaseGrouperModel" (211 : Nat) (256 : Int64)) ∈ lw_all := lw_g (lw_at lw_m9 33 rfl) rfl
theorem q2074 : (Jvm.Cond.methodLink "CaseGrouperModel" (213 : Nat) ({ cls := "CaseGrouperModel", name := "codes", desc := "(I)V" } : Jvm.MethodName)) ∈ lw_all := lw_g (lw_at lw_m9 34 rfl) rfl
theorem q2075 : (Jvm.Cond.privateMethod ({ cls := "CaseGrouperModel", name := "codes", desc := "(I)V" } : Jvm.MethodName)) ∈ lw_tbl := lw_at lw_m9 35 rfl
theorem q2076 : (Jvm.Cond.instanceMethod ({ cls := "CaseGrouperModel", name := "codes", desc := "(I)V" } : Jvm.MethodName)) ∈ lw_all := lw_g (lw_at lw_m9 36 rfl) rfl
theorem q2077 : (Jvm.Cond.code ({ cls := "CaseGrouperModel", name := "codes", desc := "(I)V" } : Jvm.MethodName) prog_20_method_17_code (2 : Nat) (Option.none : Option Jvm.ClassFile.FieldType)) ∈ lw_all := lw_g (lw_at lw_m9 37 rfl) rfl
theorem q2078 : (Jvm.Cond.stringRef "CaseGrouperModel" (247 : Nat) "chapter") ∈ lw_tbl := lw_at lw_m9 38 rfl
theorem q2079 : (Jvm.Cond.methodLink "CaseGrouperModel" (243 : Nat) ({ cls := "CaseGrouperModel", name := "isWord", desc := "(Ljava/lang/String;)Z" } : Jvm.MethodName)) ∈ lw_all := lw_g (lw_at lw_m9 39 rfl) rfl
theorem q2080 : (Jvm.Cond.privateMethod ({ cls := "CaseGrouperModel", name := "isWord", desc := "(Ljava/lang/String;)Z" } : Jvm.MethodName)) ∈ lw_tbl := lw_at lw_m9 40 rfl
theorem q2081 : (Jvm.Cond.instanceMethod ({ cls := "CaseGrouperModel", name := "isWord", desc := "(Ljava/lang/String;)Z" } : Jvm.MethodName)) ∈ lw_all := lw_g (lw_at lw_m9 41 rfl) rfl
theorem q2082 : (Jvm.Cond.code ({ cls := "CaseGrouperModel", name := "isWord", desc := "(Ljava/lang/String;)Z" } : Jvm.MethodName) prog_20_method_21_code (2 : Nat) (Option.some Jvm.ClassFile.FieldType.boolean)) ∈ lw_all := lw_g (lw_at lw_m9 42 rfl) rfl
theorem q2083 : (Jvm.Cond.methodLink "CaseGrouperModel" (230 : Nat) ({ cls := "CaseGrouperModel", name := "packed", desc := "(Ljava/lang/String;)J" } : Jvm.MethodName)) ∈ lw_all := lw_g (lw_at lw_m9 43 rfl) rfl
theorem q2084 : (Jvm.Cond.static ({ cls := "CaseGrouperModel", name := "packed", desc := "(Ljava/lang/String;)J" } : Jvm.MethodName)) ∈ lw_all := lw_g (lw_at lw_m9 44 rfl) rfl
theorem q2085 : (Jvm.Cond.code ({ cls := "CaseGrouperModel", name := "packed", desc := "(Ljava/lang/String;)J" } : Jvm.MethodName) prog_20_method_20_code (4 : Nat) (Option.some Jvm.ClassFile.FieldType.long)) ∈ lw_all := lw_g (lw_at lw_m9 45 rfl) rfl
theorem q2086 : (Jvm.Cond.methodLink "CaseGrouperModel" (220 : Nat) ({ cls := "java/lang/String", name := "length", desc := "()I" } : Jvm.MethodName)) ∈ lw_all := lw_g (lw_at lw_m9 46 rfl) rfl
theorem q2094 : (Jvm.Cond.methodLink "CaseGrouperModel" (226 : Nat) ({ cls := "java/lang/String", name := "charAt", desc := "(I)C" } : Jvm.MethodName)) ∈ lw_all := lw_g (lw_at lw_m9 54 rfl) rfl
theorem q2105 : (Jvm.Cond.methodLink "CaseGrouperModel" (388 : Nat) ({ cls := "CaseGrouperModel", name := "chapterLine", desc := "()V" } : Jvm.MethodName)) ∈ lw_all := lw_g (lw_at lw_m9 65 rfl) rfl
theorem q2106 : (Jvm.Cond.privateMethod ({ cls := "CaseGrouperModel", name := "chapterLine", desc := "()V" } : Jvm.MethodName)) ∈ lw_tbl := lw_at lw_m9 66 rfl
theorem q2107 : (Jvm.Cond.instanceMethod ({ cls := "CaseGrouperModel", name := "chapterLine", desc := "()V" } : Jvm.MethodName)) ∈ lw_all := lw_g (lw_at lw_m9 67 rfl) rfl
theorem q2108 : (Jvm.Cond.code ({ cls := "CaseGrouperModel", name := "chapterLine", desc := "()V" } : Jvm.MethodName) prog_20_method_31_code (6 : Nat) (Option.none : Option Jvm.ClassFile.FieldType)) ∈ lw_all := lw_g (lw_at lw_m9 68 rfl) rfl
theorem q2109 : (Jvm.Cond.methodLink "CaseGrouperModel" (300 : Nat) ({ cls := "CaseGrouperModel", name := "chapters", desc := "(I)I" } : Jvm.MethodName)) ∈ lw_all := lw_g (lw_at lw_m9 69 rfl) rfl
theorem q2110 : (Jvm.Cond.privateMethod ({ cls := "CaseGrouperModel", name := "chapters", desc := "(I)I" } : Jvm.MethodName)) ∈ lw_tbl := lw_at lw_m9 70 rfl
theorem q2111 : (Jvm.Cond.instanceMethod ({ cls := "CaseGrouperModel", name := "chapters", desc := "(I)I" } : Jvm.MethodName)) ∈ lw_all := lw_g (lw_at lw_m9 71 rfl) rfl
theorem q2112 : (Jvm.Cond.code ({ cls := "CaseGrouperModel", name := "chapters", desc := "(I)I" } : Jvm.MethodName) prog_20_method_4_code (2 : Nat) (Option.some Jvm.ClassFile.FieldType.int)) ∈ lw_all := lw_g (lw_at lw_m9 72 rfl) rfl
theorem q2113 : (Jvm.Cond.methodLink "CaseGrouperModel" (237 : Nat) ({ cls := "CaseGrouperModel", name := "wrong", desc := "(I)V" } : Jvm.MethodName)) ∈ lw_all := lw_g (lw_at lw_m9 73 rfl) rfl
theorem q2114 : (Jvm.Cond.privateMethod ({ cls := "CaseGrouperModel", name := "wrong", desc := "(I)V" } : Jvm.MethodName)) ∈ lw_tbl := lw_at lw_m9 74 rfl
theorem q2115 : (Jvm.Cond.instanceMethod ({ cls := "CaseGrouperModel", name := "wrong", desc := "(I)V" } : Jvm.MethodName)) ∈ lw_all := lw_g (lw_at lw_m9 75 rfl) rfl
theorem q2116 : (Jvm.Cond.code ({ cls := "CaseGrouperModel", name := "wrong", desc := "(I)V" } : Jvm.MethodName) prog_20_method_18_code (2 : Nat) (Option.none : Option Jvm.ClassFile.FieldType)) ∈ lw_all := lw_g (lw_at lw_m9 76 rfl) rfl
theorem q2117 : (Jvm.Cond.methodLink "CaseGrouperModel" (216 : Nat) ({ cls := "CaseGrouperModel", name := "wrongAt", desc := "(II)V" } : Jvm.MethodName)) ∈ lw_all := lw_g (lw_at lw_m9 77 rfl) rfl
theorem q2118 : (Jvm.Cond.privateMethod ({ cls := "CaseGrouperModel", name := "wrongAt", desc := "(II)V" } : Jvm.MethodName)) ∈ lw_tbl := lw_at lw_m9 78 rfl
theorem q2119 : (Jvm.Cond.instanceMethod ({ cls := "CaseGrouperModel", name := "wrongAt", desc := "(II)V" } : Jvm.MethodName)) ∈ lw_all := lw_g (lw_at lw_m9 79 rfl) rfl
theorem q2120 : (Jvm.Cond.code ({ cls := "CaseGrouperModel", name := "wrongAt", desc := "(II)V" } : Jvm.MethodName) prog_20_method_19_code (3 : Nat) (Option.none : Option Jvm.ClassFile.FieldType)) ∈ lw_all := lw_g (lw_at lw_m9 80 rfl) rfl
theorem q2121 : (Jvm.Cond.methodLink "CaseGrouperModel" (303 : Nat) ({ cls := "CaseGrouperModel", name := "name", desc := "()J" } : Jvm.MethodName)) ∈ lw_all := lw_g (lw_at lw_m9 81 rfl) rfl
theorem q2122 : (Jvm.Cond.privateMethod ({ cls := "CaseGrouperModel", name := "name", desc := "()J" } : Jvm.MethodName)) ∈ lw_tbl := lw_at lw_m9 82 rfl
theorem q2123 : (Jvm.Cond.instanceMethod ({ cls := "CaseGrouperModel", name := "name", desc := "()J" } : Jvm.MethodName)) ∈ lw_all := lw_g (lw_at lw_m9 83 rfl) rfl
theorem q2124 : (Jvm.Cond.code ({ cls := "CaseGrouperModel", name := "name", desc := "()J" } : Jvm.MethodName) prog_20_method_26_code (1 : Nat) (Option.some Jvm.ClassFile.FieldType.long)) ∈ lw_all := lw_g (lw_at lw_m9 84 rfl) rfl
theorem q2125 : (Jvm.Cond.methodLink "CaseGrouperModel" (284 : Nat) ({ cls := "CaseGrouperModel", name := "isTold", desc := "()Z" } : Jvm.MethodName)) ∈ lw_all := lw_g (lw_at lw_m9 85 rfl) rfl
theorem q2126 : (Jvm.Cond.privateMethod ({ cls := "CaseGrouperModel", name := "isTold", desc := "()Z" } : Jvm.MethodName)) ∈ lw_tbl := lw_at lw_m9 86 rfl
theorem q2127 : (Jvm.Cond.instanceMethod ({ cls := "CaseGrouperModel", name := "isTold", desc := "()Z" } : Jvm.MethodName)) ∈ lw_all := lw_g (lw_at lw_m9 87 rfl) rfl
theorem q2128 : (Jvm.Cond.code ({ cls := "CaseGrouperModel", name := "isTold", desc := "()Z" } : Jvm.MethodName) prog_20_method_25_code (1 : Nat) (Option.some Jvm.ClassFile.FieldType.boolean)) ∈ lw_all := lw_g (lw_at lw_m9 88 rfl) rfl
theorem q2129 : (Jvm.Cond.stringRef "CaseGrouperModel" (249 : Nat) "rank") ∈ lw_tbl := lw_at lw_m9 89 rfl
theorem q2130 : (Jvm.Cond.stringRef "CaseGrouperModel" (251 : Nat) "partner") ∈ lw_tbl := lw_at lw_m9 90 rfl
theorem q2131 : (Jvm.Cond.stringRef "CaseGrouperModel" (253 : Nat) "tree") ∈ lw_tbl := lw_at lw_m9 91 rfl
theorem q2132 : (Jvm.Cond.stringRef "CaseGrouperModel" (255 : Nat) "class") ∈ lw_tbl := lw_at lw_m9 92 rfl
theorem q2133 : (Jvm.Cond.stringRef "CaseGrouperModel" (257 : Nat) "if") ∈ lw_tbl := lw_at lw_m9 93 rfl
theorem q2134 : (Jvm.Cond.stringRef "CaseGrouperModel" (259 : Nat) "then") ∈ lw_tbl := lw_at lw_m9 94 rfl
theorem q2135 : (Jvm.Cond.stringRef "CaseGrouperModel" (261 : Nat) "else") ∈ lw_tbl := lw_at lw_m9 95 rfl
theorem q2136 : (Jvm.Cond.stringRef "CaseGrouperModel" (263 : Nat) "or") ∈ lw_tbl := lw_at lw_m9 96 rfl
theorem q2137 : (Jvm.Cond.stringRef "CaseGrouperModel" (265 : Nat) "and") ∈ lw_tbl := lw_at lw_m9 97 rfl
theorem q2138 : (Jvm.Cond.stringRef "CaseGrouperModel" (267 : Nat) "not") ∈ lw_tbl := lw_at lw_m9 98 rfl
theorem q2139 : (Jvm.Cond.stringRef "CaseGrouperModel" (269 : Nat) "has") ∈ lw_tbl := lw_at lw_m9 99 rfl
theorem q2140 : (Jvm.Cond.stringRef "CaseGrouperModel" (271 : Nat) "main") ∈ lw_tbl := lw_at lw_m9 100 rfl
theorem q2141 : (Jvm.Cond.stringRef "CaseGrouperModel" (272 : Nat) "did") ∈ lw_tbl := lw_at lw_m9 101 rfl
theorem q2142 : (Jvm.Cond.stringRef "CaseGrouperModel" (274 : Nat) "to") ∈ lw_tbl := lw_at lw_m9 102 rfl
theorem q2143 : (Jvm.Cond.stringRef "CaseGrouperModel" (276 : Nat) "but") ∈ lw_tbl := lw_at lw_m9 103 rfl
theorem q2144 : (Jvm.Cond.stringRef "CaseGrouperModel" (278 : Nat) "age") ∈ lw_tbl := lw_at lw_m9 104 rfl
theorem q2145 : (Jvm.Cond.stringRef "CaseGrouperModel" (279 : Nat) "days") ∈ lw_tbl := lw_at lw_m9 105 rfl
theorem q2146 : (Jvm.Cond.stringRef "CaseGrouperModel" (280 : Nat) "level") ∈ lw_tbl := lw_at lw_m9 106 rfl
theorem q2147 : (Jvm.Cond.stringRef "CaseGrouperModel" (282 : Nat) "top") ∈ lw_tbl := lw_at lw_m9 107 rfl
theorem q2148 : (Jvm.Cond.methodLink "CaseGrouperModel" (307 : Nat) ({ cls := "CaseGrouperModel", name := "chapterOf", desc := "(J)I" } : Jvm.MethodName)) ∈ lw_all := lw_g (lw_at lw_m9 108 rfl) rfl
theorem q2149 : (Jvm.Cond.privateMethod ({ cls := "CaseGrouperModel", name := "chapterOf", desc := "(J)I" } : Jvm.MethodName)) ∈ lw_tbl := lw_at lw_m9 109 rfl
theorem q2150 : (Jvm.Cond.instanceMethod ({ cls := "CaseGrouperModel", name := "chapterOf", desc := "(J)I" } : Jvm.MethodName)) ∈ lw_all := lw_g (lw_at lw_m9 110 rfl) rfl
theorem q2151 : (Jvm.Cond.code ({ cls := "CaseGrouperModel", name := "chapterOf", desc := "(J)I" } : Jvm.MethodName) prog_20_method_30_code (4 : Nat) (Option.some Jvm.ClassFile.FieldType.int)) ∈ lw_all := lw_g (lw_at lw_m9 111 rfl) rfl
theorem q2152 : (Jvm.Cond.methodLink "CaseGrouperModel" (311 : Nat) ({ cls := "CaseGrouperModel", name := "span", desc := "(ZZ)V" } : Jvm.MethodName)) ∈ lw_all := lw_g (lw_at lw_m9 112 rfl) rfl
theorem q2153 : (Jvm.Cond.privateMethod ({ cls := "CaseGrouperModel", name := "span", desc := "(ZZ)V" } : Jvm.MethodName)) ∈ lw_tbl := lw_at lw_m9 113 rfl
theorem q2154 : (Jvm.Cond.instanceMethod ({ cls := "CaseGrouperModel", name := "span", desc := "(ZZ)V" } : Jvm.MethodName)) ∈ lw_all := lw_g (lw_at lw_m9 114 rfl) rfl
theorem q2155 : (Jvm.Cond.code ({ cls := "CaseGrouperModel", name := "span", desc := "(ZZ)V" } : Jvm.MethodName) prog_20_method_29_code (3 : Nat) (Option.none : Option Jvm.ClassFile.FieldType)) ∈ lw_all := lw_g (lw_at lw_m9 115 rfl) rfl
theorem q2156 : (Jvm.Cond.methodLink "CaseGrouperModel" (288 : Nat) ({ cls := "CaseGrouperModel", name := "isSort", desc := "(IZ)Z" } : Jvm.MethodName)) ∈ lw_all := lw_g (lw_at lw_m9 116 rfl) rfl
theorem q2157 : (Jvm.Cond.static ({ cls := "CaseGrouperModel", name := "isSort", desc := "(IZ)Z" } : Jvm.MethodName)) ∈ lw_all := lw_g (lw_at lw_m9 117 rfl) rfl
theorem q2158 : (Jvm.Cond.code ({ cls := "CaseGrouperModel", name := "isSort", desc := "(IZ)Z" } : Jvm.MethodName) prog_20_method_28_code (2 : Nat) (Option.some Jvm.ClassFile.FieldType.boolean)) ∈ lw_all := lw_g (lw_at lw_m9 118 rfl) rfl
theorem q2159 : (Jvm.Cond.methodLink "CaseGrouperModel" (234 : Nat) ({ cls := "CaseGrouperModel", name := "isSign", desc := "(I)Z" } : Jvm.MethodName)) ∈ lw_all := lw_g (lw_at lw_m9 119 rfl) rfl
theorem q2160 : (Jvm.Cond.privateMethod ({ cls := "CaseGrouperModel", name := "isSign", desc := "(I)Z" } : Jvm.MethodName)) ∈ lw_tbl := lw_at lw_m9 120 rfl
theorem q2161 : (Jvm.Cond.instanceMethod ({ cls := "CaseGrouperModel", name := "isSign", desc := "(I)Z" } : Jvm.MethodName)) ∈ lw_all := lw_g (lw_at lw_m9 121 rfl) rfl
theorem q2162 : (Jvm.Cond.code ({ cls := "CaseGrouperModel", name := "isSign", desc := "(I)Z" } : Jvm.MethodName) prog_20_method_22_code (2 : Nat) (Option.some Jvm.ClassFile.FieldType.boolean)) ∈ lw_all := lw_g (lw_at lw_m9 122 rfl) rfl
theorem q2163 : (Jvm.Cond.methodLink "CaseGrouperModel" (315 : Nat) ({ cls := "CaseGrouperModel", name := "lineEnds", desc := "()V" } : Jvm.MethodName)) ∈ lw_all := lw_g (lw_at lw_m9 123 rfl) rfl
theorem q2164 : (Jvm.Cond.privateMethod ({ cls := "CaseGrouperModel", name := "lineEnds", desc := "()V" } : Jvm.MethodName)) ∈ lw_tbl := lw_at lw_m9 124 rfl
theorem q2165 : (Jvm.Cond.instanceMethod ({ cls := "CaseGrouperModel", name := "lineEnds", desc := "()V" } : Jvm.MethodName)) ∈ lw_all := lw_g (lw_at lw_m9 125 rfl) rfl
theorem q2166 : (Jvm.Cond.code ({ cls := "CaseGrouperModel", name := "lineEnds", desc := "()V" } : Jvm.MethodName) prog_20_method_32_code (1 : Nat) (Option.none : Option Jvm.ClassFile.FieldType)) ∈ lw_all := lw_g (lw_at lw_m9 126 rfl) rfl
theorem q2167 : (Jvm.Cond.methodLink "CaseGrouperModel" (391 : Nat) ({ cls := "CaseGrouperModel", name := "rankLine", desc := "()V" } : Jvm.MethodName)) ∈ lw_all := lw_g (lw_at lw_m9 127 rfl) rfl
theorem q2168 : (Jvm.Cond.privateMethod ({ cls := "CaseGrouperModel", name := "rankLine", desc := "()V" } : Jvm.MethodName)) ∈ lw_tbl := lw_at lw_m9 128 rfl
theorem q2169 : (Jvm.Cond.instanceMethod ({ cls := "CaseGrouperModel", name := "rankLine", desc := "()V" } : Jvm.MethodName)) ∈ lw_all := lw_g (lw_at lw_m9 129 rfl) rfl
theorem q2170 : (Jvm.Cond.code ({ cls := "CaseGrouperModel", name := "rankLine", desc := "()V" } : Jvm.MethodName) prog_20_method_33_code (5 : Nat) (Option.none : Option Jvm.ClassFile.FieldType)) ∈ lw_all := lw_g (lw_at lw_m9 130 rfl) rfl
theorem q2171 : (Jvm.Cond.methodLink "CaseGrouperModel" (318 : Nat) ({ cls := "CaseGrouperModel", name := "ranks", desc := "(I)I" } : Jvm.MethodName)) ∈ lw_all := lw_g (lw_at lw_m9 131 rfl) rfl
theorem q2172 : (Jvm.Cond.privateMethod ({ cls := "CaseGrouperModel", name := "ranks", desc := "(I)I" } : Jvm.MethodName)) ∈ lw_tbl := lw_at lw_m9 132 rfl
theorem q2173 : (Jvm.Cond.instanceMethod ({ cls := "CaseGrouperModel", name := "ranks", desc := "(I)I" } : Jvm.MethodName)) ∈ lw_all := lw_g (lw_at lw_m9 133 rfl) rfl
theorem q2174 : (Jvm.Cond.code ({ cls := "CaseGrouperModel", name := "ranks", desc := "(I)I" } : Jvm.MethodName) prog_20_method_5_code (2 : Nat) (Option.some Jvm.ClassFile.FieldType.int)) ∈ lw_all := lw_g (lw_at lw_m9 134 rfl) rfl
theorem q2175 : (Jvm.Cond.methodLink "CaseGrouperModel" (321 : Nat) ({ cls := "CaseGrouperModel", name := "numberTold", desc := "(II)I" } : Jvm.MethodName)) ∈ lw_all := lw_g (lw_at lw_m9 135 rfl) rfl
theorem q2176 : (Jvm.Cond.privateMethod ({ cls := "CaseGrouperModel", name := "numberTold", desc := "(II)I" } : Jvm.MethodName)) ∈ lw_tbl := lw_at lw_m9 136 rfl
theorem q2177 : (Jvm.Cond.instanceMethod ({ cls := "CaseGrouperModel", name := "numberTold", desc := "(II)I" } : Jvm.MethodName)) ∈ lw_all := lw_g (lw_at lw_m9 137 rfl) rfl
theorem q2178 : (Jvm.Cond.code ({ cls := "CaseGrouperModel", name := "numberTold", desc := "(II)I" } : Jvm.MethodName) prog_20_method_27_code (4 : Nat) (Option.some Jvm.ClassFile.FieldType.int)) ∈ lw_all := lw_g (lw_at lw_m9 138 rfl) rfl
theorem q2179 : (Jvm.Cond.methodLink "CaseGrouperModel" (394 : Nat) ({ cls := "CaseGrouperModel", name := "partnerLine", desc := "()V" } : Jvm.MethodName)) ∈ lw_all := lw_g (lw_at lw_m9 139 rfl) rfl
theorem q2180 : (Jvm.Cond.privateMethod ({ cls := "CaseGrouperModel", name := "partnerLine", desc := "()V" } : Jvm.MethodName)) ∈ lw_tbl := lw_at lw_m9 140 rfl
theorem q2181 : (Jvm.Cond.instanceMethod ({ cls := "CaseGrouperModel", name := "partnerLine", desc := "()V" } : Jvm.MethodName)) ∈ lw_all := lw_g (lw_at lw_m9 141 rfl) rfl
theorem q2182 : (Jvm.Cond.code ({ cls := "CaseGrouperModel", name := "partnerLine", desc := "()V" } : Jvm.MethodName) prog_20_method_34_code (7 : Nat) (Option.none : Option Jvm.ClassFile.FieldType)) ∈ lw_all := lw_g (lw_at lw_m9 142 rfl) rfl
theorem q2183 : (Jvm.Cond.methodLink "CaseGrouperModel" (325 : Nat) ({ cls := "CaseGrouperModel", name := "partners", desc := "(I)I" } : Jvm.MethodName)) ∈ lw_all := lw_g (lw_at lw_m9 143 rfl) rfl
theorem q2184 : (Jvm.Cond.privateMethod ({ cls := "CaseGrouperModel", name := "partners", desc := "(I)I" } : Jvm.MethodName)) ∈ lw_tbl := lw_at lw_m9 144 rfl
theorem q2185 : (Jvm.Cond.instanceMethod ({ cls := "CaseGrouperModel", name := "partners", desc := "(I)I" } : Jvm.MethodName)) ∈ lw_all := lw_g (lw_at lw_m9 145 rfl) rfl
theorem q2186 : (Jvm.Cond.code ({ cls := "CaseGrouperModel", name := "partners", desc := "(I)I" } : Jvm.MethodName) prog_20_method_6_code (2 : Nat) (Option.some Jvm.ClassFile.FieldType.int)) ∈ lw_all := lw_g (lw_at lw_m9 146 rfl) rfl
theorem q2187 : (Jvm.Cond.methodLink "CaseGrouperModel" (397 : Nat) ({ cls := "CaseGrouperModel", name := "treeLine", desc := "()V" } : Jvm.MethodName)) ∈ lw_all := lw_g (lw_at lw_m9 147 rfl) rfl
theorem q2188 : (Jvm.Cond.privateMethod ({ cls := "CaseGrouperModel", name := "treeLine", desc := "()V" } : Jvm.MethodName)) ∈ lw_tbl := lw_at lw_m9 148 rfl
theorem q2189 : (Jvm.Cond.instanceMethod ({ cls := "CaseGrouperModel", name := "treeLine", desc := "()V" } : Jvm.MethodName)) ∈ lw_all := lw_g (lw_at lw_m9 149 rfl) rfl
theorem q2190 : (Jvm.Cond.code ({ cls := "CaseGrouperModel", name := "treeLine", desc := "()V" } : Jvm.MethodName) prog_20_method_35_code (5 : Nat) (Option.none : Option Jvm.ClassFile.FieldType)) ∈ lw_all := lw_g (lw_at lw_m9 150 rfl) rfl
theorem q2191 : (Jvm.Cond.methodLink "CaseGrouperModel" (340 : Nat) ({ cls := "CaseGrouperModel", name := "node", desc := "()I" } : Jvm.MethodName)) ∈ lw_all := lw_g (lw_at lw_m9 151 rfl) rfl
theorem q2192 : (Jvm.Cond.privateMethod ({ cls := "CaseGrouperModel", name := "node", desc := "()I" } : Jvm.MethodName)) ∈ lw_tbl := lw_at lw_m9 152 rfl
theorem q2193 : (Jvm.Cond.instanceMethod ({ cls := "CaseGrouperModel", name := "node", desc := "()I" } : Jvm.MethodName)) ∈ lw_all := lw_g (lw_at lw_m9 153 rfl) rfl
theorem q2194 : (Jvm.Cond.code ({ cls := "CaseGrouperModel", name := "node", desc := "()I" } : Jvm.MethodName) prog_20_method_38_code (6 : Nat) (Option.some Jvm.ClassFile.FieldType.int)) ∈ lw_all := lw_g (lw_at lw_m9 154 rfl) rfl
theorem q2195 : (Jvm.Cond.methodLink "CaseGrouperModel" (346 : Nat) ({ cls := "CaseGrouperModel", name := "opens", desc := "()V" } : Jvm.MethodName)) ∈ lw_all := lw_g (lw_at lw_m9 155 rfl) rfl
theorem q2196 : (Jvm.Cond.privateMethod ({ cls := "CaseGrouperModel", name := "opens", desc := "()V" } : Jvm.MethodName)) ∈ lw_tbl := lw_at lw_m9 156 rfl
theorem q2197 : (Jvm.Cond.instanceMethod ({ cls := "CaseGrouperModel", name := "opens", desc := "()V" } : Jvm.MethodName)) ∈ lw_all := lw_g (lw_at lw_m9 157 rfl) rfl
theorem q2198 : (Jvm.Cond.code ({ cls := "CaseGrouperModel", name := "opens", desc := "()V" } : Jvm.MethodName) prog_20_method_36_code (1 : Nat) (Option.none : Option Jvm.ClassFile.FieldType)) ∈ lw_all := lw_g (lw_at lw_m9 158 rfl) rfl
theorem q2199 : (Jvm.Cond.methodLink "CaseGrouperModel" (349 : Nat) ({ cls := "CaseGrouperModel", name := "mustSign", desc := "(I)V" } : Jvm.MethodName)) ∈ lw_all := lw_g (lw_at lw_m9 159 rfl) rfl
theorem q2200 : (Jvm.Cond.privateMethod ({ cls := "CaseGrouperModel", name := "mustSign", desc := "(I)V" } : Jvm.MethodName)) ∈ lw_tbl := lw_at lw_m9 160 rfl
theorem q2201 : (Jvm.Cond.instanceMethod ({ cls := "CaseGrouperModel", name := "mustSign", desc := "(I)V" } : Jvm.MethodName)) ∈ lw_all := lw_g (lw_at lw_m9 161 rfl) rfl
theorem q2202 : (Jvm.Cond.code ({ cls := "CaseGrouperModel", name := "mustSign", desc := "(I)V" } : Jvm.MethodName) prog_20_method_23_code (2 : Nat) (Option.none : Option Jvm.ClassFile.FieldType)) ∈ lw_all := lw_g (lw_at lw_m9 162 rfl) rfl
theorem q2203 : (Jvm.Cond.methodLink "CaseGrouperModel" (352 : Nat) ({ cls := "CaseGrouperModel", name := "leaf", desc := "()I" } : Jvm.MethodName)) ∈ lw_all := lw_g (lw_at lw_m9 163 rfl) rfl
theorem q2204 : (Jvm.Cond.privateMethod ({ cls := "CaseGrouperModel", name := "leaf", desc := "()I" } : Jvm.MethodName)) ∈ lw_tbl := lw_at lw_m9 164 rfl
theorem q2205 : (Jvm.Cond.instanceMethod ({ cls := "CaseGrouperModel", name := "leaf", desc := "()I" } : Jvm.MethodName)) ∈ lw_all := lw_g (lw_at lw_m9 165 rfl) rfl
theorem q2206 : (Jvm.Cond.code ({ cls := "CaseGrouperModel", name := "leaf", desc := "()I" } : Jvm.MethodName) prog_20_method_40_code (6 : Nat) (Option.some Jvm.ClassFile.FieldType.int)) ∈ lw_all := lw_g (lw_at lw_m9 166 rfl) rfl
theorem q2207 : (Jvm.Cond.methodLink "CaseGrouperModel" (355 : Nat) ({ cls := "CaseGrouperModel", name := "newNode", desc := "()I" } : Jvm.MethodName)) ∈ lw_all := lw_g (lw_at lw_m9 167 rfl) rfl
theorem q2208 : (Jvm.Cond.privateMethod ({ cls := "CaseGrouperModel", name := "newNode", desc := "()I" } : Jvm.MethodName)) ∈ lw_tbl := lw_at lw_m9 168 rfl
theorem q2209 : (Jvm.Cond.instanceMethod ({ cls := "CaseGrouperModel", name := "newNode", desc := "()I" } : Jvm.MethodName)) ∈ lw_all := lw_g (lw_at lw_m9 169 rfl) rfl
theorem q2210 : (Jvm.Cond.code ({ cls := "CaseGrouperModel", name := "newNode", desc := "()I" } : Jvm.MethodName) prog_20_method_37_code (2 : Nat) (Option.some Jvm.ClassFile.FieldType.int)) ∈ lw_all := lw_g (lw_at lw_m9 170 rfl) rfl
theorem q2211 : (Jvm.Cond.methodLink "CaseGrouperModel" (343 : Nat) ({ cls := "CaseGrouperModel", name := "nodes", desc := "(I)I" } : Jvm.MethodName)) ∈ lw_all := lw_g (lw_at lw_m9 171 rfl) rfl
theorem q2212 : (Jvm.Cond.privateMethod ({ cls := "CaseGrouperModel", name := "nodes", desc := "(I)I" } : Jvm.MethodName)) ∈ lw_tbl := lw_at lw_m9 172 rfl
theorem q2213 : (Jvm.Cond.instanceMethod ({ cls := "CaseGrouperModel", name := "nodes", desc := "(I)I" } : Jvm.MethodName)) ∈ lw_all := lw_g (lw_at lw_m9 173 rfl) rfl
theorem q2214 : (Jvm.Cond.code ({ cls := "CaseGrouperModel", name := "nodes", desc := "(I)I" } : Jvm.MethodName) prog_20_method_8_code (2 : Nat) (Option.some Jvm.ClassFile.FieldType.int)) ∈ lw_all := lw_g (lw_at lw_m9 174 rfl) rfl
theorem q2215 : (Jvm.Cond.methodLink "CaseGrouperModel" (368 : Nat) ({ cls := "CaseGrouperModel", name := "classOf", desc := "(IJ)I" } : Jvm.MethodName)) ∈ lw_all := lw_g (lw_at lw_m9 175 rfl) rfl
theorem q2216 : (Jvm.Cond.privateMethod ({ cls := "CaseGrouperModel", name := "classOf", desc := "(IJ)I" } : Jvm.MethodName)) ∈ lw_tbl := lw_at lw_m9 176 rfl
theorem q2217 : (Jvm.Cond.instanceMethod ({ cls := "CaseGrouperModel", name := "classOf", desc := "(IJ)I" } : Jvm.MethodName)) ∈ lw_all := lw_g (lw_at lw_m9 177 rfl) rfl
theorem q2218 : (Jvm.Cond.code ({ cls := "CaseGrouperModel", name := "classOf", desc := "(IJ)I" } : Jvm.MethodName) prog_20_method_39_code (5 : Nat) (Option.some Jvm.ClassFile.FieldType.int)) ∈ lw_all := lw_g (lw_at lw_m9 178 rfl) rfl
theorem q2219 : (Jvm.Cond.methodLink "CaseGrouperModel" (365 : Nat) ({ cls := "CaseGrouperModel", name := "classes", desc := "(I)I" } : Jvm.MethodName)) ∈ lw_all := lw_g (lw_at lw_m9 179 rfl) rfl
theorem q2220 : (Jvm.Cond.privateMethod ({ cls := "CaseGrouperModel", name := "classes", desc := "(I)I" } : Jvm.MethodName)) ∈ lw_tbl := lw_at lw_m9 180 rfl
theorem q2221 : (Jvm.Cond.instanceMethod ({ cls := "CaseGrouperModel", name := "classes", desc := "(I)I" } : Jvm.MethodName)) ∈ lw_all := lw_g (lw_at lw_m9 181 rfl) rfl
theorem q2222 : (Jvm.Cond.code ({ cls := "CaseGrouperModel", name := "classes", desc := "(I)I" } : Jvm.MethodName) prog_20_method_7_code (2 : Nat) (Option.some Jvm.ClassFile.FieldType.int)) ∈ lw_all := lw_g (lw_at lw_m9 182 rfl) rfl
theorem q2223 : (Jvm.Cond.methodLink "CaseGrouperModel" (358 : Nat) ({ cls := "CaseGrouperModel", name := "cond", desc := "()I" } : Jvm.MethodName)) ∈ lw_all := lw_g (lw_at lw_m9 183 rfl) rfl
theorem q2224 : (Jvm.Cond.privateMethod ({ cls := "CaseGrouperModel", name := "cond", desc := "()I" } : Jvm.MethodName)) ∈ lw_tbl := lw_at lw_m9 184 rfl
theorem q2225 : (Jvm.Cond.instanceMethod ({ cls := "CaseGrouperModel", name := "cond", desc := "()I" } : Jvm.MethodName)) ∈ lw_all := lw_g (lw_at lw_m9 185 rfl) rfl
theorem q2226 : (Jvm.Cond.code ({ cls := "CaseGrouperModel", name := "cond", desc := "()I" } : Jvm.MethodName) prog_20_method_42_code (3 : Nat) (Option.some Jvm.ClassFile.FieldType.int)) ∈ lw_all := lw_g (lw_at lw_m9 186 rfl) rfl
theorem q2227 : (Jvm.Cond.methodLink "CaseGrouperModel" (372 : Nat) ({ cls := "CaseGrouperModel", name := "all", desc := "()I" } : Jvm.MethodName)) ∈ lw_all := lw_g (lw_at lw_m9 187 rfl) rfl
theorem q2228 : (Jvm.Cond.privateMethod ({ cls := "CaseGrouperModel", name := "all", desc := "()I" } : Jvm.MethodName)) ∈ lw_tbl := lw_at lw_m9 188 rfl
theorem q2229 : (Jvm.Cond.instanceMethod ({ cls := "CaseGrouperModel", name := "all", desc := "()I" } : Jvm.MethodName)) ∈ lw_all := lw_g (lw_at lw_m9 189 rfl) rfl
theorem q2230 : (Jvm.Cond.code ({ cls := "CaseGrouperModel", name := "all", desc := "()I" } : Jvm.MethodName) prog_20_method_43_code (3 : Nat) (Option.some Jvm.ClassFile.FieldType.int)) ∈ lw_all := lw_g (lw_at lw_m9 190 rfl) rfl
theorem q2231 : (Jvm.Cond.methodLink "CaseGrouperModel" (379 : Nat) ({ cls := "CaseGrouperModel", name := "one", desc := "()I" } : Jvm.MethodName)) ∈ lw_all := lw_g (lw_at lw_m9 191 rfl) rfl
theorem q2232 : (Jvm.Cond.privateMethod ({ cls := "CaseGrouperModel", name := "one", desc := "()I" } : Jvm.MethodName)) ∈ lw_tbl := lw_at lw_m9 192 rfl
theorem q2233 : (Jvm.Cond.instanceMethod ({ cls := "CaseGrouperModel", name := "one", desc := "()I" } : Jvm.MethodName)) ∈ lw_all := lw_g (lw_at lw_m9 193 rfl) rfl
theorem q2234 : (Jvm.Cond.code ({ cls := "CaseGrouperModel", name := "one", desc := "()I" } : Jvm.MethodName) prog_20_method_44_code (2 : Nat) (Option.some Jvm.ClassFile.FieldType.int)) ∈ lw_all := lw_g (lw_at lw_m9 194 rfl) rfl
theorem q2235 : (Jvm.Cond.methodLink "CaseGrouperModel" (375 : Nat) ({ cls := "CaseGrouperModel", name := "newCond", desc := "(IIII)I" } : Jvm.MethodName)) ∈ lw_all := lw_g (lw_at lw_m9 195 rfl) rfl
theorem q2236 : (Jvm.Cond.privateMethod ({ cls := "CaseGrouperModel", name := "newCond", desc := "(IIII)I" } : Jvm.MethodName)) ∈ lw_tbl := lw_at lw_m9 196 rfl
theorem q2237 : (Jvm.Cond.instanceMethod ({ cls := "CaseGrouperModel", name := "newCond", desc := "(IIII)I" } : Jvm.MethodName)) ∈ lw_all := lw_g (lw_at lw_m9 197 rfl) rfl
theorem q2238 : (Jvm.Cond.code ({ cls := "CaseGrouperModel", name := "newCond", desc := "(IIII)I" } : Jvm.MethodName) prog_20_method_41_code (7 : Nat) (Option.some Jvm.ClassFile.FieldType.int)) ∈ lw_all := lw_g (lw_at lw_m9 198 rfl) rfl
theorem q2239 : (Jvm.Cond.methodLink "CaseGrouperModel" (382 : Nat) ({ cls := "CaseGrouperModel", name := "spanCond", desc := "(I)I" } : Jvm.MethodName)) ∈ lw_all := lw_g (lw_at lw_m9 199 rfl) rfl
theorem q2240 : (Jvm.Cond.privateMethod ({ cls := "CaseGrouperModel", name := "spanCond", desc := "(I)I" } : Jvm.MethodName)) ∈ lw_tbl := lw_at lw_m9 200 rfl
theorem q2241 : (Jvm.Cond.instanceMethod ({ cls := "CaseGrouperModel", name := "spanCond", desc := "(I)I" } : Jvm.MethodName)) ∈ lw_all := lw_g (lw_at lw_m9 201 rfl) rfl
theorem q2242 : (Jvm.Cond.code ({ cls := "CaseGrouperModel", name := "spanCond", desc := "(I)I" } : Jvm.MethodName) prog_20_method_45_code (3 : Nat) (Option.some Jvm.ClassFile.FieldType.int)) ∈ lw_all := lw_g (lw_at lw_m9 202 rfl) rfl
theorem q2243 : (Jvm.Cond.methodLink "CaseGrouperModel" (385 : Nat) ({ cls := "CaseGrouperModel", name := "comparison", desc := "(I)I" } : Jvm.MethodName)) ∈ lw_all := lw_g (lw_at lw_m9 203 rfl) rfl
theorem q2244 : (Jvm.Cond.privateMethod ({ cls := "CaseGrouperModel", name := "comparison", desc := "(I)I" } : Jvm.MethodName)) ∈ lw_tbl := lw_at lw_m9 204 rfl
theorem q2245 : (Jvm.Cond.instanceMethod ({ cls := "CaseGrouperModel", name := "comparison", desc := "(I)I" } : Jvm.MethodName)) ∈ lw_all := lw_g (lw_at lw_m9 205 rfl) rfl
theorem q2246 : (Jvm.Cond.code ({ cls := "CaseGrouperModel", name := "comparison", desc := "(I)I" } : Jvm.MethodName) prog_20_method_46_code (6 : Nat) (Option.some Jvm.ClassFile.FieldType.int)) ∈ lw_all := lw_g (lw_at lw_m9 206 rfl) rfl
theorem q2247 : (Jvm.Cond.methodLink "CaseGrouperModel" (361 : Nat) ({ cls := "CaseGrouperModel", name := "mustWord", desc := "(Ljava/lang/String;)V" } : Jvm.MethodName)) ∈ lw_all := lw_g (lw_at lw_m9 207 rfl) rfl
theorem q2248 : (Jvm.Cond.privateMethod ({ cls := "CaseGrouperModel", name := "mustWord", desc := "(Ljava/lang/String;)V" } : Jvm.MethodName)) ∈ lw_tbl := lw_at lw_m9 208 rfl
theorem q2249 : (Jvm.Cond.instanceMethod ({ cls := "CaseGrouperModel", name := "mustWord", desc := "(Ljava/lang/String;)V" } : Jvm.MethodName)) ∈ lw_all := lw_g (lw_at lw_m9 209 rfl) rfl
theorem q2250 : (Jvm.Cond.code ({ cls := "CaseGrouperModel", name := "mustWord", desc := "(Ljava/lang/String;)V" } : Jvm.MethodName) prog_20_method_24_code (2 : Nat) (Option.none : Option Jvm.ClassFile.FieldType)) ∈ lw_all := lw_g (lw_at lw_m9 210 rfl) rfl
theorem q2251 : (Jvm.Cond.methodLink "CaseGrouperModel" (403 : Nat) ({ cls := "CaseGrouperModel", name := "laysLeaves", desc := "()V" } : Jvm.MethodName)) ∈ lw_all := lw_g (lw_at lw_m9 211 rfl) rfl
theorem q2252 : (Jvm.Cond.privateMethod ({ cls := "CaseGrouperModel", name := "laysLeaves", desc := "()V" } : Jvm.MethodName)) ∈ lw_tbl := lw_at lw_m9 212 rfl
theorem q2253 : (Jvm.Cond.instanceMethod ({ cls := "CaseGrouperModel", name := "laysLeaves", desc := "()V" } : Jvm.MethodName)) ∈ lw_all := lw_g (lw_at lw_m9 213 rfl) rfl
theorem q2254 : (Jvm.Cond.code ({ cls := "CaseGrouperModel", name := "laysLeaves", desc := "()V" } : Jvm.MethodName) prog_20_method_73_code (3 : Nat) (Option.none : Option Jvm.ClassFile.FieldType)) ∈ lw_all := lw_g (lw_at lw_m9 214 rfl) rfl
theorem q2255 : (Jvm.Cond.methodLink "CaseGrouperModel" (476 : Nat) ({ cls := "CaseGrouperModel", name := "marks", desc := "(II)V" } : Jvm.MethodName)) ∈ lw_all := lw_g (lw_at lw_m9 215 rfl) rfl
theorem q2256 : (Jvm.Cond.privateMethod ({ cls := "CaseGrouperModel", name := "marks", desc := "(II)V" } : Jvm.MethodName)) ∈ lw_tbl := lw_at lw_m9 216 rfl
theorem q2257 : (Jvm.Cond.instanceMethod ({ cls := "CaseGrouperModel", name := "marks", desc := "(II)V" } : Jvm.MethodName)) ∈ lw_all := lw_g (lw_at lw_m9 217 rfl) rfl
theorem q2258 : (Jvm.Cond.code ({ cls := "CaseGrouperModel", name := "marks", desc := "(II)V" } : Jvm.MethodName) prog_20_method_75_code (4 : Nat) (Option.none : Option Jvm.ClassFile.FieldType)) ∈ lw_all := lw_g (lw_at lw_m9 218 rfl) rfl
theorem q2259 : (Jvm.Cond.methodLink "CaseGrouperModel" (479 : Nat) ({ cls := "CaseGrouperModel", name := "laysReached", desc := "(I)V" } : Jvm.MethodName)) ∈ lw_all := lw_g (lw_at lw_m9 219 rfl) rfl
theorem q2260 : (Jvm.Cond.privateMethod ({ cls := "CaseGrouperModel", name := "laysReached", desc := "(I)V" } : Jvm.MethodName)) ∈ lw_tbl := lw_at lw_m9 220 rfl
theorem q2261 : (Jvm.Cond.instanceMethod ({ cls := "CaseGrouperModel", name := "laysReached", desc := "(I)V" } : Jvm.MethodName)) ∈ lw_all := lw_g (lw_at lw_m9 221 rfl) rfl
theorem q2262 : (Jvm.Cond.code ({ cls := "CaseGrouperModel", name := "laysReached", desc := "(I)V" } : Jvm.MethodName) prog_20_method_76_code (3 : Nat) (Option.none : Option Jvm.ClassFile.FieldType)) ∈ lw_all := lw_g (lw_at lw_m9 222 rfl) rfl
theorem q2263 : (Jvm.Cond.methodLink "CaseGrouperModel" (485 : Nat) ({ cls := "CaseGrouperModel", name := "laysAnswers", desc := "(IIII)V" } : Jvm.MethodName)) ∈ lw_all := lw_g (lw_at lw_m9 223 rfl) rfl
theorem q2264 : (Jvm.Cond.privateMethod ({ cls := "CaseGrouperModel", name := "laysAnswers", desc := "(IIII)V" } : Jvm.MethodName)) ∈ lw_tbl := lw_at lw_m9 224 rfl
theorem q2265 : (Jvm.Cond.instanceMethod ({ cls := "CaseGrouperModel", name := "laysAnswers", desc := "(IIII)V" } : Jvm.MethodName)) ∈ lw_all := lw_g (lw_at lw_m9 225 rfl) rfl
theorem q2266 : (Jvm.Cond.code ({ cls := "CaseGrouperModel", name := "laysAnswers", desc := "(IIII)V" } : Jvm.MethodName) prog_20_method_74_code (10 : Nat) (Option.none : Option Jvm.ClassFile.FieldType)) ∈ lw_all := lw_g (lw_at lw_m9 226 rfl) rfl
theorem q2267 : (Jvm.Cond.methodLink "CaseGrouperModel" (448 : Nat) ({ cls := "CaseGrouperModel", name := "compares", desc := "(III)Z" } : Jvm.MethodName)) ∈ lw_all := lw_g (lw_at lw_m9 227 rfl) rfl
theorem q2268 : (Jvm.Cond.static ({ cls := "CaseGrouperModel", name := "compares", desc := "(III)Z" } : Jvm.MethodName)) ∈ lw_all := lw_g (lw_at lw_m9 228 rfl) rfl
theorem q2269 : (Jvm.Cond.code ({ cls := "CaseGrouperModel", name := "compares", desc := "(III)Z" } : Jvm.MethodName) prog_20_method_69_code (3 : Nat) (Option.some Jvm.ClassFile.FieldType.boolean)) ∈ lw_all := lw_g (lw_at lw_m9 229 rfl) rfl
theorem q2270 : (Jvm.Cond.methodLink "CaseGrouperModel" (489 : Nat) ({ cls := "CaseGrouperModel", name := "reaches", desc := "(IIII)V" } : Jvm.MethodName)) ∈ lw_all := lw_g (lw_at lw_m9 230 rfl) rfl
theorem q2271 : (Jvm.Cond.privateMethod ({ cls := "CaseGrouperModel", name := "reaches", desc := "(IIII)V" } : Jvm.MethodName)) ∈ lw_tbl := lw_at lw_m9 231 rfl
theorem q2272 : (Jvm.Cond.instanceMethod ({ cls := "CaseGrouperModel", name := "reaches", desc := "(IIII)V" } : Jvm.MethodName)) ∈ lw_all := lw_g (lw_at lw_m9 232 rfl) rfl
theorem q2273 : (Jvm.Cond.code ({ cls := "CaseGrouperModel", name := "reaches", desc := "(IIII)V" } : Jvm.MethodName) prog_20_method_77_code (6 : Nat) (Option.none : Option Jvm.ClassFile.FieldType)) ∈ lw_all := lw_g (lw_at lw_m9 233 rfl) rfl
theorem q2274 : (Jvm.Cond.methodLink "CaseGrouperModel" (492 : Nat) ({ cls := "CaseGrouperModel", name := "isBy", desc := "(III)Z" } : Jvm.MethodName)) ∈ lw_all := lw_g (lw_at lw_m9 234 rfl) rfl
theorem q2275 : (Jvm.Cond.privateMethod ({ cls := "CaseGrouperModel", name := "isBy", desc := "(III)Z" } : Jvm.MethodName)) ∈ lw_tbl := lw_at lw_m9 235 rfl
theorem q2276 : (Jvm.Cond.instanceMethod ({ cls := "CaseGrouperModel", name := "isBy", desc := "(III)Z" } : Jvm.MethodName)) ∈ lw_all := lw_g (lw_at lw_m9 236 rfl) rfl
theorem q2277 : (Jvm.Cond.code ({ cls := "CaseGrouperModel", name := "isBy", desc := "(III)Z" } : Jvm.MethodName) prog_20_method_78_code (6 : Nat) (Option.some Jvm.ClassFile.FieldType.boolean)) ∈ lw_all := lw_g (lw_at lw_m9 237 rfl) rfl
theorem q2279 : (Jvm.Cond.instanceMethod ({ cls := "CaseGrouperModel", name := "faultLine", desc := "()I" } : Jvm.MethodName)) ∈ lw_all := lw_g (lw_at lw_m9 239 rfl) rfl
theorem q2280 : (Jvm.Cond.selects "CaseGrouperModel" ({ cls := "CaseGrouperModel", name := "faultLine", desc := "()I" } : Jvm.MethodName) ({ cls := "CaseGrouperModel", name := "faultLine", desc := "()I" } : Jvm.MethodName)) ∈ lw_all := lw_g (lw_at lw_m10 0 rfl) rfl
theorem q2281 : (Jvm.Cond.code ({ cls := "CaseGrouperModel", name := "faultLine", desc := "()I" } : Jvm.MethodName) prog_20_method_48_code (1 : Nat) (Option.some Jvm.ClassFile.FieldType.int)) ∈ lw_all := lw_g (lw_at lw_m10 1 rfl) rfl
theorem q2283 : (Jvm.Cond.instanceMethod ({ cls := "CaseGrouperModel", name := "stay", desc := "(III)I" } : Jvm.MethodName)) ∈ lw_all := lw_g (lw_at lw_m10 3 rfl) rfl
theorem q2284 : (Jvm.Cond.selects "CaseGrouperModel" ({ cls := "CaseGrouperModel", name := "stay", desc := "(III)I" } : Jvm.MethodName) ({ cls := "CaseGrouperModel", name := "stay", desc := "(III)I" } : Jvm.MethodName)) ∈ lw_all := lw_g (lw_at lw_m10 4 rfl) rfl
theorem q2285 : (Jvm.Cond.code ({ cls := "CaseGrouperModel", name := "stay", desc := "(III)I" } : Jvm.MethodName) prog_20_method_50_code (4 : Nat) (Option.some Jvm.ClassFile.FieldType.int)) ∈ lw_all := lw_g (lw_at lw_m10 5 rfl) rfl
theorem q2287 : (Jvm.Cond.instanceMethod ({ cls := "CaseGrouperModel", name := "code", desc := "(II)I" } : Jvm.MethodName)) ∈ lw_all := lw_g (lw_at lw_m10 7 rfl) rfl
theorem q2288 : (Jvm.Cond.selects "CaseGrouperModel" ({ cls := "CaseGrouperModel", name := "code", desc := "(II)I" } : Jvm.MethodName) ({ cls := "CaseGrouperModel", name := "code", desc := "(II)I" } : Jvm.MethodName)) ∈ lw_all := lw_g (lw_at lw_m10 8 rfl) rfl
theorem q2289 : (Jvm.Cond.code ({ cls := "CaseGrouperModel", name := "code", desc := "(II)I" } : Jvm.MethodName) prog_20_method_58_code (3 : Nat) (Option.some Jvm.ClassFile.FieldType.int)) ∈ lw_all := lw_g (lw_at lw_m10 9 rfl) rfl
theorem q2290 : (Jvm.Cond.methodLink "CaseGrouperModel" (423 : Nat) ({ cls := "CaseGrouperModel", name := "canCome", desc := "(II)Z" } : Jvm.MethodName)) ∈ lw_all := lw_g (lw_at lw_m10 10 rfl) rfl
theorem q2291 : (Jvm.Cond.privateMethod ({ cls := "CaseGrouperModel", name := "canCome", desc := "(II)Z" } : Jvm.MethodName)) ∈ lw_tbl := lw_at lw_m10 11 rfl
theorem q2292 : (Jvm.Cond.instanceMethod ({ cls := "CaseGrouperModel", name := "canCome", desc := "(II)Z" } : Jvm.MethodName)) ∈ lw_all := lw_g (lw_at lw_m10 12 rfl) rfl
theorem q2293 : (Jvm.Cond.code ({ cls := "CaseGrouperModel", name := "canCome", desc := "(II)Z" } : Jvm.MethodName) prog_20_method_52_code (3 : Nat) (Option.some Jvm.ClassFile.FieldType.boolean)) ∈ lw_all := lw_g (lw_at lw_m10 13 rfl) rfl
theorem q2294 : (Jvm.Cond.methodLink "CaseGrouperModel" (409 : Nat) ({ cls := "CaseGrouperModel", name := "isStay", desc := "(I)Z" } : Jvm.MethodName)) ∈ lw_all := lw_g (lw_at lw_m10 14 rfl) rfl
theorem q2295 : (Jvm.Cond.privateMethod ({ cls := "CaseGrouperModel", name := "isStay", desc := "(I)Z" } : Jvm.MethodName)) ∈ lw_tbl := lw_at lw_m10 15 rfl
theorem q2296 : (Jvm.Cond.instanceMethod ({ cls := "CaseGrouperModel", name := "isStay", desc := "(I)Z" } : Jvm.MethodName)) ∈ lw_all := lw_g (lw_at lw_m10 16 rfl) rfl
theorem q2297 : (Jvm.Cond.code ({ cls := "CaseGrouperModel", name := "isStay", desc := "(I)Z" } : Jvm.MethodName) prog_20_method_49_code (2 : Nat) (Option.some Jvm.ClassFile.FieldType.boolean)) ∈ lw_all := lw_g (lw_at lw_m10 17 rfl) rfl
theorem q2298 : (Jvm.Cond.methodLink "CaseGrouperModel" (412 : Nat) ({ cls := "CaseGrouperModel", name := "find", desc := "([IIII)I" } : Jvm.MethodName)) ∈ lw_all := lw_g (lw_at lw_m10 18 rfl) rfl
theorem q2299 : (Jvm.Cond.static ({ cls := "CaseGrouperModel", name := "find", desc := "([IIII)I" } : Jvm.MethodName)) ∈ lw_all := lw_g (lw_at lw_m10 19 rfl) rfl
theorem q2300 : (Jvm.Cond.code ({ cls := "CaseGrouperModel", name := "find", desc := "([IIII)I" } : Jvm.MethodName) prog_20_method_51_code (5 : Nat) (Option.some Jvm.ClassFile.FieldType.int)) ∈ lw_all := lw_g (lw_at lw_m10 20 rfl) rfl
theorem q2301 : (Jvm.Cond.methodLink "CaseGrouperModel" (427 : Nat) ({ cls := "CaseGrouperModel", name := "adds", desc := "(II)V" } : Jvm.MethodName)) ∈ lw_all := lw_g (lw_at lw_m10 21 rfl) rfl
theorem q2302 : (Jvm.Cond.privateMethod ({ cls := "CaseGrouperModel", name := "adds", desc := "(II)V" } : Jvm.MethodName)) ∈ lw_tbl := lw_at lw_m10 22 rfl
theorem q2303 : (Jvm.Cond.instanceMethod ({ cls := "CaseGrouperModel", name := "adds", desc := "(II)V" } : Jvm.MethodName)) ∈ lw_all := lw_g (lw_at lw_m10 23 rfl) rfl
theorem q2304 : (Jvm.Cond.code ({ cls := "CaseGrouperModel", name := "adds", desc := "(II)V" } : Jvm.MethodName) prog_20_method_55_code (3 : Nat) (Option.none : Option Jvm.ClassFile.FieldType)) ∈ lw_all := lw_g (lw_at lw_m10 24 rfl) rfl
theorem q2305 : (Jvm.Cond.methodLink "CaseGrouperModel" (416 : Nat) ({ cls := "CaseGrouperModel", name := "comes", desc := "([IIII)V" } : Jvm.MethodName)) ∈ lw_all := lw_g (lw_at lw_m10 25 rfl) rfl
theorem q2306 : (Jvm.Cond.static ({ cls := "CaseGrouperModel", name := "comes", desc := "([IIII)V" } : Jvm.MethodName)) ∈ lw_all := lw_g (lw_at lw_m10 26 rfl) rfl
theorem q2307 : (Jvm.Cond.code ({ cls := "CaseGrouperModel", name := "comes", desc := "([IIII)V" } : Jvm.MethodName) prog_20_method_53_code (5 : Nat) (Option.none : Option Jvm.ClassFile.FieldType)) ∈ lw_all := lw_g (lw_at lw_m10 27 rfl) rfl
theorem q2309 : (Jvm.Cond.instanceMethod ({ cls := "CaseGrouperModel", name := "drop", desc := "(II)Z" } : Jvm.MethodName)) ∈ lw_all := lw_g (lw_at lw_m10 29 rfl) rfl
theorem q2310 : (Jvm.Cond.selects "CaseGrouperModel" ({ cls := "CaseGrouperModel", name := "drop", desc := "(II)Z" } : Jvm.MethodName) ({ cls := "CaseGrouperModel", name := "drop", desc := "(II)Z" } : Jvm.MethodName)) ∈ lw_all := lw_g (lw_at lw_m10 30 rfl) rfl
theorem q2311 : (Jvm.Cond.code ({ cls := "CaseGrouperModel", name := "drop", desc := "(II)Z" } : Jvm.MethodName) prog_20_method_59_code (3 : Nat) (Option.some Jvm.ClassFile.FieldType.boolean)) ∈ lw_all := lw_g (lw_at lw_m10 31 rfl) rfl
theorem q2312 : (Jvm.Cond.methodLink "CaseGrouperModel" (430 : Nat) ({ cls := "CaseGrouperModel", name := "canGo", desc := "(II)Z" } : Jvm.MethodName)) ∈ lw_all := lw_g (lw_at lw_m10 32 rfl) rfl
theorem q2313 : (Jvm.Cond.privateMethod ({ cls := "CaseGrouperModel", name := "canGo", desc := "(II)Z" } : Jvm.MethodName)) ∈ lw_tbl := lw_at lw_m10 33 rfl
theorem q2314 : (Jvm.Cond.instanceMethod ({ cls := "CaseGrouperModel", name := "canGo", desc := "(II)Z" } : Jvm.MethodName)) ∈ lw_all := lw_g (lw_at lw_m10 34 rfl) rfl
theorem q2315 : (Jvm.Cond.code ({ cls := "CaseGrouperModel", name := "canGo", desc := "(II)Z" } : Jvm.MethodName) prog_20_method_57_code (3 : Nat) (Option.some Jvm.ClassFile.FieldType.boolean)) ∈ lw_all := lw_g (lw_at lw_m10 35 rfl) rfl
theorem q2316 : (Jvm.Cond.methodLink "CaseGrouperModel" (433 : Nat) ({ cls := "CaseGrouperModel", name := "takes", desc := "(II)V" } : Jvm.MethodName)) ∈ lw_all := lw_g (lw_at lw_m10 36 rfl) rfl
theorem q2317 : (Jvm.Cond.privateMethod ({ cls := "CaseGrouperModel", name := "takes", desc := "(II)V" } : Jvm.MethodName)) ∈ lw_tbl := lw_at lw_m10 37 rfl
theorem q2318 : (Jvm.Cond.instanceMethod ({ cls := "CaseGrouperModel", name := "takes", desc := "(II)V" } : Jvm.MethodName)) ∈ lw_all := lw_g (lw_at lw_m10 38 rfl) rfl
theorem q2319 : (Jvm.Cond.code ({ cls := "CaseGrouperModel", name := "takes", desc := "(II)V" } : Jvm.MethodName) prog_20_method_56_code (3 : Nat) (Option.none : Option Jvm.ClassFile.FieldType)) ∈ lw_all := lw_g (lw_at lw_m10 39 rfl) rfl
theorem q2320 : (Jvm.Cond.methodLink "CaseGrouperModel" (420 : Nat) ({ cls := "CaseGrouperModel", name := "goes", desc := "([IIII)V" } : Jvm.MethodName)) ∈ lw_all := lw_g (lw_at lw_m10 40 rfl) rfl
theorem q2321 : (Jvm.Cond.static ({ cls := "CaseGrouperModel", name := "goes", desc := "([IIII)V" } : Jvm.MethodName)) ∈ lw_all := lw_g (lw_at lw_m10 41 rfl) rfl
theorem q2322 : (Jvm.Cond.code ({ cls := "CaseGrouperModel", name := "goes", desc := "([IIII)V" } : Jvm.MethodName) prog_20_method_54_code (6 : Nat) (Option.none : Option Jvm.ClassFile.FieldType)) ∈ lw_all := lw_g (lw_at lw_m10 42 rfl) rfl
theorem q2324 : (Jvm.Cond.instanceMethod ({ cls := "CaseGrouperModel", name := "alter", desc := "(III)I" } : Jvm.MethodName)) ∈ lw_all := lw_g (lw_at lw_m10 44 rfl) rfl
theorem q2325 : (Jvm.Cond.selects "CaseGrouperModel" ({ cls := "CaseGrouperModel", name := "alter", desc := "(III)I" } : Jvm.MethodName) ({ cls := "CaseGrouperModel", name := "alter", desc := "(III)I" } : Jvm.MethodName)) ∈ lw_all := lw_g (lw_at lw_m10 45 rfl) rfl
theorem q2326 : (Jvm.Cond.code ({ cls := "CaseGrouperModel", name := "alter", desc := "(III)I" } : Jvm.MethodName) prog_20_method_60_code (5 : Nat) (Option.some Jvm.ClassFile.FieldType.int)) ∈ lw_all := lw_g (lw_at lw_m10 46 rfl) rfl
theorem q2328 : (Jvm.Cond.instanceMethod ({ cls := "CaseGrouperModel", name := "clear", desc := "()I" } : Jvm.MethodName)) ∈ lw_all := lw_g (lw_at lw_m10 48 rfl) rfl
theorem q2329 : (Jvm.Cond.selects "CaseGrouperModel" ({ cls := "CaseGrouperModel", name := "clear", desc := "()I" } : Jvm.MethodName) ({ cls := "CaseGrouperModel", name := "clear", desc := "()I" } : Jvm.MethodName)) ∈ lw_all := lw_g (lw_at lw_m10 49 rfl) rfl
theorem q2330 : (Jvm.Cond.code ({ cls := "CaseGrouperModel", name := "clear", desc := "()I" } : Jvm.MethodName) prog_20_method_61_code (2 : Nat) (Option.some Jvm.ClassFile.FieldType.int)) ∈ lw_all := lw_g (lw_at lw_m10 50 rfl) rfl
theorem q2332 : (Jvm.Cond.instanceMethod ({ cls := "CaseGrouperModel", name := "of", desc := "(II)I" } : Jvm.MethodName)) ∈ lw_all := lw_g (lw_at lw_m10 52 rfl) rfl
theorem q2333 : (Jvm.Cond.selects "CaseGrouperModel" ({ cls := "CaseGrouperModel", name := "of", desc := "(II)I" } : Jvm.MethodName) ({ cls := "CaseGrouperModel", name := "of", desc := "(II)I" } : Jvm.MethodName)) ∈ lw_all := lw_g (lw_at lw_m10 53 rfl) rfl
theorem q2334 : (Jvm.Cond.code ({ cls := "CaseGrouperModel", name := "of", desc := "(II)I" } : Jvm.MethodName) prog_20_method_80_code (4 : Nat) (Option.some Jvm.ClassFile.FieldType.int)) ∈ lw_all := lw_g (lw_at lw_m10 54 rfl) rfl
theorem q2335 : (Jvm.Cond.methodLink "CaseGrouperModel" (458 : Nat) ({ cls := "CaseGrouperModel", name := "chapterFor", desc := "(II)I" } : Jvm.MethodName)) ∈ lw_all := lw_g (lw_at lw_m10 55 rfl) rfl
theorem q2336 : (Jvm.Cond.privateMethod ({ cls := "CaseGrouperModel", name := "chapterFor", desc := "(II)I" } : Jvm.MethodName)) ∈ lw_tbl := lw_at lw_m10 56 rfl
theorem q2337 : (Jvm.Cond.instanceMethod ({ cls := "CaseGrouperModel", name := "chapterFor", desc := "(II)I" } : Jvm.MethodName)) ∈ lw_all := lw_g (lw_at lw_m10 57 rfl) rfl
theorem q2338 : (Jvm.Cond.code ({ cls := "CaseGrouperModel", name := "chapterFor", desc := "(II)I" } : Jvm.MethodName) prog_20_method_62_code (6 : Nat) (Option.some Jvm.ClassFile.FieldType.int)) ∈ lw_all := lw_g (lw_at lw_m10 58 rfl) rfl
theorem q2339 : (Jvm.Cond.methodLink "CaseGrouperModel" (461 : Nat) ({ cls := "CaseGrouperModel", name := "topOf", desc := "(II)I" } : Jvm.MethodName)) ∈ lw_all := lw_g (lw_at lw_m10 59 rfl) rfl
theorem q2340 : (Jvm.Cond.privateMethod ({ cls := "CaseGrouperModel", name := "topOf", desc := "(II)I" } : Jvm.MethodName)) ∈ lw_tbl := lw_at lw_m10 60 rfl
theorem q2341 : (Jvm.Cond.instanceMethod ({ cls := "CaseGrouperModel", name := "topOf", desc := "(II)I" } : Jvm.MethodName)) ∈ lw_all := lw_g (lw_at lw_m10 61 rfl) rfl
theorem q2342 : (Jvm.Cond.code ({ cls := "CaseGrouperModel", name := "topOf", desc := "(II)I" } : Jvm.MethodName) prog_20_method_63_code (6 : Nat) (Option.some Jvm.ClassFile.FieldType.int)) ∈ lw_all := lw_g (lw_at lw_m10 62 rfl) rfl
theorem q2343 : (Jvm.Cond.methodLink "CaseGrouperModel" (464 : Nat) ({ cls := "CaseGrouperModel", name := "levelOf", desc := "(II)I" } : Jvm.MethodName)) ∈ lw_all := lw_g (lw_at lw_m10 63 rfl) rfl
theorem q2344 : (Jvm.Cond.privateMethod ({ cls := "CaseGrouperModel", name := "levelOf", desc := "(II)I" } : Jvm.MethodName)) ∈ lw_tbl := lw_at lw_m10 64 rfl
theorem q2345 : (Jvm.Cond.instanceMethod ({ cls := "CaseGrouperModel", name := "levelOf", desc := "(II)I" } : Jvm.MethodName)) ∈ lw_all := lw_g (lw_at lw_m10 65 rfl) rfl
theorem q2346 : (Jvm.Cond.code ({ cls := "CaseGrouperModel", name := "levelOf", desc := "(II)I" } : Jvm.MethodName) prog_20_method_67_code (7 : Nat) (Option.some Jvm.ClassFile.FieldType.int)) ∈ lw_all := lw_g (lw_at lw_m10 66 rfl) rfl
theorem q2347 : (Jvm.Cond.methodLink "CaseGrouperModel" (442 : Nat) ({ cls := "CaseGrouperModel", name := "counts", desc := "(III)Z" } : Jvm.MethodName)) ∈ lw_all := lw_g (lw_at lw_m10 67 rfl) rfl
theorem q2348 : (Jvm.Cond.privateMethod ({ cls := "CaseGrouperModel", name := "counts", desc := "(III)Z" } : Jvm.MethodName)) ∈ lw_tbl := lw_at lw_m10 68 rfl
theorem q2349 : (Jvm.Cond.instanceMethod ({ cls := "CaseGrouperModel", name := "counts", desc := "(III)Z" } : Jvm.MethodName)) ∈ lw_all := lw_g (lw_at lw_m10 69 rfl) rfl
theorem q2350 : (Jvm.Cond.code ({ cls := "CaseGrouperModel", name := "counts", desc := "(III)Z" } : Jvm.MethodName) prog_20_method_66_code (7 : Nat) (Option.some Jvm.ClassFile.FieldType.boolean)) ∈ lw_all := lw_g (lw_at lw_m10 70 rfl) rfl
theorem q2351 : (Jvm.Cond.methodLink "CaseGrouperModel" (436 : Nat) ({ cls := "CaseGrouperModel", name := "partnerFor", desc := "(II)I" } : Jvm.MethodName)) ∈ lw_all := lw_g (lw_at lw_m10 71 rfl) rfl
theorem q2352 : (Jvm.Cond.privateMethod ({ cls := "CaseGrouperModel", name := "partnerFor", desc := "(II)I" } : Jvm.MethodName)) ∈ lw_tbl := lw_at lw_m10 72 rfl
theorem q2353 : (Jvm.Cond.instanceMethod ({ cls := "CaseGrouperModel", name := "partnerFor", desc := "(II)I" } : Jvm.MethodName)) ∈ lw_all := lw_g (lw_at lw_m10 73 rfl) rfl
theorem q2354 : (Jvm.Cond.code ({ cls := "CaseGrouperModel", name := "partnerFor", desc := "(II)I" } : Jvm.MethodName) prog_20_method_64_code (4 : Nat) (Option.some Jvm.ClassFile.FieldType.int)) ∈ lw_all := lw_g (lw_at lw_m10 74 rfl) rfl
theorem q2355 : (Jvm.Cond.methodLink "CaseGrouperModel" (439 : Nat) ({ cls := "CaseGrouperModel", name := "isBut", desc := "(II)Z" } : Jvm.MethodName)) ∈ lw_all := lw_g (lw_at lw_m10 75 rfl) rfl
theorem q2356 : (Jvm.Cond.privateMethod ({ cls := "CaseGrouperModel", name := "isBut", desc := "(II)Z" } : Jvm.MethodName)) ∈ lw_tbl := lw_at lw_m10 76 rfl
theorem q2357 : (Jvm.Cond.instanceMethod ({ cls := "CaseGrouperModel", name := "isBut", desc := "(II)Z" } : Jvm.MethodName)) ∈ lw_all := lw_g (lw_at lw_m10 77 rfl) rfl
theorem q2358 : (Jvm.Cond.code ({ cls := "CaseGrouperModel", name := "isBut", desc := "(II)Z" } : Jvm.MethodName) prog_20_method_65_code (4 : Nat) (Option.some Jvm.ClassFile.FieldType.boolean)) ∈ lw_all := lw_g (lw_at lw_m10 78 rfl) rfl
theorem q2359 : (Jvm.Cond.methodLink "CaseGrouperModel" (470 : Nat) ({ cls := "CaseGrouperModel", name := "classFor", desc := "(II)I" } : Jvm.MethodName)) ∈ lw_all := lw_g (lw_at lw_m10 79 rfl) rfl
theorem q2360 : (Jvm.Cond.privateMethod ({ cls := "CaseGrouperModel", name := "classFor", desc := "(II)I" } : Jvm.MethodName)) ∈ lw_tbl := lw_at lw_m10 80 rfl
theorem q2361 : (Jvm.Cond.instanceMethod ({ cls := "CaseGrouperModel", name := "classFor", desc := "(II)I" } : Jvm.MethodName)) ∈ lw_all := lw_g (lw_at lw_m10 81 rfl) rfl
theorem q2362 : (Jvm.Cond.code ({ cls := "CaseGrouperModel", name := "classFor", desc := "(II)I" } : Jvm.MethodName) prog_20_method_71_code (4 : Nat) (Option.some Jvm.ClassFile.FieldType.int)) ∈ lw_all := lw_g (lw_at lw_m10 82 rfl) rfl
theorem q2363 : (Jvm.Cond.methodLink "CaseGrouperModel" (467 : Nat) ({ cls := "CaseGrouperModel", name := "leafFor", desc := "(II)I" } : Jvm.MethodName)) ∈ lw_all := lw_g (lw_at lw_m10 83 rfl) rfl
theorem q2364 : (Jvm.Cond.privateMethod ({ cls := "CaseGrouperModel", name := "leafFor", desc := "(II)I" } : Jvm.MethodName)) ∈ lw_tbl := lw_at lw_m10 84 rfl
theorem q2365 : (Jvm.Cond.instanceMethod ({ cls := "CaseGrouperModel", name := "leafFor", desc := "(II)I" } : Jvm.MethodName)) ∈ lw_all := lw_g (lw_at lw_m10 85 rfl) rfl
theorem q2366 : (Jvm.Cond.code ({ cls := "CaseGrouperModel", name := "leafFor", desc := "(II)I" } : Jvm.MethodName) prog_20_method_70_code (6 : Nat) (Option.some Jvm.ClassFile.FieldType.int)) ∈ lw_all := lw_g (lw_at lw_m10 86 rfl) rfl
theorem q2367 : (Jvm.Cond.methodLink "CaseGrouperModel" (445 : Nat) ({ cls := "CaseGrouperModel", name := "isSo", desc := "(III)Z" } : Jvm.MethodName)) ∈ lw_all := lw_g (lw_at lw_m10 87 rfl) rfl
theorem q2368 : (Jvm.Cond.privateMethod ({ cls := "CaseGrouperModel", name := "isSo", desc := "(III)Z" } : Jvm.MethodName)) ∈ lw_tbl := lw_at lw_m10 88 rfl
theorem q2369 : (Jvm.Cond.instanceMethod ({ cls := "CaseGrouperModel", name := "isSo", desc := "(III)Z" } : Jvm.MethodName)) ∈ lw_all := lw_g (lw_at lw_m10 89 rfl) rfl
theorem q2370 : (Jvm.Cond.code ({ cls := "CaseGrouperModel", name := "isSo", desc := "(III)Z" } : Jvm.MethodName) prog_20_method_68_code (8 : Nat) (Option.some Jvm.ClassFile.FieldType.boolean)) ∈ lw_all := lw_g (lw_at lw_m10 90 rfl) rfl
theorem q2371 : (Jvm.Cond.methodLink "CaseGrouperModel" (495 : Nat) ({ cls := "CaseGrouperModel", name := "weightFor", desc := "(II)I" } : Jvm.MethodName)) ∈ lw_all := lw_g (lw_at lw_m10 91 rfl) rfl
theorem q2372 : (Jvm.Cond.privateMethod ({ cls := "CaseGrouperModel", name := "weightFor", desc := "(II)I" } : Jvm.MethodName)) ∈ lw_tbl := lw_at lw_m10 92 rfl
theorem q2373 : (Jvm.Cond.instanceMethod ({ cls := "CaseGrouperModel", name := "weightFor", desc := "(II)I" } : Jvm.MethodName)) ∈ lw_all := lw_g (lw_at lw_m10 93 rfl) rfl
theorem q2374 : (Jvm.Cond.code ({ cls := "CaseGrouperModel", name := "weightFor", desc := "(II)I" } : Jvm.MethodName) prog_20_method_72_code (4 : Nat) (Option.some Jvm.ClassFile.FieldType.int)) ∈ lw_all := lw_g (lw_at lw_m10 94 rfl) rfl
theorem q2375 : (Jvm.Cond.methodLink "CaseGrouperModel" (498 : Nat) ({ cls := "CaseGrouperModel", name := "leafNumber", desc := "(I)I" } : Jvm.MethodName)) ∈ lw_all := lw_g (lw_at lw_m10 95 rfl) rfl
theorem q2376 : (Jvm.Cond.privateMethod ({ cls := "CaseGrouperModel", name := "leafNumber", desc := "(I)I" } : Jvm.MethodName)) ∈ lw_tbl := lw_at lw_m10 96 rfl
theorem q2377 : (Jvm.Cond.instanceMethod ({ cls := "CaseGrouperModel", name := "leafNumber", desc := "(I)I" } : Jvm.MethodName)) ∈ lw_all := lw_g (lw_at lw_m10 97 rfl) rfl
theorem q2378 : (Jvm.Cond.code ({ cls := "CaseGrouperModel", name := "leafNumber", desc := "(I)I" } : Jvm.MethodName) prog_20_method_79_code (2 : Nat) (Option.some Jvm.ClassFile.FieldType.int)) ∈ lw_all := lw_g (lw_at lw_m10 98 rfl) rfl
theorem q2380 : (Jvm.Cond.instanceMethod ({ cls := "CaseGrouperModel", name := "listed", desc := "(III)I" } : Jvm.MethodName)) ∈ lw_all := lw_g (lw_at lw_m10 100 rfl) rfl
theorem q2381 : (Jvm.Cond.selects "CaseGrouperModel" ({ cls := "CaseGrouperModel", name := "listed", desc := "(III)I" } : Jvm.MethodName) ({ cls := "CaseGrouperModel", name := "listed", desc := "(III)I" } : Jvm.MethodName)) ∈ lw_all := lw_g (lw_at lw_m10 101 rfl) rfl
theorem q2382 : (Jvm.Cond.code ({ cls := "CaseGrouperModel", name := "listed", desc := "(III)I" } : Jvm.MethodName) prog_20_method_81_code (4 : Nat) (Option.some Jvm.ClassFile.FieldType.int)) ∈ lw_all := lw_g (lw_at lw_m10 102 rfl) rfl
theorem q2384 : (Jvm.Cond.instanceMethod ({ cls := "CaseGrouperModel", name := "way", desc := "(II)I" } : Jvm.MethodName)) ∈ lw_all := lw_g (lw_at lw_m10 104 rfl) rfl
theorem q2385 : (Jvm.Cond.selects "CaseGrouperModel" ({ cls := "CaseGrouperModel", name := "way", desc := "(II)I" } : Jvm.MethodName) ({ cls := "CaseGrouperModel", name := "way", desc := "(II)I" } : Jvm.MethodName)) ∈ lw_all := lw_g (lw_at lw_m10 105 rfl) rfl
theorem q2386 : (Jvm.Cond.code ({ cls := "CaseGrouperModel", name := "way", desc := "(II)I" } : Jvm.MethodName) prog_20_method_82_code (4 : Nat) (Option.some Jvm.ClassFile.FieldType.int)) ∈ lw_all := lw_g (lw_at lw_m10 106 rfl) rfl
theorem q2388 : (Jvm.Cond.instanceMethod ({ cls := "CaseGrouperModel", name := "partner", desc := "(III)I" } : Jvm.MethodName)) ∈ lw_all := lw_g (lw_at lw_m10 108 rfl) rfl
theorem q2389 : (Jvm.Cond.selects "CaseGrouperModel" ({ cls := "CaseGrouperModel", name := "partner", desc := "(III)I" } : Jvm.MethodName) ({ cls := "CaseGrouperModel", name := "partner", desc := "(III)I" } : Jvm.MethodName)) ∈ lw_all := lw_g (lw_at lw_m10 109 rfl) rfl
theorem q2390 : (Jvm.Cond.code ({ cls := "CaseGrouperModel", name := "partner", desc := "(III)I" } : Jvm.MethodName) prog_20_method_83_code (4 : Nat) (Option.some Jvm.ClassFile.FieldType.int)) ∈ lw_all := lw_g (lw_at lw_m10 110 rfl) rfl
theorem q2392 : (Jvm.Cond.instanceMethod ({ cls := "CaseGrouperModel", name := "with", desc := "(II)I" } : Jvm.MethodName)) ∈ lw_all := lw_g (lw_at lw_m10 112 rfl) rfl
theorem q2393 : (Jvm.Cond.selects "CaseGrouperModel" ({ cls := "CaseGrouperModel", name := "with", desc := "(II)I" } : Jvm.MethodName) ({ cls := "CaseGrouperModel", name := "with", desc := "(II)I" } : Jvm.MethodName)) ∈ lw_all := lw_g (lw_at lw_m10 113 rfl) rfl
theorem q2394 : (Jvm.Cond.code ({ cls := "CaseGrouperModel", name := "with", desc := "(II)I" } : Jvm.MethodName) prog_20_method_84_code (4 : Nat) (Option.some Jvm.ClassFile.FieldType.int)) ∈ lw_all := lw_g (lw_at lw_m10 114 rfl) rfl
theorem q2396 : (Jvm.Cond.instanceMethod ({ cls := "CaseGrouperModel", name := "without", desc := "(II)I" } : Jvm.MethodName)) ∈ lw_all := lw_g (lw_at lw_m10 116 rfl) rfl
theorem q2397 : (Jvm.Cond.selects "CaseGrouperModel" ({ cls := "CaseGrouperModel", name := "without", desc := "(II)I" } : Jvm.MethodName) ({ cls := "CaseGrouperModel", name := "without", desc := "(II)I" } : Jvm.MethodName)) ∈ lw_all := lw_g (lw_at lw_m10 117 rfl) rfl
theorem q2398 : (Jvm.Cond.code ({ cls := "CaseGrouperModel", name := "without", desc := "(II)I" } : Jvm.MethodName) prog_20_method_86_code (3 : Nat) (Option.some Jvm.ClassFile.FieldType.int)) ∈ lw_all := lw_g (lw_at lw_m10 118 rfl) rfl
theorem q2399 : (Jvm.Cond.methodLink "CaseGrouperModel" (501 : Nat) ({ cls := "CaseGrouperModel", name := "classWithout", desc := "(II)I" } : Jvm.MethodName)) ∈ lw_all := lw_g (lw_at lw_m10 119 rfl) rfl
theorem q2400 : (Jvm.Cond.privateMethod ({ cls := "CaseGrouperModel", name := "classWithout", desc := "(II)I" } : Jvm.MethodName)) ∈ lw_tbl := lw_at lw_m10 120 rfl
theorem q2401 : (Jvm.Cond.instanceMethod ({ cls := "CaseGrouperModel", name := "classWithout", desc := "(II)I" } : Jvm.MethodName)) ∈ lw_all := lw_g (lw_at lw_m10 121 rfl) rfl
theorem q2402 : (Jvm.Cond.code ({ cls := "CaseGrouperModel", name := "classWithout", desc := "(II)I" } : Jvm.MethodName) prog_20_method_85_code (4 : Nat) (Option.some Jvm.ClassFile.FieldType.int)) ∈ lw_all := lw_g (lw_at lw_m10 122 rfl) rfl
theorem q2404 : (Jvm.Cond.instanceMethod ({ cls := "CaseGrouperModel", name := "matters", desc := "(I)I" } : Jvm.MethodName)) ∈ lw_all := lw_g (lw_at lw_m10 124 rfl) rfl
theorem q2405 : (Jvm.Cond.selects "CaseGrouperModel" ({ cls := "CaseGrouperModel", name := "matters", desc := "(I)I" } : Jvm.MethodName) ({ cls := "CaseGrouperModel", name := "matters", desc := "(I)I" } : Jvm.MethodName)) ∈ lw_all := lw_g (lw_at lw_m10 125 rfl) rfl
theorem q2406 : (Jvm.Cond.code ({ cls := "CaseGrouperModel", name := "matters", desc := "(I)I" } : Jvm.MethodName) prog_20_method_87_code (5 : Nat) (Option.some Jvm.ClassFile.FieldType.int)) ∈ lw_all := lw_g (lw_at lw_m10 126 rfl) rfl
theorem q2408 : (Jvm.Cond.instanceMethod ({ cls := "CaseGrouperModel", name := "raises", desc := "(I)I" } : Jvm.MethodName)) ∈ lw_all := lw_g (lw_at lw_m10 128 rfl) rfl
theorem q2409 : (Jvm.Cond.selects "CaseGrouperModel" ({ cls := "CaseGrouperModel", name := "raises", desc := "(I)I" } : Jvm.MethodName) ({ cls := "CaseGrouperModel", name := "raises", desc := "(I)I" } : Jvm.MethodName)) ∈ lw_all := lw_g (lw_at lw_m10 129 rfl) rfl
theorem q2410 : (Jvm.Cond.code ({ cls := "CaseGrouperModel", name := "raises", desc := "(I)I" } : Jvm.MethodName) prog_20_method_88_code (5 : Nat) (Option.some Jvm.ClassFile.FieldType.int)) ∈ lw_all := lw_g (lw_at lw_m10 130 rfl) rfl
theorem q2412 : (Jvm.Cond.instanceMethod ({ cls := "CaseGrouperModel", name := "ofClass", desc := "(II)I" } : Jvm.MethodName)) ∈ lw_all := lw_g (lw_at lw_m10 132 rfl) rfl
theorem q2413 : (Jvm.Cond.selects "CaseGrouperModel" ({ cls := "CaseGrouperModel", name := "ofClass", desc := "(II)I" } : Jvm.MethodName) ({ cls := "CaseGrouperModel", name := "ofClass", desc := "(II)I" } : Jvm.MethodName)) ∈ lw_all := lw_g (lw_at lw_m10 133 rfl) rfl
theorem q2414 : (Jvm.Cond.code ({ cls := "CaseGrouperModel", name := "ofClass", desc := "(II)I" } : Jvm.MethodName) prog_20_method_89_code (5 : Nat) (Option.some Jvm.ClassFile.FieldType.int)) ∈ lw_all := lw_g (lw_at lw_m10 134 rfl) rfl
theorem q2416 : (Jvm.Cond.instanceMethod ({ cls := "CaseGrouperModel", name := "name", desc := "(II)I" } : Jvm.MethodName)) ∈ lw_all := lw_g (lw_at lw_m10 136 rfl) rfl
theorem q2417 : (Jvm.Cond.selects "CaseGrouperModel" ({ cls := "CaseGrouperModel", name := "name", desc := "(II)I" } : Jvm.MethodName) ({ cls := "CaseGrouperModel", name := "name", desc := "(II)I" } : Jvm.MethodName)) ∈ lw_all := lw_g (lw_at lw_m10 137 rfl) rfl
theorem q2418 : (Jvm.Cond.code ({ cls := "CaseGrouperModel", name := "name", desc := "(II)I" } : Jvm.MethodName) prog_20_method_90_code (8 : Nat) (Option.some Jvm.ClassFile.FieldType.int)) ∈ lw_all := lw_g (lw_at lw_m10 138 rfl) rfl
theorem q2420 : (Jvm.Cond.instanceMethod ({ cls := "CaseGrouperModel", name := "leaf", desc := "(II)I" } : Jvm.MethodName)) ∈ lw_all := lw_g (lw_at lw_m10 140 rfl) rfl
theorem q2421 : (Jvm.Cond.selects "CaseGrouperModel" ({ cls := "CaseGrouperModel", name := "leaf", desc := "(II)I" } : Jvm.MethodName) ({ cls := "CaseGrouperModel", name := "leaf", desc := "(II)I" } : Jvm.MethodName)) ∈ lw_all := lw_g (lw_at lw_m10 141 rfl) rfl
theorem q2422 : (Jvm.Cond.code ({ cls := "CaseGrouperModel", name := "leaf", desc := "(II)I" } : Jvm.MethodName) prog_20_method_91_code (6 : Nat) (Option.some Jvm.ClassFile.FieldType.int)) ∈ lw_all := lw_g (lw_at lw_m10 142 rfl) rfl
theorem q2424 : (Jvm.Cond.instanceMethod ({ cls := "CaseGrouperModel", name := "keep", desc := "()I" } : Jvm.MethodName)) ∈ lw_all := lw_g (lw_at lw_m10 144 rfl) rfl
theorem q2425 : (Jvm.Cond.selects "CaseGrouperModel" ({ cls := "CaseGrouperModel", name := "keep", desc := "()I" } : Jvm.MethodName) ({ cls := "CaseGrouperModel", name := "keep", desc := "()I" } : Jvm.MethodName)) ∈ lw_all := lw_g (lw_at lw_m10 145 rfl) rfl
theorem q2426 : (Jvm.Cond.code ({ cls := "CaseGrouperModel", name := "keep", desc := "()I" } : Jvm.MethodName) prog_20_method_93_code (1 : Nat) (Option.some Jvm.ClassFile.FieldType.int)) ∈ lw_all := lw_g (lw_at lw_m10 146 rfl) rfl
theorem q2427 : (Jvm.Cond.methodLink "CaseGrouperModel" (504 : Nat) ({ cls := "CaseGrouperModel", name := "copies", desc := "(II)V" } : Jvm.MethodName)) ∈ lw_all := lw_g (lw_at lw_m10 147 rfl) rfl
theorem q2428 : (Jvm.Cond.privateMethod ({ cls := "CaseGrouperModel", name := "copies", desc := "(II)V" } : Jvm.MethodName)) ∈ lw_tbl := lw_at lw_m10 148 rfl
theorem q2429 : (Jvm.Cond.instanceMethod ({ cls := "CaseGrouperModel", name := "copies", desc := "(II)V" } : Jvm.MethodName)) ∈ lw_all := lw_g (lw_at lw_m10 149 rfl) rfl
theorem q2430 : (Jvm.Cond.code ({ cls := "CaseGrouperModel", name := "copies", desc := "(II)V" } : Jvm.MethodName) prog_20_method_92_code (4 : Nat) (Option.none : Option Jvm.ClassFile.FieldType)) ∈ lw_all := lw_g (lw_at lw_m10 150 rfl) rfl
theorem q2432 : (Jvm.Cond.instanceMethod ({ cls := "CaseGrouperModel", name := "compare", desc := "(I)I" } : Jvm.MethodName)) ∈ lw_all := lw_g (lw_at lw_m10 152 rfl) rfl
theorem q2433 : (Jvm.Cond.selects "CaseGrouperModel" ({ cls := "CaseGrouperModel", name := "compare", desc := "(I)I" } : Jvm.MethodName) ({ cls := "CaseGrouperModel", name := "compare", desc := "(I)I" } : Jvm.MethodName)) ∈ lw_all := lw_g (lw_at lw_m10 153 rfl) rfl
theorem q2434 : (Jvm.Cond.code ({ cls := "CaseGrouperModel", name := "compare", desc := "(I)I" } : Jvm.MethodName) prog_20_method_95_code (6 : Nat) (Option.some Jvm.ClassFile.FieldType.int)) ∈ lw_all := lw_g (lw_at lw_m10 154 rfl) rfl
theorem q2435 : (Jvm.Cond.constant "CaseGrouperModel" (511 : Nat) (-100000 : Int32)) ∈ lw_all := lw_g (lw_at lw_m10 155 rfl) rfl
theorem q2436 : (Jvm.Cond.methodLink "CaseGrouperModel" (512 : Nat) ({ cls := "CaseGrouperModel", name := "isMoved", desc := "(I)Z" } : Jvm.MethodName)) ∈ lw_all := lw_g (lw_at lw_m10 156 rfl) rfl
theorem q2437 : (Jvm.Cond.privateMethod ({ cls := "CaseGrouperModel", name := "isMoved", desc := "(I)Z" } : Jvm.MethodName)) ∈ lw_tbl := lw_at lw_m10 157 rfl
theorem q2438 : (Jvm.Cond.instanceMethod ({ cls := "CaseGrouperModel", name := "isMoved", desc := "(I)Z" } : Jvm.MethodName)) ∈ lw_all := lw_g (lw_at lw_m10 158 rfl) rfl
theorem q2439 : (Jvm.Cond.code ({ cls := "CaseGrouperModel", name := "isMoved", desc := "(I)Z" } : Jvm.MethodName) prog_20_method_94_code (4 : Nat) (Option.some Jvm.ClassFile.FieldType.boolean)) ∈ lw_all := lw_g (lw_at lw_m10 159 rfl) rfl
theorem q2441 : (Jvm.Cond.instanceMethod ({ cls := "CaseGrouperModel", name := "keptWeight", desc := "(I)I" } : Jvm.MethodName)) ∈ lw_all := lw_g (lw_at lw_m10 161 rfl) rfl
theorem q2442 : (Jvm.Cond.selects "CaseGrouperModel" ({ cls := "CaseGrouperModel", name := "keptWeight", desc := "(I)I" } : Jvm.MethodName) ({ cls := "CaseGrouperModel", name := "keptWeight", desc := "(I)I" } : Jvm.MethodName)) ∈ lw_all := lw_g (lw_at lw_m10 162 rfl) rfl
theorem q2443 : (Jvm.Cond.code ({ cls := "CaseGrouperModel", name := "keptWeight", desc := "(I)I" } : Jvm.MethodName) prog_20_method_96_code (2 : Nat) (Option.some Jvm.ClassFile.FieldType.int)) ∈ lw_all := lw_g (lw_at lw_m10 163 rfl) rfl
theorem q2445 : (Jvm.Cond.instanceMethod ({ cls := "CaseGrouperModel", name := "swap", desc := "()Z" } : Jvm.MethodName)) ∈ lw_all := lw_g (lw_at lw_m10 165 rfl) rfl
theorem q2446 : (Jvm.Cond.selects "CaseGrouperModel" ({ cls := "CaseGrouperModel", name := "swap", desc := "()Z" } : Jvm.MethodName) ({ cls := "CaseGrouperModel", name := "swap", desc := "()Z" } : Jvm.MethodName)) ∈ lw_all := lw_g (lw_at lw_m10 166 rfl) rfl
theorem q2447 : (Jvm.Cond.code ({ cls := "CaseGrouperModel", name := "swap", desc := "()Z" } : Jvm.MethodName) prog_20_method_97_code (2 : Nat) (Option.some Jvm.ClassFile.FieldType.boolean)) ∈ lw_all := lw_g (lw_at lw_m10 167 rfl) rfl
theorem q2449 : (Jvm.Cond.instanceMethod ({ cls := "CaseGrouperModel", name := "count", desc := "(I)I" } : Jvm.MethodName)) ∈ lw_all := lw_g (lw_at lw_m10 169 rfl) rfl
theorem q2450 : (Jvm.Cond.selects "CaseGrouperModel" ({ cls := "CaseGrouperModel", name := "count", desc := "(I)I" } : Jvm.MethodName) ({ cls := "CaseGrouperModel", name := "count", desc := "(I)I" } : Jvm.MethodName)) ∈ lw_all := lw_g (lw_at lw_m10 170 rfl) rfl
theorem q2451 : (Jvm.Cond.code ({ cls := "CaseGrouperModel", name := "count", desc := "(I)I" } : Jvm.MethodName) prog_20_method_98_code (4 : Nat) (Option.some Jvm.ClassFile.FieldType.int)) ∈ lw_all := lw_g (lw_at lw_m10 171 rfl) rfl
theorem q2468 : (Jvm.Cond.castable "CaseGrouperModel" "java/lang/Object") ∈ lw_tbl := lw_at lw_m10 188 rfl
theorem in_X5 : ∀ w ∈ wsX50, w ∈ lw_all := lw_in wsX50 [1883, 1885, 1887, 1889, 1891, 1893, 1895, 1897, 1899, 1901, 1903, 1905, 1907, 1909, 1911, 1913, 1915, 1917, 1919, 1921, 1923, 1925, 1927, 1929, 1931, 1933, 1935, 1937, 1939, 1941, 1943, 1945, 1947, 1949, 1951, 1953, 1955, 1957, 1959, 1961, 1963, 1965, 1967, 1969, 1971, 1973, 1975, 1977, 1979, 1981, 1983, 1985, 1987, 1989, 1991, 1993, 1995, 1997, 1999, 2001, 2003, 2005, 2007, 2009, 2011, 2013, 2015, 2017, 2019, 2021, 2023, 2025, 2027] (by decide +kernel) (by decide +kernel)
