/-! LetterHeapsModel -/
set_option maxRecDepth 100000
def RX6 : String := "LetterHeapsModel"
def TX6 : u_T := fun k => match k with
  | 0 => ("LetterHeapsModel", "words", "I", false)
  | 1 => ("LetterHeapsModel", "x0", "I", false)
  | 2 => ("LetterHeapsModel", "tongue0", "I", false)
  | 3 => ("LetterHeapsModel", "lengthOf", "[I", true)
  | 4 => ("LetterHeapsModel", "letterOf", "[I", true)
  | 5 => ("LetterHeapsModel", "knownOf", "[I", true)
  | 6 => ("LetterHeapsModel", "tonguesOf", "[I", true)
  | 7 => ("LetterHeapsModel", "isBarred", "[Z", true)
  | 8 => ("LetterHeapsModel", "row0", "[I", true)
  | 9 => ("LetterHeapsModel", "long0", "I", false)
  | 10 => ("LetterHeapsModel", "tape", "[B", true)
  | 11 => ("LetterHeapsModel", "taped", "I", false)
  | 12 => ("LetterHeapsModel", "place0", "I", false)
  | 13 => ("LetterHeapsModel", "length0", "I", false)
  | 14 => ("LetterHeapsModel", "fault", "I", false)
  | 15 => ("LetterHeapsModel", "open", "I", false)
  | 16 => ("LetterHeapsModel", "codeMany", "I", false)
  | 17 => ("LetterHeapsModel", "waiting", "I", false)
  | 18 => ("LetterHeapsModel", "saidMany", "I", false)
  | 19 => ("LetterHeapsModel", "number0", "I", false)
  | 20 => ("LetterHeapsModel", "clauses", "I", false)
  | 21 => ("LetterHeapsModel", "said", "[I", true)
  | 22 => ("LetterHeapsModel", "waits", "[I", true)
  | 23 => ("LetterHeapsModel", "saidLetter", "[I", true)
  | 24 => ("LetterHeapsModel", "saidFrom", "[I", true)
  | 25 => ("LetterHeapsModel", "saidHalf", "[I", true)
  | 26 => ("LetterHeapsModel", "saidTo", "[I", true)
  | 27 => ("LetterHeapsModel", "codes", "[I", true)
  | 28 => ("LetterHeapsModel", "clauseOf", "[I", true)
  | 29 => ("LetterHeapsModel", "codeFrom", "[I", true)
  | 30 => ("LetterHeapsModel", "codeHalf", "[I", true)
  | 31 => ("LetterHeapsModel", "codeTo", "[I", true)
  | 32 => ("LetterHeapsModel", "stack", "[I", true)
  | 33 => ("LetterHeapsModel", "facts", "[I", true)
  | 34 => ("LetterHeapsModel", "stepCost", "[I", true)
  | 35 => ("LetterHeapsModel", "stepKind", "[I", true)
  | 36 => ("LetterHeapsModel", "stepPlace", "[I", true)
  | 37 => ("LetterHeapsModel", "wayOf", "[I", true)
  | 38 => ("LetterHeapsModel", "waysFrom", "[J", true)
  | 39 => ("LetterHeapsModel", "isCome", "[Z", true)
  | 40 => ("LetterHeapsModel", "newRow", "[I", true)
  | 41 => ("LetterHeapsModel", "newHeaps", "I", false)
  | 42 => ("LetterHeapsModel", "newWords", "I", false)
  | 43 => ("LetterHeapsModel", "newLong", "I", false)
  | 44 => ("LetterHeapsModel", "heapAt", "[I", true)
  | 45 => ("LetterHeapsModel", "walksTo", "[J", true)
  | 46 => ("LetterHeapsModel", "walksThen", "[J", true)
  | 47 => ("LetterHeapsModel", "told", "[I", true)
  | 48 => ("LetterHeapsModel", "rest", "[I", true)
  | 49 => ("LetterHeapsModel", "farOf", "[I", true)
  | 50 => ("LetterHeapsModel", "tooNear", "[I", true)
  | 51 => ("LetterHeapsModel", "squareRow", "[I", true)
  | 52 => ("LetterHeapsModel", "firstSquare", "[I", true)
  | _ => ("LetterHeapsModel", "squares", "I", false)
def tyX6 : Nat → FieldType := fun k => match k with
  | 0 => .int
  | 1 => .int
  | 2 => .int
  | 3 => .array .int
  | 4 => .array .int
  | 5 => .array .int
  | 6 => .array .int
  | 7 => .array .boolean
  | 8 => .array .int
  | 9 => .int
  | 10 => .array .byte
  | 11 => .int
  | 12 => .int
  | 13 => .int
  | 14 => .int
  | 15 => .int
  | 16 => .int
  | 17 => .int
  | 18 => .int
  | 19 => .int
  | 20 => .int
  | 21 => .array .int
  | 22 => .array .int
  | 23 => .array .int
  | 24 => .array .int
  | 25 => .array .int
  | 26 => .array .int
  | 27 => .array .int
  | 28 => .array .int
  | 29 => .array .int
  | 30 => .array .int
  | 31 => .array .int
  | 32 => .array .int
  | 33 => .array .int
  | 34 => .array .int
  | 35 => .array .int
  | 36 => .array .int
  | 37 => .array .int
  | 38 => .array .long
  | 39 => .array .boolean
  | 40 => .array .int
  | 41 => .int
  | 42 => .int
  | 43 => .int
  | 44 => .array .int
  | 45 => .array .long
  | 46 => .array .long
  | 47 => .array .int
  | 48 => .array .int
  | 49 => .array .int
  | 50 => .array .int
  | 51 => .array .int
  | 52 => .array .int
  | _ => .int
abbrev wsX60 : List Cond := u_ws RX6 TX6 54
set_option maxRecDepth 100000 in
theorem nmX6 : ∀ a, a < 54 → ∀ b, b < 54 → a ≠ b → (TX6 a).2.1 ≠ (TX6 b).2.1 := by decide +kernel
set_option maxRecDepth 100000 in
theorem tyX6_ok : ∀ k, k < 54 → parseFieldDescriptor (TX6 k).2.2.1 = some (tyX6 k) := by decide +kernel
abbrev cX6_init : ByteArray := prog_17_method_1_code
def yX6_init : MethodName := ⟨RX6, "<init>", "()V"⟩
def dkwX6_init_13 : List UInt8 := [181, 0, 126, 177]
abbrev dktX6_init_13 : List UInt8 := dkwX6_init_13 ++ []
def dkwX6_init_12 : List UInt8 := [181, 0, 113, 42, 7, 188, 10, 181, 0, 116, 42, 7, 188, 10, 181, 0, 119, 42, 4, 181, 0, 122, 42, 2]
abbrev dktX6_init_12 : List UInt8 := dkwX6_init_12 ++ dktX6_init_13
def dkwX6_init_11 : List UInt8 := [181, 0, 103, 42, 18, 106, 188, 10, 181, 0, 107, 42, 16, 117, 188, 10, 181, 0, 110, 42, 16, 14, 188, 10]
abbrev dktX6_init_11 : List UInt8 := dkwX6_init_11 ++ dktX6_init_12
def dkwX6_init_10 : List UInt8 := [181, 0, 94, 42, 16, 40, 188, 11, 181, 0, 97, 42, 16, 40, 188, 11, 181, 0, 100, 42, 16, 14, 188, 10]
abbrev dktX6_init_10 : List UInt8 := dkwX6_init_10 ++ dktX6_init_11
def dkwX6_init_9 : List UInt8 := [181, 0, 84, 42, 16, 40, 188, 4, 181, 0, 88, 42, 16, 8, 188, 10, 181, 0, 91, 42, 16, 40, 188, 10]
abbrev dktX6_init_9 : List UInt8 := dkwX6_init_9 ++ dktX6_init_10
def dkwX6_init_8 : List UInt8 := [17, 6, 64, 188, 10, 181, 0, 78, 42, 17, 6, 64, 188, 10, 181, 0, 81, 42, 16, 40, 188, 11]
abbrev dktX6_init_8 : List UInt8 := dkwX6_init_8 ++ dktX6_init_9
def dkwX6_init_7 : List UInt8 := [188, 10, 181, 0, 69, 42, 17, 6, 64, 188, 10, 181, 0, 72, 42, 17, 6, 64, 188, 10, 181, 0, 75, 42]
abbrev dktX6_init_7 : List UInt8 := dkwX6_init_7 ++ dktX6_init_8
def dkwX6_init_6 : List UInt8 := [181, 0, 60, 42, 16, 12, 188, 10, 181, 0, 63, 42, 17, 0, 180, 188, 10, 181, 0, 66, 42, 16, 9]
abbrev dktX6_init_6 : List UInt8 := dkwX6_init_6 ++ dktX6_init_7
def dkwX6_init_5 : List UInt8 := [181, 0, 51, 42, 16, 12, 188, 10, 181, 0, 54, 42, 16, 12, 188, 10, 181, 0, 57, 42, 16, 12, 188, 10]
abbrev dktX6_init_5 : List UInt8 := dkwX6_init_5 ++ dktX6_init_6
def dkwX6_init_4 : List UInt8 := [42, 16, 12, 188, 10, 181, 0, 45, 42, 16, 12, 188, 10, 181, 0, 48, 42, 17, 0, 180, 188, 10]
abbrev dktX6_init_4 : List UInt8 := dkwX6_init_4 ++ dktX6_init_5
def dkwX6_init_3 : List UInt8 := [17, 0, 180, 188, 10, 181, 0, 36, 42, 16, 12, 188, 10, 181, 0, 39, 42, 16, 12, 188, 10, 181, 0, 42]
abbrev dktX6_init_3 : List UInt8 := dkwX6_init_3 ++ dktX6_init_4
def dkwX6_init_2 : List UInt8 := [188, 10, 181, 0, 26, 42, 17, 0, 200, 188, 8, 181, 0, 29, 42, 17, 0, 180, 188, 10, 181, 0, 33, 42]
abbrev dktX6_init_2 : List UInt8 := dkwX6_init_2 ++ dktX6_init_3
def dkwX6_init_1 : List UInt8 := [188, 10, 181, 0, 16, 42, 16, 40, 188, 10, 181, 0, 19, 42, 16, 40, 188, 4, 181, 0, 22, 42, 16, 12]
abbrev dktX6_init_1 : List UInt8 := dkwX6_init_1 ++ dktX6_init_2
def dkwX6_init_0 : List UInt8 := [42, 183, 0, 1, 42, 16, 40, 188, 10, 181, 0, 7, 42, 17, 1, 64, 188, 10, 181, 0, 13, 42, 16, 40]
abbrev dktX6_init_0 : List UInt8 := dkwX6_init_0 ++ dktX6_init_1
theorem dksX6_init_0 : cX6_init.data.toList.drop 0 = dktX6_init_0 := by decide +kernel
theorem dksX6_init_1 : cX6_init.data.toList.drop 24 = dktX6_init_1 := dk_seg dksX6_init_0 24 rfl rfl
theorem dksX6_init_2 : cX6_init.data.toList.drop 48 = dktX6_init_2 := dk_seg dksX6_init_1 24 rfl rfl
theorem dksX6_init_3 : cX6_init.data.toList.drop 72 = dktX6_init_3 := dk_seg dksX6_init_2 24 rfl rfl
theorem dksX6_init_4 : cX6_init.data.toList.drop 96 = dktX6_init_4 := dk_seg dksX6_init_3 24 rfl rfl
theorem dksX6_init_5 : cX6_init.data.toList.drop 118 = dktX6_init_5 := dk_seg dksX6_init_4 22 rfl rfl
theorem dksX6_init_6 : cX6_init.data.toList.drop 142 = dktX6_init_6 := dk_seg dksX6_init_5 24 rfl rfl
theorem dksX6_init_7 : cX6_init.data.toList.drop 165 = dktX6_init_7 := dk_seg dksX6_init_6 23 rfl rfl
theorem dksX6_init_8 : cX6_init.data.toList.drop 189 = dktX6_init_8 := dk_seg dksX6_init_7 24 rfl rfl
theorem dksX6_init_9 : cX6_init.data.toList.drop 211 = dktX6_init_9 := dk_seg dksX6_init_8 22 rfl rfl
theorem dksX6_init_10 : cX6_init.data.toList.drop 235 = dktX6_init_10 := dk_seg dksX6_init_9 24 rfl rfl
theorem dksX6_init_11 : cX6_init.data.toList.drop 259 = dktX6_init_11 := dk_seg dksX6_init_10 24 rfl rfl
theorem dksX6_init_12 : cX6_init.data.toList.drop 283 = dktX6_init_12 := dk_seg dksX6_init_11 24 rfl rfl
theorem dksX6_init_13 : cX6_init.data.toList.drop 307 = dktX6_init_13 := dk_seg dksX6_init_12 24 rfl rfl
theorem dX6_init_0 : decode cX6_init 0 = .ok (.aload_n 0, 1) := dk_42 (dk_at dksX6_init_0 0 rfl rfl)
theorem dX6_init_1 : decode cX6_init 1 = .ok (.invokespecial 1, 3) := dk_183 0 1 (dk_at dksX6_init_0 1 rfl rfl)
theorem dX6_init_4 : decode cX6_init 4 = .ok (.aload_n 0, 1) := dk_42 (dk_at dksX6_init_0 4 rfl rfl)
theorem dX6_init_5 : decode cX6_init 5 = .ok (.bipush 40, 2) := dk_16 40 (dk_at dksX6_init_0 5 rfl rfl)
theorem dX6_init_7 : decode cX6_init 7 = .ok (.newarray .int, 2) := dk_188_10 (dk_at dksX6_init_0 7 rfl rfl)
theorem dX6_init_9 : decode cX6_init 9 = .ok (.putfield 7, 3) := dk_181 0 7 (dk_at dksX6_init_0 9 rfl rfl)
theorem dX6_init_12 : decode cX6_init 12 = .ok (.aload_n 0, 1) := dk_42 (dk_at dksX6_init_0 12 rfl rfl)
theorem dX6_init_13 : decode cX6_init 13 = .ok (.sipush 320, 3) := dk_17 1 64 (dk_at dksX6_init_0 13 rfl rfl)
theorem dX6_init_16 : decode cX6_init 16 = .ok (.newarray .int, 2) := dk_188_10 (dk_at dksX6_init_0 16 rfl rfl)
theorem dX6_init_18 : decode cX6_init 18 = .ok (.putfield 13, 3) := dk_181 0 13 (dk_at dksX6_init_0 18 rfl rfl)
theorem dX6_init_21 : decode cX6_init 21 = .ok (.aload_n 0, 1) := dk_42 (dk_at dksX6_init_0 21 rfl rfl)
theorem dX6_init_22 : decode cX6_init 22 = .ok (.bipush 40, 2) := dk_16 40 (dk_at dksX6_init_0 22 rfl rfl)
theorem dX6_init_24 : decode cX6_init 24 = .ok (.newarray .int, 2) := dk_188_10 (dk_at dksX6_init_1 0 rfl rfl)
theorem dX6_init_26 : decode cX6_init 26 = .ok (.putfield 16, 3) := dk_181 0 16 (dk_at dksX6_init_1 2 rfl rfl)
theorem dX6_init_29 : decode cX6_init 29 = .ok (.aload_n 0, 1) := dk_42 (dk_at dksX6_init_1 5 rfl rfl)
theorem dX6_init_30 : decode cX6_init 30 = .ok (.bipush 40, 2) := dk_16 40 (dk_at dksX6_init_1 6 rfl rfl)
theorem dX6_init_32 : decode cX6_init 32 = .ok (.newarray .int, 2) := dk_188_10 (dk_at dksX6_init_1 8 rfl rfl)
theorem dX6_init_34 : decode cX6_init 34 = .ok (.putfield 19, 3) := dk_181 0 19 (dk_at dksX6_init_1 10 rfl rfl)
theorem dX6_init_37 : decode cX6_init 37 = .ok (.aload_n 0, 1) := dk_42 (dk_at dksX6_init_1 13 rfl rfl)
theorem dX6_init_38 : decode cX6_init 38 = .ok (.bipush 40, 2) := dk_16 40 (dk_at dksX6_init_1 14 rfl rfl)
theorem dX6_init_40 : decode cX6_init 40 = .ok (.newarray .boolean, 2) := dk_188_4 (dk_at dksX6_init_1 16 rfl rfl)
theorem dX6_init_42 : decode cX6_init 42 = .ok (.putfield 22, 3) := dk_181 0 22 (dk_at dksX6_init_1 18 rfl rfl)
theorem dX6_init_45 : decode cX6_init 45 = .ok (.aload_n 0, 1) := dk_42 (dk_at dksX6_init_1 21 rfl rfl)
theorem dX6_init_46 : decode cX6_init 46 = .ok (.bipush 12, 2) := dk_16 12 (dk_at dksX6_init_1 22 rfl rfl)
theorem dX6_init_48 : decode cX6_init 48 = .ok (.newarray .int, 2) := dk_188_10 (dk_at dksX6_init_2 0 rfl rfl)
theorem dX6_init_50 : decode cX6_init 50 = .ok (.putfield 26, 3) := dk_181 0 26 (dk_at dksX6_init_2 2 rfl rfl)
theorem dX6_init_53 : decode cX6_init 53 = .ok (.aload_n 0, 1) := dk_42 (dk_at dksX6_init_2 5 rfl rfl)
theorem dX6_init_54 : decode cX6_init 54 = .ok (.sipush 200, 3) := dk_17 0 200 (dk_at dksX6_init_2 6 rfl rfl)
theorem dX6_init_57 : decode cX6_init 57 = .ok (.newarray .byte, 2) := dk_188_8 (dk_at dksX6_init_2 9 rfl rfl)
theorem dX6_init_59 : decode cX6_init 59 = .ok (.putfield 29, 3) := dk_181 0 29 (dk_at dksX6_init_2 11 rfl rfl)
theorem dX6_init_62 : decode cX6_init 62 = .ok (.aload_n 0, 1) := dk_42 (dk_at dksX6_init_2 14 rfl rfl)
theorem dX6_init_63 : decode cX6_init 63 = .ok (.sipush 180, 3) := dk_17 0 180 (dk_at dksX6_init_2 15 rfl rfl)
theorem dX6_init_66 : decode cX6_init 66 = .ok (.newarray .int, 2) := dk_188_10 (dk_at dksX6_init_2 18 rfl rfl)
theorem dX6_init_68 : decode cX6_init 68 = .ok (.putfield 33, 3) := dk_181 0 33 (dk_at dksX6_init_2 20 rfl rfl)
theorem dX6_init_71 : decode cX6_init 71 = .ok (.aload_n 0, 1) := dk_42 (dk_at dksX6_init_2 23 rfl rfl)
theorem dX6_init_72 : decode cX6_init 72 = .ok (.sipush 180, 3) := dk_17 0 180 (dk_at dksX6_init_3 0 rfl rfl)
theorem dX6_init_75 : decode cX6_init 75 = .ok (.newarray .int, 2) := dk_188_10 (dk_at dksX6_init_3 3 rfl rfl)
theorem dX6_init_77 : decode cX6_init 77 = .ok (.putfield 36, 3) := dk_181 0 36 (dk_at dksX6_init_3 5 rfl rfl)
theorem dX6_init_80 : decode cX6_init 80 = .ok (.aload_n 0, 1) := dk_42 (dk_at dksX6_init_3 8 rfl rfl)
theorem dX6_init_81 : decode cX6_init 81 = .ok (.bipush 12, 2) := dk_16 12 (dk_at dksX6_init_3 9 rfl rfl)
theorem dX6_init_83 : decode cX6_init 83 = .ok (.newarray .int, 2) := dk_188_10 (dk_at dksX6_init_3 11 rfl rfl)
theorem dX6_init_85 : decode cX6_init 85 = .ok (.putfield 39, 3) := dk_181 0 39 (dk_at dksX6_init_3 13 rfl rfl)
theorem dX6_init_88 : decode cX6_init 88 = .ok (.aload_n 0, 1) := dk_42 (dk_at dksX6_init_3 16 rfl rfl)
theorem dX6_init_89 : decode cX6_init 89 = .ok (.bipush 12, 2) := dk_16 12 (dk_at dksX6_init_3 17 rfl rfl)
theorem dX6_init_91 : decode cX6_init 91 = .ok (.newarray .int, 2) := dk_188_10 (dk_at dksX6_init_3 19 rfl rfl)
theorem dX6_init_93 : decode cX6_init 93 = .ok (.putfield 42, 3) := dk_181 0 42 (dk_at dksX6_init_3 21 rfl rfl)
theorem dX6_init_96 : decode cX6_init 96 = .ok (.aload_n 0, 1) := dk_42 (dk_at dksX6_init_4 0 rfl rfl)
theorem dX6_init_97 : decode cX6_init 97 = .ok (.bipush 12, 2) := dk_16 12 (dk_at dksX6_init_4 1 rfl rfl)
theorem dX6_init_99 : decode cX6_init 99 = .ok (.newarray .int, 2) := dk_188_10 (dk_at dksX6_init_4 3 rfl rfl)
theorem dX6_init_101 : decode cX6_init 101 = .ok (.putfield 45, 3) := dk_181 0 45 (dk_at dksX6_init_4 5 rfl rfl)
theorem dX6_init_104 : decode cX6_init 104 = .ok (.aload_n 0, 1) := dk_42 (dk_at dksX6_init_4 8 rfl rfl)
theorem dX6_init_105 : decode cX6_init 105 = .ok (.bipush 12, 2) := dk_16 12 (dk_at dksX6_init_4 9 rfl rfl)
theorem dX6_init_107 : decode cX6_init 107 = .ok (.newarray .int, 2) := dk_188_10 (dk_at dksX6_init_4 11 rfl rfl)
theorem dX6_init_109 : decode cX6_init 109 = .ok (.putfield 48, 3) := dk_181 0 48 (dk_at dksX6_init_4 13 rfl rfl)
theorem dX6_init_112 : decode cX6_init 112 = .ok (.aload_n 0, 1) := dk_42 (dk_at dksX6_init_4 16 rfl rfl)
theorem dX6_init_113 : decode cX6_init 113 = .ok (.sipush 180, 3) := dk_17 0 180 (dk_at dksX6_init_4 17 rfl rfl)
theorem dX6_init_116 : decode cX6_init 116 = .ok (.newarray .int, 2) := dk_188_10 (dk_at dksX6_init_4 20 rfl rfl)
theorem dX6_init_118 : decode cX6_init 118 = .ok (.putfield 51, 3) := dk_181 0 51 (dk_at dksX6_init_5 0 rfl rfl)
theorem dX6_init_121 : decode cX6_init 121 = .ok (.aload_n 0, 1) := dk_42 (dk_at dksX6_init_5 3 rfl rfl)
theorem dX6_init_122 : decode cX6_init 122 = .ok (.bipush 12, 2) := dk_16 12 (dk_at dksX6_init_5 4 rfl rfl)
theorem dX6_init_124 : decode cX6_init 124 = .ok (.newarray .int, 2) := dk_188_10 (dk_at dksX6_init_5 6 rfl rfl)
theorem dX6_init_126 : decode cX6_init 126 = .ok (.putfield 54, 3) := dk_181 0 54 (dk_at dksX6_init_5 8 rfl rfl)
theorem dX6_init_129 : decode cX6_init 129 = .ok (.aload_n 0, 1) := dk_42 (dk_at dksX6_init_5 11 rfl rfl)
theorem dX6_init_130 : decode cX6_init 130 = .ok (.bipush 12, 2) := dk_16 12 (dk_at dksX6_init_5 12 rfl rfl)
theorem dX6_init_132 : decode cX6_init 132 = .ok (.newarray .int, 2) := dk_188_10 (dk_at dksX6_init_5 14 rfl rfl)
theorem dX6_init_134 : decode cX6_init 134 = .ok (.putfield 57, 3) := dk_181 0 57 (dk_at dksX6_init_5 16 rfl rfl)
theorem dX6_init_137 : decode cX6_init 137 = .ok (.aload_n 0, 1) := dk_42 (dk_at dksX6_init_5 19 rfl rfl)
theorem dX6_init_138 : decode cX6_init 138 = .ok (.bipush 12, 2) := dk_16 12 (dk_at dksX6_init_5 20 rfl rfl)
theorem dX6_init_140 : decode cX6_init 140 = .ok (.newarray .int, 2) := dk_188_10 (dk_at dksX6_init_5 22 rfl rfl)
theorem dX6_init_142 : decode cX6_init 142 = .ok (.putfield 60, 3) := dk_181 0 60 (dk_at dksX6_init_6 0 rfl rfl)
theorem dX6_init_145 : decode cX6_init 145 = .ok (.aload_n 0, 1) := dk_42 (dk_at dksX6_init_6 3 rfl rfl)
theorem dX6_init_146 : decode cX6_init 146 = .ok (.bipush 12, 2) := dk_16 12 (dk_at dksX6_init_6 4 rfl rfl)
theorem dX6_init_148 : decode cX6_init 148 = .ok (.newarray .int, 2) := dk_188_10 (dk_at dksX6_init_6 6 rfl rfl)
theorem dX6_init_150 : decode cX6_init 150 = .ok (.putfield 63, 3) := dk_181 0 63 (dk_at dksX6_init_6 8 rfl rfl)
theorem dX6_init_153 : decode cX6_init 153 = .ok (.aload_n 0, 1) := dk_42 (dk_at dksX6_init_6 11 rfl rfl)
theorem dX6_init_154 : decode cX6_init 154 = .ok (.sipush 180, 3) := dk_17 0 180 (dk_at dksX6_init_6 12 rfl rfl)
theorem dX6_init_157 : decode cX6_init 157 = .ok (.newarray .int, 2) := dk_188_10 (dk_at dksX6_init_6 15 rfl rfl)
theorem dX6_init_159 : decode cX6_init 159 = .ok (.putfield 66, 3) := dk_181 0 66 (dk_at dksX6_init_6 17 rfl rfl)
theorem dX6_init_162 : decode cX6_init 162 = .ok (.aload_n 0, 1) := dk_42 (dk_at dksX6_init_6 20 rfl rfl)
theorem dX6_init_163 : decode cX6_init 163 = .ok (.bipush 9, 2) := dk_16 9 (dk_at dksX6_init_6 21 rfl rfl)
theorem dX6_init_165 : decode cX6_init 165 = .ok (.newarray .int, 2) := dk_188_10 (dk_at dksX6_init_7 0 rfl rfl)
theorem dX6_init_167 : decode cX6_init 167 = .ok (.putfield 69, 3) := dk_181 0 69 (dk_at dksX6_init_7 2 rfl rfl)
theorem dX6_init_170 : decode cX6_init 170 = .ok (.aload_n 0, 1) := dk_42 (dk_at dksX6_init_7 5 rfl rfl)
theorem dX6_init_171 : decode cX6_init 171 = .ok (.sipush 1600, 3) := dk_17 6 64 (dk_at dksX6_init_7 6 rfl rfl)
theorem dX6_init_174 : decode cX6_init 174 = .ok (.newarray .int, 2) := dk_188_10 (dk_at dksX6_init_7 9 rfl rfl)
theorem dX6_init_176 : decode cX6_init 176 = .ok (.putfield 72, 3) := dk_181 0 72 (dk_at dksX6_init_7 11 rfl rfl)
theorem dX6_init_179 : decode cX6_init 179 = .ok (.aload_n 0, 1) := dk_42 (dk_at dksX6_init_7 14 rfl rfl)
theorem dX6_init_180 : decode cX6_init 180 = .ok (.sipush 1600, 3) := dk_17 6 64 (dk_at dksX6_init_7 15 rfl rfl)
theorem dX6_init_183 : decode cX6_init 183 = .ok (.newarray .int, 2) := dk_188_10 (dk_at dksX6_init_7 18 rfl rfl)
theorem dX6_init_185 : decode cX6_init 185 = .ok (.putfield 75, 3) := dk_181 0 75 (dk_at dksX6_init_7 20 rfl rfl)
theorem dX6_init_188 : decode cX6_init 188 = .ok (.aload_n 0, 1) := dk_42 (dk_at dksX6_init_7 23 rfl rfl)
theorem dX6_init_189 : decode cX6_init 189 = .ok (.sipush 1600, 3) := dk_17 6 64 (dk_at dksX6_init_8 0 rfl rfl)
theorem dX6_init_192 : decode cX6_init 192 = .ok (.newarray .int, 2) := dk_188_10 (dk_at dksX6_init_8 3 rfl rfl)
theorem dX6_init_194 : decode cX6_init 194 = .ok (.putfield 78, 3) := dk_181 0 78 (dk_at dksX6_init_8 5 rfl rfl)
theorem dX6_init_197 : decode cX6_init 197 = .ok (.aload_n 0, 1) := dk_42 (dk_at dksX6_init_8 8 rfl rfl)
theorem dX6_init_198 : decode cX6_init 198 = .ok (.sipush 1600, 3) := dk_17 6 64 (dk_at dksX6_init_8 9 rfl rfl)
theorem dX6_init_201 : decode cX6_init 201 = .ok (.newarray .int, 2) := dk_188_10 (dk_at dksX6_init_8 12 rfl rfl)
theorem dX6_init_203 : decode cX6_init 203 = .ok (.putfield 81, 3) := dk_181 0 81 (dk_at dksX6_init_8 14 rfl rfl)
theorem dX6_init_206 : decode cX6_init 206 = .ok (.aload_n 0, 1) := dk_42 (dk_at dksX6_init_8 17 rfl rfl)
theorem dX6_init_207 : decode cX6_init 207 = .ok (.bipush 40, 2) := dk_16 40 (dk_at dksX6_init_8 18 rfl rfl)
theorem dX6_init_209 : decode cX6_init 209 = .ok (.newarray .long, 2) := dk_188_11 (dk_at dksX6_init_8 20 rfl rfl)
theorem dX6_init_211 : decode cX6_init 211 = .ok (.putfield 84, 3) := dk_181 0 84 (dk_at dksX6_init_9 0 rfl rfl)
theorem dX6_init_214 : decode cX6_init 214 = .ok (.aload_n 0, 1) := dk_42 (dk_at dksX6_init_9 3 rfl rfl)
theorem dX6_init_215 : decode cX6_init 215 = .ok (.bipush 40, 2) := dk_16 40 (dk_at dksX6_init_9 4 rfl rfl)
theorem dX6_init_217 : decode cX6_init 217 = .ok (.newarray .boolean, 2) := dk_188_4 (dk_at dksX6_init_9 6 rfl rfl)
theorem dX6_init_219 : decode cX6_init 219 = .ok (.putfield 88, 3) := dk_181 0 88 (dk_at dksX6_init_9 8 rfl rfl)
theorem dX6_init_222 : decode cX6_init 222 = .ok (.aload_n 0, 1) := dk_42 (dk_at dksX6_init_9 11 rfl rfl)
theorem dX6_init_223 : decode cX6_init 223 = .ok (.bipush 8, 2) := dk_16 8 (dk_at dksX6_init_9 12 rfl rfl)
theorem dX6_init_225 : decode cX6_init 225 = .ok (.newarray .int, 2) := dk_188_10 (dk_at dksX6_init_9 14 rfl rfl)
theorem dX6_init_227 : decode cX6_init 227 = .ok (.putfield 91, 3) := dk_181 0 91 (dk_at dksX6_init_9 16 rfl rfl)
theorem dX6_init_230 : decode cX6_init 230 = .ok (.aload_n 0, 1) := dk_42 (dk_at dksX6_init_9 19 rfl rfl)
theorem dX6_init_231 : decode cX6_init 231 = .ok (.bipush 40, 2) := dk_16 40 (dk_at dksX6_init_9 20 rfl rfl)
theorem dX6_init_233 : decode cX6_init 233 = .ok (.newarray .int, 2) := dk_188_10 (dk_at dksX6_init_9 22 rfl rfl)
theorem dX6_init_235 : decode cX6_init 235 = .ok (.putfield 94, 3) := dk_181 0 94 (dk_at dksX6_init_10 0 rfl rfl)
theorem dX6_init_238 : decode cX6_init 238 = .ok (.aload_n 0, 1) := dk_42 (dk_at dksX6_init_10 3 rfl rfl)
theorem dX6_init_239 : decode cX6_init 239 = .ok (.bipush 40, 2) := dk_16 40 (dk_at dksX6_init_10 4 rfl rfl)
theorem dX6_init_241 : decode cX6_init 241 = .ok (.newarray .long, 2) := dk_188_11 (dk_at dksX6_init_10 6 rfl rfl)
theorem dX6_init_243 : decode cX6_init 243 = .ok (.putfield 97, 3) := dk_181 0 97 (dk_at dksX6_init_10 8 rfl rfl)
theorem dX6_init_246 : decode cX6_init 246 = .ok (.aload_n 0, 1) := dk_42 (dk_at dksX6_init_10 11 rfl rfl)
theorem dX6_init_247 : decode cX6_init 247 = .ok (.bipush 40, 2) := dk_16 40 (dk_at dksX6_init_10 12 rfl rfl)
theorem dX6_init_249 : decode cX6_init 249 = .ok (.newarray .long, 2) := dk_188_11 (dk_at dksX6_init_10 14 rfl rfl)
theorem dX6_init_251 : decode cX6_init 251 = .ok (.putfield 100, 3) := dk_181 0 100 (dk_at dksX6_init_10 16 rfl rfl)
theorem dX6_init_254 : decode cX6_init 254 = .ok (.aload_n 0, 1) := dk_42 (dk_at dksX6_init_10 19 rfl rfl)
theorem dX6_init_255 : decode cX6_init 255 = .ok (.bipush 14, 2) := dk_16 14 (dk_at dksX6_init_10 20 rfl rfl)
theorem dX6_init_257 : decode cX6_init 257 = .ok (.newarray .int, 2) := dk_188_10 (dk_at dksX6_init_10 22 rfl rfl)
theorem dX6_init_259 : decode cX6_init 259 = .ok (.putfield 103, 3) := dk_181 0 103 (dk_at dksX6_init_11 0 rfl rfl)
theorem dX6_init_262 : decode cX6_init 262 = .ok (.aload_n 0, 1) := dk_42 (dk_at dksX6_init_11 3 rfl rfl)
theorem dX6_init_263 : decode cX6_init 263 = .ok (.ldc 106, 2) := dk_18 106 (dk_at dksX6_init_11 4 rfl rfl)
theorem dX6_init_265 : decode cX6_init 265 = .ok (.newarray .int, 2) := dk_188_10 (dk_at dksX6_init_11 6 rfl rfl)
theorem dX6_init_267 : decode cX6_init 267 = .ok (.putfield 107, 3) := dk_181 0 107 (dk_at dksX6_init_11 8 rfl rfl)
theorem dX6_init_270 : decode cX6_init 270 = .ok (.aload_n 0, 1) := dk_42 (dk_at dksX6_init_11 11 rfl rfl)
theorem dX6_init_271 : decode cX6_init 271 = .ok (.bipush 117, 2) := dk_16 117 (dk_at dksX6_init_11 12 rfl rfl)
theorem dX6_init_273 : decode cX6_init 273 = .ok (.newarray .int, 2) := dk_188_10 (dk_at dksX6_init_11 14 rfl rfl)
theorem dX6_init_275 : decode cX6_init 275 = .ok (.putfield 110, 3) := dk_181 0 110 (dk_at dksX6_init_11 16 rfl rfl)
theorem dX6_init_278 : decode cX6_init 278 = .ok (.aload_n 0, 1) := dk_42 (dk_at dksX6_init_11 19 rfl rfl)
theorem dX6_init_279 : decode cX6_init 279 = .ok (.bipush 14, 2) := dk_16 14 (dk_at dksX6_init_11 20 rfl rfl)
theorem dX6_init_281 : decode cX6_init 281 = .ok (.newarray .int, 2) := dk_188_10 (dk_at dksX6_init_11 22 rfl rfl)
theorem dX6_init_283 : decode cX6_init 283 = .ok (.putfield 113, 3) := dk_181 0 113 (dk_at dksX6_init_12 0 rfl rfl)
theorem dX6_init_286 : decode cX6_init 286 = .ok (.aload_n 0, 1) := dk_42 (dk_at dksX6_init_12 3 rfl rfl)
theorem dX6_init_287 : decode cX6_init 287 = .ok (.iconst 4, 1) := dk_7 (dk_at dksX6_init_12 4 rfl rfl)
theorem dX6_init_288 : decode cX6_init 288 = .ok (.newarray .int, 2) := dk_188_10 (dk_at dksX6_init_12 5 rfl rfl)
theorem dX6_init_290 : decode cX6_init 290 = .ok (.putfield 116, 3) := dk_181 0 116 (dk_at dksX6_init_12 7 rfl rfl)
theorem dX6_init_293 : decode cX6_init 293 = .ok (.aload_n 0, 1) := dk_42 (dk_at dksX6_init_12 10 rfl rfl)
theorem dX6_init_294 : decode cX6_init 294 = .ok (.iconst 4, 1) := dk_7 (dk_at dksX6_init_12 11 rfl rfl)
theorem dX6_init_295 : decode cX6_init 295 = .ok (.newarray .int, 2) := dk_188_10 (dk_at dksX6_init_12 12 rfl rfl)
theorem dX6_init_297 : decode cX6_init 297 = .ok (.putfield 119, 3) := dk_181 0 119 (dk_at dksX6_init_12 14 rfl rfl)
theorem dX6_init_300 : decode cX6_init 300 = .ok (.aload_n 0, 1) := dk_42 (dk_at dksX6_init_12 17 rfl rfl)
theorem dX6_init_301 : decode cX6_init 301 = .ok (.iconst 1, 1) := dk_4 (dk_at dksX6_init_12 18 rfl rfl)
theorem dX6_init_302 : decode cX6_init 302 = .ok (.putfield 122, 3) := dk_181 0 122 (dk_at dksX6_init_12 19 rfl rfl)
theorem dX6_init_305 : decode cX6_init 305 = .ok (.aload_n 0, 1) := dk_42 (dk_at dksX6_init_12 22 rfl rfl)
theorem dX6_init_306 : decode cX6_init 306 = .ok (.iconst (-1), 1) := dk_2 (dk_at dksX6_init_12 23 rfl rfl)
theorem dX6_init_307 : decode cX6_init 307 = .ok (.putfield 126, 3) := dk_181 0 126 (dk_at dksX6_init_13 0 rfl rfl)
theorem dX6_init_310 : decode cX6_init 310 = .ok (.return_, 1) := dk_177 (dk_at dksX6_init_13 3 rfl rfl)
abbrev cX6_word : ByteArray := prog_17_method_11_code
def yX6_word : MethodName := ⟨RX6, "word", "(III)I"⟩
def dkwX6_word_6 : List UInt8 := [84, 42, 42, 180, 0, 130, 4, 96, 181, 0, 130, 42, 180, 0, 130, 4, 100, 172]
abbrev dktX6_word_6 : List UInt8 := dkwX6_word_6 ++ []
def dkwX6_word_5 : List UInt8 := [180, 0, 130, 28, 79, 42, 180, 0, 19, 42, 180, 0, 130, 29, 79, 42, 180, 0, 22, 42, 180, 0, 130, 3]
abbrev dktX6_word_5 : List UInt8 := dkwX6_word_5 ++ dktX6_word_6
def dkwX6_word_4 : List UInt8 := [46, 79, 132, 4, 1, 167, 255, 225, 42, 180, 0, 7, 42, 180, 0, 130, 27, 79, 42, 180, 0, 16, 42]
abbrev dktX6_word_4 : List UInt8 := dkwX6_word_4 ++ dktX6_word_5
def dkwX6_word_3 : List UInt8 := [27, 162, 0, 31, 42, 180, 0, 13, 16, 8, 42, 180, 0, 130, 104, 21, 4, 96, 42, 180, 0, 26, 21, 4]
abbrev dktX6_word_3 : List UInt8 := dkwX6_word_3 ++ dktX6_word_4
def dkwX6_word_2 : List UInt8 := [172, 42, 27, 182, 0, 147, 153, 0, 10, 42, 182, 0, 150, 153, 0, 6, 16, 254, 172, 3, 54, 4, 21, 4]
abbrev dktX6_word_2 : List UInt8 := dkwX6_word_2 ++ dktX6_word_3
def dkwX6_word_1 : List UInt8 := [184, 0, 139, 153, 0, 20, 42, 180, 0, 130, 16, 40, 159, 0, 11, 27, 42, 180, 0, 133, 164, 0, 5, 2]
abbrev dktX6_word_1 : List UInt8 := dkwX6_word_1 ++ dktX6_word_2
def dkwX6_word_0 : List UInt8 := [27, 4, 16, 8, 184, 0, 139, 153, 0, 40, 28, 3, 16, 99, 184, 0, 139, 153, 0, 30, 29, 4, 16, 15]
abbrev dktX6_word_0 : List UInt8 := dkwX6_word_0 ++ dktX6_word_1
theorem dksX6_word_0 : cX6_word.data.toList.drop 0 = dktX6_word_0 := by decide +kernel
theorem dksX6_word_1 : cX6_word.data.toList.drop 24 = dktX6_word_1 := dk_seg dksX6_word_0 24 rfl rfl
theorem dksX6_word_2 : cX6_word.data.toList.drop 48 = dktX6_word_2 := dk_seg dksX6_word_1 24 rfl rfl
theorem dksX6_word_3 : cX6_word.data.toList.drop 72 = dktX6_word_3 := dk_seg dksX6_word_2 24 rfl rfl
theorem dksX6_word_4 : cX6_word.data.toList.drop 96 = dktX6_word_4 := dk_seg dksX6_word_3 24 rfl rfl
theorem dksX6_word_5 : cX6_word.data.toList.drop 119 = dktX6_word_5 := dk_seg dksX6_word_4 23 rfl rfl
theorem dksX6_word_6 : cX6_word.data.toList.drop 143 = dktX6_word_6 := dk_seg dksX6_word_5 24 rfl rfl
theorem dX6_word_0 : decode cX6_word 0 = .ok (.iload_n 1, 1) := dk_27 (dk_at dksX6_word_0 0 rfl rfl)
theorem dX6_word_1 : decode cX6_word 1 = .ok (.iconst 1, 1) := dk_4 (dk_at dksX6_word_0 1 rfl rfl)
theorem dX6_word_2 : decode cX6_word 2 = .ok (.bipush 8, 2) := dk_16 8 (dk_at dksX6_word_0 2 rfl rfl)
theorem dX6_word_4 : decode cX6_word 4 = .ok (.invokestatic 139, 3) := dk_184 0 139 (dk_at dksX6_word_0 4 rfl rfl)
theorem dX6_word_7 : decode cX6_word 7 = .ok (.ifCond .eq 40, 3) := dk_153 0 40 (dk_at dksX6_word_0 7 rfl rfl)
theorem dX6_word_10 : decode cX6_word 10 = .ok (.iload_n 2, 1) := dk_28 (dk_at dksX6_word_0 10 rfl rfl)
theorem dX6_word_11 : decode cX6_word 11 = .ok (.iconst 0, 1) := dk_3 (dk_at dksX6_word_0 11 rfl rfl)
theorem dX6_word_12 : decode cX6_word 12 = .ok (.bipush 99, 2) := dk_16 99 (dk_at dksX6_word_0 12 rfl rfl)
theorem dX6_word_14 : decode cX6_word 14 = .ok (.invokestatic 139, 3) := dk_184 0 139 (dk_at dksX6_word_0 14 rfl rfl)
theorem dX6_word_17 : decode cX6_word 17 = .ok (.ifCond .eq 30, 3) := dk_153 0 30 (dk_at dksX6_word_0 17 rfl rfl)
theorem dX6_word_20 : decode cX6_word 20 = .ok (.iload_n 3, 1) := dk_29 (dk_at dksX6_word_0 20 rfl rfl)
theorem dX6_word_21 : decode cX6_word 21 = .ok (.iconst 1, 1) := dk_4 (dk_at dksX6_word_0 21 rfl rfl)
theorem dX6_word_22 : decode cX6_word 22 = .ok (.bipush 15, 2) := dk_16 15 (dk_at dksX6_word_0 22 rfl rfl)
theorem dX6_word_24 : decode cX6_word 24 = .ok (.invokestatic 139, 3) := dk_184 0 139 (dk_at dksX6_word_1 0 rfl rfl)
theorem dX6_word_27 : decode cX6_word 27 = .ok (.ifCond .eq 20, 3) := dk_153 0 20 (dk_at dksX6_word_1 3 rfl rfl)
theorem dX6_word_30 : decode cX6_word 30 = .ok (.aload_n 0, 1) := dk_42 (dk_at dksX6_word_1 6 rfl rfl)
theorem dX6_word_31 : decode cX6_word 31 = .ok (.getfield 130, 3) := dk_180 0 130 (dk_at dksX6_word_1 7 rfl rfl)
theorem dX6_word_34 : decode cX6_word 34 = .ok (.bipush 40, 2) := dk_16 40 (dk_at dksX6_word_1 10 rfl rfl)
theorem dX6_word_36 : decode cX6_word 36 = .ok (.if_icmp .eq 11, 3) := dk_159 0 11 (dk_at dksX6_word_1 12 rfl rfl)
theorem dX6_word_39 : decode cX6_word 39 = .ok (.iload_n 1, 1) := dk_27 (dk_at dksX6_word_1 15 rfl rfl)
theorem dX6_word_40 : decode cX6_word 40 = .ok (.aload_n 0, 1) := dk_42 (dk_at dksX6_word_1 16 rfl rfl)
theorem dX6_word_41 : decode cX6_word 41 = .ok (.getfield 133, 3) := dk_180 0 133 (dk_at dksX6_word_1 17 rfl rfl)
theorem dX6_word_44 : decode cX6_word 44 = .ok (.if_icmp .le 5, 3) := dk_164 0 5 (dk_at dksX6_word_1 20 rfl rfl)
theorem dX6_word_47 : decode cX6_word 47 = .ok (.iconst (-1), 1) := dk_2 (dk_at dksX6_word_1 23 rfl rfl)
theorem dX6_word_48 : decode cX6_word 48 = .ok (.ireturn, 1) := dk_172 (dk_at dksX6_word_2 0 rfl rfl)
theorem dX6_word_49 : decode cX6_word 49 = .ok (.aload_n 0, 1) := dk_42 (dk_at dksX6_word_2 1 rfl rfl)
theorem dX6_word_50 : decode cX6_word 50 = .ok (.iload_n 1, 1) := dk_27 (dk_at dksX6_word_2 2 rfl rfl)
theorem dX6_word_51 : decode cX6_word 51 = .ok (.invokevirtual 147, 3) := dk_182 0 147 (dk_at dksX6_word_2 3 rfl rfl)
theorem dX6_word_54 : decode cX6_word 54 = .ok (.ifCond .eq 10, 3) := dk_153 0 10 (dk_at dksX6_word_2 6 rfl rfl)
theorem dX6_word_57 : decode cX6_word 57 = .ok (.aload_n 0, 1) := dk_42 (dk_at dksX6_word_2 9 rfl rfl)
theorem dX6_word_58 : decode cX6_word 58 = .ok (.invokevirtual 150, 3) := dk_182 0 150 (dk_at dksX6_word_2 10 rfl rfl)
theorem dX6_word_61 : decode cX6_word 61 = .ok (.ifCond .eq 6, 3) := dk_153 0 6 (dk_at dksX6_word_2 13 rfl rfl)
theorem dX6_word_64 : decode cX6_word 64 = .ok (.bipush (-2), 2) := dk_16 254 (dk_at dksX6_word_2 16 rfl rfl)
theorem dX6_word_66 : decode cX6_word 66 = .ok (.ireturn, 1) := dk_172 (dk_at dksX6_word_2 18 rfl rfl)
theorem dX6_word_67 : decode cX6_word 67 = .ok (.iconst 0, 1) := dk_3 (dk_at dksX6_word_2 19 rfl rfl)
theorem dX6_word_68 : decode cX6_word 68 = .ok (.istore 4, 2) := dk_54 4 (dk_at dksX6_word_2 20 rfl rfl)
theorem dX6_word_70 : decode cX6_word 70 = .ok (.iload 4, 2) := dk_21 4 (dk_at dksX6_word_2 22 rfl rfl)
theorem dX6_word_72 : decode cX6_word 72 = .ok (.iload_n 1, 1) := dk_27 (dk_at dksX6_word_3 0 rfl rfl)
theorem dX6_word_73 : decode cX6_word 73 = .ok (.if_icmp .ge 31, 3) := dk_162 0 31 (dk_at dksX6_word_3 1 rfl rfl)
theorem dX6_word_76 : decode cX6_word 76 = .ok (.aload_n 0, 1) := dk_42 (dk_at dksX6_word_3 4 rfl rfl)
theorem dX6_word_77 : decode cX6_word 77 = .ok (.getfield 13, 3) := dk_180 0 13 (dk_at dksX6_word_3 5 rfl rfl)
theorem dX6_word_80 : decode cX6_word 80 = .ok (.bipush 8, 2) := dk_16 8 (dk_at dksX6_word_3 8 rfl rfl)
theorem dX6_word_82 : decode cX6_word 82 = .ok (.aload_n 0, 1) := dk_42 (dk_at dksX6_word_3 10 rfl rfl)
theorem dX6_word_83 : decode cX6_word 83 = .ok (.getfield 130, 3) := dk_180 0 130 (dk_at dksX6_word_3 11 rfl rfl)
theorem dX6_word_86 : decode cX6_word 86 = .ok (.imul, 1) := dk_104 (dk_at dksX6_word_3 14 rfl rfl)
theorem dX6_word_87 : decode cX6_word 87 = .ok (.iload 4, 2) := dk_21 4 (dk_at dksX6_word_3 15 rfl rfl)
theorem dX6_word_89 : decode cX6_word 89 = .ok (.iadd, 1) := dk_96 (dk_at dksX6_word_3 17 rfl rfl)
theorem dX6_word_90 : decode cX6_word 90 = .ok (.aload_n 0, 1) := dk_42 (dk_at dksX6_word_3 18 rfl rfl)
theorem dX6_word_91 : decode cX6_word 91 = .ok (.getfield 26, 3) := dk_180 0 26 (dk_at dksX6_word_3 19 rfl rfl)
theorem dX6_word_94 : decode cX6_word 94 = .ok (.iload 4, 2) := dk_21 4 (dk_at dksX6_word_3 22 rfl rfl)
theorem dX6_word_96 : decode cX6_word 96 = .ok (.iaload, 1) := dk_46 (dk_at dksX6_word_4 0 rfl rfl)
theorem dX6_word_97 : decode cX6_word 97 = .ok (.iastore, 1) := dk_79 (dk_at dksX6_word_4 1 rfl rfl)
theorem dX6_word_98 : decode cX6_word 98 = .ok (.iinc 4 1, 3) := dk_132 4 1 (dk_at dksX6_word_4 2 rfl rfl)
theorem dX6_word_101 : decode cX6_word 101 = .ok (.goto (-31), 3) := dk_167 255 225 (dk_at dksX6_word_4 5 rfl rfl)
theorem dX6_word_104 : decode cX6_word 104 = .ok (.aload_n 0, 1) := dk_42 (dk_at dksX6_word_4 8 rfl rfl)
theorem dX6_word_105 : decode cX6_word 105 = .ok (.getfield 7, 3) := dk_180 0 7 (dk_at dksX6_word_4 9 rfl rfl)
theorem dX6_word_108 : decode cX6_word 108 = .ok (.aload_n 0, 1) := dk_42 (dk_at dksX6_word_4 12 rfl rfl)
theorem dX6_word_109 : decode cX6_word 109 = .ok (.getfield 130, 3) := dk_180 0 130 (dk_at dksX6_word_4 13 rfl rfl)
theorem dX6_word_112 : decode cX6_word 112 = .ok (.iload_n 1, 1) := dk_27 (dk_at dksX6_word_4 16 rfl rfl)
theorem dX6_word_113 : decode cX6_word 113 = .ok (.iastore, 1) := dk_79 (dk_at dksX6_word_4 17 rfl rfl)
theorem dX6_word_114 : decode cX6_word 114 = .ok (.aload_n 0, 1) := dk_42 (dk_at dksX6_word_4 18 rfl rfl)
theorem dX6_word_115 : decode cX6_word 115 = .ok (.getfield 16, 3) := dk_180 0 16 (dk_at dksX6_word_4 19 rfl rfl)
theorem dX6_word_118 : decode cX6_word 118 = .ok (.aload_n 0, 1) := dk_42 (dk_at dksX6_word_4 22 rfl rfl)
theorem dX6_word_119 : decode cX6_word 119 = .ok (.getfield 130, 3) := dk_180 0 130 (dk_at dksX6_word_5 0 rfl rfl)
theorem dX6_word_122 : decode cX6_word 122 = .ok (.iload_n 2, 1) := dk_28 (dk_at dksX6_word_5 3 rfl rfl)
theorem dX6_word_123 : decode cX6_word 123 = .ok (.iastore, 1) := dk_79 (dk_at dksX6_word_5 4 rfl rfl)
theorem dX6_word_124 : decode cX6_word 124 = .ok (.aload_n 0, 1) := dk_42 (dk_at dksX6_word_5 5 rfl rfl)
theorem dX6_word_125 : decode cX6_word 125 = .ok (.getfield 19, 3) := dk_180 0 19 (dk_at dksX6_word_5 6 rfl rfl)
theorem dX6_word_128 : decode cX6_word 128 = .ok (.aload_n 0, 1) := dk_42 (dk_at dksX6_word_5 9 rfl rfl)
theorem dX6_word_129 : decode cX6_word 129 = .ok (.getfield 130, 3) := dk_180 0 130 (dk_at dksX6_word_5 10 rfl rfl)
theorem dX6_word_132 : decode cX6_word 132 = .ok (.iload_n 3, 1) := dk_29 (dk_at dksX6_word_5 13 rfl rfl)
theorem dX6_word_133 : decode cX6_word 133 = .ok (.iastore, 1) := dk_79 (dk_at dksX6_word_5 14 rfl rfl)
theorem dX6_word_134 : decode cX6_word 134 = .ok (.aload_n 0, 1) := dk_42 (dk_at dksX6_word_5 15 rfl rfl)
theorem dX6_word_135 : decode cX6_word 135 = .ok (.getfield 22, 3) := dk_180 0 22 (dk_at dksX6_word_5 16 rfl rfl)
theorem dX6_word_138 : decode cX6_word 138 = .ok (.aload_n 0, 1) := dk_42 (dk_at dksX6_word_5 19 rfl rfl)
theorem dX6_word_139 : decode cX6_word 139 = .ok (.getfield 130, 3) := dk_180 0 130 (dk_at dksX6_word_5 20 rfl rfl)
theorem dX6_word_142 : decode cX6_word 142 = .ok (.iconst 0, 1) := dk_3 (dk_at dksX6_word_5 23 rfl rfl)
theorem dX6_word_143 : decode cX6_word 143 = .ok (.bastore, 1) := dk_84 (dk_at dksX6_word_6 0 rfl rfl)
theorem dX6_word_144 : decode cX6_word 144 = .ok (.aload_n 0, 1) := dk_42 (dk_at dksX6_word_6 1 rfl rfl)
theorem dX6_word_145 : decode cX6_word 145 = .ok (.aload_n 0, 1) := dk_42 (dk_at dksX6_word_6 2 rfl rfl)
theorem dX6_word_146 : decode cX6_word 146 = .ok (.getfield 130, 3) := dk_180 0 130 (dk_at dksX6_word_6 3 rfl rfl)
theorem dX6_word_149 : decode cX6_word 149 = .ok (.iconst 1, 1) := dk_4 (dk_at dksX6_word_6 6 rfl rfl)
theorem dX6_word_150 : decode cX6_word 150 = .ok (.iadd, 1) := dk_96 (dk_at dksX6_word_6 7 rfl rfl)
theorem dX6_word_151 : decode cX6_word 151 = .ok (.putfield 130, 3) := dk_181 0 130 (dk_at dksX6_word_6 8 rfl rfl)
theorem dX6_word_154 : decode cX6_word 154 = .ok (.aload_n 0, 1) := dk_42 (dk_at dksX6_word_6 11 rfl rfl)
theorem dX6_word_155 : decode cX6_word 155 = .ok (.getfield 130, 3) := dk_180 0 130 (dk_at dksX6_word_6 12 rfl rfl)
theorem dX6_word_158 : decode cX6_word 158 = .ok (.iconst 1, 1) := dk_4 (dk_at dksX6_word_6 15 rfl rfl)
theorem dX6_word_159 : decode cX6_word 159 = .ok (.isub, 1) := dk_100 (dk_at dksX6_word_6 16 rfl rfl)
theorem dX6_word_160 : decode cX6_word 160 = .ok (.ireturn, 1) := dk_172 (dk_at dksX6_word_6 17 rfl rfl)
abbrev cX6_in : ByteArray := prog_17_method_2_code
def yX6_in : MethodName := ⟨RX6, "in", "(III)Z"⟩
def dkwX6_in_0 : List UInt8 := [26, 27, 161, 0, 12, 26, 28, 163, 0, 7, 4, 167, 0, 4, 3, 172]
abbrev dktX6_in_0 : List UInt8 := dkwX6_in_0 ++ []
theorem dksX6_in_0 : cX6_in.data.toList.drop 0 = dktX6_in_0 := by decide +kernel
theorem dX6_in_0 : decode cX6_in 0 = .ok (.iload_n 0, 1) := dk_26 (dk_at dksX6_in_0 0 rfl rfl)
theorem dX6_in_1 : decode cX6_in 1 = .ok (.iload_n 1, 1) := dk_27 (dk_at dksX6_in_0 1 rfl rfl)
theorem dX6_in_2 : decode cX6_in 2 = .ok (.if_icmp .lt 12, 3) := dk_161 0 12 (dk_at dksX6_in_0 2 rfl rfl)
theorem dX6_in_5 : decode cX6_in 5 = .ok (.iload_n 0, 1) := dk_26 (dk_at dksX6_in_0 5 rfl rfl)
theorem dX6_in_6 : decode cX6_in 6 = .ok (.iload_n 2, 1) := dk_28 (dk_at dksX6_in_0 6 rfl rfl)
theorem dX6_in_7 : decode cX6_in 7 = .ok (.if_icmp .gt 7, 3) := dk_163 0 7 (dk_at dksX6_in_0 7 rfl rfl)
theorem dX6_in_10 : decode cX6_in 10 = .ok (.iconst 1, 1) := dk_4 (dk_at dksX6_in_0 10 rfl rfl)
theorem dX6_in_11 : decode cX6_in 11 = .ok (.goto 4, 3) := dk_167 0 4 (dk_at dksX6_in_0 11 rfl rfl)
theorem dX6_in_14 : decode cX6_in 14 = .ok (.iconst 0, 1) := dk_3 (dk_at dksX6_in_0 14 rfl rfl)
theorem dX6_in_15 : decode cX6_in 15 = .ok (.ireturn, 1) := dk_172 (dk_at dksX6_in_0 15 rfl rfl)
abbrev cX6_takesLetters : ByteArray := prog_17_method_8_code
def yX6_takesLetters : MethodName := ⟨RX6, "takesLetters", "(I)Z"⟩
def dkwX6_takesLetters_2 : List UInt8 := [16, 97, 100, 79, 132, 2, 1, 167, 255, 215, 4, 172]
abbrev dktX6_takesLetters_2 : List UInt8 := dkwX6_takesLetters_2 ++ []
def dkwX6_takesLetters_1 : List UInt8 := [16, 97, 16, 122, 184, 0, 139, 154, 0, 5, 3, 172, 42, 180, 0, 26, 28, 42, 180, 0, 29, 28, 51]
abbrev dktX6_takesLetters_1 : List UInt8 := dkwX6_takesLetters_1 ++ dktX6_takesLetters_2
def dkwX6_takesLetters_0 : List UInt8 := [42, 3, 181, 0, 133, 42, 27, 181, 0, 136, 3, 61, 28, 27, 162, 0, 42, 42, 180, 0, 29, 28, 51]
abbrev dktX6_takesLetters_0 : List UInt8 := dkwX6_takesLetters_0 ++ dktX6_takesLetters_1
theorem dksX6_takesLetters_0 : cX6_takesLetters.data.toList.drop 0 = dktX6_takesLetters_0 := by decide +kernel
theorem dksX6_takesLetters_1 : cX6_takesLetters.data.toList.drop 23 = dktX6_takesLetters_1 := dk_seg dksX6_takesLetters_0 23 rfl rfl
theorem dksX6_takesLetters_2 : cX6_takesLetters.data.toList.drop 46 = dktX6_takesLetters_2 := dk_seg dksX6_takesLetters_1 23 rfl rfl
theorem dX6_takesLetters_0 : decode cX6_takesLetters 0 = .ok (.aload_n 0, 1) := dk_42 (dk_at dksX6_takesLetters_0 0 rfl rfl)
theorem dX6_takesLetters_1 : decode cX6_takesLetters 1 = .ok (.iconst 0, 1) := dk_3 (dk_at dksX6_takesLetters_0 1 rfl rfl)
theorem dX6_takesLetters_2 : decode cX6_takesLetters 2 = .ok (.putfield 133, 3) := dk_181 0 133 (dk_at dksX6_takesLetters_0 2 rfl rfl)
theorem dX6_takesLetters_5 : decode cX6_takesLetters 5 = .ok (.aload_n 0, 1) := dk_42 (dk_at dksX6_takesLetters_0 5 rfl rfl)
theorem dX6_takesLetters_6 : decode cX6_takesLetters 6 = .ok (.iload_n 1, 1) := dk_27 (dk_at dksX6_takesLetters_0 6 rfl rfl)
theorem dX6_takesLetters_7 : decode cX6_takesLetters 7 = .ok (.putfield 136, 3) := dk_181 0 136 (dk_at dksX6_takesLetters_0 7 rfl rfl)
theorem dX6_takesLetters_10 : decode cX6_takesLetters 10 = .ok (.iconst 0, 1) := dk_3 (dk_at dksX6_takesLetters_0 10 rfl rfl)
theorem dX6_takesLetters_11 : decode cX6_takesLetters 11 = .ok (.istore_n 2, 1) := dk_61 (dk_at dksX6_takesLetters_0 11 rfl rfl)
theorem dX6_takesLetters_12 : decode cX6_takesLetters 12 = .ok (.iload_n 2, 1) := dk_28 (dk_at dksX6_takesLetters_0 12 rfl rfl)
theorem dX6_takesLetters_13 : decode cX6_takesLetters 13 = .ok (.iload_n 1, 1) := dk_27 (dk_at dksX6_takesLetters_0 13 rfl rfl)
theorem dX6_takesLetters_14 : decode cX6_takesLetters 14 = .ok (.if_icmp .ge 42, 3) := dk_162 0 42 (dk_at dksX6_takesLetters_0 14 rfl rfl)
theorem dX6_takesLetters_17 : decode cX6_takesLetters 17 = .ok (.aload_n 0, 1) := dk_42 (dk_at dksX6_takesLetters_0 17 rfl rfl)
theorem dX6_takesLetters_18 : decode cX6_takesLetters 18 = .ok (.getfield 29, 3) := dk_180 0 29 (dk_at dksX6_takesLetters_0 18 rfl rfl)
theorem dX6_takesLetters_21 : decode cX6_takesLetters 21 = .ok (.iload_n 2, 1) := dk_28 (dk_at dksX6_takesLetters_0 21 rfl rfl)
theorem dX6_takesLetters_22 : decode cX6_takesLetters 22 = .ok (.baload, 1) := dk_51 (dk_at dksX6_takesLetters_0 22 rfl rfl)
theorem dX6_takesLetters_23 : decode cX6_takesLetters 23 = .ok (.bipush 97, 2) := dk_16 97 (dk_at dksX6_takesLetters_1 0 rfl rfl)
theorem dX6_takesLetters_25 : decode cX6_takesLetters 25 = .ok (.bipush 122, 2) := dk_16 122 (dk_at dksX6_takesLetters_1 2 rfl rfl)
theorem dX6_takesLetters_27 : decode cX6_takesLetters 27 = .ok (.invokestatic 139, 3) := dk_184 0 139 (dk_at dksX6_takesLetters_1 4 rfl rfl)
theorem dX6_takesLetters_30 : decode cX6_takesLetters 30 = .ok (.ifCond .ne 5, 3) := dk_154 0 5 (dk_at dksX6_takesLetters_1 7 rfl rfl)
theorem dX6_takesLetters_33 : decode cX6_takesLetters 33 = .ok (.iconst 0, 1) := dk_3 (dk_at dksX6_takesLetters_1 10 rfl rfl)
theorem dX6_takesLetters_34 : decode cX6_takesLetters 34 = .ok (.ireturn, 1) := dk_172 (dk_at dksX6_takesLetters_1 11 rfl rfl)
theorem dX6_takesLetters_35 : decode cX6_takesLetters 35 = .ok (.aload_n 0, 1) := dk_42 (dk_at dksX6_takesLetters_1 12 rfl rfl)
theorem dX6_takesLetters_36 : decode cX6_takesLetters 36 = .ok (.getfield 26, 3) := dk_180 0 26 (dk_at dksX6_takesLetters_1 13 rfl rfl)
theorem dX6_takesLetters_39 : decode cX6_takesLetters 39 = .ok (.iload_n 2, 1) := dk_28 (dk_at dksX6_takesLetters_1 16 rfl rfl)
theorem dX6_takesLetters_40 : decode cX6_takesLetters 40 = .ok (.aload_n 0, 1) := dk_42 (dk_at dksX6_takesLetters_1 17 rfl rfl)
theorem dX6_takesLetters_41 : decode cX6_takesLetters 41 = .ok (.getfield 29, 3) := dk_180 0 29 (dk_at dksX6_takesLetters_1 18 rfl rfl)
theorem dX6_takesLetters_44 : decode cX6_takesLetters 44 = .ok (.iload_n 2, 1) := dk_28 (dk_at dksX6_takesLetters_1 21 rfl rfl)
theorem dX6_takesLetters_45 : decode cX6_takesLetters 45 = .ok (.baload, 1) := dk_51 (dk_at dksX6_takesLetters_1 22 rfl rfl)
theorem dX6_takesLetters_46 : decode cX6_takesLetters 46 = .ok (.bipush 97, 2) := dk_16 97 (dk_at dksX6_takesLetters_2 0 rfl rfl)
theorem dX6_takesLetters_48 : decode cX6_takesLetters 48 = .ok (.isub, 1) := dk_100 (dk_at dksX6_takesLetters_2 2 rfl rfl)
theorem dX6_takesLetters_49 : decode cX6_takesLetters 49 = .ok (.iastore, 1) := dk_79 (dk_at dksX6_takesLetters_2 3 rfl rfl)
theorem dX6_takesLetters_50 : decode cX6_takesLetters 50 = .ok (.iinc 2 1, 3) := dk_132 2 1 (dk_at dksX6_takesLetters_2 4 rfl rfl)
theorem dX6_takesLetters_53 : decode cX6_takesLetters 53 = .ok (.goto (-41), 3) := dk_167 255 215 (dk_at dksX6_takesLetters_2 7 rfl rfl)
theorem dX6_takesLetters_56 : decode cX6_takesLetters 56 = .ok (.iconst 1, 1) := dk_4 (dk_at dksX6_takesLetters_2 10 rfl rfl)
theorem dX6_takesLetters_57 : decode cX6_takesLetters 57 = .ok (.ireturn, 1) := dk_172 (dk_at dksX6_takesLetters_2 11 rfl rfl)
abbrev cX6_isRowWord : ByteArray := prog_17_method_10_code
def yX6_isRowWord : MethodName := ⟨RX6, "isRowWord", "()Z"⟩
def dkwX6_isRowWord_1 : List UInt8 := [167, 255, 235, 3, 172]
abbrev dktX6_isRowWord_1 : List UInt8 := dkwX6_isRowWord_1 ++ []
def dkwX6_isRowWord_0 : List UInt8 := [3, 60, 27, 42, 180, 0, 130, 162, 0, 19, 42, 27, 182, 0, 143, 153, 0, 5, 4, 172, 132, 1, 1]
abbrev dktX6_isRowWord_0 : List UInt8 := dkwX6_isRowWord_0 ++ dktX6_isRowWord_1
theorem dksX6_isRowWord_0 : cX6_isRowWord.data.toList.drop 0 = dktX6_isRowWord_0 := by decide +kernel
theorem dksX6_isRowWord_1 : cX6_isRowWord.data.toList.drop 23 = dktX6_isRowWord_1 := dk_seg dksX6_isRowWord_0 23 rfl rfl
theorem dX6_isRowWord_0 : decode cX6_isRowWord 0 = .ok (.iconst 0, 1) := dk_3 (dk_at dksX6_isRowWord_0 0 rfl rfl)
theorem dX6_isRowWord_1 : decode cX6_isRowWord 1 = .ok (.istore_n 1, 1) := dk_60 (dk_at dksX6_isRowWord_0 1 rfl rfl)
theorem dX6_isRowWord_2 : decode cX6_isRowWord 2 = .ok (.iload_n 1, 1) := dk_27 (dk_at dksX6_isRowWord_0 2 rfl rfl)
theorem dX6_isRowWord_3 : decode cX6_isRowWord 3 = .ok (.aload_n 0, 1) := dk_42 (dk_at dksX6_isRowWord_0 3 rfl rfl)
theorem dX6_isRowWord_4 : decode cX6_isRowWord 4 = .ok (.getfield 130, 3) := dk_180 0 130 (dk_at dksX6_isRowWord_0 4 rfl rfl)
theorem dX6_isRowWord_7 : decode cX6_isRowWord 7 = .ok (.if_icmp .ge 19, 3) := dk_162 0 19 (dk_at dksX6_isRowWord_0 7 rfl rfl)
theorem dX6_isRowWord_10 : decode cX6_isRowWord 10 = .ok (.aload_n 0, 1) := dk_42 (dk_at dksX6_isRowWord_0 10 rfl rfl)
theorem dX6_isRowWord_11 : decode cX6_isRowWord 11 = .ok (.iload_n 1, 1) := dk_27 (dk_at dksX6_isRowWord_0 11 rfl rfl)
theorem dX6_isRowWord_12 : decode cX6_isRowWord 12 = .ok (.invokevirtual 143, 3) := dk_182 0 143 (dk_at dksX6_isRowWord_0 12 rfl rfl)
theorem dX6_isRowWord_15 : decode cX6_isRowWord 15 = .ok (.ifCond .eq 5, 3) := dk_153 0 5 (dk_at dksX6_isRowWord_0 15 rfl rfl)
theorem dX6_isRowWord_18 : decode cX6_isRowWord 18 = .ok (.iconst 1, 1) := dk_4 (dk_at dksX6_isRowWord_0 18 rfl rfl)
theorem dX6_isRowWord_19 : decode cX6_isRowWord 19 = .ok (.ireturn, 1) := dk_172 (dk_at dksX6_isRowWord_0 19 rfl rfl)
theorem dX6_isRowWord_20 : decode cX6_isRowWord 20 = .ok (.iinc 1 1, 3) := dk_132 1 1 (dk_at dksX6_isRowWord_0 20 rfl rfl)
theorem dX6_isRowWord_23 : decode cX6_isRowWord 23 = .ok (.goto (-21), 3) := dk_167 255 235 (dk_at dksX6_isRowWord_1 0 rfl rfl)
theorem dX6_isRowWord_26 : decode cX6_isRowWord 26 = .ok (.iconst 0, 1) := dk_3 (dk_at dksX6_isRowWord_1 3 rfl rfl)
theorem dX6_isRowWord_27 : decode cX6_isRowWord 27 = .ok (.ireturn, 1) := dk_172 (dk_at dksX6_isRowWord_1 4 rfl rfl)
abbrev cX6_isRow : ByteArray := prog_17_method_9_code
def yX6_isRow : MethodName := ⟨RX6, "isRow", "(I)Z"⟩
def dkwX6_isRow_2 : List UInt8 := [172, 132, 2, 1, 167, 255, 223, 4, 172]
abbrev dktX6_isRow_2 : List UInt8 := dkwX6_isRow_2 ++ []
def dkwX6_isRow_1 : List UInt8 := [162, 0, 31, 42, 180, 0, 13, 16, 8, 27, 104, 28, 96, 46, 42, 180, 0, 26, 28, 46, 159, 0, 5, 3]
abbrev dktX6_isRow_1 : List UInt8 := dkwX6_isRow_1 ++ dktX6_isRow_2
def dkwX6_isRow_0 : List UInt8 := [42, 180, 0, 7, 27, 46, 42, 180, 0, 136, 159, 0, 5, 3, 172, 3, 61, 28, 42, 180, 0, 136]
abbrev dktX6_isRow_0 : List UInt8 := dkwX6_isRow_0 ++ dktX6_isRow_1
theorem dksX6_isRow_0 : cX6_isRow.data.toList.drop 0 = dktX6_isRow_0 := by decide +kernel
theorem dksX6_isRow_1 : cX6_isRow.data.toList.drop 22 = dktX6_isRow_1 := dk_seg dksX6_isRow_0 22 rfl rfl
theorem dksX6_isRow_2 : cX6_isRow.data.toList.drop 46 = dktX6_isRow_2 := dk_seg dksX6_isRow_1 24 rfl rfl
theorem dX6_isRow_0 : decode cX6_isRow 0 = .ok (.aload_n 0, 1) := dk_42 (dk_at dksX6_isRow_0 0 rfl rfl)
theorem dX6_isRow_1 : decode cX6_isRow 1 = .ok (.getfield 7, 3) := dk_180 0 7 (dk_at dksX6_isRow_0 1 rfl rfl)
theorem dX6_isRow_4 : decode cX6_isRow 4 = .ok (.iload_n 1, 1) := dk_27 (dk_at dksX6_isRow_0 4 rfl rfl)
theorem dX6_isRow_5 : decode cX6_isRow 5 = .ok (.iaload, 1) := dk_46 (dk_at dksX6_isRow_0 5 rfl rfl)
theorem dX6_isRow_6 : decode cX6_isRow 6 = .ok (.aload_n 0, 1) := dk_42 (dk_at dksX6_isRow_0 6 rfl rfl)
theorem dX6_isRow_7 : decode cX6_isRow 7 = .ok (.getfield 136, 3) := dk_180 0 136 (dk_at dksX6_isRow_0 7 rfl rfl)
theorem dX6_isRow_10 : decode cX6_isRow 10 = .ok (.if_icmp .eq 5, 3) := dk_159 0 5 (dk_at dksX6_isRow_0 10 rfl rfl)
theorem dX6_isRow_13 : decode cX6_isRow 13 = .ok (.iconst 0, 1) := dk_3 (dk_at dksX6_isRow_0 13 rfl rfl)
theorem dX6_isRow_14 : decode cX6_isRow 14 = .ok (.ireturn, 1) := dk_172 (dk_at dksX6_isRow_0 14 rfl rfl)
theorem dX6_isRow_15 : decode cX6_isRow 15 = .ok (.iconst 0, 1) := dk_3 (dk_at dksX6_isRow_0 15 rfl rfl)
theorem dX6_isRow_16 : decode cX6_isRow 16 = .ok (.istore_n 2, 1) := dk_61 (dk_at dksX6_isRow_0 16 rfl rfl)
theorem dX6_isRow_17 : decode cX6_isRow 17 = .ok (.iload_n 2, 1) := dk_28 (dk_at dksX6_isRow_0 17 rfl rfl)
theorem dX6_isRow_18 : decode cX6_isRow 18 = .ok (.aload_n 0, 1) := dk_42 (dk_at dksX6_isRow_0 18 rfl rfl)
theorem dX6_isRow_19 : decode cX6_isRow 19 = .ok (.getfield 136, 3) := dk_180 0 136 (dk_at dksX6_isRow_0 19 rfl rfl)
theorem dX6_isRow_22 : decode cX6_isRow 22 = .ok (.if_icmp .ge 31, 3) := dk_162 0 31 (dk_at dksX6_isRow_1 0 rfl rfl)
theorem dX6_isRow_25 : decode cX6_isRow 25 = .ok (.aload_n 0, 1) := dk_42 (dk_at dksX6_isRow_1 3 rfl rfl)
theorem dX6_isRow_26 : decode cX6_isRow 26 = .ok (.getfield 13, 3) := dk_180 0 13 (dk_at dksX6_isRow_1 4 rfl rfl)
theorem dX6_isRow_29 : decode cX6_isRow 29 = .ok (.bipush 8, 2) := dk_16 8 (dk_at dksX6_isRow_1 7 rfl rfl)
theorem dX6_isRow_31 : decode cX6_isRow 31 = .ok (.iload_n 1, 1) := dk_27 (dk_at dksX6_isRow_1 9 rfl rfl)
theorem dX6_isRow_32 : decode cX6_isRow 32 = .ok (.imul, 1) := dk_104 (dk_at dksX6_isRow_1 10 rfl rfl)
theorem dX6_isRow_33 : decode cX6_isRow 33 = .ok (.iload_n 2, 1) := dk_28 (dk_at dksX6_isRow_1 11 rfl rfl)
theorem dX6_isRow_34 : decode cX6_isRow 34 = .ok (.iadd, 1) := dk_96 (dk_at dksX6_isRow_1 12 rfl rfl)
theorem dX6_isRow_35 : decode cX6_isRow 35 = .ok (.iaload, 1) := dk_46 (dk_at dksX6_isRow_1 13 rfl rfl)
theorem dX6_isRow_36 : decode cX6_isRow 36 = .ok (.aload_n 0, 1) := dk_42 (dk_at dksX6_isRow_1 14 rfl rfl)
theorem dX6_isRow_37 : decode cX6_isRow 37 = .ok (.getfield 26, 3) := dk_180 0 26 (dk_at dksX6_isRow_1 15 rfl rfl)
theorem dX6_isRow_40 : decode cX6_isRow 40 = .ok (.iload_n 2, 1) := dk_28 (dk_at dksX6_isRow_1 18 rfl rfl)
theorem dX6_isRow_41 : decode cX6_isRow 41 = .ok (.iaload, 1) := dk_46 (dk_at dksX6_isRow_1 19 rfl rfl)
theorem dX6_isRow_42 : decode cX6_isRow 42 = .ok (.if_icmp .eq 5, 3) := dk_159 0 5 (dk_at dksX6_isRow_1 20 rfl rfl)
theorem dX6_isRow_45 : decode cX6_isRow 45 = .ok (.iconst 0, 1) := dk_3 (dk_at dksX6_isRow_1 23 rfl rfl)
theorem dX6_isRow_46 : decode cX6_isRow 46 = .ok (.ireturn, 1) := dk_172 (dk_at dksX6_isRow_2 0 rfl rfl)
theorem dX6_isRow_47 : decode cX6_isRow 47 = .ok (.iinc 2 1, 3) := dk_132 2 1 (dk_at dksX6_isRow_2 1 rfl rfl)
theorem dX6_isRow_50 : decode cX6_isRow 50 = .ok (.goto (-33), 3) := dk_167 255 223 (dk_at dksX6_isRow_2 4 rfl rfl)
theorem dX6_isRow_53 : decode cX6_isRow 53 = .ok (.iconst 1, 1) := dk_4 (dk_at dksX6_isRow_2 7 rfl rfl)
theorem dX6_isRow_54 : decode cX6_isRow 54 = .ok (.ireturn, 1) := dk_172 (dk_at dksX6_isRow_2 8 rfl rfl)
abbrev cX6_bar : ByteArray := prog_17_method_12_code
def yX6_bar : MethodName := ⟨RX6, "bar", "(IZ)Z"⟩
def dkwX6_bar_1 : List UInt8 := [27, 28, 84, 4, 172]
abbrev dktX6_bar_1 : List UInt8 := dkwX6_bar_1 ++ []
def dkwX6_bar_0 : List UInt8 := [42, 27, 182, 0, 154, 153, 0, 13, 42, 180, 0, 22, 27, 51, 28, 160, 0, 5, 3, 172, 42, 180, 0, 22]
abbrev dktX6_bar_0 : List UInt8 := dkwX6_bar_0 ++ dktX6_bar_1
theorem dksX6_bar_0 : cX6_bar.data.toList.drop 0 = dktX6_bar_0 := by decide +kernel
theorem dksX6_bar_1 : cX6_bar.data.toList.drop 24 = dktX6_bar_1 := dk_seg dksX6_bar_0 24 rfl rfl
theorem dX6_bar_0 : decode cX6_bar 0 = .ok (.aload_n 0, 1) := dk_42 (dk_at dksX6_bar_0 0 rfl rfl)
theorem dX6_bar_1 : decode cX6_bar 1 = .ok (.iload_n 1, 1) := dk_27 (dk_at dksX6_bar_0 1 rfl rfl)
theorem dX6_bar_2 : decode cX6_bar 2 = .ok (.invokevirtual 154, 3) := dk_182 0 154 (dk_at dksX6_bar_0 2 rfl rfl)
theorem dX6_bar_5 : decode cX6_bar 5 = .ok (.ifCond .eq 13, 3) := dk_153 0 13 (dk_at dksX6_bar_0 5 rfl rfl)
theorem dX6_bar_8 : decode cX6_bar 8 = .ok (.aload_n 0, 1) := dk_42 (dk_at dksX6_bar_0 8 rfl rfl)
theorem dX6_bar_9 : decode cX6_bar 9 = .ok (.getfield 22, 3) := dk_180 0 22 (dk_at dksX6_bar_0 9 rfl rfl)
theorem dX6_bar_12 : decode cX6_bar 12 = .ok (.iload_n 1, 1) := dk_27 (dk_at dksX6_bar_0 12 rfl rfl)
theorem dX6_bar_13 : decode cX6_bar 13 = .ok (.baload, 1) := dk_51 (dk_at dksX6_bar_0 13 rfl rfl)
theorem dX6_bar_14 : decode cX6_bar 14 = .ok (.iload_n 2, 1) := dk_28 (dk_at dksX6_bar_0 14 rfl rfl)
theorem dX6_bar_15 : decode cX6_bar 15 = .ok (.if_icmp .ne 5, 3) := dk_160 0 5 (dk_at dksX6_bar_0 15 rfl rfl)
theorem dX6_bar_18 : decode cX6_bar 18 = .ok (.iconst 0, 1) := dk_3 (dk_at dksX6_bar_0 18 rfl rfl)
theorem dX6_bar_19 : decode cX6_bar 19 = .ok (.ireturn, 1) := dk_172 (dk_at dksX6_bar_0 19 rfl rfl)
theorem dX6_bar_20 : decode cX6_bar 20 = .ok (.aload_n 0, 1) := dk_42 (dk_at dksX6_bar_0 20 rfl rfl)
theorem dX6_bar_21 : decode cX6_bar 21 = .ok (.getfield 22, 3) := dk_180 0 22 (dk_at dksX6_bar_0 21 rfl rfl)
theorem dX6_bar_24 : decode cX6_bar 24 = .ok (.iload_n 1, 1) := dk_27 (dk_at dksX6_bar_1 0 rfl rfl)
theorem dX6_bar_25 : decode cX6_bar 25 = .ok (.iload_n 2, 1) := dk_28 (dk_at dksX6_bar_1 1 rfl rfl)
theorem dX6_bar_26 : decode cX6_bar 26 = .ok (.bastore, 1) := dk_84 (dk_at dksX6_bar_1 2 rfl rfl)
theorem dX6_bar_27 : decode cX6_bar 27 = .ok (.iconst 1, 1) := dk_4 (dk_at dksX6_bar_1 3 rfl rfl)
theorem dX6_bar_28 : decode cX6_bar 28 = .ok (.ireturn, 1) := dk_172 (dk_at dksX6_bar_1 4 rfl rfl)
abbrev cX6_isWord : ByteArray := prog_17_method_6_code
def yX6_isWord : MethodName := ⟨RX6, "isWord", "(I)Z"⟩
def dkwX6_isWord_0 : List UInt8 := [27, 155, 0, 15, 27, 42, 180, 0, 130, 162, 0, 7, 4, 167, 0, 4, 3, 172]
abbrev dktX6_isWord_0 : List UInt8 := dkwX6_isWord_0 ++ []
theorem dksX6_isWord_0 : cX6_isWord.data.toList.drop 0 = dktX6_isWord_0 := by decide +kernel
theorem dX6_isWord_0 : decode cX6_isWord 0 = .ok (.iload_n 1, 1) := dk_27 (dk_at dksX6_isWord_0 0 rfl rfl)
theorem dX6_isWord_1 : decode cX6_isWord 1 = .ok (.ifCond .lt 15, 3) := dk_155 0 15 (dk_at dksX6_isWord_0 1 rfl rfl)
theorem dX6_isWord_4 : decode cX6_isWord 4 = .ok (.iload_n 1, 1) := dk_27 (dk_at dksX6_isWord_0 4 rfl rfl)
theorem dX6_isWord_5 : decode cX6_isWord 5 = .ok (.aload_n 0, 1) := dk_42 (dk_at dksX6_isWord_0 5 rfl rfl)
theorem dX6_isWord_6 : decode cX6_isWord 6 = .ok (.getfield 130, 3) := dk_180 0 130 (dk_at dksX6_isWord_0 6 rfl rfl)
theorem dX6_isWord_9 : decode cX6_isWord 9 = .ok (.if_icmp .ge 7, 3) := dk_162 0 7 (dk_at dksX6_isWord_0 9 rfl rfl)
theorem dX6_isWord_12 : decode cX6_isWord 12 = .ok (.iconst 1, 1) := dk_4 (dk_at dksX6_isWord_0 12 rfl rfl)
theorem dX6_isWord_13 : decode cX6_isWord 13 = .ok (.goto 4, 3) := dk_167 0 4 (dk_at dksX6_isWord_0 13 rfl rfl)
theorem dX6_isWord_16 : decode cX6_isWord 16 = .ok (.iconst 0, 1) := dk_3 (dk_at dksX6_isWord_0 16 rfl rfl)
theorem dX6_isWord_17 : decode cX6_isWord 17 = .ok (.ireturn, 1) := dk_172 (dk_at dksX6_isWord_0 17 rfl rfl)
abbrev cX6_know : ByteArray := prog_17_method_13_code
def yX6_know : MethodName := ⟨RX6, "know", "(II)Z"⟩
def dkwX6_know_1 : List UInt8 := [27, 28, 79, 4, 172]
abbrev dktX6_know_1 : List UInt8 := dkwX6_know_1 ++ []
def dkwX6_know_0 : List UInt8 := [42, 27, 182, 0, 154, 153, 0, 13, 28, 3, 16, 99, 184, 0, 139, 154, 0, 5, 3, 172, 42, 180, 0, 16]
abbrev dktX6_know_0 : List UInt8 := dkwX6_know_0 ++ dktX6_know_1
theorem dksX6_know_0 : cX6_know.data.toList.drop 0 = dktX6_know_0 := by decide +kernel
theorem dksX6_know_1 : cX6_know.data.toList.drop 24 = dktX6_know_1 := dk_seg dksX6_know_0 24 rfl rfl
theorem dX6_know_0 : decode cX6_know 0 = .ok (.aload_n 0, 1) := dk_42 (dk_at dksX6_know_0 0 rfl rfl)
theorem dX6_know_1 : decode cX6_know 1 = .ok (.iload_n 1, 1) := dk_27 (dk_at dksX6_know_0 1 rfl rfl)
theorem dX6_know_2 : decode cX6_know 2 = .ok (.invokevirtual 154, 3) := dk_182 0 154 (dk_at dksX6_know_0 2 rfl rfl)
theorem dX6_know_5 : decode cX6_know 5 = .ok (.ifCond .eq 13, 3) := dk_153 0 13 (dk_at dksX6_know_0 5 rfl rfl)
theorem dX6_know_8 : decode cX6_know 8 = .ok (.iload_n 2, 1) := dk_28 (dk_at dksX6_know_0 8 rfl rfl)
theorem dX6_know_9 : decode cX6_know 9 = .ok (.iconst 0, 1) := dk_3 (dk_at dksX6_know_0 9 rfl rfl)
theorem dX6_know_10 : decode cX6_know 10 = .ok (.bipush 99, 2) := dk_16 99 (dk_at dksX6_know_0 10 rfl rfl)
theorem dX6_know_12 : decode cX6_know 12 = .ok (.invokestatic 139, 3) := dk_184 0 139 (dk_at dksX6_know_0 12 rfl rfl)
theorem dX6_know_15 : decode cX6_know 15 = .ok (.ifCond .ne 5, 3) := dk_154 0 5 (dk_at dksX6_know_0 15 rfl rfl)
theorem dX6_know_18 : decode cX6_know 18 = .ok (.iconst 0, 1) := dk_3 (dk_at dksX6_know_0 18 rfl rfl)
theorem dX6_know_19 : decode cX6_know 19 = .ok (.ireturn, 1) := dk_172 (dk_at dksX6_know_0 19 rfl rfl)
theorem dX6_know_20 : decode cX6_know 20 = .ok (.aload_n 0, 1) := dk_42 (dk_at dksX6_know_0 20 rfl rfl)
theorem dX6_know_21 : decode cX6_know 21 = .ok (.getfield 16, 3) := dk_180 0 16 (dk_at dksX6_know_0 21 rfl rfl)
theorem dX6_know_24 : decode cX6_know 24 = .ok (.iload_n 1, 1) := dk_27 (dk_at dksX6_know_1 0 rfl rfl)
theorem dX6_know_25 : decode cX6_know 25 = .ok (.iload_n 2, 1) := dk_28 (dk_at dksX6_know_1 1 rfl rfl)
theorem dX6_know_26 : decode cX6_know 26 = .ok (.iastore, 1) := dk_79 (dk_at dksX6_know_1 2 rfl rfl)
theorem dX6_know_27 : decode cX6_know 27 = .ok (.iconst 1, 1) := dk_4 (dk_at dksX6_know_1 3 rfl rfl)
theorem dX6_know_28 : decode cX6_know 28 = .ok (.ireturn, 1) := dk_172 (dk_at dksX6_know_1 4 rfl rfl)
abbrev cX6_speak : ByteArray := prog_17_method_14_code
def yX6_speak : MethodName := ⟨RX6, "speak", "(I)Z"⟩
def dkwX6_speak_0 : List UInt8 := [27, 2, 6, 184, 0, 139, 154, 0, 5, 3, 172, 42, 27, 181, 0, 126, 4, 172]
abbrev dktX6_speak_0 : List UInt8 := dkwX6_speak_0 ++ []
theorem dksX6_speak_0 : cX6_speak.data.toList.drop 0 = dktX6_speak_0 := by decide +kernel
theorem dX6_speak_0 : decode cX6_speak 0 = .ok (.iload_n 1, 1) := dk_27 (dk_at dksX6_speak_0 0 rfl rfl)
theorem dX6_speak_1 : decode cX6_speak 1 = .ok (.iconst (-1), 1) := dk_2 (dk_at dksX6_speak_0 1 rfl rfl)
theorem dX6_speak_2 : decode cX6_speak 2 = .ok (.iconst 3, 1) := dk_6 (dk_at dksX6_speak_0 2 rfl rfl)
theorem dX6_speak_3 : decode cX6_speak 3 = .ok (.invokestatic 139, 3) := dk_184 0 139 (dk_at dksX6_speak_0 3 rfl rfl)
theorem dX6_speak_6 : decode cX6_speak 6 = .ok (.ifCond .ne 5, 3) := dk_154 0 5 (dk_at dksX6_speak_0 6 rfl rfl)
theorem dX6_speak_9 : decode cX6_speak 9 = .ok (.iconst 0, 1) := dk_3 (dk_at dksX6_speak_0 9 rfl rfl)
theorem dX6_speak_10 : decode cX6_speak 10 = .ok (.ireturn, 1) := dk_172 (dk_at dksX6_speak_0 10 rfl rfl)
theorem dX6_speak_11 : decode cX6_speak 11 = .ok (.aload_n 0, 1) := dk_42 (dk_at dksX6_speak_0 11 rfl rfl)
theorem dX6_speak_12 : decode cX6_speak 12 = .ok (.iload_n 1, 1) := dk_27 (dk_at dksX6_speak_0 12 rfl rfl)
theorem dX6_speak_13 : decode cX6_speak 13 = .ok (.putfield 126, 3) := dk_181 0 126 (dk_at dksX6_speak_0 13 rfl rfl)
theorem dX6_speak_16 : decode cX6_speak 16 = .ok (.iconst 1, 1) := dk_4 (dk_at dksX6_speak_0 16 rfl rfl)
theorem dX6_speak_17 : decode cX6_speak 17 = .ok (.ireturn, 1) := dk_172 (dk_at dksX6_speak_0 17 rfl rfl)
abbrev cX6_off : ByteArray := prog_17_method_15_code
def yX6_off : MethodName := ⟨RX6, "off", "()I"⟩
def dkwX6_off_1 : List UInt8 := [180, 0, 130, 46, 172]
abbrev dktX6_off_1 : List UInt8 := dkwX6_off_1 ++ []
def dkwX6_off_0 : List UInt8 := [42, 180, 0, 130, 154, 0, 5, 2, 172, 42, 42, 180, 0, 130, 4, 100, 181, 0, 130, 42, 180, 0, 7, 42]
abbrev dktX6_off_0 : List UInt8 := dkwX6_off_0 ++ dktX6_off_1
theorem dksX6_off_0 : cX6_off.data.toList.drop 0 = dktX6_off_0 := by decide +kernel
theorem dksX6_off_1 : cX6_off.data.toList.drop 24 = dktX6_off_1 := dk_seg dksX6_off_0 24 rfl rfl
theorem dX6_off_0 : decode cX6_off 0 = .ok (.aload_n 0, 1) := dk_42 (dk_at dksX6_off_0 0 rfl rfl)
theorem dX6_off_1 : decode cX6_off 1 = .ok (.getfield 130, 3) := dk_180 0 130 (dk_at dksX6_off_0 1 rfl rfl)
theorem dX6_off_4 : decode cX6_off 4 = .ok (.ifCond .ne 5, 3) := dk_154 0 5 (dk_at dksX6_off_0 4 rfl rfl)
theorem dX6_off_7 : decode cX6_off 7 = .ok (.iconst (-1), 1) := dk_2 (dk_at dksX6_off_0 7 rfl rfl)
theorem dX6_off_8 : decode cX6_off 8 = .ok (.ireturn, 1) := dk_172 (dk_at dksX6_off_0 8 rfl rfl)
theorem dX6_off_9 : decode cX6_off 9 = .ok (.aload_n 0, 1) := dk_42 (dk_at dksX6_off_0 9 rfl rfl)
theorem dX6_off_10 : decode cX6_off 10 = .ok (.aload_n 0, 1) := dk_42 (dk_at dksX6_off_0 10 rfl rfl)
theorem dX6_off_11 : decode cX6_off 11 = .ok (.getfield 130, 3) := dk_180 0 130 (dk_at dksX6_off_0 11 rfl rfl)
theorem dX6_off_14 : decode cX6_off 14 = .ok (.iconst 1, 1) := dk_4 (dk_at dksX6_off_0 14 rfl rfl)
theorem dX6_off_15 : decode cX6_off 15 = .ok (.isub, 1) := dk_100 (dk_at dksX6_off_0 15 rfl rfl)
theorem dX6_off_16 : decode cX6_off 16 = .ok (.putfield 130, 3) := dk_181 0 130 (dk_at dksX6_off_0 16 rfl rfl)
theorem dX6_off_19 : decode cX6_off 19 = .ok (.aload_n 0, 1) := dk_42 (dk_at dksX6_off_0 19 rfl rfl)
theorem dX6_off_20 : decode cX6_off 20 = .ok (.getfield 7, 3) := dk_180 0 7 (dk_at dksX6_off_0 20 rfl rfl)
theorem dX6_off_23 : decode cX6_off 23 = .ok (.aload_n 0, 1) := dk_42 (dk_at dksX6_off_0 23 rfl rfl)
theorem dX6_off_24 : decode cX6_off 24 = .ok (.getfield 130, 3) := dk_180 0 130 (dk_at dksX6_off_1 0 rfl rfl)
theorem dX6_off_27 : decode cX6_off 27 = .ok (.iaload, 1) := dk_46 (dk_at dksX6_off_1 3 rfl rfl)
theorem dX6_off_28 : decode cX6_off 28 = .ok (.ireturn, 1) := dk_172 (dk_at dksX6_off_1 4 rfl rfl)
abbrev cX6_feed : ByteArray := prog_17_method_17_code
def yX6_feed : MethodName := ⟨RX6, "feed", "(IIIII)I"⟩
def dkwX6_feed_2 : List UInt8 := [172]
abbrev dktX6_feed_2 : List UInt8 := dkwX6_feed_2 ++ []
def dkwX6_feed_1 : List UInt8 := [182, 0, 157, 42, 29, 182, 0, 157, 42, 21, 4, 182, 0, 157, 42, 21, 5, 182, 0, 157, 42, 180, 0, 133]
abbrev dktX6_feed_1 : List UInt8 := dkwX6_feed_1 ++ dktX6_feed_2
def dkwX6_feed_0 : List UInt8 := [42, 180, 0, 133, 16, 20, 96, 17, 0, 200, 164, 0, 5, 2, 172, 42, 27, 182, 0, 157, 42, 28]
abbrev dktX6_feed_0 : List UInt8 := dkwX6_feed_0 ++ dktX6_feed_1
theorem dksX6_feed_0 : cX6_feed.data.toList.drop 0 = dktX6_feed_0 := by decide +kernel
theorem dksX6_feed_1 : cX6_feed.data.toList.drop 22 = dktX6_feed_1 := dk_seg dksX6_feed_0 22 rfl rfl
theorem dksX6_feed_2 : cX6_feed.data.toList.drop 46 = dktX6_feed_2 := dk_seg dksX6_feed_1 24 rfl rfl
theorem dX6_feed_0 : decode cX6_feed 0 = .ok (.aload_n 0, 1) := dk_42 (dk_at dksX6_feed_0 0 rfl rfl)
theorem dX6_feed_1 : decode cX6_feed 1 = .ok (.getfield 133, 3) := dk_180 0 133 (dk_at dksX6_feed_0 1 rfl rfl)
theorem dX6_feed_4 : decode cX6_feed 4 = .ok (.bipush 20, 2) := dk_16 20 (dk_at dksX6_feed_0 4 rfl rfl)
theorem dX6_feed_6 : decode cX6_feed 6 = .ok (.iadd, 1) := dk_96 (dk_at dksX6_feed_0 6 rfl rfl)
theorem dX6_feed_7 : decode cX6_feed 7 = .ok (.sipush 200, 3) := dk_17 0 200 (dk_at dksX6_feed_0 7 rfl rfl)
theorem dX6_feed_10 : decode cX6_feed 10 = .ok (.if_icmp .le 5, 3) := dk_164 0 5 (dk_at dksX6_feed_0 10 rfl rfl)
theorem dX6_feed_13 : decode cX6_feed 13 = .ok (.iconst (-1), 1) := dk_2 (dk_at dksX6_feed_0 13 rfl rfl)
theorem dX6_feed_14 : decode cX6_feed 14 = .ok (.ireturn, 1) := dk_172 (dk_at dksX6_feed_0 14 rfl rfl)
theorem dX6_feed_15 : decode cX6_feed 15 = .ok (.aload_n 0, 1) := dk_42 (dk_at dksX6_feed_0 15 rfl rfl)
theorem dX6_feed_16 : decode cX6_feed 16 = .ok (.iload_n 1, 1) := dk_27 (dk_at dksX6_feed_0 16 rfl rfl)
theorem dX6_feed_17 : decode cX6_feed 17 = .ok (.invokevirtual 157, 3) := dk_182 0 157 (dk_at dksX6_feed_0 17 rfl rfl)
theorem dX6_feed_20 : decode cX6_feed 20 = .ok (.aload_n 0, 1) := dk_42 (dk_at dksX6_feed_0 20 rfl rfl)
theorem dX6_feed_21 : decode cX6_feed 21 = .ok (.iload_n 2, 1) := dk_28 (dk_at dksX6_feed_0 21 rfl rfl)
theorem dX6_feed_22 : decode cX6_feed 22 = .ok (.invokevirtual 157, 3) := dk_182 0 157 (dk_at dksX6_feed_1 0 rfl rfl)
theorem dX6_feed_25 : decode cX6_feed 25 = .ok (.aload_n 0, 1) := dk_42 (dk_at dksX6_feed_1 3 rfl rfl)
theorem dX6_feed_26 : decode cX6_feed 26 = .ok (.iload_n 3, 1) := dk_29 (dk_at dksX6_feed_1 4 rfl rfl)
theorem dX6_feed_27 : decode cX6_feed 27 = .ok (.invokevirtual 157, 3) := dk_182 0 157 (dk_at dksX6_feed_1 5 rfl rfl)
theorem dX6_feed_30 : decode cX6_feed 30 = .ok (.aload_n 0, 1) := dk_42 (dk_at dksX6_feed_1 8 rfl rfl)
theorem dX6_feed_31 : decode cX6_feed 31 = .ok (.iload 4, 2) := dk_21 4 (dk_at dksX6_feed_1 9 rfl rfl)
theorem dX6_feed_33 : decode cX6_feed 33 = .ok (.invokevirtual 157, 3) := dk_182 0 157 (dk_at dksX6_feed_1 11 rfl rfl)
theorem dX6_feed_36 : decode cX6_feed 36 = .ok (.aload_n 0, 1) := dk_42 (dk_at dksX6_feed_1 14 rfl rfl)
theorem dX6_feed_37 : decode cX6_feed 37 = .ok (.iload 5, 2) := dk_21 5 (dk_at dksX6_feed_1 15 rfl rfl)
theorem dX6_feed_39 : decode cX6_feed 39 = .ok (.invokevirtual 157, 3) := dk_182 0 157 (dk_at dksX6_feed_1 17 rfl rfl)
theorem dX6_feed_42 : decode cX6_feed 42 = .ok (.aload_n 0, 1) := dk_42 (dk_at dksX6_feed_1 20 rfl rfl)
theorem dX6_feed_43 : decode cX6_feed 43 = .ok (.getfield 133, 3) := dk_180 0 133 (dk_at dksX6_feed_1 21 rfl rfl)
theorem dX6_feed_46 : decode cX6_feed 46 = .ok (.ireturn, 1) := dk_172 (dk_at dksX6_feed_2 0 rfl rfl)
abbrev cX6_types : ByteArray := prog_17_method_16_code
def yX6_types : MethodName := ⟨RX6, "types", "(I)V"⟩
def dkwX6_types_1 : List UInt8 := [180, 0, 133, 4, 96, 181, 0, 133, 132, 2, 255, 167, 255, 223, 177]
abbrev dktX6_types_1 : List UInt8 := dkwX6_types_1 ++ []
def dkwX6_types_0 : List UInt8 := [6, 61, 28, 155, 0, 35, 42, 180, 0, 29, 42, 180, 0, 133, 27, 16, 8, 28, 104, 122, 145, 84, 42, 42]
abbrev dktX6_types_0 : List UInt8 := dkwX6_types_0 ++ dktX6_types_1
theorem dksX6_types_0 : cX6_types.data.toList.drop 0 = dktX6_types_0 := by decide +kernel
theorem dksX6_types_1 : cX6_types.data.toList.drop 24 = dktX6_types_1 := dk_seg dksX6_types_0 24 rfl rfl
theorem dX6_types_0 : decode cX6_types 0 = .ok (.iconst 3, 1) := dk_6 (dk_at dksX6_types_0 0 rfl rfl)
theorem dX6_types_1 : decode cX6_types 1 = .ok (.istore_n 2, 1) := dk_61 (dk_at dksX6_types_0 1 rfl rfl)
theorem dX6_types_2 : decode cX6_types 2 = .ok (.iload_n 2, 1) := dk_28 (dk_at dksX6_types_0 2 rfl rfl)
theorem dX6_types_3 : decode cX6_types 3 = .ok (.ifCond .lt 35, 3) := dk_155 0 35 (dk_at dksX6_types_0 3 rfl rfl)
theorem dX6_types_6 : decode cX6_types 6 = .ok (.aload_n 0, 1) := dk_42 (dk_at dksX6_types_0 6 rfl rfl)
theorem dX6_types_7 : decode cX6_types 7 = .ok (.getfield 29, 3) := dk_180 0 29 (dk_at dksX6_types_0 7 rfl rfl)
theorem dX6_types_10 : decode cX6_types 10 = .ok (.aload_n 0, 1) := dk_42 (dk_at dksX6_types_0 10 rfl rfl)
theorem dX6_types_11 : decode cX6_types 11 = .ok (.getfield 133, 3) := dk_180 0 133 (dk_at dksX6_types_0 11 rfl rfl)
theorem dX6_types_14 : decode cX6_types 14 = .ok (.iload_n 1, 1) := dk_27 (dk_at dksX6_types_0 14 rfl rfl)
theorem dX6_types_15 : decode cX6_types 15 = .ok (.bipush 8, 2) := dk_16 8 (dk_at dksX6_types_0 15 rfl rfl)
theorem dX6_types_17 : decode cX6_types 17 = .ok (.iload_n 2, 1) := dk_28 (dk_at dksX6_types_0 17 rfl rfl)
theorem dX6_types_18 : decode cX6_types 18 = .ok (.imul, 1) := dk_104 (dk_at dksX6_types_0 18 rfl rfl)
theorem dX6_types_19 : decode cX6_types 19 = .ok (.ishr, 1) := dk_122 (dk_at dksX6_types_0 19 rfl rfl)
theorem dX6_types_20 : decode cX6_types 20 = .ok (.i2b, 1) := dk_145 (dk_at dksX6_types_0 20 rfl rfl)
theorem dX6_types_21 : decode cX6_types 21 = .ok (.bastore, 1) := dk_84 (dk_at dksX6_types_0 21 rfl rfl)
theorem dX6_types_22 : decode cX6_types 22 = .ok (.aload_n 0, 1) := dk_42 (dk_at dksX6_types_0 22 rfl rfl)
theorem dX6_types_23 : decode cX6_types 23 = .ok (.aload_n 0, 1) := dk_42 (dk_at dksX6_types_0 23 rfl rfl)
theorem dX6_types_24 : decode cX6_types 24 = .ok (.getfield 133, 3) := dk_180 0 133 (dk_at dksX6_types_1 0 rfl rfl)
theorem dX6_types_27 : decode cX6_types 27 = .ok (.iconst 1, 1) := dk_4 (dk_at dksX6_types_1 3 rfl rfl)
theorem dX6_types_28 : decode cX6_types 28 = .ok (.iadd, 1) := dk_96 (dk_at dksX6_types_1 4 rfl rfl)
theorem dX6_types_29 : decode cX6_types 29 = .ok (.putfield 133, 3) := dk_181 0 133 (dk_at dksX6_types_1 5 rfl rfl)
theorem dX6_types_32 : decode cX6_types 32 = .ok (.iinc 2 (-1), 3) := dk_132 2 255 (dk_at dksX6_types_1 8 rfl rfl)
theorem dX6_types_35 : decode cX6_types 35 = .ok (.goto (-33), 3) := dk_167 255 223 (dk_at dksX6_types_1 11 rfl rfl)
theorem dX6_types_38 : decode cX6_types 38 = .ok (.return_, 1) := dk_177 (dk_at dksX6_types_1 14 rfl rfl)
abbrev cX6_law : ByteArray := prog_17_method_38_code
def yX6_law : MethodName := ⟨RX6, "law", "(I)I"⟩
def dkwX6_law_8 : List UInt8 := [29, 46, 79, 132, 3, 1, 167, 255, 197, 42, 180, 0, 239, 172]
abbrev dktX6_law_8 : List UInt8 := dkwX6_law_8 ++ []
def dkwX6_law_7 : List UInt8 := [29, 46, 79, 42, 180, 0, 60, 29, 42, 180, 0, 45, 29, 46, 79, 42, 180, 0, 63, 29, 42, 180, 0, 48]
abbrev dktX6_law_7 : List UInt8 := dkwX6_law_7 ++ dktX6_law_8
def dkwX6_law_6 : List UInt8 := [162, 0, 57, 42, 180, 0, 54, 29, 42, 180, 0, 39, 29, 46, 79, 42, 180, 0, 57, 29, 42, 180, 0, 42]
abbrev dktX6_law_6 : List UInt8 := dkwX6_law_6 ++ dktX6_law_7
def dkwX6_law_5 : List UInt8 := [180, 0, 51, 29, 42, 180, 0, 33, 29, 46, 79, 132, 3, 1, 167, 255, 233, 3, 62, 29, 42, 180, 0, 239]
abbrev dktX6_law_5 : List UInt8 := dkwX6_law_5 ++ dktX6_law_6
def dkwX6_law_4 : List UInt8 := [42, 180, 0, 171, 172, 42, 42, 180, 0, 239, 181, 0, 251, 3, 62, 29, 42, 180, 0, 184, 162, 0, 21, 42]
abbrev dktX6_law_4 : List UInt8 := dkwX6_law_4 ++ dktX6_law_5
def dkwX6_law_3 : List UInt8 := [182, 0, 245, 153, 0, 7, 4, 167, 0, 4, 3, 61, 167, 255, 219, 42, 3, 181, 0, 133, 28, 154, 0, 8]
abbrev dktX6_law_3 : List UInt8 := dkwX6_law_3 ++ dktX6_law_4
def dkwX6_law_2 : List UInt8 := [153, 0, 39, 42, 180, 0, 161, 42, 180, 0, 164, 162, 0, 28, 42, 16, 59, 182, 0, 248, 153, 0, 14, 42]
abbrev dktX6_law_2 : List UInt8 := dkwX6_law_2 ++ dktX6_law_3
def dkwX6_law_1 : List UInt8 := [181, 0, 161, 42, 27, 181, 0, 164, 42, 3, 181, 0, 184, 42, 3, 181, 0, 239, 42, 182, 0, 245, 61, 28]
abbrev dktX6_law_1 : List UInt8 := dkwX6_law_1 ++ dktX6_law_2
def dkwX6_law_0 : List UInt8 := [27, 4, 17, 0, 160, 184, 0, 139, 153, 0, 11, 27, 42, 180, 0, 133, 164, 0, 5, 2, 172, 42, 3]
abbrev dktX6_law_0 : List UInt8 := dkwX6_law_0 ++ dktX6_law_1
theorem dksX6_law_0 : cX6_law.data.toList.drop 0 = dktX6_law_0 := by decide +kernel
theorem dksX6_law_1 : cX6_law.data.toList.drop 23 = dktX6_law_1 := dk_seg dksX6_law_0 23 rfl rfl
theorem dksX6_law_2 : cX6_law.data.toList.drop 47 = dktX6_law_2 := dk_seg dksX6_law_1 24 rfl rfl
theorem dksX6_law_3 : cX6_law.data.toList.drop 71 = dktX6_law_3 := dk_seg dksX6_law_2 24 rfl rfl
theorem dksX6_law_4 : cX6_law.data.toList.drop 95 = dktX6_law_4 := dk_seg dksX6_law_3 24 rfl rfl
theorem dksX6_law_5 : cX6_law.data.toList.drop 119 = dktX6_law_5 := dk_seg dksX6_law_4 24 rfl rfl
theorem dksX6_law_6 : cX6_law.data.toList.drop 143 = dktX6_law_6 := dk_seg dksX6_law_5 24 rfl rfl
theorem dksX6_law_7 : cX6_law.data.toList.drop 167 = dktX6_law_7 := dk_seg dksX6_law_6 24 rfl rfl
theorem dksX6_law_8 : cX6_law.data.toList.drop 191 = dktX6_law_8 := dk_seg dksX6_law_7 24 rfl rfl
theorem dX6_law_0 : decode cX6_law 0 = .ok (.iload_n 1, 1) := dk_27 (dk_at dksX6_law_0 0 rfl rfl)
theorem dX6_law_1 : decode cX6_law 1 = .ok (.iconst 1, 1) := dk_4 (dk_at dksX6_law_0 1 rfl rfl)
theorem dX6_law_2 : decode cX6_law 2 = .ok (.sipush 160, 3) := dk_17 0 160 (dk_at dksX6_law_0 2 rfl rfl)
theorem dX6_law_5 : decode cX6_law 5 = .ok (.invokestatic 139, 3) := dk_184 0 139 (dk_at dksX6_law_0 5 rfl rfl)
theorem dX6_law_8 : decode cX6_law 8 = .ok (.ifCond .eq 11, 3) := dk_153 0 11 (dk_at dksX6_law_0 8 rfl rfl)
theorem dX6_law_11 : decode cX6_law 11 = .ok (.iload_n 1, 1) := dk_27 (dk_at dksX6_law_0 11 rfl rfl)
theorem dX6_law_12 : decode cX6_law 12 = .ok (.aload_n 0, 1) := dk_42 (dk_at dksX6_law_0 12 rfl rfl)
theorem dX6_law_13 : decode cX6_law 13 = .ok (.getfield 133, 3) := dk_180 0 133 (dk_at dksX6_law_0 13 rfl rfl)
theorem dX6_law_16 : decode cX6_law 16 = .ok (.if_icmp .le 5, 3) := dk_164 0 5 (dk_at dksX6_law_0 16 rfl rfl)
theorem dX6_law_19 : decode cX6_law 19 = .ok (.iconst (-1), 1) := dk_2 (dk_at dksX6_law_0 19 rfl rfl)
theorem dX6_law_20 : decode cX6_law 20 = .ok (.ireturn, 1) := dk_172 (dk_at dksX6_law_0 20 rfl rfl)
theorem dX6_law_21 : decode cX6_law 21 = .ok (.aload_n 0, 1) := dk_42 (dk_at dksX6_law_0 21 rfl rfl)
theorem dX6_law_22 : decode cX6_law 22 = .ok (.iconst 0, 1) := dk_3 (dk_at dksX6_law_0 22 rfl rfl)
theorem dX6_law_23 : decode cX6_law 23 = .ok (.putfield 161, 3) := dk_181 0 161 (dk_at dksX6_law_1 0 rfl rfl)
theorem dX6_law_26 : decode cX6_law 26 = .ok (.aload_n 0, 1) := dk_42 (dk_at dksX6_law_1 3 rfl rfl)
theorem dX6_law_27 : decode cX6_law 27 = .ok (.iload_n 1, 1) := dk_27 (dk_at dksX6_law_1 4 rfl rfl)
theorem dX6_law_28 : decode cX6_law 28 = .ok (.putfield 164, 3) := dk_181 0 164 (dk_at dksX6_law_1 5 rfl rfl)
theorem dX6_law_31 : decode cX6_law 31 = .ok (.aload_n 0, 1) := dk_42 (dk_at dksX6_law_1 8 rfl rfl)
theorem dX6_law_32 : decode cX6_law 32 = .ok (.iconst 0, 1) := dk_3 (dk_at dksX6_law_1 9 rfl rfl)
theorem dX6_law_33 : decode cX6_law 33 = .ok (.putfield 184, 3) := dk_181 0 184 (dk_at dksX6_law_1 10 rfl rfl)
theorem dX6_law_36 : decode cX6_law 36 = .ok (.aload_n 0, 1) := dk_42 (dk_at dksX6_law_1 13 rfl rfl)
theorem dX6_law_37 : decode cX6_law 37 = .ok (.iconst 0, 1) := dk_3 (dk_at dksX6_law_1 14 rfl rfl)
theorem dX6_law_38 : decode cX6_law 38 = .ok (.putfield 239, 3) := dk_181 0 239 (dk_at dksX6_law_1 15 rfl rfl)
theorem dX6_law_41 : decode cX6_law 41 = .ok (.aload_n 0, 1) := dk_42 (dk_at dksX6_law_1 18 rfl rfl)
theorem dX6_law_42 : decode cX6_law 42 = .ok (.invokevirtual 245, 3) := dk_182 0 245 (dk_at dksX6_law_1 19 rfl rfl)
theorem dX6_law_45 : decode cX6_law 45 = .ok (.istore_n 2, 1) := dk_61 (dk_at dksX6_law_1 22 rfl rfl)
theorem dX6_law_46 : decode cX6_law 46 = .ok (.iload_n 2, 1) := dk_28 (dk_at dksX6_law_1 23 rfl rfl)
theorem dX6_law_47 : decode cX6_law 47 = .ok (.ifCond .eq 39, 3) := dk_153 0 39 (dk_at dksX6_law_2 0 rfl rfl)
theorem dX6_law_50 : decode cX6_law 50 = .ok (.aload_n 0, 1) := dk_42 (dk_at dksX6_law_2 3 rfl rfl)
theorem dX6_law_51 : decode cX6_law 51 = .ok (.getfield 161, 3) := dk_180 0 161 (dk_at dksX6_law_2 4 rfl rfl)
theorem dX6_law_54 : decode cX6_law 54 = .ok (.aload_n 0, 1) := dk_42 (dk_at dksX6_law_2 7 rfl rfl)
theorem dX6_law_55 : decode cX6_law 55 = .ok (.getfield 164, 3) := dk_180 0 164 (dk_at dksX6_law_2 8 rfl rfl)
theorem dX6_law_58 : decode cX6_law 58 = .ok (.if_icmp .ge 28, 3) := dk_162 0 28 (dk_at dksX6_law_2 11 rfl rfl)
theorem dX6_law_61 : decode cX6_law 61 = .ok (.aload_n 0, 1) := dk_42 (dk_at dksX6_law_2 14 rfl rfl)
theorem dX6_law_62 : decode cX6_law 62 = .ok (.bipush 59, 2) := dk_16 59 (dk_at dksX6_law_2 15 rfl rfl)
theorem dX6_law_64 : decode cX6_law 64 = .ok (.invokevirtual 248, 3) := dk_182 0 248 (dk_at dksX6_law_2 17 rfl rfl)
theorem dX6_law_67 : decode cX6_law 67 = .ok (.ifCond .eq 14, 3) := dk_153 0 14 (dk_at dksX6_law_2 20 rfl rfl)
theorem dX6_law_70 : decode cX6_law 70 = .ok (.aload_n 0, 1) := dk_42 (dk_at dksX6_law_2 23 rfl rfl)
theorem dX6_law_71 : decode cX6_law 71 = .ok (.invokevirtual 245, 3) := dk_182 0 245 (dk_at dksX6_law_3 0 rfl rfl)
theorem dX6_law_74 : decode cX6_law 74 = .ok (.ifCond .eq 7, 3) := dk_153 0 7 (dk_at dksX6_law_3 3 rfl rfl)
theorem dX6_law_77 : decode cX6_law 77 = .ok (.iconst 1, 1) := dk_4 (dk_at dksX6_law_3 6 rfl rfl)
theorem dX6_law_78 : decode cX6_law 78 = .ok (.goto 4, 3) := dk_167 0 4 (dk_at dksX6_law_3 7 rfl rfl)
theorem dX6_law_81 : decode cX6_law 81 = .ok (.iconst 0, 1) := dk_3 (dk_at dksX6_law_3 10 rfl rfl)
theorem dX6_law_82 : decode cX6_law 82 = .ok (.istore_n 2, 1) := dk_61 (dk_at dksX6_law_3 11 rfl rfl)
theorem dX6_law_83 : decode cX6_law 83 = .ok (.goto (-37), 3) := dk_167 255 219 (dk_at dksX6_law_3 12 rfl rfl)
theorem dX6_law_86 : decode cX6_law 86 = .ok (.aload_n 0, 1) := dk_42 (dk_at dksX6_law_3 15 rfl rfl)
theorem dX6_law_87 : decode cX6_law 87 = .ok (.iconst 0, 1) := dk_3 (dk_at dksX6_law_3 16 rfl rfl)
theorem dX6_law_88 : decode cX6_law 88 = .ok (.putfield 133, 3) := dk_181 0 133 (dk_at dksX6_law_3 17 rfl rfl)
theorem dX6_law_91 : decode cX6_law 91 = .ok (.iload_n 2, 1) := dk_28 (dk_at dksX6_law_3 20 rfl rfl)
theorem dX6_law_92 : decode cX6_law 92 = .ok (.ifCond .ne 8, 3) := dk_154 0 8 (dk_at dksX6_law_3 21 rfl rfl)
theorem dX6_law_95 : decode cX6_law 95 = .ok (.aload_n 0, 1) := dk_42 (dk_at dksX6_law_4 0 rfl rfl)
theorem dX6_law_96 : decode cX6_law 96 = .ok (.getfield 171, 3) := dk_180 0 171 (dk_at dksX6_law_4 1 rfl rfl)
theorem dX6_law_99 : decode cX6_law 99 = .ok (.ireturn, 1) := dk_172 (dk_at dksX6_law_4 4 rfl rfl)
theorem dX6_law_100 : decode cX6_law 100 = .ok (.aload_n 0, 1) := dk_42 (dk_at dksX6_law_4 5 rfl rfl)
theorem dX6_law_101 : decode cX6_law 101 = .ok (.aload_n 0, 1) := dk_42 (dk_at dksX6_law_4 6 rfl rfl)
theorem dX6_law_102 : decode cX6_law 102 = .ok (.getfield 239, 3) := dk_180 0 239 (dk_at dksX6_law_4 7 rfl rfl)
theorem dX6_law_105 : decode cX6_law 105 = .ok (.putfield 251, 3) := dk_181 0 251 (dk_at dksX6_law_4 10 rfl rfl)
theorem dX6_law_108 : decode cX6_law 108 = .ok (.iconst 0, 1) := dk_3 (dk_at dksX6_law_4 13 rfl rfl)
theorem dX6_law_109 : decode cX6_law 109 = .ok (.istore_n 3, 1) := dk_62 (dk_at dksX6_law_4 14 rfl rfl)
theorem dX6_law_110 : decode cX6_law 110 = .ok (.iload_n 3, 1) := dk_29 (dk_at dksX6_law_4 15 rfl rfl)
theorem dX6_law_111 : decode cX6_law 111 = .ok (.aload_n 0, 1) := dk_42 (dk_at dksX6_law_4 16 rfl rfl)
theorem dX6_law_112 : decode cX6_law 112 = .ok (.getfield 184, 3) := dk_180 0 184 (dk_at dksX6_law_4 17 rfl rfl)
theorem dX6_law_115 : decode cX6_law 115 = .ok (.if_icmp .ge 21, 3) := dk_162 0 21 (dk_at dksX6_law_4 20 rfl rfl)
theorem dX6_law_118 : decode cX6_law 118 = .ok (.aload_n 0, 1) := dk_42 (dk_at dksX6_law_4 23 rfl rfl)
theorem dX6_law_119 : decode cX6_law 119 = .ok (.getfield 51, 3) := dk_180 0 51 (dk_at dksX6_law_5 0 rfl rfl)
theorem dX6_law_122 : decode cX6_law 122 = .ok (.iload_n 3, 1) := dk_29 (dk_at dksX6_law_5 3 rfl rfl)
theorem dX6_law_123 : decode cX6_law 123 = .ok (.aload_n 0, 1) := dk_42 (dk_at dksX6_law_5 4 rfl rfl)
theorem dX6_law_124 : decode cX6_law 124 = .ok (.getfield 33, 3) := dk_180 0 33 (dk_at dksX6_law_5 5 rfl rfl)
theorem dX6_law_127 : decode cX6_law 127 = .ok (.iload_n 3, 1) := dk_29 (dk_at dksX6_law_5 8 rfl rfl)
theorem dX6_law_128 : decode cX6_law 128 = .ok (.iaload, 1) := dk_46 (dk_at dksX6_law_5 9 rfl rfl)
theorem dX6_law_129 : decode cX6_law 129 = .ok (.iastore, 1) := dk_79 (dk_at dksX6_law_5 10 rfl rfl)
theorem dX6_law_130 : decode cX6_law 130 = .ok (.iinc 3 1, 3) := dk_132 3 1 (dk_at dksX6_law_5 11 rfl rfl)
theorem dX6_law_133 : decode cX6_law 133 = .ok (.goto (-23), 3) := dk_167 255 233 (dk_at dksX6_law_5 14 rfl rfl)
theorem dX6_law_136 : decode cX6_law 136 = .ok (.iconst 0, 1) := dk_3 (dk_at dksX6_law_5 17 rfl rfl)
theorem dX6_law_137 : decode cX6_law 137 = .ok (.istore_n 3, 1) := dk_62 (dk_at dksX6_law_5 18 rfl rfl)
theorem dX6_law_138 : decode cX6_law 138 = .ok (.iload_n 3, 1) := dk_29 (dk_at dksX6_law_5 19 rfl rfl)
theorem dX6_law_139 : decode cX6_law 139 = .ok (.aload_n 0, 1) := dk_42 (dk_at dksX6_law_5 20 rfl rfl)
theorem dX6_law_140 : decode cX6_law 140 = .ok (.getfield 239, 3) := dk_180 0 239 (dk_at dksX6_law_5 21 rfl rfl)
theorem dX6_law_143 : decode cX6_law 143 = .ok (.if_icmp .ge 57, 3) := dk_162 0 57 (dk_at dksX6_law_6 0 rfl rfl)
theorem dX6_law_146 : decode cX6_law 146 = .ok (.aload_n 0, 1) := dk_42 (dk_at dksX6_law_6 3 rfl rfl)
theorem dX6_law_147 : decode cX6_law 147 = .ok (.getfield 54, 3) := dk_180 0 54 (dk_at dksX6_law_6 4 rfl rfl)
theorem dX6_law_150 : decode cX6_law 150 = .ok (.iload_n 3, 1) := dk_29 (dk_at dksX6_law_6 7 rfl rfl)
theorem dX6_law_151 : decode cX6_law 151 = .ok (.aload_n 0, 1) := dk_42 (dk_at dksX6_law_6 8 rfl rfl)
theorem dX6_law_152 : decode cX6_law 152 = .ok (.getfield 39, 3) := dk_180 0 39 (dk_at dksX6_law_6 9 rfl rfl)
theorem dX6_law_155 : decode cX6_law 155 = .ok (.iload_n 3, 1) := dk_29 (dk_at dksX6_law_6 12 rfl rfl)
theorem dX6_law_156 : decode cX6_law 156 = .ok (.iaload, 1) := dk_46 (dk_at dksX6_law_6 13 rfl rfl)
theorem dX6_law_157 : decode cX6_law 157 = .ok (.iastore, 1) := dk_79 (dk_at dksX6_law_6 14 rfl rfl)
theorem dX6_law_158 : decode cX6_law 158 = .ok (.aload_n 0, 1) := dk_42 (dk_at dksX6_law_6 15 rfl rfl)
theorem dX6_law_159 : decode cX6_law 159 = .ok (.getfield 57, 3) := dk_180 0 57 (dk_at dksX6_law_6 16 rfl rfl)
theorem dX6_law_162 : decode cX6_law 162 = .ok (.iload_n 3, 1) := dk_29 (dk_at dksX6_law_6 19 rfl rfl)
theorem dX6_law_163 : decode cX6_law 163 = .ok (.aload_n 0, 1) := dk_42 (dk_at dksX6_law_6 20 rfl rfl)
theorem dX6_law_164 : decode cX6_law 164 = .ok (.getfield 42, 3) := dk_180 0 42 (dk_at dksX6_law_6 21 rfl rfl)
theorem dX6_law_167 : decode cX6_law 167 = .ok (.iload_n 3, 1) := dk_29 (dk_at dksX6_law_7 0 rfl rfl)
theorem dX6_law_168 : decode cX6_law 168 = .ok (.iaload, 1) := dk_46 (dk_at dksX6_law_7 1 rfl rfl)
theorem dX6_law_169 : decode cX6_law 169 = .ok (.iastore, 1) := dk_79 (dk_at dksX6_law_7 2 rfl rfl)
theorem dX6_law_170 : decode cX6_law 170 = .ok (.aload_n 0, 1) := dk_42 (dk_at dksX6_law_7 3 rfl rfl)
theorem dX6_law_171 : decode cX6_law 171 = .ok (.getfield 60, 3) := dk_180 0 60 (dk_at dksX6_law_7 4 rfl rfl)
theorem dX6_law_174 : decode cX6_law 174 = .ok (.iload_n 3, 1) := dk_29 (dk_at dksX6_law_7 7 rfl rfl)
theorem dX6_law_175 : decode cX6_law 175 = .ok (.aload_n 0, 1) := dk_42 (dk_at dksX6_law_7 8 rfl rfl)
theorem dX6_law_176 : decode cX6_law 176 = .ok (.getfield 45, 3) := dk_180 0 45 (dk_at dksX6_law_7 9 rfl rfl)
theorem dX6_law_179 : decode cX6_law 179 = .ok (.iload_n 3, 1) := dk_29 (dk_at dksX6_law_7 12 rfl rfl)
theorem dX6_law_180 : decode cX6_law 180 = .ok (.iaload, 1) := dk_46 (dk_at dksX6_law_7 13 rfl rfl)
theorem dX6_law_181 : decode cX6_law 181 = .ok (.iastore, 1) := dk_79 (dk_at dksX6_law_7 14 rfl rfl)
theorem dX6_law_182 : decode cX6_law 182 = .ok (.aload_n 0, 1) := dk_42 (dk_at dksX6_law_7 15 rfl rfl)
theorem dX6_law_183 : decode cX6_law 183 = .ok (.getfield 63, 3) := dk_180 0 63 (dk_at dksX6_law_7 16 rfl rfl)
theorem dX6_law_186 : decode cX6_law 186 = .ok (.iload_n 3, 1) := dk_29 (dk_at dksX6_law_7 19 rfl rfl)
theorem dX6_law_187 : decode cX6_law 187 = .ok (.aload_n 0, 1) := dk_42 (dk_at dksX6_law_7 20 rfl rfl)
theorem dX6_law_188 : decode cX6_law 188 = .ok (.getfield 48, 3) := dk_180 0 48 (dk_at dksX6_law_7 21 rfl rfl)
theorem dX6_law_191 : decode cX6_law 191 = .ok (.iload_n 3, 1) := dk_29 (dk_at dksX6_law_8 0 rfl rfl)
theorem dX6_law_192 : decode cX6_law 192 = .ok (.iaload, 1) := dk_46 (dk_at dksX6_law_8 1 rfl rfl)
theorem dX6_law_193 : decode cX6_law 193 = .ok (.iastore, 1) := dk_79 (dk_at dksX6_law_8 2 rfl rfl)
theorem dX6_law_194 : decode cX6_law 194 = .ok (.iinc 3 1, 3) := dk_132 3 1 (dk_at dksX6_law_8 3 rfl rfl)
theorem dX6_law_197 : decode cX6_law 197 = .ok (.goto (-59), 3) := dk_167 255 197 (dk_at dksX6_law_8 6 rfl rfl)
theorem dX6_law_200 : decode cX6_law 200 = .ok (.aload_n 0, 1) := dk_42 (dk_at dksX6_law_8 9 rfl rfl)
theorem dX6_law_201 : decode cX6_law 201 = .ok (.getfield 239, 3) := dk_180 0 239 (dk_at dksX6_law_8 10 rfl rfl)
theorem dX6_law_204 : decode cX6_law 204 = .ok (.ireturn, 1) := dk_172 (dk_at dksX6_law_8 13 rfl rfl)
abbrev cX6_readsClause : ByteArray := prog_17_method_37_code
def yX6_readsClause : MethodName := ⟨RX6, "readsClause", "()Z"⟩
def dkwX6_readsClause_6 : List UInt8 := [180, 0, 239, 4, 96, 181, 0, 239, 4, 172]
abbrev dktX6_readsClause_6 : List UInt8 := dkwX6_readsClause_6 ++ []
def dkwX6_readsClause_5 : List UInt8 := [182, 0, 242, 154, 0, 5, 3, 172, 42, 180, 0, 48, 42, 180, 0, 239, 42, 180, 0, 184, 79, 42, 42]
abbrev dktX6_readsClause_5 : List UInt8 := dkwX6_readsClause_5 ++ dktX6_readsClause_6
def dkwX6_readsClause_4 : List UInt8 := [42, 182, 0, 224, 154, 0, 5, 3, 172, 42, 180, 0, 45, 42, 180, 0, 239, 42, 180, 0, 184, 79, 42]
abbrev dktX6_readsClause_4 : List UInt8 := dkwX6_readsClause_4 ++ dktX6_readsClause_5
def dkwX6_readsClause_3 : List UInt8 := [180, 0, 239, 42, 180, 0, 184, 79, 42, 3, 181, 0, 188, 42, 3, 181, 0, 191, 27, 16, 99, 160, 0, 12]
abbrev dktX6_readsClause_3 : List UInt8 := dkwX6_readsClause_3 ++ dktX6_readsClause_4
def dkwX6_readsClause_2 : List UInt8 := [180, 0, 39, 42, 180, 0, 239, 27, 79, 42, 42, 180, 0, 161, 4, 96, 181, 0, 161, 42, 180, 0, 42, 42]
abbrev dktX6_readsClause_2 : List UInt8 := dkwX6_readsClause_2 ++ dktX6_readsClause_3
def dkwX6_readsClause_1 : List UInt8 := [182, 0, 174, 172, 42, 180, 0, 239, 16, 12, 160, 0, 13, 42, 7, 42, 180, 0, 161, 182, 0, 174, 172, 42]
abbrev dktX6_readsClause_1 : List UInt8 := dkwX6_readsClause_1 ++ dktX6_readsClause_2
def dkwX6_readsClause_0 : List UInt8 := [42, 182, 0, 167, 60, 27, 16, 110, 159, 0, 19, 27, 16, 99, 159, 0, 13, 42, 4, 42, 180, 0, 161]
abbrev dktX6_readsClause_0 : List UInt8 := dkwX6_readsClause_0 ++ dktX6_readsClause_1
theorem dksX6_readsClause_0 : cX6_readsClause.data.toList.drop 0 = dktX6_readsClause_0 := by decide +kernel
theorem dksX6_readsClause_1 : cX6_readsClause.data.toList.drop 23 = dktX6_readsClause_1 := dk_seg dksX6_readsClause_0 23 rfl rfl
theorem dksX6_readsClause_2 : cX6_readsClause.data.toList.drop 47 = dktX6_readsClause_2 := dk_seg dksX6_readsClause_1 24 rfl rfl
theorem dksX6_readsClause_3 : cX6_readsClause.data.toList.drop 71 = dktX6_readsClause_3 := dk_seg dksX6_readsClause_2 24 rfl rfl
theorem dksX6_readsClause_4 : cX6_readsClause.data.toList.drop 95 = dktX6_readsClause_4 := dk_seg dksX6_readsClause_3 24 rfl rfl
theorem dksX6_readsClause_5 : cX6_readsClause.data.toList.drop 118 = dktX6_readsClause_5 := dk_seg dksX6_readsClause_4 23 rfl rfl
theorem dksX6_readsClause_6 : cX6_readsClause.data.toList.drop 141 = dktX6_readsClause_6 := dk_seg dksX6_readsClause_5 23 rfl rfl
theorem dX6_readsClause_0 : decode cX6_readsClause 0 = .ok (.aload_n 0, 1) := dk_42 (dk_at dksX6_readsClause_0 0 rfl rfl)
theorem dX6_readsClause_1 : decode cX6_readsClause 1 = .ok (.invokevirtual 167, 3) := dk_182 0 167 (dk_at dksX6_readsClause_0 1 rfl rfl)
theorem dX6_readsClause_4 : decode cX6_readsClause 4 = .ok (.istore_n 1, 1) := dk_60 (dk_at dksX6_readsClause_0 4 rfl rfl)
theorem dX6_readsClause_5 : decode cX6_readsClause 5 = .ok (.iload_n 1, 1) := dk_27 (dk_at dksX6_readsClause_0 5 rfl rfl)
theorem dX6_readsClause_6 : decode cX6_readsClause 6 = .ok (.bipush 110, 2) := dk_16 110 (dk_at dksX6_readsClause_0 6 rfl rfl)
theorem dX6_readsClause_8 : decode cX6_readsClause 8 = .ok (.if_icmp .eq 19, 3) := dk_159 0 19 (dk_at dksX6_readsClause_0 8 rfl rfl)
theorem dX6_readsClause_11 : decode cX6_readsClause 11 = .ok (.iload_n 1, 1) := dk_27 (dk_at dksX6_readsClause_0 11 rfl rfl)
theorem dX6_readsClause_12 : decode cX6_readsClause 12 = .ok (.bipush 99, 2) := dk_16 99 (dk_at dksX6_readsClause_0 12 rfl rfl)
theorem dX6_readsClause_14 : decode cX6_readsClause 14 = .ok (.if_icmp .eq 13, 3) := dk_159 0 13 (dk_at dksX6_readsClause_0 14 rfl rfl)
theorem dX6_readsClause_17 : decode cX6_readsClause 17 = .ok (.aload_n 0, 1) := dk_42 (dk_at dksX6_readsClause_0 17 rfl rfl)
theorem dX6_readsClause_18 : decode cX6_readsClause 18 = .ok (.iconst 1, 1) := dk_4 (dk_at dksX6_readsClause_0 18 rfl rfl)
theorem dX6_readsClause_19 : decode cX6_readsClause 19 = .ok (.aload_n 0, 1) := dk_42 (dk_at dksX6_readsClause_0 19 rfl rfl)
theorem dX6_readsClause_20 : decode cX6_readsClause 20 = .ok (.getfield 161, 3) := dk_180 0 161 (dk_at dksX6_readsClause_0 20 rfl rfl)
theorem dX6_readsClause_23 : decode cX6_readsClause 23 = .ok (.invokevirtual 174, 3) := dk_182 0 174 (dk_at dksX6_readsClause_1 0 rfl rfl)
theorem dX6_readsClause_26 : decode cX6_readsClause 26 = .ok (.ireturn, 1) := dk_172 (dk_at dksX6_readsClause_1 3 rfl rfl)
theorem dX6_readsClause_27 : decode cX6_readsClause 27 = .ok (.aload_n 0, 1) := dk_42 (dk_at dksX6_readsClause_1 4 rfl rfl)
theorem dX6_readsClause_28 : decode cX6_readsClause 28 = .ok (.getfield 239, 3) := dk_180 0 239 (dk_at dksX6_readsClause_1 5 rfl rfl)
theorem dX6_readsClause_31 : decode cX6_readsClause 31 = .ok (.bipush 12, 2) := dk_16 12 (dk_at dksX6_readsClause_1 8 rfl rfl)
theorem dX6_readsClause_33 : decode cX6_readsClause 33 = .ok (.if_icmp .ne 13, 3) := dk_160 0 13 (dk_at dksX6_readsClause_1 10 rfl rfl)
theorem dX6_readsClause_36 : decode cX6_readsClause 36 = .ok (.aload_n 0, 1) := dk_42 (dk_at dksX6_readsClause_1 13 rfl rfl)
theorem dX6_readsClause_37 : decode cX6_readsClause 37 = .ok (.iconst 4, 1) := dk_7 (dk_at dksX6_readsClause_1 14 rfl rfl)
theorem dX6_readsClause_38 : decode cX6_readsClause 38 = .ok (.aload_n 0, 1) := dk_42 (dk_at dksX6_readsClause_1 15 rfl rfl)
theorem dX6_readsClause_39 : decode cX6_readsClause 39 = .ok (.getfield 161, 3) := dk_180 0 161 (dk_at dksX6_readsClause_1 16 rfl rfl)
theorem dX6_readsClause_42 : decode cX6_readsClause 42 = .ok (.invokevirtual 174, 3) := dk_182 0 174 (dk_at dksX6_readsClause_1 19 rfl rfl)
theorem dX6_readsClause_45 : decode cX6_readsClause 45 = .ok (.ireturn, 1) := dk_172 (dk_at dksX6_readsClause_1 22 rfl rfl)
theorem dX6_readsClause_46 : decode cX6_readsClause 46 = .ok (.aload_n 0, 1) := dk_42 (dk_at dksX6_readsClause_1 23 rfl rfl)
theorem dX6_readsClause_47 : decode cX6_readsClause 47 = .ok (.getfield 39, 3) := dk_180 0 39 (dk_at dksX6_readsClause_2 0 rfl rfl)
theorem dX6_readsClause_50 : decode cX6_readsClause 50 = .ok (.aload_n 0, 1) := dk_42 (dk_at dksX6_readsClause_2 3 rfl rfl)
theorem dX6_readsClause_51 : decode cX6_readsClause 51 = .ok (.getfield 239, 3) := dk_180 0 239 (dk_at dksX6_readsClause_2 4 rfl rfl)
theorem dX6_readsClause_54 : decode cX6_readsClause 54 = .ok (.iload_n 1, 1) := dk_27 (dk_at dksX6_readsClause_2 7 rfl rfl)
theorem dX6_readsClause_55 : decode cX6_readsClause 55 = .ok (.iastore, 1) := dk_79 (dk_at dksX6_readsClause_2 8 rfl rfl)
theorem dX6_readsClause_56 : decode cX6_readsClause 56 = .ok (.aload_n 0, 1) := dk_42 (dk_at dksX6_readsClause_2 9 rfl rfl)
theorem dX6_readsClause_57 : decode cX6_readsClause 57 = .ok (.aload_n 0, 1) := dk_42 (dk_at dksX6_readsClause_2 10 rfl rfl)
theorem dX6_readsClause_58 : decode cX6_readsClause 58 = .ok (.getfield 161, 3) := dk_180 0 161 (dk_at dksX6_readsClause_2 11 rfl rfl)
theorem dX6_readsClause_61 : decode cX6_readsClause 61 = .ok (.iconst 1, 1) := dk_4 (dk_at dksX6_readsClause_2 14 rfl rfl)
theorem dX6_readsClause_62 : decode cX6_readsClause 62 = .ok (.iadd, 1) := dk_96 (dk_at dksX6_readsClause_2 15 rfl rfl)
theorem dX6_readsClause_63 : decode cX6_readsClause 63 = .ok (.putfield 161, 3) := dk_181 0 161 (dk_at dksX6_readsClause_2 16 rfl rfl)
theorem dX6_readsClause_66 : decode cX6_readsClause 66 = .ok (.aload_n 0, 1) := dk_42 (dk_at dksX6_readsClause_2 19 rfl rfl)
theorem dX6_readsClause_67 : decode cX6_readsClause 67 = .ok (.getfield 42, 3) := dk_180 0 42 (dk_at dksX6_readsClause_2 20 rfl rfl)
theorem dX6_readsClause_70 : decode cX6_readsClause 70 = .ok (.aload_n 0, 1) := dk_42 (dk_at dksX6_readsClause_2 23 rfl rfl)
theorem dX6_readsClause_71 : decode cX6_readsClause 71 = .ok (.getfield 239, 3) := dk_180 0 239 (dk_at dksX6_readsClause_3 0 rfl rfl)
theorem dX6_readsClause_74 : decode cX6_readsClause 74 = .ok (.aload_n 0, 1) := dk_42 (dk_at dksX6_readsClause_3 3 rfl rfl)
theorem dX6_readsClause_75 : decode cX6_readsClause 75 = .ok (.getfield 184, 3) := dk_180 0 184 (dk_at dksX6_readsClause_3 4 rfl rfl)
theorem dX6_readsClause_78 : decode cX6_readsClause 78 = .ok (.iastore, 1) := dk_79 (dk_at dksX6_readsClause_3 7 rfl rfl)
theorem dX6_readsClause_79 : decode cX6_readsClause 79 = .ok (.aload_n 0, 1) := dk_42 (dk_at dksX6_readsClause_3 8 rfl rfl)
theorem dX6_readsClause_80 : decode cX6_readsClause 80 = .ok (.iconst 0, 1) := dk_3 (dk_at dksX6_readsClause_3 9 rfl rfl)
theorem dX6_readsClause_81 : decode cX6_readsClause 81 = .ok (.putfield 188, 3) := dk_181 0 188 (dk_at dksX6_readsClause_3 10 rfl rfl)
theorem dX6_readsClause_84 : decode cX6_readsClause 84 = .ok (.aload_n 0, 1) := dk_42 (dk_at dksX6_readsClause_3 13 rfl rfl)
theorem dX6_readsClause_85 : decode cX6_readsClause 85 = .ok (.iconst 0, 1) := dk_3 (dk_at dksX6_readsClause_3 14 rfl rfl)
theorem dX6_readsClause_86 : decode cX6_readsClause 86 = .ok (.putfield 191, 3) := dk_181 0 191 (dk_at dksX6_readsClause_3 15 rfl rfl)
theorem dX6_readsClause_89 : decode cX6_readsClause 89 = .ok (.iload_n 1, 1) := dk_27 (dk_at dksX6_readsClause_3 18 rfl rfl)
theorem dX6_readsClause_90 : decode cX6_readsClause 90 = .ok (.bipush 99, 2) := dk_16 99 (dk_at dksX6_readsClause_3 19 rfl rfl)
theorem dX6_readsClause_92 : decode cX6_readsClause 92 = .ok (.if_icmp .ne 12, 3) := dk_160 0 12 (dk_at dksX6_readsClause_3 21 rfl rfl)
theorem dX6_readsClause_95 : decode cX6_readsClause 95 = .ok (.aload_n 0, 1) := dk_42 (dk_at dksX6_readsClause_4 0 rfl rfl)
theorem dX6_readsClause_96 : decode cX6_readsClause 96 = .ok (.invokevirtual 224, 3) := dk_182 0 224 (dk_at dksX6_readsClause_4 1 rfl rfl)
theorem dX6_readsClause_99 : decode cX6_readsClause 99 = .ok (.ifCond .ne 5, 3) := dk_154 0 5 (dk_at dksX6_readsClause_4 4 rfl rfl)
theorem dX6_readsClause_102 : decode cX6_readsClause 102 = .ok (.iconst 0, 1) := dk_3 (dk_at dksX6_readsClause_4 7 rfl rfl)
theorem dX6_readsClause_103 : decode cX6_readsClause 103 = .ok (.ireturn, 1) := dk_172 (dk_at dksX6_readsClause_4 8 rfl rfl)
theorem dX6_readsClause_104 : decode cX6_readsClause 104 = .ok (.aload_n 0, 1) := dk_42 (dk_at dksX6_readsClause_4 9 rfl rfl)
theorem dX6_readsClause_105 : decode cX6_readsClause 105 = .ok (.getfield 45, 3) := dk_180 0 45 (dk_at dksX6_readsClause_4 10 rfl rfl)
theorem dX6_readsClause_108 : decode cX6_readsClause 108 = .ok (.aload_n 0, 1) := dk_42 (dk_at dksX6_readsClause_4 13 rfl rfl)
theorem dX6_readsClause_109 : decode cX6_readsClause 109 = .ok (.getfield 239, 3) := dk_180 0 239 (dk_at dksX6_readsClause_4 14 rfl rfl)
theorem dX6_readsClause_112 : decode cX6_readsClause 112 = .ok (.aload_n 0, 1) := dk_42 (dk_at dksX6_readsClause_4 17 rfl rfl)
theorem dX6_readsClause_113 : decode cX6_readsClause 113 = .ok (.getfield 184, 3) := dk_180 0 184 (dk_at dksX6_readsClause_4 18 rfl rfl)
theorem dX6_readsClause_116 : decode cX6_readsClause 116 = .ok (.iastore, 1) := dk_79 (dk_at dksX6_readsClause_4 21 rfl rfl)
theorem dX6_readsClause_117 : decode cX6_readsClause 117 = .ok (.aload_n 0, 1) := dk_42 (dk_at dksX6_readsClause_4 22 rfl rfl)
theorem dX6_readsClause_118 : decode cX6_readsClause 118 = .ok (.invokevirtual 242, 3) := dk_182 0 242 (dk_at dksX6_readsClause_5 0 rfl rfl)
theorem dX6_readsClause_121 : decode cX6_readsClause 121 = .ok (.ifCond .ne 5, 3) := dk_154 0 5 (dk_at dksX6_readsClause_5 3 rfl rfl)
theorem dX6_readsClause_124 : decode cX6_readsClause 124 = .ok (.iconst 0, 1) := dk_3 (dk_at dksX6_readsClause_5 6 rfl rfl)
theorem dX6_readsClause_125 : decode cX6_readsClause 125 = .ok (.ireturn, 1) := dk_172 (dk_at dksX6_readsClause_5 7 rfl rfl)
theorem dX6_readsClause_126 : decode cX6_readsClause 126 = .ok (.aload_n 0, 1) := dk_42 (dk_at dksX6_readsClause_5 8 rfl rfl)
theorem dX6_readsClause_127 : decode cX6_readsClause 127 = .ok (.getfield 48, 3) := dk_180 0 48 (dk_at dksX6_readsClause_5 9 rfl rfl)
theorem dX6_readsClause_130 : decode cX6_readsClause 130 = .ok (.aload_n 0, 1) := dk_42 (dk_at dksX6_readsClause_5 12 rfl rfl)
theorem dX6_readsClause_131 : decode cX6_readsClause 131 = .ok (.getfield 239, 3) := dk_180 0 239 (dk_at dksX6_readsClause_5 13 rfl rfl)
theorem dX6_readsClause_134 : decode cX6_readsClause 134 = .ok (.aload_n 0, 1) := dk_42 (dk_at dksX6_readsClause_5 16 rfl rfl)
theorem dX6_readsClause_135 : decode cX6_readsClause 135 = .ok (.getfield 184, 3) := dk_180 0 184 (dk_at dksX6_readsClause_5 17 rfl rfl)
theorem dX6_readsClause_138 : decode cX6_readsClause 138 = .ok (.iastore, 1) := dk_79 (dk_at dksX6_readsClause_5 20 rfl rfl)
theorem dX6_readsClause_139 : decode cX6_readsClause 139 = .ok (.aload_n 0, 1) := dk_42 (dk_at dksX6_readsClause_5 21 rfl rfl)
theorem dX6_readsClause_140 : decode cX6_readsClause 140 = .ok (.aload_n 0, 1) := dk_42 (dk_at dksX6_readsClause_5 22 rfl rfl)
theorem dX6_readsClause_141 : decode cX6_readsClause 141 = .ok (.getfield 239, 3) := dk_180 0 239 (dk_at dksX6_readsClause_6 0 rfl rfl)
theorem dX6_readsClause_144 : decode cX6_readsClause 144 = .ok (.iconst 1, 1) := dk_4 (dk_at dksX6_readsClause_6 3 rfl rfl)
theorem dX6_readsClause_145 : decode cX6_readsClause 145 = .ok (.iadd, 1) := dk_96 (dk_at dksX6_readsClause_6 4 rfl rfl)
theorem dX6_readsClause_146 : decode cX6_readsClause 146 = .ok (.putfield 239, 3) := dk_181 0 239 (dk_at dksX6_readsClause_6 5 rfl rfl)
theorem dX6_readsClause_149 : decode cX6_readsClause 149 = .ok (.iconst 1, 1) := dk_4 (dk_at dksX6_readsClause_6 8 rfl rfl)
theorem dX6_readsClause_150 : decode cX6_readsClause 150 = .ok (.ireturn, 1) := dk_172 (dk_at dksX6_readsClause_6 9 rfl rfl)
abbrev cX6_here : ByteArray := prog_17_method_18_code
def yX6_here : MethodName := ⟨RX6, "here", "()I"⟩
def dkwX6_here_1 : List UInt8 := [167, 0, 4, 2, 172]
abbrev dktX6_here_1 : List UInt8 := dkwX6_here_1 ++ []
def dkwX6_here_0 : List UInt8 := [42, 180, 0, 161, 42, 180, 0, 164, 162, 0, 19, 42, 180, 0, 29, 42, 180, 0, 161, 51, 17, 0, 255, 126]
abbrev dktX6_here_0 : List UInt8 := dkwX6_here_0 ++ dktX6_here_1
theorem dksX6_here_0 : cX6_here.data.toList.drop 0 = dktX6_here_0 := by decide +kernel
theorem dksX6_here_1 : cX6_here.data.toList.drop 24 = dktX6_here_1 := dk_seg dksX6_here_0 24 rfl rfl
theorem dX6_here_0 : decode cX6_here 0 = .ok (.aload_n 0, 1) := dk_42 (dk_at dksX6_here_0 0 rfl rfl)
theorem dX6_here_1 : decode cX6_here 1 = .ok (.getfield 161, 3) := dk_180 0 161 (dk_at dksX6_here_0 1 rfl rfl)
theorem dX6_here_4 : decode cX6_here 4 = .ok (.aload_n 0, 1) := dk_42 (dk_at dksX6_here_0 4 rfl rfl)
theorem dX6_here_5 : decode cX6_here 5 = .ok (.getfield 164, 3) := dk_180 0 164 (dk_at dksX6_here_0 5 rfl rfl)
theorem dX6_here_8 : decode cX6_here 8 = .ok (.if_icmp .ge 19, 3) := dk_162 0 19 (dk_at dksX6_here_0 8 rfl rfl)
theorem dX6_here_11 : decode cX6_here 11 = .ok (.aload_n 0, 1) := dk_42 (dk_at dksX6_here_0 11 rfl rfl)
theorem dX6_here_12 : decode cX6_here 12 = .ok (.getfield 29, 3) := dk_180 0 29 (dk_at dksX6_here_0 12 rfl rfl)
theorem dX6_here_15 : decode cX6_here 15 = .ok (.aload_n 0, 1) := dk_42 (dk_at dksX6_here_0 15 rfl rfl)
theorem dX6_here_16 : decode cX6_here 16 = .ok (.getfield 161, 3) := dk_180 0 161 (dk_at dksX6_here_0 16 rfl rfl)
theorem dX6_here_19 : decode cX6_here 19 = .ok (.baload, 1) := dk_51 (dk_at dksX6_here_0 19 rfl rfl)
theorem dX6_here_20 : decode cX6_here 20 = .ok (.sipush 255, 3) := dk_17 0 255 (dk_at dksX6_here_0 20 rfl rfl)
theorem dX6_here_23 : decode cX6_here 23 = .ok (.iand, 1) := dk_126 (dk_at dksX6_here_0 23 rfl rfl)
theorem dX6_here_24 : decode cX6_here 24 = .ok (.goto 4, 3) := dk_167 0 4 (dk_at dksX6_here_1 0 rfl rfl)
theorem dX6_here_27 : decode cX6_here 27 = .ok (.iconst (-1), 1) := dk_2 (dk_at dksX6_here_1 3 rfl rfl)
theorem dX6_here_28 : decode cX6_here 28 = .ok (.ireturn, 1) := dk_172 (dk_at dksX6_here_1 4 rfl rfl)
abbrev cX6_wrongAt : ByteArray := prog_17_method_20_code
def yX6_wrongAt : MethodName := ⟨RX6, "wrongAt", "(II)Z"⟩
def dkwX6_wrongAt_0 : List UInt8 := [42, 17, 252, 24, 27, 104, 28, 100, 181, 0, 171, 3, 172]
abbrev dktX6_wrongAt_0 : List UInt8 := dkwX6_wrongAt_0 ++ []
theorem dksX6_wrongAt_0 : cX6_wrongAt.data.toList.drop 0 = dktX6_wrongAt_0 := by decide +kernel
theorem dX6_wrongAt_0 : decode cX6_wrongAt 0 = .ok (.aload_n 0, 1) := dk_42 (dk_at dksX6_wrongAt_0 0 rfl rfl)
theorem dX6_wrongAt_1 : decode cX6_wrongAt 1 = .ok (.sipush (-1000), 3) := dk_17 252 24 (dk_at dksX6_wrongAt_0 1 rfl rfl)
theorem dX6_wrongAt_4 : decode cX6_wrongAt 4 = .ok (.iload_n 1, 1) := dk_27 (dk_at dksX6_wrongAt_0 4 rfl rfl)
theorem dX6_wrongAt_5 : decode cX6_wrongAt 5 = .ok (.imul, 1) := dk_104 (dk_at dksX6_wrongAt_0 5 rfl rfl)
theorem dX6_wrongAt_6 : decode cX6_wrongAt 6 = .ok (.iload_n 2, 1) := dk_28 (dk_at dksX6_wrongAt_0 6 rfl rfl)
theorem dX6_wrongAt_7 : decode cX6_wrongAt 7 = .ok (.isub, 1) := dk_100 (dk_at dksX6_wrongAt_0 7 rfl rfl)
theorem dX6_wrongAt_8 : decode cX6_wrongAt 8 = .ok (.putfield 171, 3) := dk_181 0 171 (dk_at dksX6_wrongAt_0 8 rfl rfl)
theorem dX6_wrongAt_11 : decode cX6_wrongAt 11 = .ok (.iconst 0, 1) := dk_3 (dk_at dksX6_wrongAt_0 11 rfl rfl)
theorem dX6_wrongAt_12 : decode cX6_wrongAt 12 = .ok (.ireturn, 1) := dk_172 (dk_at dksX6_wrongAt_0 12 rfl rfl)
abbrev cX6_readsSum : ByteArray := prog_17_method_31_code
def yX6_readsSum : MethodName := ⟨RX6, "readsSum", "()Z"⟩
def dkwX6_readsSum_7 : List UInt8 := [167, 255, 107]
abbrev dktX6_readsSum_7 : List UInt8 := dkwX6_readsSum_7 ++ []
def dkwX6_readsSum_6 : List UInt8 := [182, 0, 221, 153, 0, 13, 42, 4, 42, 180, 0, 161, 182, 0, 174, 172, 42, 4, 182, 0, 217, 4, 172]
abbrev dktX6_readsSum_6 : List UInt8 := dkwX6_readsSum_6 ++ dktX6_readsSum_7
def dkwX6_readsSum_5 : List UInt8 := [180, 0, 188, 4, 100, 181, 0, 188, 42, 42, 180, 0, 161, 4, 96, 181, 0, 161, 167, 0, 28, 42, 27]
abbrev dktX6_readsSum_5 : List UInt8 := dkwX6_readsSum_5 ++ dktX6_readsSum_6
def dkwX6_readsSum_4 : List UInt8 := [182, 0, 221, 153, 0, 41, 42, 4, 182, 0, 217, 42, 42, 180, 0, 191, 4, 100, 181, 0, 191, 42, 42]
abbrev dktX6_readsSum_4 : List UInt8 := dkwX6_readsSum_4 ++ dktX6_readsSum_5
def dkwX6_readsSum_3 : List UInt8 := [96, 181, 0, 161, 42, 182, 0, 211, 154, 0, 85, 3, 172, 42, 182, 0, 167, 16, 93, 160, 0, 49, 42, 27]
abbrev dktX6_readsSum_3 : List UInt8 := dkwX6_readsSum_3 ++ dktX6_readsSum_4
def dkwX6_readsSum_2 : List UInt8 := [180, 0, 191, 18, 187, 28, 104, 79, 42, 42, 180, 0, 191, 4, 96, 181, 0, 191, 42, 42, 180, 0, 161, 4]
abbrev dktX6_readsSum_2 : List UInt8 := dkwX6_readsSum_2 ++ dktX6_readsSum_3
def dkwX6_readsSum_1 : List UInt8 := [159, 0, 59, 42, 28, 7, 162, 0, 7, 4, 167, 0, 4, 3, 182, 0, 217, 42, 180, 0, 36, 42]
abbrev dktX6_readsSum_1 : List UInt8 := dkwX6_readsSum_1 ++ dktX6_readsSum_2
def dkwX6_readsSum_0 : List UInt8 := [42, 180, 0, 191, 60, 42, 182, 0, 211, 154, 0, 5, 3, 172, 42, 182, 0, 167, 184, 0, 214, 61, 28, 2]
abbrev dktX6_readsSum_0 : List UInt8 := dkwX6_readsSum_0 ++ dktX6_readsSum_1
theorem dksX6_readsSum_0 : cX6_readsSum.data.toList.drop 0 = dktX6_readsSum_0 := by decide +kernel
theorem dksX6_readsSum_1 : cX6_readsSum.data.toList.drop 24 = dktX6_readsSum_1 := dk_seg dksX6_readsSum_0 24 rfl rfl
theorem dksX6_readsSum_2 : cX6_readsSum.data.toList.drop 46 = dktX6_readsSum_2 := dk_seg dksX6_readsSum_1 22 rfl rfl
theorem dksX6_readsSum_3 : cX6_readsSum.data.toList.drop 70 = dktX6_readsSum_3 := dk_seg dksX6_readsSum_2 24 rfl rfl
theorem dksX6_readsSum_4 : cX6_readsSum.data.toList.drop 94 = dktX6_readsSum_4 := dk_seg dksX6_readsSum_3 24 rfl rfl
theorem dksX6_readsSum_5 : cX6_readsSum.data.toList.drop 117 = dktX6_readsSum_5 := dk_seg dksX6_readsSum_4 23 rfl rfl
theorem dksX6_readsSum_6 : cX6_readsSum.data.toList.drop 140 = dktX6_readsSum_6 := dk_seg dksX6_readsSum_5 23 rfl rfl
theorem dksX6_readsSum_7 : cX6_readsSum.data.toList.drop 163 = dktX6_readsSum_7 := dk_seg dksX6_readsSum_6 23 rfl rfl
theorem dX6_readsSum_0 : decode cX6_readsSum 0 = .ok (.aload_n 0, 1) := dk_42 (dk_at dksX6_readsSum_0 0 rfl rfl)
theorem dX6_readsSum_1 : decode cX6_readsSum 1 = .ok (.getfield 191, 3) := dk_180 0 191 (dk_at dksX6_readsSum_0 1 rfl rfl)
theorem dX6_readsSum_4 : decode cX6_readsSum 4 = .ok (.istore_n 1, 1) := dk_60 (dk_at dksX6_readsSum_0 4 rfl rfl)
theorem dX6_readsSum_5 : decode cX6_readsSum 5 = .ok (.aload_n 0, 1) := dk_42 (dk_at dksX6_readsSum_0 5 rfl rfl)
theorem dX6_readsSum_6 : decode cX6_readsSum 6 = .ok (.invokevirtual 211, 3) := dk_182 0 211 (dk_at dksX6_readsSum_0 6 rfl rfl)
theorem dX6_readsSum_9 : decode cX6_readsSum 9 = .ok (.ifCond .ne 5, 3) := dk_154 0 5 (dk_at dksX6_readsSum_0 9 rfl rfl)
theorem dX6_readsSum_12 : decode cX6_readsSum 12 = .ok (.iconst 0, 1) := dk_3 (dk_at dksX6_readsSum_0 12 rfl rfl)
theorem dX6_readsSum_13 : decode cX6_readsSum 13 = .ok (.ireturn, 1) := dk_172 (dk_at dksX6_readsSum_0 13 rfl rfl)
theorem dX6_readsSum_14 : decode cX6_readsSum 14 = .ok (.aload_n 0, 1) := dk_42 (dk_at dksX6_readsSum_0 14 rfl rfl)
theorem dX6_readsSum_15 : decode cX6_readsSum 15 = .ok (.invokevirtual 167, 3) := dk_182 0 167 (dk_at dksX6_readsSum_0 15 rfl rfl)
theorem dX6_readsSum_18 : decode cX6_readsSum 18 = .ok (.invokestatic 214, 3) := dk_184 0 214 (dk_at dksX6_readsSum_0 18 rfl rfl)
theorem dX6_readsSum_21 : decode cX6_readsSum 21 = .ok (.istore_n 2, 1) := dk_61 (dk_at dksX6_readsSum_0 21 rfl rfl)
theorem dX6_readsSum_22 : decode cX6_readsSum 22 = .ok (.iload_n 2, 1) := dk_28 (dk_at dksX6_readsSum_0 22 rfl rfl)
theorem dX6_readsSum_23 : decode cX6_readsSum 23 = .ok (.iconst (-1), 1) := dk_2 (dk_at dksX6_readsSum_0 23 rfl rfl)
theorem dX6_readsSum_24 : decode cX6_readsSum 24 = .ok (.if_icmp .eq 59, 3) := dk_159 0 59 (dk_at dksX6_readsSum_1 0 rfl rfl)
theorem dX6_readsSum_27 : decode cX6_readsSum 27 = .ok (.aload_n 0, 1) := dk_42 (dk_at dksX6_readsSum_1 3 rfl rfl)
theorem dX6_readsSum_28 : decode cX6_readsSum 28 = .ok (.iload_n 2, 1) := dk_28 (dk_at dksX6_readsSum_1 4 rfl rfl)
theorem dX6_readsSum_29 : decode cX6_readsSum 29 = .ok (.iconst 4, 1) := dk_7 (dk_at dksX6_readsSum_1 5 rfl rfl)
theorem dX6_readsSum_30 : decode cX6_readsSum 30 = .ok (.if_icmp .ge 7, 3) := dk_162 0 7 (dk_at dksX6_readsSum_1 6 rfl rfl)
theorem dX6_readsSum_33 : decode cX6_readsSum 33 = .ok (.iconst 1, 1) := dk_4 (dk_at dksX6_readsSum_1 9 rfl rfl)
theorem dX6_readsSum_34 : decode cX6_readsSum 34 = .ok (.goto 4, 3) := dk_167 0 4 (dk_at dksX6_readsSum_1 10 rfl rfl)
theorem dX6_readsSum_37 : decode cX6_readsSum 37 = .ok (.iconst 0, 1) := dk_3 (dk_at dksX6_readsSum_1 13 rfl rfl)
theorem dX6_readsSum_38 : decode cX6_readsSum 38 = .ok (.invokevirtual 217, 3) := dk_182 0 217 (dk_at dksX6_readsSum_1 14 rfl rfl)
theorem dX6_readsSum_41 : decode cX6_readsSum 41 = .ok (.aload_n 0, 1) := dk_42 (dk_at dksX6_readsSum_1 17 rfl rfl)
theorem dX6_readsSum_42 : decode cX6_readsSum 42 = .ok (.getfield 36, 3) := dk_180 0 36 (dk_at dksX6_readsSum_1 18 rfl rfl)
theorem dX6_readsSum_45 : decode cX6_readsSum 45 = .ok (.aload_n 0, 1) := dk_42 (dk_at dksX6_readsSum_1 21 rfl rfl)
theorem dX6_readsSum_46 : decode cX6_readsSum 46 = .ok (.getfield 191, 3) := dk_180 0 191 (dk_at dksX6_readsSum_2 0 rfl rfl)
theorem dX6_readsSum_49 : decode cX6_readsSum 49 = .ok (.ldc 187, 2) := dk_18 187 (dk_at dksX6_readsSum_2 3 rfl rfl)
theorem dX6_readsSum_51 : decode cX6_readsSum 51 = .ok (.iload_n 2, 1) := dk_28 (dk_at dksX6_readsSum_2 5 rfl rfl)
theorem dX6_readsSum_52 : decode cX6_readsSum 52 = .ok (.imul, 1) := dk_104 (dk_at dksX6_readsSum_2 6 rfl rfl)
theorem dX6_readsSum_53 : decode cX6_readsSum 53 = .ok (.iastore, 1) := dk_79 (dk_at dksX6_readsSum_2 7 rfl rfl)
theorem dX6_readsSum_54 : decode cX6_readsSum 54 = .ok (.aload_n 0, 1) := dk_42 (dk_at dksX6_readsSum_2 8 rfl rfl)
theorem dX6_readsSum_55 : decode cX6_readsSum 55 = .ok (.aload_n 0, 1) := dk_42 (dk_at dksX6_readsSum_2 9 rfl rfl)
theorem dX6_readsSum_56 : decode cX6_readsSum 56 = .ok (.getfield 191, 3) := dk_180 0 191 (dk_at dksX6_readsSum_2 10 rfl rfl)
theorem dX6_readsSum_59 : decode cX6_readsSum 59 = .ok (.iconst 1, 1) := dk_4 (dk_at dksX6_readsSum_2 13 rfl rfl)
theorem dX6_readsSum_60 : decode cX6_readsSum 60 = .ok (.iadd, 1) := dk_96 (dk_at dksX6_readsSum_2 14 rfl rfl)
theorem dX6_readsSum_61 : decode cX6_readsSum 61 = .ok (.putfield 191, 3) := dk_181 0 191 (dk_at dksX6_readsSum_2 15 rfl rfl)
theorem dX6_readsSum_64 : decode cX6_readsSum 64 = .ok (.aload_n 0, 1) := dk_42 (dk_at dksX6_readsSum_2 18 rfl rfl)
theorem dX6_readsSum_65 : decode cX6_readsSum 65 = .ok (.aload_n 0, 1) := dk_42 (dk_at dksX6_readsSum_2 19 rfl rfl)
theorem dX6_readsSum_66 : decode cX6_readsSum 66 = .ok (.getfield 161, 3) := dk_180 0 161 (dk_at dksX6_readsSum_2 20 rfl rfl)
theorem dX6_readsSum_69 : decode cX6_readsSum 69 = .ok (.iconst 1, 1) := dk_4 (dk_at dksX6_readsSum_2 23 rfl rfl)
theorem dX6_readsSum_70 : decode cX6_readsSum 70 = .ok (.iadd, 1) := dk_96 (dk_at dksX6_readsSum_3 0 rfl rfl)
theorem dX6_readsSum_71 : decode cX6_readsSum 71 = .ok (.putfield 161, 3) := dk_181 0 161 (dk_at dksX6_readsSum_3 1 rfl rfl)
theorem dX6_readsSum_74 : decode cX6_readsSum 74 = .ok (.aload_n 0, 1) := dk_42 (dk_at dksX6_readsSum_3 4 rfl rfl)
theorem dX6_readsSum_75 : decode cX6_readsSum 75 = .ok (.invokevirtual 211, 3) := dk_182 0 211 (dk_at dksX6_readsSum_3 5 rfl rfl)
theorem dX6_readsSum_78 : decode cX6_readsSum 78 = .ok (.ifCond .ne 85, 3) := dk_154 0 85 (dk_at dksX6_readsSum_3 8 rfl rfl)
theorem dX6_readsSum_81 : decode cX6_readsSum 81 = .ok (.iconst 0, 1) := dk_3 (dk_at dksX6_readsSum_3 11 rfl rfl)
theorem dX6_readsSum_82 : decode cX6_readsSum 82 = .ok (.ireturn, 1) := dk_172 (dk_at dksX6_readsSum_3 12 rfl rfl)
theorem dX6_readsSum_83 : decode cX6_readsSum 83 = .ok (.aload_n 0, 1) := dk_42 (dk_at dksX6_readsSum_3 13 rfl rfl)
theorem dX6_readsSum_84 : decode cX6_readsSum 84 = .ok (.invokevirtual 167, 3) := dk_182 0 167 (dk_at dksX6_readsSum_3 14 rfl rfl)
theorem dX6_readsSum_87 : decode cX6_readsSum 87 = .ok (.bipush 93, 2) := dk_16 93 (dk_at dksX6_readsSum_3 17 rfl rfl)
theorem dX6_readsSum_89 : decode cX6_readsSum 89 = .ok (.if_icmp .ne 49, 3) := dk_160 0 49 (dk_at dksX6_readsSum_3 19 rfl rfl)
theorem dX6_readsSum_92 : decode cX6_readsSum 92 = .ok (.aload_n 0, 1) := dk_42 (dk_at dksX6_readsSum_3 22 rfl rfl)
theorem dX6_readsSum_93 : decode cX6_readsSum 93 = .ok (.iload_n 1, 1) := dk_27 (dk_at dksX6_readsSum_3 23 rfl rfl)
theorem dX6_readsSum_94 : decode cX6_readsSum 94 = .ok (.invokevirtual 221, 3) := dk_182 0 221 (dk_at dksX6_readsSum_4 0 rfl rfl)
theorem dX6_readsSum_97 : decode cX6_readsSum 97 = .ok (.ifCond .eq 41, 3) := dk_153 0 41 (dk_at dksX6_readsSum_4 3 rfl rfl)
theorem dX6_readsSum_100 : decode cX6_readsSum 100 = .ok (.aload_n 0, 1) := dk_42 (dk_at dksX6_readsSum_4 6 rfl rfl)
theorem dX6_readsSum_101 : decode cX6_readsSum 101 = .ok (.iconst 1, 1) := dk_4 (dk_at dksX6_readsSum_4 7 rfl rfl)
theorem dX6_readsSum_102 : decode cX6_readsSum 102 = .ok (.invokevirtual 217, 3) := dk_182 0 217 (dk_at dksX6_readsSum_4 8 rfl rfl)
theorem dX6_readsSum_105 : decode cX6_readsSum 105 = .ok (.aload_n 0, 1) := dk_42 (dk_at dksX6_readsSum_4 11 rfl rfl)
theorem dX6_readsSum_106 : decode cX6_readsSum 106 = .ok (.aload_n 0, 1) := dk_42 (dk_at dksX6_readsSum_4 12 rfl rfl)
theorem dX6_readsSum_107 : decode cX6_readsSum 107 = .ok (.getfield 191, 3) := dk_180 0 191 (dk_at dksX6_readsSum_4 13 rfl rfl)
theorem dX6_readsSum_110 : decode cX6_readsSum 110 = .ok (.iconst 1, 1) := dk_4 (dk_at dksX6_readsSum_4 16 rfl rfl)
theorem dX6_readsSum_111 : decode cX6_readsSum 111 = .ok (.isub, 1) := dk_100 (dk_at dksX6_readsSum_4 17 rfl rfl)
theorem dX6_readsSum_112 : decode cX6_readsSum 112 = .ok (.putfield 191, 3) := dk_181 0 191 (dk_at dksX6_readsSum_4 18 rfl rfl)
theorem dX6_readsSum_115 : decode cX6_readsSum 115 = .ok (.aload_n 0, 1) := dk_42 (dk_at dksX6_readsSum_4 21 rfl rfl)
theorem dX6_readsSum_116 : decode cX6_readsSum 116 = .ok (.aload_n 0, 1) := dk_42 (dk_at dksX6_readsSum_4 22 rfl rfl)
theorem dX6_readsSum_117 : decode cX6_readsSum 117 = .ok (.getfield 188, 3) := dk_180 0 188 (dk_at dksX6_readsSum_5 0 rfl rfl)
theorem dX6_readsSum_120 : decode cX6_readsSum 120 = .ok (.iconst 1, 1) := dk_4 (dk_at dksX6_readsSum_5 3 rfl rfl)
theorem dX6_readsSum_121 : decode cX6_readsSum 121 = .ok (.isub, 1) := dk_100 (dk_at dksX6_readsSum_5 4 rfl rfl)
theorem dX6_readsSum_122 : decode cX6_readsSum 122 = .ok (.putfield 188, 3) := dk_181 0 188 (dk_at dksX6_readsSum_5 5 rfl rfl)
theorem dX6_readsSum_125 : decode cX6_readsSum 125 = .ok (.aload_n 0, 1) := dk_42 (dk_at dksX6_readsSum_5 8 rfl rfl)
theorem dX6_readsSum_126 : decode cX6_readsSum 126 = .ok (.aload_n 0, 1) := dk_42 (dk_at dksX6_readsSum_5 9 rfl rfl)
theorem dX6_readsSum_127 : decode cX6_readsSum 127 = .ok (.getfield 161, 3) := dk_180 0 161 (dk_at dksX6_readsSum_5 10 rfl rfl)
theorem dX6_readsSum_130 : decode cX6_readsSum 130 = .ok (.iconst 1, 1) := dk_4 (dk_at dksX6_readsSum_5 13 rfl rfl)
theorem dX6_readsSum_131 : decode cX6_readsSum 131 = .ok (.iadd, 1) := dk_96 (dk_at dksX6_readsSum_5 14 rfl rfl)
theorem dX6_readsSum_132 : decode cX6_readsSum 132 = .ok (.putfield 161, 3) := dk_181 0 161 (dk_at dksX6_readsSum_5 15 rfl rfl)
theorem dX6_readsSum_135 : decode cX6_readsSum 135 = .ok (.goto 28, 3) := dk_167 0 28 (dk_at dksX6_readsSum_5 18 rfl rfl)
theorem dX6_readsSum_138 : decode cX6_readsSum 138 = .ok (.aload_n 0, 1) := dk_42 (dk_at dksX6_readsSum_5 21 rfl rfl)
theorem dX6_readsSum_139 : decode cX6_readsSum 139 = .ok (.iload_n 1, 1) := dk_27 (dk_at dksX6_readsSum_5 22 rfl rfl)
theorem dX6_readsSum_140 : decode cX6_readsSum 140 = .ok (.invokevirtual 221, 3) := dk_182 0 221 (dk_at dksX6_readsSum_6 0 rfl rfl)
theorem dX6_readsSum_143 : decode cX6_readsSum 143 = .ok (.ifCond .eq 13, 3) := dk_153 0 13 (dk_at dksX6_readsSum_6 3 rfl rfl)
theorem dX6_readsSum_146 : decode cX6_readsSum 146 = .ok (.aload_n 0, 1) := dk_42 (dk_at dksX6_readsSum_6 6 rfl rfl)
theorem dX6_readsSum_147 : decode cX6_readsSum 147 = .ok (.iconst 1, 1) := dk_4 (dk_at dksX6_readsSum_6 7 rfl rfl)
theorem dX6_readsSum_148 : decode cX6_readsSum 148 = .ok (.aload_n 0, 1) := dk_42 (dk_at dksX6_readsSum_6 8 rfl rfl)
theorem dX6_readsSum_149 : decode cX6_readsSum 149 = .ok (.getfield 161, 3) := dk_180 0 161 (dk_at dksX6_readsSum_6 9 rfl rfl)
theorem dX6_readsSum_152 : decode cX6_readsSum 152 = .ok (.invokevirtual 174, 3) := dk_182 0 174 (dk_at dksX6_readsSum_6 12 rfl rfl)
theorem dX6_readsSum_155 : decode cX6_readsSum 155 = .ok (.ireturn, 1) := dk_172 (dk_at dksX6_readsSum_6 15 rfl rfl)
theorem dX6_readsSum_156 : decode cX6_readsSum 156 = .ok (.aload_n 0, 1) := dk_42 (dk_at dksX6_readsSum_6 16 rfl rfl)
theorem dX6_readsSum_157 : decode cX6_readsSum 157 = .ok (.iconst 1, 1) := dk_4 (dk_at dksX6_readsSum_6 17 rfl rfl)
theorem dX6_readsSum_158 : decode cX6_readsSum 158 = .ok (.invokevirtual 217, 3) := dk_182 0 217 (dk_at dksX6_readsSum_6 18 rfl rfl)
theorem dX6_readsSum_161 : decode cX6_readsSum 161 = .ok (.iconst 1, 1) := dk_4 (dk_at dksX6_readsSum_6 21 rfl rfl)
theorem dX6_readsSum_162 : decode cX6_readsSum 162 = .ok (.ireturn, 1) := dk_172 (dk_at dksX6_readsSum_6 22 rfl rfl)
theorem dX6_readsSum_163 : decode cX6_readsSum 163 = .ok (.goto (-149), 3) := dk_167 255 107 (dk_at dksX6_readsSum_7 0 rfl rfl)
abbrev cX6_readsFactor : ByteArray := prog_17_method_29_code
def yX6_readsFactor : MethodName := ⟨RX6, "readsFactor", "()Z"⟩
def dkwX6_readsFactor_3 : List UInt8 := [27, 182, 0, 197, 42, 42, 180, 0, 161, 4, 96, 181, 0, 161, 4, 172]
abbrev dktX6_readsFactor_3 : List UInt8 := dkwX6_readsFactor_3 ++ []
def dkwX6_readsFactor_2 : List UInt8 := [182, 0, 167, 184, 0, 207, 60, 27, 2, 160, 0, 13, 42, 4, 42, 180, 0, 161, 182, 0, 174, 172, 42, 4]
abbrev dktX6_readsFactor_2 : List UInt8 := dkwX6_readsFactor_2 ++ dktX6_readsFactor_3
def dkwX6_readsFactor_1 : List UInt8 := [153, 0, 23, 42, 182, 0, 204, 154, 0, 5, 3, 172, 42, 3, 42, 180, 0, 178, 182, 0, 197, 4, 172, 42]
abbrev dktX6_readsFactor_1 : List UInt8 := dkwX6_readsFactor_1 ++ dktX6_readsFactor_2
def dkwX6_readsFactor_0 : List UInt8 := [42, 182, 0, 167, 16, 91, 160, 0, 14, 42, 16, 14, 182, 0, 201, 154, 255, 241, 3, 172, 42, 182, 0, 181]
abbrev dktX6_readsFactor_0 : List UInt8 := dkwX6_readsFactor_0 ++ dktX6_readsFactor_1
theorem dksX6_readsFactor_0 : cX6_readsFactor.data.toList.drop 0 = dktX6_readsFactor_0 := by decide +kernel
theorem dksX6_readsFactor_1 : cX6_readsFactor.data.toList.drop 24 = dktX6_readsFactor_1 := dk_seg dksX6_readsFactor_0 24 rfl rfl
theorem dksX6_readsFactor_2 : cX6_readsFactor.data.toList.drop 48 = dktX6_readsFactor_2 := dk_seg dksX6_readsFactor_1 24 rfl rfl
theorem dksX6_readsFactor_3 : cX6_readsFactor.data.toList.drop 72 = dktX6_readsFactor_3 := dk_seg dksX6_readsFactor_2 24 rfl rfl
theorem dX6_readsFactor_0 : decode cX6_readsFactor 0 = .ok (.aload_n 0, 1) := dk_42 (dk_at dksX6_readsFactor_0 0 rfl rfl)
theorem dX6_readsFactor_1 : decode cX6_readsFactor 1 = .ok (.invokevirtual 167, 3) := dk_182 0 167 (dk_at dksX6_readsFactor_0 1 rfl rfl)
theorem dX6_readsFactor_4 : decode cX6_readsFactor 4 = .ok (.bipush 91, 2) := dk_16 91 (dk_at dksX6_readsFactor_0 4 rfl rfl)
theorem dX6_readsFactor_6 : decode cX6_readsFactor 6 = .ok (.if_icmp .ne 14, 3) := dk_160 0 14 (dk_at dksX6_readsFactor_0 6 rfl rfl)
theorem dX6_readsFactor_9 : decode cX6_readsFactor 9 = .ok (.aload_n 0, 1) := dk_42 (dk_at dksX6_readsFactor_0 9 rfl rfl)
theorem dX6_readsFactor_10 : decode cX6_readsFactor 10 = .ok (.bipush 14, 2) := dk_16 14 (dk_at dksX6_readsFactor_0 10 rfl rfl)
theorem dX6_readsFactor_12 : decode cX6_readsFactor 12 = .ok (.invokevirtual 201, 3) := dk_182 0 201 (dk_at dksX6_readsFactor_0 12 rfl rfl)
theorem dX6_readsFactor_15 : decode cX6_readsFactor 15 = .ok (.ifCond .ne (-15), 3) := dk_154 255 241 (dk_at dksX6_readsFactor_0 15 rfl rfl)
theorem dX6_readsFactor_18 : decode cX6_readsFactor 18 = .ok (.iconst 0, 1) := dk_3 (dk_at dksX6_readsFactor_0 18 rfl rfl)
theorem dX6_readsFactor_19 : decode cX6_readsFactor 19 = .ok (.ireturn, 1) := dk_172 (dk_at dksX6_readsFactor_0 19 rfl rfl)
theorem dX6_readsFactor_20 : decode cX6_readsFactor 20 = .ok (.aload_n 0, 1) := dk_42 (dk_at dksX6_readsFactor_0 20 rfl rfl)
theorem dX6_readsFactor_21 : decode cX6_readsFactor 21 = .ok (.invokevirtual 181, 3) := dk_182 0 181 (dk_at dksX6_readsFactor_0 21 rfl rfl)
theorem dX6_readsFactor_24 : decode cX6_readsFactor 24 = .ok (.ifCond .eq 23, 3) := dk_153 0 23 (dk_at dksX6_readsFactor_1 0 rfl rfl)
theorem dX6_readsFactor_27 : decode cX6_readsFactor 27 = .ok (.aload_n 0, 1) := dk_42 (dk_at dksX6_readsFactor_1 3 rfl rfl)
theorem dX6_readsFactor_28 : decode cX6_readsFactor 28 = .ok (.invokevirtual 204, 3) := dk_182 0 204 (dk_at dksX6_readsFactor_1 4 rfl rfl)
theorem dX6_readsFactor_31 : decode cX6_readsFactor 31 = .ok (.ifCond .ne 5, 3) := dk_154 0 5 (dk_at dksX6_readsFactor_1 7 rfl rfl)
theorem dX6_readsFactor_34 : decode cX6_readsFactor 34 = .ok (.iconst 0, 1) := dk_3 (dk_at dksX6_readsFactor_1 10 rfl rfl)
theorem dX6_readsFactor_35 : decode cX6_readsFactor 35 = .ok (.ireturn, 1) := dk_172 (dk_at dksX6_readsFactor_1 11 rfl rfl)
theorem dX6_readsFactor_36 : decode cX6_readsFactor 36 = .ok (.aload_n 0, 1) := dk_42 (dk_at dksX6_readsFactor_1 12 rfl rfl)
theorem dX6_readsFactor_37 : decode cX6_readsFactor 37 = .ok (.iconst 0, 1) := dk_3 (dk_at dksX6_readsFactor_1 13 rfl rfl)
theorem dX6_readsFactor_38 : decode cX6_readsFactor 38 = .ok (.aload_n 0, 1) := dk_42 (dk_at dksX6_readsFactor_1 14 rfl rfl)
theorem dX6_readsFactor_39 : decode cX6_readsFactor 39 = .ok (.getfield 178, 3) := dk_180 0 178 (dk_at dksX6_readsFactor_1 15 rfl rfl)
theorem dX6_readsFactor_42 : decode cX6_readsFactor 42 = .ok (.invokevirtual 197, 3) := dk_182 0 197 (dk_at dksX6_readsFactor_1 18 rfl rfl)
theorem dX6_readsFactor_45 : decode cX6_readsFactor 45 = .ok (.iconst 1, 1) := dk_4 (dk_at dksX6_readsFactor_1 21 rfl rfl)
theorem dX6_readsFactor_46 : decode cX6_readsFactor 46 = .ok (.ireturn, 1) := dk_172 (dk_at dksX6_readsFactor_1 22 rfl rfl)
theorem dX6_readsFactor_47 : decode cX6_readsFactor 47 = .ok (.aload_n 0, 1) := dk_42 (dk_at dksX6_readsFactor_1 23 rfl rfl)
theorem dX6_readsFactor_48 : decode cX6_readsFactor 48 = .ok (.invokevirtual 167, 3) := dk_182 0 167 (dk_at dksX6_readsFactor_2 0 rfl rfl)
theorem dX6_readsFactor_51 : decode cX6_readsFactor 51 = .ok (.invokestatic 207, 3) := dk_184 0 207 (dk_at dksX6_readsFactor_2 3 rfl rfl)
theorem dX6_readsFactor_54 : decode cX6_readsFactor 54 = .ok (.istore_n 1, 1) := dk_60 (dk_at dksX6_readsFactor_2 6 rfl rfl)
theorem dX6_readsFactor_55 : decode cX6_readsFactor 55 = .ok (.iload_n 1, 1) := dk_27 (dk_at dksX6_readsFactor_2 7 rfl rfl)
theorem dX6_readsFactor_56 : decode cX6_readsFactor 56 = .ok (.iconst (-1), 1) := dk_2 (dk_at dksX6_readsFactor_2 8 rfl rfl)
theorem dX6_readsFactor_57 : decode cX6_readsFactor 57 = .ok (.if_icmp .ne 13, 3) := dk_160 0 13 (dk_at dksX6_readsFactor_2 9 rfl rfl)
theorem dX6_readsFactor_60 : decode cX6_readsFactor 60 = .ok (.aload_n 0, 1) := dk_42 (dk_at dksX6_readsFactor_2 12 rfl rfl)
theorem dX6_readsFactor_61 : decode cX6_readsFactor 61 = .ok (.iconst 1, 1) := dk_4 (dk_at dksX6_readsFactor_2 13 rfl rfl)
theorem dX6_readsFactor_62 : decode cX6_readsFactor 62 = .ok (.aload_n 0, 1) := dk_42 (dk_at dksX6_readsFactor_2 14 rfl rfl)
theorem dX6_readsFactor_63 : decode cX6_readsFactor 63 = .ok (.getfield 161, 3) := dk_180 0 161 (dk_at dksX6_readsFactor_2 15 rfl rfl)
theorem dX6_readsFactor_66 : decode cX6_readsFactor 66 = .ok (.invokevirtual 174, 3) := dk_182 0 174 (dk_at dksX6_readsFactor_2 18 rfl rfl)
theorem dX6_readsFactor_69 : decode cX6_readsFactor 69 = .ok (.ireturn, 1) := dk_172 (dk_at dksX6_readsFactor_2 21 rfl rfl)
theorem dX6_readsFactor_70 : decode cX6_readsFactor 70 = .ok (.aload_n 0, 1) := dk_42 (dk_at dksX6_readsFactor_2 22 rfl rfl)
theorem dX6_readsFactor_71 : decode cX6_readsFactor 71 = .ok (.iconst 1, 1) := dk_4 (dk_at dksX6_readsFactor_2 23 rfl rfl)
theorem dX6_readsFactor_72 : decode cX6_readsFactor 72 = .ok (.iload_n 1, 1) := dk_27 (dk_at dksX6_readsFactor_3 0 rfl rfl)
theorem dX6_readsFactor_73 : decode cX6_readsFactor 73 = .ok (.invokevirtual 197, 3) := dk_182 0 197 (dk_at dksX6_readsFactor_3 1 rfl rfl)
theorem dX6_readsFactor_76 : decode cX6_readsFactor 76 = .ok (.aload_n 0, 1) := dk_42 (dk_at dksX6_readsFactor_3 4 rfl rfl)
theorem dX6_readsFactor_77 : decode cX6_readsFactor 77 = .ok (.aload_n 0, 1) := dk_42 (dk_at dksX6_readsFactor_3 5 rfl rfl)
theorem dX6_readsFactor_78 : decode cX6_readsFactor 78 = .ok (.getfield 161, 3) := dk_180 0 161 (dk_at dksX6_readsFactor_3 6 rfl rfl)
theorem dX6_readsFactor_81 : decode cX6_readsFactor 81 = .ok (.iconst 1, 1) := dk_4 (dk_at dksX6_readsFactor_3 9 rfl rfl)
theorem dX6_readsFactor_82 : decode cX6_readsFactor 82 = .ok (.iadd, 1) := dk_96 (dk_at dksX6_readsFactor_3 10 rfl rfl)
theorem dX6_readsFactor_83 : decode cX6_readsFactor 83 = .ok (.putfield 161, 3) := dk_181 0 161 (dk_at dksX6_readsFactor_3 11 rfl rfl)
theorem dX6_readsFactor_86 : decode cX6_readsFactor 86 = .ok (.iconst 1, 1) := dk_4 (dk_at dksX6_readsFactor_3 14 rfl rfl)
theorem dX6_readsFactor_87 : decode cX6_readsFactor 87 = .ok (.ireturn, 1) := dk_172 (dk_at dksX6_readsFactor_3 15 rfl rfl)
abbrev cX6_opens : ByteArray := prog_17_method_24_code
def yX6_opens : MethodName := ⟨RX6, "opens", "(I)Z"⟩
def dkwX6_opens_2 : List UInt8 := [96, 181, 0, 191, 42, 42, 180, 0, 161, 4, 96, 181, 0, 161, 4, 172]
abbrev dktX6_opens_2 : List UInt8 := dkwX6_opens_2 ++ []
def dkwX6_opens_1 : List UInt8 := [4, 96, 181, 0, 188, 42, 180, 0, 36, 42, 180, 0, 191, 18, 187, 27, 104, 79, 42, 42, 180, 0, 191, 4]
abbrev dktX6_opens_1 : List UInt8 := dkwX6_opens_1 ++ dktX6_opens_2
def dkwX6_opens_0 : List UInt8 := [42, 180, 0, 188, 16, 6, 160, 0, 13, 42, 8, 42, 180, 0, 161, 182, 0, 174, 172, 42, 42, 180, 0, 188]
abbrev dktX6_opens_0 : List UInt8 := dkwX6_opens_0 ++ dktX6_opens_1
theorem dksX6_opens_0 : cX6_opens.data.toList.drop 0 = dktX6_opens_0 := by decide +kernel
theorem dksX6_opens_1 : cX6_opens.data.toList.drop 24 = dktX6_opens_1 := dk_seg dksX6_opens_0 24 rfl rfl
theorem dksX6_opens_2 : cX6_opens.data.toList.drop 48 = dktX6_opens_2 := dk_seg dksX6_opens_1 24 rfl rfl
theorem dX6_opens_0 : decode cX6_opens 0 = .ok (.aload_n 0, 1) := dk_42 (dk_at dksX6_opens_0 0 rfl rfl)
theorem dX6_opens_1 : decode cX6_opens 1 = .ok (.getfield 188, 3) := dk_180 0 188 (dk_at dksX6_opens_0 1 rfl rfl)
theorem dX6_opens_4 : decode cX6_opens 4 = .ok (.bipush 6, 2) := dk_16 6 (dk_at dksX6_opens_0 4 rfl rfl)
theorem dX6_opens_6 : decode cX6_opens 6 = .ok (.if_icmp .ne 13, 3) := dk_160 0 13 (dk_at dksX6_opens_0 6 rfl rfl)
theorem dX6_opens_9 : decode cX6_opens 9 = .ok (.aload_n 0, 1) := dk_42 (dk_at dksX6_opens_0 9 rfl rfl)
theorem dX6_opens_10 : decode cX6_opens 10 = .ok (.iconst 5, 1) := dk_8 (dk_at dksX6_opens_0 10 rfl rfl)
theorem dX6_opens_11 : decode cX6_opens 11 = .ok (.aload_n 0, 1) := dk_42 (dk_at dksX6_opens_0 11 rfl rfl)
theorem dX6_opens_12 : decode cX6_opens 12 = .ok (.getfield 161, 3) := dk_180 0 161 (dk_at dksX6_opens_0 12 rfl rfl)
theorem dX6_opens_15 : decode cX6_opens 15 = .ok (.invokevirtual 174, 3) := dk_182 0 174 (dk_at dksX6_opens_0 15 rfl rfl)
theorem dX6_opens_18 : decode cX6_opens 18 = .ok (.ireturn, 1) := dk_172 (dk_at dksX6_opens_0 18 rfl rfl)
theorem dX6_opens_19 : decode cX6_opens 19 = .ok (.aload_n 0, 1) := dk_42 (dk_at dksX6_opens_0 19 rfl rfl)
theorem dX6_opens_20 : decode cX6_opens 20 = .ok (.aload_n 0, 1) := dk_42 (dk_at dksX6_opens_0 20 rfl rfl)
theorem dX6_opens_21 : decode cX6_opens 21 = .ok (.getfield 188, 3) := dk_180 0 188 (dk_at dksX6_opens_0 21 rfl rfl)
theorem dX6_opens_24 : decode cX6_opens 24 = .ok (.iconst 1, 1) := dk_4 (dk_at dksX6_opens_1 0 rfl rfl)
theorem dX6_opens_25 : decode cX6_opens 25 = .ok (.iadd, 1) := dk_96 (dk_at dksX6_opens_1 1 rfl rfl)
theorem dX6_opens_26 : decode cX6_opens 26 = .ok (.putfield 188, 3) := dk_181 0 188 (dk_at dksX6_opens_1 2 rfl rfl)
theorem dX6_opens_29 : decode cX6_opens 29 = .ok (.aload_n 0, 1) := dk_42 (dk_at dksX6_opens_1 5 rfl rfl)
theorem dX6_opens_30 : decode cX6_opens 30 = .ok (.getfield 36, 3) := dk_180 0 36 (dk_at dksX6_opens_1 6 rfl rfl)
theorem dX6_opens_33 : decode cX6_opens 33 = .ok (.aload_n 0, 1) := dk_42 (dk_at dksX6_opens_1 9 rfl rfl)
theorem dX6_opens_34 : decode cX6_opens 34 = .ok (.getfield 191, 3) := dk_180 0 191 (dk_at dksX6_opens_1 10 rfl rfl)
theorem dX6_opens_37 : decode cX6_opens 37 = .ok (.ldc 187, 2) := dk_18 187 (dk_at dksX6_opens_1 13 rfl rfl)
theorem dX6_opens_39 : decode cX6_opens 39 = .ok (.iload_n 1, 1) := dk_27 (dk_at dksX6_opens_1 15 rfl rfl)
theorem dX6_opens_40 : decode cX6_opens 40 = .ok (.imul, 1) := dk_104 (dk_at dksX6_opens_1 16 rfl rfl)
theorem dX6_opens_41 : decode cX6_opens 41 = .ok (.iastore, 1) := dk_79 (dk_at dksX6_opens_1 17 rfl rfl)
theorem dX6_opens_42 : decode cX6_opens 42 = .ok (.aload_n 0, 1) := dk_42 (dk_at dksX6_opens_1 18 rfl rfl)
theorem dX6_opens_43 : decode cX6_opens 43 = .ok (.aload_n 0, 1) := dk_42 (dk_at dksX6_opens_1 19 rfl rfl)
theorem dX6_opens_44 : decode cX6_opens 44 = .ok (.getfield 191, 3) := dk_180 0 191 (dk_at dksX6_opens_1 20 rfl rfl)
theorem dX6_opens_47 : decode cX6_opens 47 = .ok (.iconst 1, 1) := dk_4 (dk_at dksX6_opens_1 23 rfl rfl)
theorem dX6_opens_48 : decode cX6_opens 48 = .ok (.iadd, 1) := dk_96 (dk_at dksX6_opens_2 0 rfl rfl)
theorem dX6_opens_49 : decode cX6_opens 49 = .ok (.putfield 191, 3) := dk_181 0 191 (dk_at dksX6_opens_2 1 rfl rfl)
theorem dX6_opens_52 : decode cX6_opens 52 = .ok (.aload_n 0, 1) := dk_42 (dk_at dksX6_opens_2 4 rfl rfl)
theorem dX6_opens_53 : decode cX6_opens 53 = .ok (.aload_n 0, 1) := dk_42 (dk_at dksX6_opens_2 5 rfl rfl)
theorem dX6_opens_54 : decode cX6_opens 54 = .ok (.getfield 161, 3) := dk_180 0 161 (dk_at dksX6_opens_2 6 rfl rfl)
theorem dX6_opens_57 : decode cX6_opens 57 = .ok (.iconst 1, 1) := dk_4 (dk_at dksX6_opens_2 9 rfl rfl)
theorem dX6_opens_58 : decode cX6_opens 58 = .ok (.iadd, 1) := dk_96 (dk_at dksX6_opens_2 10 rfl rfl)
theorem dX6_opens_59 : decode cX6_opens 59 = .ok (.putfield 161, 3) := dk_181 0 161 (dk_at dksX6_opens_2 11 rfl rfl)
theorem dX6_opens_62 : decode cX6_opens 62 = .ok (.iconst 1, 1) := dk_4 (dk_at dksX6_opens_2 14 rfl rfl)
theorem dX6_opens_63 : decode cX6_opens 63 = .ok (.ireturn, 1) := dk_172 (dk_at dksX6_opens_2 15 rfl rfl)
abbrev cX6_isDigit : ByteArray := prog_17_method_19_code
def yX6_isDigit : MethodName := ⟨RX6, "isDigit", "()Z"⟩
def dkwX6_isDigit_0 : List UInt8 := [42, 182, 0, 167, 16, 48, 161, 0, 16, 42, 182, 0, 167, 16, 57, 163, 0, 7, 4, 167, 0, 4, 3, 172]
abbrev dktX6_isDigit_0 : List UInt8 := dkwX6_isDigit_0 ++ []
theorem dksX6_isDigit_0 : cX6_isDigit.data.toList.drop 0 = dktX6_isDigit_0 := by decide +kernel
theorem dX6_isDigit_0 : decode cX6_isDigit 0 = .ok (.aload_n 0, 1) := dk_42 (dk_at dksX6_isDigit_0 0 rfl rfl)
theorem dX6_isDigit_1 : decode cX6_isDigit 1 = .ok (.invokevirtual 167, 3) := dk_182 0 167 (dk_at dksX6_isDigit_0 1 rfl rfl)
theorem dX6_isDigit_4 : decode cX6_isDigit 4 = .ok (.bipush 48, 2) := dk_16 48 (dk_at dksX6_isDigit_0 4 rfl rfl)
theorem dX6_isDigit_6 : decode cX6_isDigit 6 = .ok (.if_icmp .lt 16, 3) := dk_161 0 16 (dk_at dksX6_isDigit_0 6 rfl rfl)
theorem dX6_isDigit_9 : decode cX6_isDigit 9 = .ok (.aload_n 0, 1) := dk_42 (dk_at dksX6_isDigit_0 9 rfl rfl)
theorem dX6_isDigit_10 : decode cX6_isDigit 10 = .ok (.invokevirtual 167, 3) := dk_182 0 167 (dk_at dksX6_isDigit_0 10 rfl rfl)
theorem dX6_isDigit_13 : decode cX6_isDigit 13 = .ok (.bipush 57, 2) := dk_16 57 (dk_at dksX6_isDigit_0 13 rfl rfl)
theorem dX6_isDigit_15 : decode cX6_isDigit 15 = .ok (.if_icmp .gt 7, 3) := dk_163 0 7 (dk_at dksX6_isDigit_0 15 rfl rfl)
theorem dX6_isDigit_18 : decode cX6_isDigit 18 = .ok (.iconst 1, 1) := dk_4 (dk_at dksX6_isDigit_0 18 rfl rfl)
theorem dX6_isDigit_19 : decode cX6_isDigit 19 = .ok (.goto 4, 3) := dk_167 0 4 (dk_at dksX6_isDigit_0 19 rfl rfl)
theorem dX6_isDigit_22 : decode cX6_isDigit 22 = .ok (.iconst 0, 1) := dk_3 (dk_at dksX6_isDigit_0 22 rfl rfl)
theorem dX6_isDigit_23 : decode cX6_isDigit 23 = .ok (.ireturn, 1) := dk_172 (dk_at dksX6_isDigit_0 23 rfl rfl)
abbrev cX6_readsNumber : ByteArray := prog_17_method_22_code
def yX6_readsNumber : MethodName := ⟨RX6, "readsNumber", "()Z"⟩
def dkwX6_readsNumber_3 : List UInt8 := [172]
abbrev dktX6_readsNumber_3 : List UInt8 := dkwX6_readsNumber_3 ++ []
def dkwX6_readsNumber_2 : List UInt8 := [182, 0, 167, 96, 16, 48, 100, 181, 0, 178, 42, 42, 180, 0, 161, 4, 96, 181, 0, 161, 167, 255, 200, 4]
abbrev dktX6_readsNumber_2 : List UInt8 := dkwX6_readsNumber_2 ++ dktX6_readsNumber_3
def dkwX6_readsNumber_1 : List UInt8 := [160, 0, 13, 42, 5, 42, 180, 0, 161, 182, 0, 174, 172, 42, 16, 10, 42, 180, 0, 178, 104, 42]
abbrev dktX6_readsNumber_1 : List UInt8 := dkwX6_readsNumber_1 ++ dktX6_readsNumber_2
def dkwX6_readsNumber_0 : List UInt8 := [42, 180, 0, 161, 60, 42, 3, 181, 0, 178, 42, 182, 0, 181, 153, 0, 55, 42, 180, 0, 161, 27, 8, 96]
abbrev dktX6_readsNumber_0 : List UInt8 := dkwX6_readsNumber_0 ++ dktX6_readsNumber_1
theorem dksX6_readsNumber_0 : cX6_readsNumber.data.toList.drop 0 = dktX6_readsNumber_0 := by decide +kernel
theorem dksX6_readsNumber_1 : cX6_readsNumber.data.toList.drop 24 = dktX6_readsNumber_1 := dk_seg dksX6_readsNumber_0 24 rfl rfl
theorem dksX6_readsNumber_2 : cX6_readsNumber.data.toList.drop 46 = dktX6_readsNumber_2 := dk_seg dksX6_readsNumber_1 22 rfl rfl
theorem dksX6_readsNumber_3 : cX6_readsNumber.data.toList.drop 70 = dktX6_readsNumber_3 := dk_seg dksX6_readsNumber_2 24 rfl rfl
theorem dX6_readsNumber_0 : decode cX6_readsNumber 0 = .ok (.aload_n 0, 1) := dk_42 (dk_at dksX6_readsNumber_0 0 rfl rfl)
theorem dX6_readsNumber_1 : decode cX6_readsNumber 1 = .ok (.getfield 161, 3) := dk_180 0 161 (dk_at dksX6_readsNumber_0 1 rfl rfl)
theorem dX6_readsNumber_4 : decode cX6_readsNumber 4 = .ok (.istore_n 1, 1) := dk_60 (dk_at dksX6_readsNumber_0 4 rfl rfl)
theorem dX6_readsNumber_5 : decode cX6_readsNumber 5 = .ok (.aload_n 0, 1) := dk_42 (dk_at dksX6_readsNumber_0 5 rfl rfl)
theorem dX6_readsNumber_6 : decode cX6_readsNumber 6 = .ok (.iconst 0, 1) := dk_3 (dk_at dksX6_readsNumber_0 6 rfl rfl)
theorem dX6_readsNumber_7 : decode cX6_readsNumber 7 = .ok (.putfield 178, 3) := dk_181 0 178 (dk_at dksX6_readsNumber_0 7 rfl rfl)
theorem dX6_readsNumber_10 : decode cX6_readsNumber 10 = .ok (.aload_n 0, 1) := dk_42 (dk_at dksX6_readsNumber_0 10 rfl rfl)
theorem dX6_readsNumber_11 : decode cX6_readsNumber 11 = .ok (.invokevirtual 181, 3) := dk_182 0 181 (dk_at dksX6_readsNumber_0 11 rfl rfl)
theorem dX6_readsNumber_14 : decode cX6_readsNumber 14 = .ok (.ifCond .eq 55, 3) := dk_153 0 55 (dk_at dksX6_readsNumber_0 14 rfl rfl)
theorem dX6_readsNumber_17 : decode cX6_readsNumber 17 = .ok (.aload_n 0, 1) := dk_42 (dk_at dksX6_readsNumber_0 17 rfl rfl)
theorem dX6_readsNumber_18 : decode cX6_readsNumber 18 = .ok (.getfield 161, 3) := dk_180 0 161 (dk_at dksX6_readsNumber_0 18 rfl rfl)
theorem dX6_readsNumber_21 : decode cX6_readsNumber 21 = .ok (.iload_n 1, 1) := dk_27 (dk_at dksX6_readsNumber_0 21 rfl rfl)
theorem dX6_readsNumber_22 : decode cX6_readsNumber 22 = .ok (.iconst 5, 1) := dk_8 (dk_at dksX6_readsNumber_0 22 rfl rfl)
theorem dX6_readsNumber_23 : decode cX6_readsNumber 23 = .ok (.iadd, 1) := dk_96 (dk_at dksX6_readsNumber_0 23 rfl rfl)
theorem dX6_readsNumber_24 : decode cX6_readsNumber 24 = .ok (.if_icmp .ne 13, 3) := dk_160 0 13 (dk_at dksX6_readsNumber_1 0 rfl rfl)
theorem dX6_readsNumber_27 : decode cX6_readsNumber 27 = .ok (.aload_n 0, 1) := dk_42 (dk_at dksX6_readsNumber_1 3 rfl rfl)
theorem dX6_readsNumber_28 : decode cX6_readsNumber 28 = .ok (.iconst 2, 1) := dk_5 (dk_at dksX6_readsNumber_1 4 rfl rfl)
theorem dX6_readsNumber_29 : decode cX6_readsNumber 29 = .ok (.aload_n 0, 1) := dk_42 (dk_at dksX6_readsNumber_1 5 rfl rfl)
theorem dX6_readsNumber_30 : decode cX6_readsNumber 30 = .ok (.getfield 161, 3) := dk_180 0 161 (dk_at dksX6_readsNumber_1 6 rfl rfl)
theorem dX6_readsNumber_33 : decode cX6_readsNumber 33 = .ok (.invokevirtual 174, 3) := dk_182 0 174 (dk_at dksX6_readsNumber_1 9 rfl rfl)
theorem dX6_readsNumber_36 : decode cX6_readsNumber 36 = .ok (.ireturn, 1) := dk_172 (dk_at dksX6_readsNumber_1 12 rfl rfl)
theorem dX6_readsNumber_37 : decode cX6_readsNumber 37 = .ok (.aload_n 0, 1) := dk_42 (dk_at dksX6_readsNumber_1 13 rfl rfl)
theorem dX6_readsNumber_38 : decode cX6_readsNumber 38 = .ok (.bipush 10, 2) := dk_16 10 (dk_at dksX6_readsNumber_1 14 rfl rfl)
theorem dX6_readsNumber_40 : decode cX6_readsNumber 40 = .ok (.aload_n 0, 1) := dk_42 (dk_at dksX6_readsNumber_1 16 rfl rfl)
theorem dX6_readsNumber_41 : decode cX6_readsNumber 41 = .ok (.getfield 178, 3) := dk_180 0 178 (dk_at dksX6_readsNumber_1 17 rfl rfl)
theorem dX6_readsNumber_44 : decode cX6_readsNumber 44 = .ok (.imul, 1) := dk_104 (dk_at dksX6_readsNumber_1 20 rfl rfl)
theorem dX6_readsNumber_45 : decode cX6_readsNumber 45 = .ok (.aload_n 0, 1) := dk_42 (dk_at dksX6_readsNumber_1 21 rfl rfl)
theorem dX6_readsNumber_46 : decode cX6_readsNumber 46 = .ok (.invokevirtual 167, 3) := dk_182 0 167 (dk_at dksX6_readsNumber_2 0 rfl rfl)
theorem dX6_readsNumber_49 : decode cX6_readsNumber 49 = .ok (.iadd, 1) := dk_96 (dk_at dksX6_readsNumber_2 3 rfl rfl)
theorem dX6_readsNumber_50 : decode cX6_readsNumber 50 = .ok (.bipush 48, 2) := dk_16 48 (dk_at dksX6_readsNumber_2 4 rfl rfl)
theorem dX6_readsNumber_52 : decode cX6_readsNumber 52 = .ok (.isub, 1) := dk_100 (dk_at dksX6_readsNumber_2 6 rfl rfl)
theorem dX6_readsNumber_53 : decode cX6_readsNumber 53 = .ok (.putfield 178, 3) := dk_181 0 178 (dk_at dksX6_readsNumber_2 7 rfl rfl)
theorem dX6_readsNumber_56 : decode cX6_readsNumber 56 = .ok (.aload_n 0, 1) := dk_42 (dk_at dksX6_readsNumber_2 10 rfl rfl)
theorem dX6_readsNumber_57 : decode cX6_readsNumber 57 = .ok (.aload_n 0, 1) := dk_42 (dk_at dksX6_readsNumber_2 11 rfl rfl)
theorem dX6_readsNumber_58 : decode cX6_readsNumber 58 = .ok (.getfield 161, 3) := dk_180 0 161 (dk_at dksX6_readsNumber_2 12 rfl rfl)
theorem dX6_readsNumber_61 : decode cX6_readsNumber 61 = .ok (.iconst 1, 1) := dk_4 (dk_at dksX6_readsNumber_2 15 rfl rfl)
theorem dX6_readsNumber_62 : decode cX6_readsNumber 62 = .ok (.iadd, 1) := dk_96 (dk_at dksX6_readsNumber_2 16 rfl rfl)
theorem dX6_readsNumber_63 : decode cX6_readsNumber 63 = .ok (.putfield 161, 3) := dk_181 0 161 (dk_at dksX6_readsNumber_2 17 rfl rfl)
theorem dX6_readsNumber_66 : decode cX6_readsNumber 66 = .ok (.goto (-56), 3) := dk_167 255 200 (dk_at dksX6_readsNumber_2 20 rfl rfl)
theorem dX6_readsNumber_69 : decode cX6_readsNumber 69 = .ok (.iconst 1, 1) := dk_4 (dk_at dksX6_readsNumber_2 23 rfl rfl)
theorem dX6_readsNumber_70 : decode cX6_readsNumber 70 = .ok (.ireturn, 1) := dk_172 (dk_at dksX6_readsNumber_3 0 rfl rfl)
abbrev cX6_notes : ByteArray := prog_17_method_23_code
def yX6_notes : MethodName := ⟨RX6, "notes", "(II)V"⟩
def dkwX6_notes_1 : List UInt8 := [181, 0, 184, 177]
abbrev dktX6_notes_1 : List UInt8 := dkwX6_notes_1 ++ []
def dkwX6_notes_0 : List UInt8 := [42, 180, 0, 33, 42, 180, 0, 184, 18, 187, 27, 104, 28, 96, 79, 42, 42, 180, 0, 184, 4, 96]
abbrev dktX6_notes_0 : List UInt8 := dkwX6_notes_0 ++ dktX6_notes_1
theorem dksX6_notes_0 : cX6_notes.data.toList.drop 0 = dktX6_notes_0 := by decide +kernel
theorem dksX6_notes_1 : cX6_notes.data.toList.drop 22 = dktX6_notes_1 := dk_seg dksX6_notes_0 22 rfl rfl
theorem dX6_notes_0 : decode cX6_notes 0 = .ok (.aload_n 0, 1) := dk_42 (dk_at dksX6_notes_0 0 rfl rfl)
theorem dX6_notes_1 : decode cX6_notes 1 = .ok (.getfield 33, 3) := dk_180 0 33 (dk_at dksX6_notes_0 1 rfl rfl)
theorem dX6_notes_4 : decode cX6_notes 4 = .ok (.aload_n 0, 1) := dk_42 (dk_at dksX6_notes_0 4 rfl rfl)
theorem dX6_notes_5 : decode cX6_notes 5 = .ok (.getfield 184, 3) := dk_180 0 184 (dk_at dksX6_notes_0 5 rfl rfl)
theorem dX6_notes_8 : decode cX6_notes 8 = .ok (.ldc 187, 2) := dk_18 187 (dk_at dksX6_notes_0 8 rfl rfl)
theorem dX6_notes_10 : decode cX6_notes 10 = .ok (.iload_n 1, 1) := dk_27 (dk_at dksX6_notes_0 10 rfl rfl)
theorem dX6_notes_11 : decode cX6_notes 11 = .ok (.imul, 1) := dk_104 (dk_at dksX6_notes_0 11 rfl rfl)
theorem dX6_notes_12 : decode cX6_notes 12 = .ok (.iload_n 2, 1) := dk_28 (dk_at dksX6_notes_0 12 rfl rfl)
theorem dX6_notes_13 : decode cX6_notes 13 = .ok (.iadd, 1) := dk_96 (dk_at dksX6_notes_0 13 rfl rfl)
theorem dX6_notes_14 : decode cX6_notes 14 = .ok (.iastore, 1) := dk_79 (dk_at dksX6_notes_0 14 rfl rfl)
theorem dX6_notes_15 : decode cX6_notes 15 = .ok (.aload_n 0, 1) := dk_42 (dk_at dksX6_notes_0 15 rfl rfl)
theorem dX6_notes_16 : decode cX6_notes 16 = .ok (.aload_n 0, 1) := dk_42 (dk_at dksX6_notes_0 16 rfl rfl)
theorem dX6_notes_17 : decode cX6_notes 17 = .ok (.getfield 184, 3) := dk_180 0 184 (dk_at dksX6_notes_0 17 rfl rfl)
theorem dX6_notes_20 : decode cX6_notes 20 = .ok (.iconst 1, 1) := dk_4 (dk_at dksX6_notes_0 20 rfl rfl)
theorem dX6_notes_21 : decode cX6_notes 21 = .ok (.iadd, 1) := dk_96 (dk_at dksX6_notes_0 21 rfl rfl)
theorem dX6_notes_22 : decode cX6_notes 22 = .ok (.putfield 184, 3) := dk_181 0 184 (dk_at dksX6_notes_1 0 rfl rfl)
theorem dX6_notes_25 : decode cX6_notes 25 = .ok (.return_, 1) := dk_177 (dk_at dksX6_notes_1 3 rfl rfl)
abbrev cX6_factOf : ByteArray := prog_17_method_26_code
def yX6_factOf : MethodName := ⟨RX6, "factOf", "(I)I"⟩
def dkwX6_factOf_2 : List UInt8 := [3, 172, 4, 172, 5, 172, 6, 172, 7, 172, 8, 172, 16, 6, 172, 16, 7, 172, 16, 8, 172, 2, 172]
abbrev dktX6_factOf_2 : List UInt8 := dkwX6_factOf_2 ++ []
def dkwX6_factOf_1 : List UInt8 := [170, 0, 0, 0, 0, 0, 100, 0, 0, 0, 97, 0, 0, 0, 112, 0, 0, 0, 94, 0, 0, 0, 97, 0, 0, 0, 100, 0, 0, 0, 100, 0, 0, 0, 100, 0, 0, 0, 89, 0, 0, 0, 91, 0, 0, 0, 100, 0, 0, 0, 81, 0, 0, 0, 100, 0, 0, 0, 79, 0, 0, 0, 87, 0, 0, 0, 100, 0, 0, 0, 100, 0, 0, 0, 83, 0, 0, 0, 85]
abbrev dktX6_factOf_1 : List UInt8 := dkwX6_factOf_1 ++ dktX6_factOf_2
def dkwX6_factOf_0 : List UInt8 := [26]
abbrev dktX6_factOf_0 : List UInt8 := dkwX6_factOf_0 ++ dktX6_factOf_1
theorem dksX6_factOf_0 : cX6_factOf.data.toList.drop 0 = dktX6_factOf_0 := by decide +kernel
theorem dksX6_factOf_1 : cX6_factOf.data.toList.drop 1 = dktX6_factOf_1 := dk_seg dksX6_factOf_0 1 rfl rfl
theorem dksX6_factOf_2 : cX6_factOf.data.toList.drop 80 = dktX6_factOf_2 := dk_seg dksX6_factOf_1 79 rfl rfl
theorem dX6_factOf_0 : decode cX6_factOf 0 = .ok (.iload_n 0, 1) := dk_26 (dk_at dksX6_factOf_0 0 rfl rfl)
theorem dX6_factOf_1 : decode cX6_factOf 1 = .ok (.tableswitch 100 97 112 #[94, 97, 100, 100, 100, 89, 91, 100, 81, 100, 79, 87, 100, 100, 83, 85], 79) := by decide +kernel
theorem dX6_factOf_80 : decode cX6_factOf 80 = .ok (.iconst 0, 1) := dk_3 (dk_at dksX6_factOf_2 0 rfl rfl)
theorem dX6_factOf_81 : decode cX6_factOf 81 = .ok (.ireturn, 1) := dk_172 (dk_at dksX6_factOf_2 1 rfl rfl)
theorem dX6_factOf_82 : decode cX6_factOf 82 = .ok (.iconst 1, 1) := dk_4 (dk_at dksX6_factOf_2 2 rfl rfl)
theorem dX6_factOf_83 : decode cX6_factOf 83 = .ok (.ireturn, 1) := dk_172 (dk_at dksX6_factOf_2 3 rfl rfl)
theorem dX6_factOf_84 : decode cX6_factOf 84 = .ok (.iconst 2, 1) := dk_5 (dk_at dksX6_factOf_2 4 rfl rfl)
theorem dX6_factOf_85 : decode cX6_factOf 85 = .ok (.ireturn, 1) := dk_172 (dk_at dksX6_factOf_2 5 rfl rfl)
theorem dX6_factOf_86 : decode cX6_factOf 86 = .ok (.iconst 3, 1) := dk_6 (dk_at dksX6_factOf_2 6 rfl rfl)
theorem dX6_factOf_87 : decode cX6_factOf 87 = .ok (.ireturn, 1) := dk_172 (dk_at dksX6_factOf_2 7 rfl rfl)
theorem dX6_factOf_88 : decode cX6_factOf 88 = .ok (.iconst 4, 1) := dk_7 (dk_at dksX6_factOf_2 8 rfl rfl)
theorem dX6_factOf_89 : decode cX6_factOf 89 = .ok (.ireturn, 1) := dk_172 (dk_at dksX6_factOf_2 9 rfl rfl)
theorem dX6_factOf_90 : decode cX6_factOf 90 = .ok (.iconst 5, 1) := dk_8 (dk_at dksX6_factOf_2 10 rfl rfl)
theorem dX6_factOf_91 : decode cX6_factOf 91 = .ok (.ireturn, 1) := dk_172 (dk_at dksX6_factOf_2 11 rfl rfl)
theorem dX6_factOf_92 : decode cX6_factOf 92 = .ok (.bipush 6, 2) := dk_16 6 (dk_at dksX6_factOf_2 12 rfl rfl)
theorem dX6_factOf_94 : decode cX6_factOf 94 = .ok (.ireturn, 1) := dk_172 (dk_at dksX6_factOf_2 14 rfl rfl)
theorem dX6_factOf_95 : decode cX6_factOf 95 = .ok (.bipush 7, 2) := dk_16 7 (dk_at dksX6_factOf_2 15 rfl rfl)
theorem dX6_factOf_97 : decode cX6_factOf 97 = .ok (.ireturn, 1) := dk_172 (dk_at dksX6_factOf_2 17 rfl rfl)
theorem dX6_factOf_98 : decode cX6_factOf 98 = .ok (.bipush 8, 2) := dk_16 8 (dk_at dksX6_factOf_2 18 rfl rfl)
theorem dX6_factOf_100 : decode cX6_factOf 100 = .ok (.ireturn, 1) := dk_172 (dk_at dksX6_factOf_2 20 rfl rfl)
theorem dX6_factOf_101 : decode cX6_factOf 101 = .ok (.iconst (-1), 1) := dk_2 (dk_at dksX6_factOf_2 21 rfl rfl)
theorem dX6_factOf_102 : decode cX6_factOf 102 = .ok (.ireturn, 1) := dk_172 (dk_at dksX6_factOf_2 22 rfl rfl)
abbrev cX6_sumSign : ByteArray := prog_17_method_27_code
def yX6_sumSign : MethodName := ⟨RX6, "sumSign", "(I)I"⟩
def dkwX6_sumSign_2 : List UInt8 := [16, 6, 167, 0, 4, 2, 172]
abbrev dktX6_sumSign_2 : List UInt8 := dkwX6_sumSign_2 ++ []
def dkwX6_sumSign_1 : List UInt8 := [160, 0, 7, 7, 167, 0, 25, 26, 16, 47, 160, 0, 7, 8, 167, 0, 15, 26, 16, 37, 160, 0, 8]
abbrev dktX6_sumSign_1 : List UInt8 := dkwX6_sumSign_1 ++ dktX6_sumSign_2
def dkwX6_sumSign_0 : List UInt8 := [26, 16, 43, 160, 0, 7, 5, 167, 0, 45, 26, 16, 45, 160, 0, 7, 6, 167, 0, 35, 26, 16, 42]
abbrev dktX6_sumSign_0 : List UInt8 := dkwX6_sumSign_0 ++ dktX6_sumSign_1
theorem dksX6_sumSign_0 : cX6_sumSign.data.toList.drop 0 = dktX6_sumSign_0 := by decide +kernel
theorem dksX6_sumSign_1 : cX6_sumSign.data.toList.drop 23 = dktX6_sumSign_1 := dk_seg dksX6_sumSign_0 23 rfl rfl
theorem dksX6_sumSign_2 : cX6_sumSign.data.toList.drop 46 = dktX6_sumSign_2 := dk_seg dksX6_sumSign_1 23 rfl rfl
theorem dX6_sumSign_0 : decode cX6_sumSign 0 = .ok (.iload_n 0, 1) := dk_26 (dk_at dksX6_sumSign_0 0 rfl rfl)
theorem dX6_sumSign_1 : decode cX6_sumSign 1 = .ok (.bipush 43, 2) := dk_16 43 (dk_at dksX6_sumSign_0 1 rfl rfl)
theorem dX6_sumSign_3 : decode cX6_sumSign 3 = .ok (.if_icmp .ne 7, 3) := dk_160 0 7 (dk_at dksX6_sumSign_0 3 rfl rfl)
theorem dX6_sumSign_6 : decode cX6_sumSign 6 = .ok (.iconst 2, 1) := dk_5 (dk_at dksX6_sumSign_0 6 rfl rfl)
theorem dX6_sumSign_7 : decode cX6_sumSign 7 = .ok (.goto 45, 3) := dk_167 0 45 (dk_at dksX6_sumSign_0 7 rfl rfl)
theorem dX6_sumSign_10 : decode cX6_sumSign 10 = .ok (.iload_n 0, 1) := dk_26 (dk_at dksX6_sumSign_0 10 rfl rfl)
theorem dX6_sumSign_11 : decode cX6_sumSign 11 = .ok (.bipush 45, 2) := dk_16 45 (dk_at dksX6_sumSign_0 11 rfl rfl)
theorem dX6_sumSign_13 : decode cX6_sumSign 13 = .ok (.if_icmp .ne 7, 3) := dk_160 0 7 (dk_at dksX6_sumSign_0 13 rfl rfl)
theorem dX6_sumSign_16 : decode cX6_sumSign 16 = .ok (.iconst 3, 1) := dk_6 (dk_at dksX6_sumSign_0 16 rfl rfl)
theorem dX6_sumSign_17 : decode cX6_sumSign 17 = .ok (.goto 35, 3) := dk_167 0 35 (dk_at dksX6_sumSign_0 17 rfl rfl)
theorem dX6_sumSign_20 : decode cX6_sumSign 20 = .ok (.iload_n 0, 1) := dk_26 (dk_at dksX6_sumSign_0 20 rfl rfl)
theorem dX6_sumSign_21 : decode cX6_sumSign 21 = .ok (.bipush 42, 2) := dk_16 42 (dk_at dksX6_sumSign_0 21 rfl rfl)
theorem dX6_sumSign_23 : decode cX6_sumSign 23 = .ok (.if_icmp .ne 7, 3) := dk_160 0 7 (dk_at dksX6_sumSign_1 0 rfl rfl)
theorem dX6_sumSign_26 : decode cX6_sumSign 26 = .ok (.iconst 4, 1) := dk_7 (dk_at dksX6_sumSign_1 3 rfl rfl)
theorem dX6_sumSign_27 : decode cX6_sumSign 27 = .ok (.goto 25, 3) := dk_167 0 25 (dk_at dksX6_sumSign_1 4 rfl rfl)
theorem dX6_sumSign_30 : decode cX6_sumSign 30 = .ok (.iload_n 0, 1) := dk_26 (dk_at dksX6_sumSign_1 7 rfl rfl)
theorem dX6_sumSign_31 : decode cX6_sumSign 31 = .ok (.bipush 47, 2) := dk_16 47 (dk_at dksX6_sumSign_1 8 rfl rfl)
theorem dX6_sumSign_33 : decode cX6_sumSign 33 = .ok (.if_icmp .ne 7, 3) := dk_160 0 7 (dk_at dksX6_sumSign_1 10 rfl rfl)
theorem dX6_sumSign_36 : decode cX6_sumSign 36 = .ok (.iconst 5, 1) := dk_8 (dk_at dksX6_sumSign_1 13 rfl rfl)
theorem dX6_sumSign_37 : decode cX6_sumSign 37 = .ok (.goto 15, 3) := dk_167 0 15 (dk_at dksX6_sumSign_1 14 rfl rfl)
theorem dX6_sumSign_40 : decode cX6_sumSign 40 = .ok (.iload_n 0, 1) := dk_26 (dk_at dksX6_sumSign_1 17 rfl rfl)
theorem dX6_sumSign_41 : decode cX6_sumSign 41 = .ok (.bipush 37, 2) := dk_16 37 (dk_at dksX6_sumSign_1 18 rfl rfl)
theorem dX6_sumSign_43 : decode cX6_sumSign 43 = .ok (.if_icmp .ne 8, 3) := dk_160 0 8 (dk_at dksX6_sumSign_1 20 rfl rfl)
theorem dX6_sumSign_46 : decode cX6_sumSign 46 = .ok (.bipush 6, 2) := dk_16 6 (dk_at dksX6_sumSign_2 0 rfl rfl)
theorem dX6_sumSign_48 : decode cX6_sumSign 48 = .ok (.goto 4, 3) := dk_167 0 4 (dk_at dksX6_sumSign_2 2 rfl rfl)
theorem dX6_sumSign_51 : decode cX6_sumSign 51 = .ok (.iconst (-1), 1) := dk_2 (dk_at dksX6_sumSign_2 5 rfl rfl)
theorem dX6_sumSign_52 : decode cX6_sumSign 52 = .ok (.ireturn, 1) := dk_172 (dk_at dksX6_sumSign_2 6 rfl rfl)
abbrev cX6_closesSums : ByteArray := prog_17_method_28_code
def yX6_closesSums : MethodName := ⟨RX6, "closesSums", "(Z)V"⟩
def dkwX6_closesSums_2 : List UInt8 := [42, 42, 180, 0, 191, 4, 100, 181, 0, 191, 167, 255, 200, 177]
abbrev dktX6_closesSums_2 : List UInt8 := dkwX6_closesSums_2 ++ []
def dkwX6_closesSums_1 : List UInt8 := [182, 0, 194, 5, 159, 0, 11, 42, 182, 0, 194, 6, 160, 0, 25, 42, 42, 182, 0, 194, 3, 182, 0, 197]
abbrev dktX6_closesSums_1 : List UInt8 := dkwX6_closesSums_1 ++ dktX6_closesSums_2
def dkwX6_closesSums_0 : List UInt8 := [42, 182, 0, 194, 7, 161, 0, 12, 42, 182, 0, 194, 16, 6, 164, 0, 23, 27, 153, 0, 41, 42]
abbrev dktX6_closesSums_0 : List UInt8 := dkwX6_closesSums_0 ++ dktX6_closesSums_1
theorem dksX6_closesSums_0 : cX6_closesSums.data.toList.drop 0 = dktX6_closesSums_0 := by decide +kernel
theorem dksX6_closesSums_1 : cX6_closesSums.data.toList.drop 22 = dktX6_closesSums_1 := dk_seg dksX6_closesSums_0 22 rfl rfl
theorem dksX6_closesSums_2 : cX6_closesSums.data.toList.drop 46 = dktX6_closesSums_2 := dk_seg dksX6_closesSums_1 24 rfl rfl
theorem dX6_closesSums_0 : decode cX6_closesSums 0 = .ok (.aload_n 0, 1) := dk_42 (dk_at dksX6_closesSums_0 0 rfl rfl)
theorem dX6_closesSums_1 : decode cX6_closesSums 1 = .ok (.invokevirtual 194, 3) := dk_182 0 194 (dk_at dksX6_closesSums_0 1 rfl rfl)
theorem dX6_closesSums_4 : decode cX6_closesSums 4 = .ok (.iconst 4, 1) := dk_7 (dk_at dksX6_closesSums_0 4 rfl rfl)
theorem dX6_closesSums_5 : decode cX6_closesSums 5 = .ok (.if_icmp .lt 12, 3) := dk_161 0 12 (dk_at dksX6_closesSums_0 5 rfl rfl)
theorem dX6_closesSums_8 : decode cX6_closesSums 8 = .ok (.aload_n 0, 1) := dk_42 (dk_at dksX6_closesSums_0 8 rfl rfl)
theorem dX6_closesSums_9 : decode cX6_closesSums 9 = .ok (.invokevirtual 194, 3) := dk_182 0 194 (dk_at dksX6_closesSums_0 9 rfl rfl)
theorem dX6_closesSums_12 : decode cX6_closesSums 12 = .ok (.bipush 6, 2) := dk_16 6 (dk_at dksX6_closesSums_0 12 rfl rfl)
theorem dX6_closesSums_14 : decode cX6_closesSums 14 = .ok (.if_icmp .le 23, 3) := dk_164 0 23 (dk_at dksX6_closesSums_0 14 rfl rfl)
theorem dX6_closesSums_17 : decode cX6_closesSums 17 = .ok (.iload_n 1, 1) := dk_27 (dk_at dksX6_closesSums_0 17 rfl rfl)
theorem dX6_closesSums_18 : decode cX6_closesSums 18 = .ok (.ifCond .eq 41, 3) := dk_153 0 41 (dk_at dksX6_closesSums_0 18 rfl rfl)
theorem dX6_closesSums_21 : decode cX6_closesSums 21 = .ok (.aload_n 0, 1) := dk_42 (dk_at dksX6_closesSums_0 21 rfl rfl)
theorem dX6_closesSums_22 : decode cX6_closesSums 22 = .ok (.invokevirtual 194, 3) := dk_182 0 194 (dk_at dksX6_closesSums_1 0 rfl rfl)
theorem dX6_closesSums_25 : decode cX6_closesSums 25 = .ok (.iconst 2, 1) := dk_5 (dk_at dksX6_closesSums_1 3 rfl rfl)
theorem dX6_closesSums_26 : decode cX6_closesSums 26 = .ok (.if_icmp .eq 11, 3) := dk_159 0 11 (dk_at dksX6_closesSums_1 4 rfl rfl)
theorem dX6_closesSums_29 : decode cX6_closesSums 29 = .ok (.aload_n 0, 1) := dk_42 (dk_at dksX6_closesSums_1 7 rfl rfl)
theorem dX6_closesSums_30 : decode cX6_closesSums 30 = .ok (.invokevirtual 194, 3) := dk_182 0 194 (dk_at dksX6_closesSums_1 8 rfl rfl)
theorem dX6_closesSums_33 : decode cX6_closesSums 33 = .ok (.iconst 3, 1) := dk_6 (dk_at dksX6_closesSums_1 11 rfl rfl)
theorem dX6_closesSums_34 : decode cX6_closesSums 34 = .ok (.if_icmp .ne 25, 3) := dk_160 0 25 (dk_at dksX6_closesSums_1 12 rfl rfl)
theorem dX6_closesSums_37 : decode cX6_closesSums 37 = .ok (.aload_n 0, 1) := dk_42 (dk_at dksX6_closesSums_1 15 rfl rfl)
theorem dX6_closesSums_38 : decode cX6_closesSums 38 = .ok (.aload_n 0, 1) := dk_42 (dk_at dksX6_closesSums_1 16 rfl rfl)
theorem dX6_closesSums_39 : decode cX6_closesSums 39 = .ok (.invokevirtual 194, 3) := dk_182 0 194 (dk_at dksX6_closesSums_1 17 rfl rfl)
theorem dX6_closesSums_42 : decode cX6_closesSums 42 = .ok (.iconst 0, 1) := dk_3 (dk_at dksX6_closesSums_1 20 rfl rfl)
theorem dX6_closesSums_43 : decode cX6_closesSums 43 = .ok (.invokevirtual 197, 3) := dk_182 0 197 (dk_at dksX6_closesSums_1 21 rfl rfl)
theorem dX6_closesSums_46 : decode cX6_closesSums 46 = .ok (.aload_n 0, 1) := dk_42 (dk_at dksX6_closesSums_2 0 rfl rfl)
theorem dX6_closesSums_47 : decode cX6_closesSums 47 = .ok (.aload_n 0, 1) := dk_42 (dk_at dksX6_closesSums_2 1 rfl rfl)
theorem dX6_closesSums_48 : decode cX6_closesSums 48 = .ok (.getfield 191, 3) := dk_180 0 191 (dk_at dksX6_closesSums_2 2 rfl rfl)
theorem dX6_closesSums_51 : decode cX6_closesSums 51 = .ok (.iconst 1, 1) := dk_4 (dk_at dksX6_closesSums_2 5 rfl rfl)
theorem dX6_closesSums_52 : decode cX6_closesSums 52 = .ok (.isub, 1) := dk_100 (dk_at dksX6_closesSums_2 6 rfl rfl)
theorem dX6_closesSums_53 : decode cX6_closesSums 53 = .ok (.putfield 191, 3) := dk_181 0 191 (dk_at dksX6_closesSums_2 7 rfl rfl)
theorem dX6_closesSums_56 : decode cX6_closesSums 56 = .ok (.goto (-56), 3) := dk_167 255 200 (dk_at dksX6_closesSums_2 10 rfl rfl)
theorem dX6_closesSums_59 : decode cX6_closesSums 59 = .ok (.return_, 1) := dk_177 (dk_at dksX6_closesSums_2 13 rfl rfl)
abbrev cX6_top : ByteArray := prog_17_method_25_code
def yX6_top : MethodName := ⟨RX6, "top", "()I"⟩
def dkwX6_top_1 : List UInt8 := [108, 172]
abbrev dktX6_top_1 : List UInt8 := dkwX6_top_1 ++ []
def dkwX6_top_0 : List UInt8 := [42, 180, 0, 191, 154, 0, 7, 2, 167, 0, 17, 42, 180, 0, 36, 42, 180, 0, 191, 4, 100, 46, 18, 187]
abbrev dktX6_top_0 : List UInt8 := dkwX6_top_0 ++ dktX6_top_1
theorem dksX6_top_0 : cX6_top.data.toList.drop 0 = dktX6_top_0 := by decide +kernel
theorem dksX6_top_1 : cX6_top.data.toList.drop 24 = dktX6_top_1 := dk_seg dksX6_top_0 24 rfl rfl
theorem dX6_top_0 : decode cX6_top 0 = .ok (.aload_n 0, 1) := dk_42 (dk_at dksX6_top_0 0 rfl rfl)
theorem dX6_top_1 : decode cX6_top 1 = .ok (.getfield 191, 3) := dk_180 0 191 (dk_at dksX6_top_0 1 rfl rfl)
theorem dX6_top_4 : decode cX6_top 4 = .ok (.ifCond .ne 7, 3) := dk_154 0 7 (dk_at dksX6_top_0 4 rfl rfl)
theorem dX6_top_7 : decode cX6_top 7 = .ok (.iconst (-1), 1) := dk_2 (dk_at dksX6_top_0 7 rfl rfl)
theorem dX6_top_8 : decode cX6_top 8 = .ok (.goto 17, 3) := dk_167 0 17 (dk_at dksX6_top_0 8 rfl rfl)
theorem dX6_top_11 : decode cX6_top 11 = .ok (.aload_n 0, 1) := dk_42 (dk_at dksX6_top_0 11 rfl rfl)
theorem dX6_top_12 : decode cX6_top 12 = .ok (.getfield 36, 3) := dk_180 0 36 (dk_at dksX6_top_0 12 rfl rfl)
theorem dX6_top_15 : decode cX6_top 15 = .ok (.aload_n 0, 1) := dk_42 (dk_at dksX6_top_0 15 rfl rfl)
theorem dX6_top_16 : decode cX6_top 16 = .ok (.getfield 191, 3) := dk_180 0 191 (dk_at dksX6_top_0 16 rfl rfl)
theorem dX6_top_19 : decode cX6_top 19 = .ok (.iconst 1, 1) := dk_4 (dk_at dksX6_top_0 19 rfl rfl)
theorem dX6_top_20 : decode cX6_top 20 = .ok (.isub, 1) := dk_100 (dk_at dksX6_top_0 20 rfl rfl)
theorem dX6_top_21 : decode cX6_top 21 = .ok (.iaload, 1) := dk_46 (dk_at dksX6_top_0 21 rfl rfl)
theorem dX6_top_22 : decode cX6_top 22 = .ok (.ldc 187, 2) := dk_18 187 (dk_at dksX6_top_0 22 rfl rfl)
theorem dX6_top_24 : decode cX6_top 24 = .ok (.idiv, 1) := dk_108 (dk_at dksX6_top_1 0 rfl rfl)
theorem dX6_top_25 : decode cX6_top 25 = .ok (.ireturn, 1) := dk_172 (dk_at dksX6_top_1 1 rfl rfl)
abbrev cX6_hasOpenSum : ByteArray := prog_17_method_30_code
def yX6_hasOpenSum : MethodName := ⟨RX6, "hasOpenSum", "(I)Z"⟩
def dkwX6_hasOpenSum_1 : List UInt8 := [4, 172, 132, 2, 1, 167, 255, 229, 3, 172]
abbrev dktX6_hasOpenSum_1 : List UInt8 := dkwX6_hasOpenSum_1 ++ []
def dkwX6_hasOpenSum_0 : List UInt8 := [27, 61, 28, 42, 180, 0, 191, 162, 0, 25, 42, 180, 0, 36, 28, 46, 18, 187, 108, 16, 14, 160, 0, 5]
abbrev dktX6_hasOpenSum_0 : List UInt8 := dkwX6_hasOpenSum_0 ++ dktX6_hasOpenSum_1
theorem dksX6_hasOpenSum_0 : cX6_hasOpenSum.data.toList.drop 0 = dktX6_hasOpenSum_0 := by decide +kernel
theorem dksX6_hasOpenSum_1 : cX6_hasOpenSum.data.toList.drop 24 = dktX6_hasOpenSum_1 := dk_seg dksX6_hasOpenSum_0 24 rfl rfl
theorem dX6_hasOpenSum_0 : decode cX6_hasOpenSum 0 = .ok (.iload_n 1, 1) := dk_27 (dk_at dksX6_hasOpenSum_0 0 rfl rfl)
theorem dX6_hasOpenSum_1 : decode cX6_hasOpenSum 1 = .ok (.istore_n 2, 1) := dk_61 (dk_at dksX6_hasOpenSum_0 1 rfl rfl)
theorem dX6_hasOpenSum_2 : decode cX6_hasOpenSum 2 = .ok (.iload_n 2, 1) := dk_28 (dk_at dksX6_hasOpenSum_0 2 rfl rfl)
theorem dX6_hasOpenSum_3 : decode cX6_hasOpenSum 3 = .ok (.aload_n 0, 1) := dk_42 (dk_at dksX6_hasOpenSum_0 3 rfl rfl)
theorem dX6_hasOpenSum_4 : decode cX6_hasOpenSum 4 = .ok (.getfield 191, 3) := dk_180 0 191 (dk_at dksX6_hasOpenSum_0 4 rfl rfl)
theorem dX6_hasOpenSum_7 : decode cX6_hasOpenSum 7 = .ok (.if_icmp .ge 25, 3) := dk_162 0 25 (dk_at dksX6_hasOpenSum_0 7 rfl rfl)
theorem dX6_hasOpenSum_10 : decode cX6_hasOpenSum 10 = .ok (.aload_n 0, 1) := dk_42 (dk_at dksX6_hasOpenSum_0 10 rfl rfl)
theorem dX6_hasOpenSum_11 : decode cX6_hasOpenSum 11 = .ok (.getfield 36, 3) := dk_180 0 36 (dk_at dksX6_hasOpenSum_0 11 rfl rfl)
theorem dX6_hasOpenSum_14 : decode cX6_hasOpenSum 14 = .ok (.iload_n 2, 1) := dk_28 (dk_at dksX6_hasOpenSum_0 14 rfl rfl)
theorem dX6_hasOpenSum_15 : decode cX6_hasOpenSum 15 = .ok (.iaload, 1) := dk_46 (dk_at dksX6_hasOpenSum_0 15 rfl rfl)
theorem dX6_hasOpenSum_16 : decode cX6_hasOpenSum 16 = .ok (.ldc 187, 2) := dk_18 187 (dk_at dksX6_hasOpenSum_0 16 rfl rfl)
theorem dX6_hasOpenSum_18 : decode cX6_hasOpenSum 18 = .ok (.idiv, 1) := dk_108 (dk_at dksX6_hasOpenSum_0 18 rfl rfl)
theorem dX6_hasOpenSum_19 : decode cX6_hasOpenSum 19 = .ok (.bipush 14, 2) := dk_16 14 (dk_at dksX6_hasOpenSum_0 19 rfl rfl)
theorem dX6_hasOpenSum_21 : decode cX6_hasOpenSum 21 = .ok (.if_icmp .ne 5, 3) := dk_160 0 5 (dk_at dksX6_hasOpenSum_0 21 rfl rfl)
theorem dX6_hasOpenSum_24 : decode cX6_hasOpenSum 24 = .ok (.iconst 1, 1) := dk_4 (dk_at dksX6_hasOpenSum_1 0 rfl rfl)
theorem dX6_hasOpenSum_25 : decode cX6_hasOpenSum 25 = .ok (.ireturn, 1) := dk_172 (dk_at dksX6_hasOpenSum_1 1 rfl rfl)
theorem dX6_hasOpenSum_26 : decode cX6_hasOpenSum 26 = .ok (.iinc 2 1, 3) := dk_132 2 1 (dk_at dksX6_hasOpenSum_1 2 rfl rfl)
theorem dX6_hasOpenSum_29 : decode cX6_hasOpenSum 29 = .ok (.goto (-27), 3) := dk_167 255 229 (dk_at dksX6_hasOpenSum_1 5 rfl rfl)
theorem dX6_hasOpenSum_32 : decode cX6_hasOpenSum 32 = .ok (.iconst 0, 1) := dk_3 (dk_at dksX6_hasOpenSum_1 8 rfl rfl)
theorem dX6_hasOpenSum_33 : decode cX6_hasOpenSum 33 = .ok (.ireturn, 1) := dk_172 (dk_at dksX6_hasOpenSum_1 9 rfl rfl)
abbrev cX6_readsCondition : ByteArray := prog_17_method_36_code
def yX6_readsCondition : MethodName := ⟨RX6, "readsCondition", "()Z"⟩
def dkwX6_readsCondition_9 : List UInt8 := [16, 11, 167, 0, 5, 16, 12, 182, 0, 236, 167, 255, 78]
abbrev dktX6_readsCondition_9 : List UInt8 := dkwX6_readsCondition_9 ++ []
def dkwX6_readsCondition_8 : List UInt8 := [16, 124, 160, 0, 7, 4, 167, 0, 4, 3, 182, 0, 233, 42, 42, 182, 0, 167, 16, 38, 160, 0, 8]
abbrev dktX6_readsCondition_8 : List UInt8 := dkwX6_readsCondition_8 ++ dktX6_readsCondition_9
def dkwX6_readsCondition_7 : List UInt8 := [182, 0, 167, 16, 124, 159, 0, 13, 42, 4, 42, 180, 0, 161, 182, 0, 174, 172, 42, 42, 182, 0, 167]
abbrev dktX6_readsCondition_7 : List UInt8 := dkwX6_readsCondition_7 ++ dktX6_readsCondition_8
def dkwX6_readsCondition_6 : List UInt8 := [154, 0, 5, 4, 172, 42, 182, 0, 227, 167, 255, 199, 42, 182, 0, 167, 16, 38, 159, 0, 22, 42]
abbrev dktX6_readsCondition_6 : List UInt8 := dkwX6_readsCondition_6 ++ dktX6_readsCondition_7
def dkwX6_readsCondition_5 : List UInt8 := [42, 180, 0, 188, 4, 100, 181, 0, 188, 42, 42, 180, 0, 161, 4, 96, 181, 0, 161, 42, 180, 0, 191]
abbrev dktX6_readsCondition_5 : List UInt8 := dkwX6_readsCondition_5 ++ dktX6_readsCondition_6
def dkwX6_readsCondition_4 : List UInt8 := [182, 0, 167, 16, 41, 160, 0, 54, 42, 4, 182, 0, 233, 42, 42, 180, 0, 191, 4, 100, 181, 0, 191, 42]
abbrev dktX6_readsCondition_4 : List UInt8 := dkwX6_readsCondition_4 ++ dktX6_readsCondition_5
def dkwX6_readsCondition_3 : List UInt8 := [167, 0, 5, 16, 13, 182, 0, 201, 154, 255, 218, 3, 172, 42, 182, 0, 230, 154, 0, 5, 3, 172, 42]
abbrev dktX6_readsCondition_3 : List UInt8 := dkwX6_readsCondition_3 ++ dktX6_readsCondition_4
def dkwX6_readsCondition_2 : List UInt8 := [159, 0, 12, 42, 182, 0, 167, 16, 40, 160, 0, 28, 42, 42, 182, 0, 167, 16, 33, 160, 0, 8, 16, 10]
abbrev dktX6_readsCondition_2 : List UInt8 := dkwX6_readsCondition_2 ++ dktX6_readsCondition_3
def dkwX6_readsCondition_1 : List UInt8 := [42, 3, 181, 0, 191, 42, 16, 13, 182, 0, 201, 154, 0, 5, 3, 172, 42, 182, 0, 167, 16, 33]
abbrev dktX6_readsCondition_1 : List UInt8 := dkwX6_readsCondition_1 ++ dktX6_readsCondition_2
def dkwX6_readsCondition_0 : List UInt8 := [42, 182, 0, 167, 16, 40, 159, 0, 13, 42, 4, 42, 180, 0, 161, 182, 0, 174, 172, 42, 3, 181, 0, 188]
abbrev dktX6_readsCondition_0 : List UInt8 := dkwX6_readsCondition_0 ++ dktX6_readsCondition_1
theorem dksX6_readsCondition_0 : cX6_readsCondition.data.toList.drop 0 = dktX6_readsCondition_0 := by decide +kernel
theorem dksX6_readsCondition_1 : cX6_readsCondition.data.toList.drop 24 = dktX6_readsCondition_1 := dk_seg dksX6_readsCondition_0 24 rfl rfl
theorem dksX6_readsCondition_2 : cX6_readsCondition.data.toList.drop 46 = dktX6_readsCondition_2 := dk_seg dksX6_readsCondition_1 22 rfl rfl
theorem dksX6_readsCondition_3 : cX6_readsCondition.data.toList.drop 70 = dktX6_readsCondition_3 := dk_seg dksX6_readsCondition_2 24 rfl rfl
theorem dksX6_readsCondition_4 : cX6_readsCondition.data.toList.drop 93 = dktX6_readsCondition_4 := dk_seg dksX6_readsCondition_3 23 rfl rfl
theorem dksX6_readsCondition_5 : cX6_readsCondition.data.toList.drop 117 = dktX6_readsCondition_5 := dk_seg dksX6_readsCondition_4 24 rfl rfl
theorem dksX6_readsCondition_6 : cX6_readsCondition.data.toList.drop 140 = dktX6_readsCondition_6 := dk_seg dksX6_readsCondition_5 23 rfl rfl
theorem dksX6_readsCondition_7 : cX6_readsCondition.data.toList.drop 162 = dktX6_readsCondition_7 := dk_seg dksX6_readsCondition_6 22 rfl rfl
theorem dksX6_readsCondition_8 : cX6_readsCondition.data.toList.drop 185 = dktX6_readsCondition_8 := dk_seg dksX6_readsCondition_7 23 rfl rfl
theorem dksX6_readsCondition_9 : cX6_readsCondition.data.toList.drop 208 = dktX6_readsCondition_9 := dk_seg dksX6_readsCondition_8 23 rfl rfl
theorem dX6_readsCondition_0 : decode cX6_readsCondition 0 = .ok (.aload_n 0, 1) := dk_42 (dk_at dksX6_readsCondition_0 0 rfl rfl)
theorem dX6_readsCondition_1 : decode cX6_readsCondition 1 = .ok (.invokevirtual 167, 3) := dk_182 0 167 (dk_at dksX6_readsCondition_0 1 rfl rfl)
theorem dX6_readsCondition_4 : decode cX6_readsCondition 4 = .ok (.bipush 40, 2) := dk_16 40 (dk_at dksX6_readsCondition_0 4 rfl rfl)
theorem dX6_readsCondition_6 : decode cX6_readsCondition 6 = .ok (.if_icmp .eq 13, 3) := dk_159 0 13 (dk_at dksX6_readsCondition_0 6 rfl rfl)
theorem dX6_readsCondition_9 : decode cX6_readsCondition 9 = .ok (.aload_n 0, 1) := dk_42 (dk_at dksX6_readsCondition_0 9 rfl rfl)
theorem dX6_readsCondition_10 : decode cX6_readsCondition 10 = .ok (.iconst 1, 1) := dk_4 (dk_at dksX6_readsCondition_0 10 rfl rfl)
theorem dX6_readsCondition_11 : decode cX6_readsCondition 11 = .ok (.aload_n 0, 1) := dk_42 (dk_at dksX6_readsCondition_0 11 rfl rfl)
theorem dX6_readsCondition_12 : decode cX6_readsCondition 12 = .ok (.getfield 161, 3) := dk_180 0 161 (dk_at dksX6_readsCondition_0 12 rfl rfl)
theorem dX6_readsCondition_15 : decode cX6_readsCondition 15 = .ok (.invokevirtual 174, 3) := dk_182 0 174 (dk_at dksX6_readsCondition_0 15 rfl rfl)
theorem dX6_readsCondition_18 : decode cX6_readsCondition 18 = .ok (.ireturn, 1) := dk_172 (dk_at dksX6_readsCondition_0 18 rfl rfl)
theorem dX6_readsCondition_19 : decode cX6_readsCondition 19 = .ok (.aload_n 0, 1) := dk_42 (dk_at dksX6_readsCondition_0 19 rfl rfl)
theorem dX6_readsCondition_20 : decode cX6_readsCondition 20 = .ok (.iconst 0, 1) := dk_3 (dk_at dksX6_readsCondition_0 20 rfl rfl)
theorem dX6_readsCondition_21 : decode cX6_readsCondition 21 = .ok (.putfield 188, 3) := dk_181 0 188 (dk_at dksX6_readsCondition_0 21 rfl rfl)
theorem dX6_readsCondition_24 : decode cX6_readsCondition 24 = .ok (.aload_n 0, 1) := dk_42 (dk_at dksX6_readsCondition_1 0 rfl rfl)
theorem dX6_readsCondition_25 : decode cX6_readsCondition 25 = .ok (.iconst 0, 1) := dk_3 (dk_at dksX6_readsCondition_1 1 rfl rfl)
theorem dX6_readsCondition_26 : decode cX6_readsCondition 26 = .ok (.putfield 191, 3) := dk_181 0 191 (dk_at dksX6_readsCondition_1 2 rfl rfl)
theorem dX6_readsCondition_29 : decode cX6_readsCondition 29 = .ok (.aload_n 0, 1) := dk_42 (dk_at dksX6_readsCondition_1 5 rfl rfl)
theorem dX6_readsCondition_30 : decode cX6_readsCondition 30 = .ok (.bipush 13, 2) := dk_16 13 (dk_at dksX6_readsCondition_1 6 rfl rfl)
theorem dX6_readsCondition_32 : decode cX6_readsCondition 32 = .ok (.invokevirtual 201, 3) := dk_182 0 201 (dk_at dksX6_readsCondition_1 8 rfl rfl)
theorem dX6_readsCondition_35 : decode cX6_readsCondition 35 = .ok (.ifCond .ne 5, 3) := dk_154 0 5 (dk_at dksX6_readsCondition_1 11 rfl rfl)
theorem dX6_readsCondition_38 : decode cX6_readsCondition 38 = .ok (.iconst 0, 1) := dk_3 (dk_at dksX6_readsCondition_1 14 rfl rfl)
theorem dX6_readsCondition_39 : decode cX6_readsCondition 39 = .ok (.ireturn, 1) := dk_172 (dk_at dksX6_readsCondition_1 15 rfl rfl)
theorem dX6_readsCondition_40 : decode cX6_readsCondition 40 = .ok (.aload_n 0, 1) := dk_42 (dk_at dksX6_readsCondition_1 16 rfl rfl)
theorem dX6_readsCondition_41 : decode cX6_readsCondition 41 = .ok (.invokevirtual 167, 3) := dk_182 0 167 (dk_at dksX6_readsCondition_1 17 rfl rfl)
theorem dX6_readsCondition_44 : decode cX6_readsCondition 44 = .ok (.bipush 33, 2) := dk_16 33 (dk_at dksX6_readsCondition_1 20 rfl rfl)
theorem dX6_readsCondition_46 : decode cX6_readsCondition 46 = .ok (.if_icmp .eq 12, 3) := dk_159 0 12 (dk_at dksX6_readsCondition_2 0 rfl rfl)
theorem dX6_readsCondition_49 : decode cX6_readsCondition 49 = .ok (.aload_n 0, 1) := dk_42 (dk_at dksX6_readsCondition_2 3 rfl rfl)
theorem dX6_readsCondition_50 : decode cX6_readsCondition 50 = .ok (.invokevirtual 167, 3) := dk_182 0 167 (dk_at dksX6_readsCondition_2 4 rfl rfl)
theorem dX6_readsCondition_53 : decode cX6_readsCondition 53 = .ok (.bipush 40, 2) := dk_16 40 (dk_at dksX6_readsCondition_2 7 rfl rfl)
theorem dX6_readsCondition_55 : decode cX6_readsCondition 55 = .ok (.if_icmp .ne 28, 3) := dk_160 0 28 (dk_at dksX6_readsCondition_2 9 rfl rfl)
theorem dX6_readsCondition_58 : decode cX6_readsCondition 58 = .ok (.aload_n 0, 1) := dk_42 (dk_at dksX6_readsCondition_2 12 rfl rfl)
theorem dX6_readsCondition_59 : decode cX6_readsCondition 59 = .ok (.aload_n 0, 1) := dk_42 (dk_at dksX6_readsCondition_2 13 rfl rfl)
theorem dX6_readsCondition_60 : decode cX6_readsCondition 60 = .ok (.invokevirtual 167, 3) := dk_182 0 167 (dk_at dksX6_readsCondition_2 14 rfl rfl)
theorem dX6_readsCondition_63 : decode cX6_readsCondition 63 = .ok (.bipush 33, 2) := dk_16 33 (dk_at dksX6_readsCondition_2 17 rfl rfl)
theorem dX6_readsCondition_65 : decode cX6_readsCondition 65 = .ok (.if_icmp .ne 8, 3) := dk_160 0 8 (dk_at dksX6_readsCondition_2 19 rfl rfl)
theorem dX6_readsCondition_68 : decode cX6_readsCondition 68 = .ok (.bipush 10, 2) := dk_16 10 (dk_at dksX6_readsCondition_2 22 rfl rfl)
theorem dX6_readsCondition_70 : decode cX6_readsCondition 70 = .ok (.goto 5, 3) := dk_167 0 5 (dk_at dksX6_readsCondition_3 0 rfl rfl)
theorem dX6_readsCondition_73 : decode cX6_readsCondition 73 = .ok (.bipush 13, 2) := dk_16 13 (dk_at dksX6_readsCondition_3 3 rfl rfl)
theorem dX6_readsCondition_75 : decode cX6_readsCondition 75 = .ok (.invokevirtual 201, 3) := dk_182 0 201 (dk_at dksX6_readsCondition_3 5 rfl rfl)
theorem dX6_readsCondition_78 : decode cX6_readsCondition 78 = .ok (.ifCond .ne (-38), 3) := dk_154 255 218 (dk_at dksX6_readsCondition_3 8 rfl rfl)
theorem dX6_readsCondition_81 : decode cX6_readsCondition 81 = .ok (.iconst 0, 1) := dk_3 (dk_at dksX6_readsCondition_3 11 rfl rfl)
theorem dX6_readsCondition_82 : decode cX6_readsCondition 82 = .ok (.ireturn, 1) := dk_172 (dk_at dksX6_readsCondition_3 12 rfl rfl)
theorem dX6_readsCondition_83 : decode cX6_readsCondition 83 = .ok (.aload_n 0, 1) := dk_42 (dk_at dksX6_readsCondition_3 13 rfl rfl)
theorem dX6_readsCondition_84 : decode cX6_readsCondition 84 = .ok (.invokevirtual 230, 3) := dk_182 0 230 (dk_at dksX6_readsCondition_3 14 rfl rfl)
theorem dX6_readsCondition_87 : decode cX6_readsCondition 87 = .ok (.ifCond .ne 5, 3) := dk_154 0 5 (dk_at dksX6_readsCondition_3 17 rfl rfl)
theorem dX6_readsCondition_90 : decode cX6_readsCondition 90 = .ok (.iconst 0, 1) := dk_3 (dk_at dksX6_readsCondition_3 20 rfl rfl)
theorem dX6_readsCondition_91 : decode cX6_readsCondition 91 = .ok (.ireturn, 1) := dk_172 (dk_at dksX6_readsCondition_3 21 rfl rfl)
theorem dX6_readsCondition_92 : decode cX6_readsCondition 92 = .ok (.aload_n 0, 1) := dk_42 (dk_at dksX6_readsCondition_3 22 rfl rfl)
theorem dX6_readsCondition_93 : decode cX6_readsCondition 93 = .ok (.invokevirtual 167, 3) := dk_182 0 167 (dk_at dksX6_readsCondition_4 0 rfl rfl)
theorem dX6_readsCondition_96 : decode cX6_readsCondition 96 = .ok (.bipush 41, 2) := dk_16 41 (dk_at dksX6_readsCondition_4 3 rfl rfl)
theorem dX6_readsCondition_98 : decode cX6_readsCondition 98 = .ok (.if_icmp .ne 54, 3) := dk_160 0 54 (dk_at dksX6_readsCondition_4 5 rfl rfl)
theorem dX6_readsCondition_101 : decode cX6_readsCondition 101 = .ok (.aload_n 0, 1) := dk_42 (dk_at dksX6_readsCondition_4 8 rfl rfl)
theorem dX6_readsCondition_102 : decode cX6_readsCondition 102 = .ok (.iconst 1, 1) := dk_4 (dk_at dksX6_readsCondition_4 9 rfl rfl)
theorem dX6_readsCondition_103 : decode cX6_readsCondition 103 = .ok (.invokevirtual 233, 3) := dk_182 0 233 (dk_at dksX6_readsCondition_4 10 rfl rfl)
theorem dX6_readsCondition_106 : decode cX6_readsCondition 106 = .ok (.aload_n 0, 1) := dk_42 (dk_at dksX6_readsCondition_4 13 rfl rfl)
theorem dX6_readsCondition_107 : decode cX6_readsCondition 107 = .ok (.aload_n 0, 1) := dk_42 (dk_at dksX6_readsCondition_4 14 rfl rfl)
theorem dX6_readsCondition_108 : decode cX6_readsCondition 108 = .ok (.getfield 191, 3) := dk_180 0 191 (dk_at dksX6_readsCondition_4 15 rfl rfl)
theorem dX6_readsCondition_111 : decode cX6_readsCondition 111 = .ok (.iconst 1, 1) := dk_4 (dk_at dksX6_readsCondition_4 18 rfl rfl)
theorem dX6_readsCondition_112 : decode cX6_readsCondition 112 = .ok (.isub, 1) := dk_100 (dk_at dksX6_readsCondition_4 19 rfl rfl)
theorem dX6_readsCondition_113 : decode cX6_readsCondition 113 = .ok (.putfield 191, 3) := dk_181 0 191 (dk_at dksX6_readsCondition_4 20 rfl rfl)
theorem dX6_readsCondition_116 : decode cX6_readsCondition 116 = .ok (.aload_n 0, 1) := dk_42 (dk_at dksX6_readsCondition_4 23 rfl rfl)
theorem dX6_readsCondition_117 : decode cX6_readsCondition 117 = .ok (.aload_n 0, 1) := dk_42 (dk_at dksX6_readsCondition_5 0 rfl rfl)
theorem dX6_readsCondition_118 : decode cX6_readsCondition 118 = .ok (.getfield 188, 3) := dk_180 0 188 (dk_at dksX6_readsCondition_5 1 rfl rfl)
theorem dX6_readsCondition_121 : decode cX6_readsCondition 121 = .ok (.iconst 1, 1) := dk_4 (dk_at dksX6_readsCondition_5 4 rfl rfl)
theorem dX6_readsCondition_122 : decode cX6_readsCondition 122 = .ok (.isub, 1) := dk_100 (dk_at dksX6_readsCondition_5 5 rfl rfl)
theorem dX6_readsCondition_123 : decode cX6_readsCondition 123 = .ok (.putfield 188, 3) := dk_181 0 188 (dk_at dksX6_readsCondition_5 6 rfl rfl)
theorem dX6_readsCondition_126 : decode cX6_readsCondition 126 = .ok (.aload_n 0, 1) := dk_42 (dk_at dksX6_readsCondition_5 9 rfl rfl)
theorem dX6_readsCondition_127 : decode cX6_readsCondition 127 = .ok (.aload_n 0, 1) := dk_42 (dk_at dksX6_readsCondition_5 10 rfl rfl)
theorem dX6_readsCondition_128 : decode cX6_readsCondition 128 = .ok (.getfield 161, 3) := dk_180 0 161 (dk_at dksX6_readsCondition_5 11 rfl rfl)
theorem dX6_readsCondition_131 : decode cX6_readsCondition 131 = .ok (.iconst 1, 1) := dk_4 (dk_at dksX6_readsCondition_5 14 rfl rfl)
theorem dX6_readsCondition_132 : decode cX6_readsCondition 132 = .ok (.iadd, 1) := dk_96 (dk_at dksX6_readsCondition_5 15 rfl rfl)
theorem dX6_readsCondition_133 : decode cX6_readsCondition 133 = .ok (.putfield 161, 3) := dk_181 0 161 (dk_at dksX6_readsCondition_5 16 rfl rfl)
theorem dX6_readsCondition_136 : decode cX6_readsCondition 136 = .ok (.aload_n 0, 1) := dk_42 (dk_at dksX6_readsCondition_5 19 rfl rfl)
theorem dX6_readsCondition_137 : decode cX6_readsCondition 137 = .ok (.getfield 191, 3) := dk_180 0 191 (dk_at dksX6_readsCondition_5 20 rfl rfl)
theorem dX6_readsCondition_140 : decode cX6_readsCondition 140 = .ok (.ifCond .ne 5, 3) := dk_154 0 5 (dk_at dksX6_readsCondition_6 0 rfl rfl)
theorem dX6_readsCondition_143 : decode cX6_readsCondition 143 = .ok (.iconst 1, 1) := dk_4 (dk_at dksX6_readsCondition_6 3 rfl rfl)
theorem dX6_readsCondition_144 : decode cX6_readsCondition 144 = .ok (.ireturn, 1) := dk_172 (dk_at dksX6_readsCondition_6 4 rfl rfl)
theorem dX6_readsCondition_145 : decode cX6_readsCondition 145 = .ok (.aload_n 0, 1) := dk_42 (dk_at dksX6_readsCondition_6 5 rfl rfl)
theorem dX6_readsCondition_146 : decode cX6_readsCondition 146 = .ok (.invokevirtual 227, 3) := dk_182 0 227 (dk_at dksX6_readsCondition_6 6 rfl rfl)
theorem dX6_readsCondition_149 : decode cX6_readsCondition 149 = .ok (.goto (-57), 3) := dk_167 255 199 (dk_at dksX6_readsCondition_6 9 rfl rfl)
theorem dX6_readsCondition_152 : decode cX6_readsCondition 152 = .ok (.aload_n 0, 1) := dk_42 (dk_at dksX6_readsCondition_6 12 rfl rfl)
theorem dX6_readsCondition_153 : decode cX6_readsCondition 153 = .ok (.invokevirtual 167, 3) := dk_182 0 167 (dk_at dksX6_readsCondition_6 13 rfl rfl)
theorem dX6_readsCondition_156 : decode cX6_readsCondition 156 = .ok (.bipush 38, 2) := dk_16 38 (dk_at dksX6_readsCondition_6 16 rfl rfl)
theorem dX6_readsCondition_158 : decode cX6_readsCondition 158 = .ok (.if_icmp .eq 22, 3) := dk_159 0 22 (dk_at dksX6_readsCondition_6 18 rfl rfl)
theorem dX6_readsCondition_161 : decode cX6_readsCondition 161 = .ok (.aload_n 0, 1) := dk_42 (dk_at dksX6_readsCondition_6 21 rfl rfl)
theorem dX6_readsCondition_162 : decode cX6_readsCondition 162 = .ok (.invokevirtual 167, 3) := dk_182 0 167 (dk_at dksX6_readsCondition_7 0 rfl rfl)
theorem dX6_readsCondition_165 : decode cX6_readsCondition 165 = .ok (.bipush 124, 2) := dk_16 124 (dk_at dksX6_readsCondition_7 3 rfl rfl)
theorem dX6_readsCondition_167 : decode cX6_readsCondition 167 = .ok (.if_icmp .eq 13, 3) := dk_159 0 13 (dk_at dksX6_readsCondition_7 5 rfl rfl)
theorem dX6_readsCondition_170 : decode cX6_readsCondition 170 = .ok (.aload_n 0, 1) := dk_42 (dk_at dksX6_readsCondition_7 8 rfl rfl)
theorem dX6_readsCondition_171 : decode cX6_readsCondition 171 = .ok (.iconst 1, 1) := dk_4 (dk_at dksX6_readsCondition_7 9 rfl rfl)
theorem dX6_readsCondition_172 : decode cX6_readsCondition 172 = .ok (.aload_n 0, 1) := dk_42 (dk_at dksX6_readsCondition_7 10 rfl rfl)
theorem dX6_readsCondition_173 : decode cX6_readsCondition 173 = .ok (.getfield 161, 3) := dk_180 0 161 (dk_at dksX6_readsCondition_7 11 rfl rfl)
theorem dX6_readsCondition_176 : decode cX6_readsCondition 176 = .ok (.invokevirtual 174, 3) := dk_182 0 174 (dk_at dksX6_readsCondition_7 14 rfl rfl)
theorem dX6_readsCondition_179 : decode cX6_readsCondition 179 = .ok (.ireturn, 1) := dk_172 (dk_at dksX6_readsCondition_7 17 rfl rfl)
theorem dX6_readsCondition_180 : decode cX6_readsCondition 180 = .ok (.aload_n 0, 1) := dk_42 (dk_at dksX6_readsCondition_7 18 rfl rfl)
theorem dX6_readsCondition_181 : decode cX6_readsCondition 181 = .ok (.aload_n 0, 1) := dk_42 (dk_at dksX6_readsCondition_7 19 rfl rfl)
theorem dX6_readsCondition_182 : decode cX6_readsCondition 182 = .ok (.invokevirtual 167, 3) := dk_182 0 167 (dk_at dksX6_readsCondition_7 20 rfl rfl)
theorem dX6_readsCondition_185 : decode cX6_readsCondition 185 = .ok (.bipush 124, 2) := dk_16 124 (dk_at dksX6_readsCondition_8 0 rfl rfl)
theorem dX6_readsCondition_187 : decode cX6_readsCondition 187 = .ok (.if_icmp .ne 7, 3) := dk_160 0 7 (dk_at dksX6_readsCondition_8 2 rfl rfl)
theorem dX6_readsCondition_190 : decode cX6_readsCondition 190 = .ok (.iconst 1, 1) := dk_4 (dk_at dksX6_readsCondition_8 5 rfl rfl)
theorem dX6_readsCondition_191 : decode cX6_readsCondition 191 = .ok (.goto 4, 3) := dk_167 0 4 (dk_at dksX6_readsCondition_8 6 rfl rfl)
theorem dX6_readsCondition_194 : decode cX6_readsCondition 194 = .ok (.iconst 0, 1) := dk_3 (dk_at dksX6_readsCondition_8 9 rfl rfl)
theorem dX6_readsCondition_195 : decode cX6_readsCondition 195 = .ok (.invokevirtual 233, 3) := dk_182 0 233 (dk_at dksX6_readsCondition_8 10 rfl rfl)
theorem dX6_readsCondition_198 : decode cX6_readsCondition 198 = .ok (.aload_n 0, 1) := dk_42 (dk_at dksX6_readsCondition_8 13 rfl rfl)
theorem dX6_readsCondition_199 : decode cX6_readsCondition 199 = .ok (.aload_n 0, 1) := dk_42 (dk_at dksX6_readsCondition_8 14 rfl rfl)
theorem dX6_readsCondition_200 : decode cX6_readsCondition 200 = .ok (.invokevirtual 167, 3) := dk_182 0 167 (dk_at dksX6_readsCondition_8 15 rfl rfl)
theorem dX6_readsCondition_203 : decode cX6_readsCondition 203 = .ok (.bipush 38, 2) := dk_16 38 (dk_at dksX6_readsCondition_8 18 rfl rfl)
theorem dX6_readsCondition_205 : decode cX6_readsCondition 205 = .ok (.if_icmp .ne 8, 3) := dk_160 0 8 (dk_at dksX6_readsCondition_8 20 rfl rfl)
theorem dX6_readsCondition_208 : decode cX6_readsCondition 208 = .ok (.bipush 11, 2) := dk_16 11 (dk_at dksX6_readsCondition_9 0 rfl rfl)
theorem dX6_readsCondition_210 : decode cX6_readsCondition 210 = .ok (.goto 5, 3) := dk_167 0 5 (dk_at dksX6_readsCondition_9 2 rfl rfl)
theorem dX6_readsCondition_213 : decode cX6_readsCondition 213 = .ok (.bipush 12, 2) := dk_16 12 (dk_at dksX6_readsCondition_9 5 rfl rfl)
theorem dX6_readsCondition_215 : decode cX6_readsCondition 215 = .ok (.invokevirtual 236, 3) := dk_182 0 236 (dk_at dksX6_readsCondition_9 7 rfl rfl)
theorem dX6_readsCondition_218 : decode cX6_readsCondition 218 = .ok (.goto (-178), 3) := dk_167 255 78 (dk_at dksX6_readsCondition_9 10 rfl rfl)
abbrev cX6_readsCompared : ByteArray := prog_17_method_35_code
def yX6_readsCompared : MethodName := ⟨RX6, "readsCompared", "()Z"⟩
def dkwX6_readsCompared_4 : List UInt8 := [182, 0, 227, 4, 172]
abbrev dktX6_readsCompared_4 : List UInt8 := dkwX6_readsCompared_4 ++ []
def dkwX6_readsCompared_3 : List UInt8 := [180, 0, 161, 4, 96, 181, 0, 161, 42, 182, 0, 224, 154, 0, 5, 3, 172, 42, 27, 3, 182, 0, 197, 42]
abbrev dktX6_readsCompared_3 : List UInt8 := dkwX6_readsCompared_3 ++ dktX6_readsCompared_4
def dkwX6_readsCompared_2 : List UInt8 := [167, 0, 4, 2, 60, 27, 2, 160, 0, 13, 42, 4, 42, 180, 0, 161, 182, 0, 174, 172, 42, 42]
abbrev dktX6_readsCompared_2 : List UInt8 := dkwX6_readsCompared_2 ++ dktX6_readsCompared_3
def dkwX6_readsCompared_1 : List UInt8 := [182, 0, 167, 16, 62, 160, 0, 8, 16, 8, 167, 0, 18, 42, 182, 0, 167, 16, 61, 160, 0, 8, 16, 9]
abbrev dktX6_readsCompared_1 : List UInt8 := dkwX6_readsCompared_1 ++ dktX6_readsCompared_2
def dkwX6_readsCompared_0 : List UInt8 := [42, 182, 0, 224, 154, 0, 5, 3, 172, 42, 182, 0, 167, 16, 60, 160, 0, 8, 16, 7, 167, 0, 32, 42]
abbrev dktX6_readsCompared_0 : List UInt8 := dkwX6_readsCompared_0 ++ dktX6_readsCompared_1
theorem dksX6_readsCompared_0 : cX6_readsCompared.data.toList.drop 0 = dktX6_readsCompared_0 := by decide +kernel
theorem dksX6_readsCompared_1 : cX6_readsCompared.data.toList.drop 24 = dktX6_readsCompared_1 := dk_seg dksX6_readsCompared_0 24 rfl rfl
theorem dksX6_readsCompared_2 : cX6_readsCompared.data.toList.drop 48 = dktX6_readsCompared_2 := dk_seg dksX6_readsCompared_1 24 rfl rfl
theorem dksX6_readsCompared_3 : cX6_readsCompared.data.toList.drop 70 = dktX6_readsCompared_3 := dk_seg dksX6_readsCompared_2 22 rfl rfl
theorem dksX6_readsCompared_4 : cX6_readsCompared.data.toList.drop 94 = dktX6_readsCompared_4 := dk_seg dksX6_readsCompared_3 24 rfl rfl
theorem dX6_readsCompared_0 : decode cX6_readsCompared 0 = .ok (.aload_n 0, 1) := dk_42 (dk_at dksX6_readsCompared_0 0 rfl rfl)
theorem dX6_readsCompared_1 : decode cX6_readsCompared 1 = .ok (.invokevirtual 224, 3) := dk_182 0 224 (dk_at dksX6_readsCompared_0 1 rfl rfl)
theorem dX6_readsCompared_4 : decode cX6_readsCompared 4 = .ok (.ifCond .ne 5, 3) := dk_154 0 5 (dk_at dksX6_readsCompared_0 4 rfl rfl)
theorem dX6_readsCompared_7 : decode cX6_readsCompared 7 = .ok (.iconst 0, 1) := dk_3 (dk_at dksX6_readsCompared_0 7 rfl rfl)
theorem dX6_readsCompared_8 : decode cX6_readsCompared 8 = .ok (.ireturn, 1) := dk_172 (dk_at dksX6_readsCompared_0 8 rfl rfl)
theorem dX6_readsCompared_9 : decode cX6_readsCompared 9 = .ok (.aload_n 0, 1) := dk_42 (dk_at dksX6_readsCompared_0 9 rfl rfl)
theorem dX6_readsCompared_10 : decode cX6_readsCompared 10 = .ok (.invokevirtual 167, 3) := dk_182 0 167 (dk_at dksX6_readsCompared_0 10 rfl rfl)
theorem dX6_readsCompared_13 : decode cX6_readsCompared 13 = .ok (.bipush 60, 2) := dk_16 60 (dk_at dksX6_readsCompared_0 13 rfl rfl)
theorem dX6_readsCompared_15 : decode cX6_readsCompared 15 = .ok (.if_icmp .ne 8, 3) := dk_160 0 8 (dk_at dksX6_readsCompared_0 15 rfl rfl)
theorem dX6_readsCompared_18 : decode cX6_readsCompared 18 = .ok (.bipush 7, 2) := dk_16 7 (dk_at dksX6_readsCompared_0 18 rfl rfl)
theorem dX6_readsCompared_20 : decode cX6_readsCompared 20 = .ok (.goto 32, 3) := dk_167 0 32 (dk_at dksX6_readsCompared_0 20 rfl rfl)
theorem dX6_readsCompared_23 : decode cX6_readsCompared 23 = .ok (.aload_n 0, 1) := dk_42 (dk_at dksX6_readsCompared_0 23 rfl rfl)
theorem dX6_readsCompared_24 : decode cX6_readsCompared 24 = .ok (.invokevirtual 167, 3) := dk_182 0 167 (dk_at dksX6_readsCompared_1 0 rfl rfl)
theorem dX6_readsCompared_27 : decode cX6_readsCompared 27 = .ok (.bipush 62, 2) := dk_16 62 (dk_at dksX6_readsCompared_1 3 rfl rfl)
theorem dX6_readsCompared_29 : decode cX6_readsCompared 29 = .ok (.if_icmp .ne 8, 3) := dk_160 0 8 (dk_at dksX6_readsCompared_1 5 rfl rfl)
theorem dX6_readsCompared_32 : decode cX6_readsCompared 32 = .ok (.bipush 8, 2) := dk_16 8 (dk_at dksX6_readsCompared_1 8 rfl rfl)
theorem dX6_readsCompared_34 : decode cX6_readsCompared 34 = .ok (.goto 18, 3) := dk_167 0 18 (dk_at dksX6_readsCompared_1 10 rfl rfl)
theorem dX6_readsCompared_37 : decode cX6_readsCompared 37 = .ok (.aload_n 0, 1) := dk_42 (dk_at dksX6_readsCompared_1 13 rfl rfl)
theorem dX6_readsCompared_38 : decode cX6_readsCompared 38 = .ok (.invokevirtual 167, 3) := dk_182 0 167 (dk_at dksX6_readsCompared_1 14 rfl rfl)
theorem dX6_readsCompared_41 : decode cX6_readsCompared 41 = .ok (.bipush 61, 2) := dk_16 61 (dk_at dksX6_readsCompared_1 17 rfl rfl)
theorem dX6_readsCompared_43 : decode cX6_readsCompared 43 = .ok (.if_icmp .ne 8, 3) := dk_160 0 8 (dk_at dksX6_readsCompared_1 19 rfl rfl)
theorem dX6_readsCompared_46 : decode cX6_readsCompared 46 = .ok (.bipush 9, 2) := dk_16 9 (dk_at dksX6_readsCompared_1 22 rfl rfl)
theorem dX6_readsCompared_48 : decode cX6_readsCompared 48 = .ok (.goto 4, 3) := dk_167 0 4 (dk_at dksX6_readsCompared_2 0 rfl rfl)
theorem dX6_readsCompared_51 : decode cX6_readsCompared 51 = .ok (.iconst (-1), 1) := dk_2 (dk_at dksX6_readsCompared_2 3 rfl rfl)
theorem dX6_readsCompared_52 : decode cX6_readsCompared 52 = .ok (.istore_n 1, 1) := dk_60 (dk_at dksX6_readsCompared_2 4 rfl rfl)
theorem dX6_readsCompared_53 : decode cX6_readsCompared 53 = .ok (.iload_n 1, 1) := dk_27 (dk_at dksX6_readsCompared_2 5 rfl rfl)
theorem dX6_readsCompared_54 : decode cX6_readsCompared 54 = .ok (.iconst (-1), 1) := dk_2 (dk_at dksX6_readsCompared_2 6 rfl rfl)
theorem dX6_readsCompared_55 : decode cX6_readsCompared 55 = .ok (.if_icmp .ne 13, 3) := dk_160 0 13 (dk_at dksX6_readsCompared_2 7 rfl rfl)
theorem dX6_readsCompared_58 : decode cX6_readsCompared 58 = .ok (.aload_n 0, 1) := dk_42 (dk_at dksX6_readsCompared_2 10 rfl rfl)
theorem dX6_readsCompared_59 : decode cX6_readsCompared 59 = .ok (.iconst 1, 1) := dk_4 (dk_at dksX6_readsCompared_2 11 rfl rfl)
theorem dX6_readsCompared_60 : decode cX6_readsCompared 60 = .ok (.aload_n 0, 1) := dk_42 (dk_at dksX6_readsCompared_2 12 rfl rfl)
theorem dX6_readsCompared_61 : decode cX6_readsCompared 61 = .ok (.getfield 161, 3) := dk_180 0 161 (dk_at dksX6_readsCompared_2 13 rfl rfl)
theorem dX6_readsCompared_64 : decode cX6_readsCompared 64 = .ok (.invokevirtual 174, 3) := dk_182 0 174 (dk_at dksX6_readsCompared_2 16 rfl rfl)
theorem dX6_readsCompared_67 : decode cX6_readsCompared 67 = .ok (.ireturn, 1) := dk_172 (dk_at dksX6_readsCompared_2 19 rfl rfl)
theorem dX6_readsCompared_68 : decode cX6_readsCompared 68 = .ok (.aload_n 0, 1) := dk_42 (dk_at dksX6_readsCompared_2 20 rfl rfl)
theorem dX6_readsCompared_69 : decode cX6_readsCompared 69 = .ok (.aload_n 0, 1) := dk_42 (dk_at dksX6_readsCompared_2 21 rfl rfl)
theorem dX6_readsCompared_70 : decode cX6_readsCompared 70 = .ok (.getfield 161, 3) := dk_180 0 161 (dk_at dksX6_readsCompared_3 0 rfl rfl)
theorem dX6_readsCompared_73 : decode cX6_readsCompared 73 = .ok (.iconst 1, 1) := dk_4 (dk_at dksX6_readsCompared_3 3 rfl rfl)
theorem dX6_readsCompared_74 : decode cX6_readsCompared 74 = .ok (.iadd, 1) := dk_96 (dk_at dksX6_readsCompared_3 4 rfl rfl)
theorem dX6_readsCompared_75 : decode cX6_readsCompared 75 = .ok (.putfield 161, 3) := dk_181 0 161 (dk_at dksX6_readsCompared_3 5 rfl rfl)
theorem dX6_readsCompared_78 : decode cX6_readsCompared 78 = .ok (.aload_n 0, 1) := dk_42 (dk_at dksX6_readsCompared_3 8 rfl rfl)
theorem dX6_readsCompared_79 : decode cX6_readsCompared 79 = .ok (.invokevirtual 224, 3) := dk_182 0 224 (dk_at dksX6_readsCompared_3 9 rfl rfl)
theorem dX6_readsCompared_82 : decode cX6_readsCompared 82 = .ok (.ifCond .ne 5, 3) := dk_154 0 5 (dk_at dksX6_readsCompared_3 12 rfl rfl)
theorem dX6_readsCompared_85 : decode cX6_readsCompared 85 = .ok (.iconst 0, 1) := dk_3 (dk_at dksX6_readsCompared_3 15 rfl rfl)
theorem dX6_readsCompared_86 : decode cX6_readsCompared 86 = .ok (.ireturn, 1) := dk_172 (dk_at dksX6_readsCompared_3 16 rfl rfl)
theorem dX6_readsCompared_87 : decode cX6_readsCompared 87 = .ok (.aload_n 0, 1) := dk_42 (dk_at dksX6_readsCompared_3 17 rfl rfl)
theorem dX6_readsCompared_88 : decode cX6_readsCompared 88 = .ok (.iload_n 1, 1) := dk_27 (dk_at dksX6_readsCompared_3 18 rfl rfl)
theorem dX6_readsCompared_89 : decode cX6_readsCompared 89 = .ok (.iconst 0, 1) := dk_3 (dk_at dksX6_readsCompared_3 19 rfl rfl)
theorem dX6_readsCompared_90 : decode cX6_readsCompared 90 = .ok (.invokevirtual 197, 3) := dk_182 0 197 (dk_at dksX6_readsCompared_3 20 rfl rfl)
theorem dX6_readsCompared_93 : decode cX6_readsCompared 93 = .ok (.aload_n 0, 1) := dk_42 (dk_at dksX6_readsCompared_3 23 rfl rfl)
theorem dX6_readsCompared_94 : decode cX6_readsCompared 94 = .ok (.invokevirtual 227, 3) := dk_182 0 227 (dk_at dksX6_readsCompared_4 0 rfl rfl)
theorem dX6_readsCompared_97 : decode cX6_readsCompared 97 = .ok (.iconst 1, 1) := dk_4 (dk_at dksX6_readsCompared_4 3 rfl rfl)
theorem dX6_readsCompared_98 : decode cX6_readsCompared 98 = .ok (.ireturn, 1) := dk_172 (dk_at dksX6_readsCompared_4 4 rfl rfl)
abbrev cX6_endsPiece : ByteArray := prog_17_method_32_code
def yX6_endsPiece : MethodName := ⟨RX6, "endsPiece", "()V"⟩
def dkwX6_endsPiece_1 : List UInt8 := [181, 0, 191, 42, 42, 180, 0, 188, 4, 100, 181, 0, 188, 167, 255, 220, 177]
abbrev dktX6_endsPiece_1 : List UInt8 := dkwX6_endsPiece_1 ++ []
def dkwX6_endsPiece_0 : List UInt8 := [42, 182, 0, 194, 16, 10, 160, 0, 33, 42, 16, 10, 3, 182, 0, 197, 42, 42, 180, 0, 191, 4, 100]
abbrev dktX6_endsPiece_0 : List UInt8 := dkwX6_endsPiece_0 ++ dktX6_endsPiece_1
theorem dksX6_endsPiece_0 : cX6_endsPiece.data.toList.drop 0 = dktX6_endsPiece_0 := by decide +kernel
theorem dksX6_endsPiece_1 : cX6_endsPiece.data.toList.drop 23 = dktX6_endsPiece_1 := dk_seg dksX6_endsPiece_0 23 rfl rfl
theorem dX6_endsPiece_0 : decode cX6_endsPiece 0 = .ok (.aload_n 0, 1) := dk_42 (dk_at dksX6_endsPiece_0 0 rfl rfl)
theorem dX6_endsPiece_1 : decode cX6_endsPiece 1 = .ok (.invokevirtual 194, 3) := dk_182 0 194 (dk_at dksX6_endsPiece_0 1 rfl rfl)
theorem dX6_endsPiece_4 : decode cX6_endsPiece 4 = .ok (.bipush 10, 2) := dk_16 10 (dk_at dksX6_endsPiece_0 4 rfl rfl)
theorem dX6_endsPiece_6 : decode cX6_endsPiece 6 = .ok (.if_icmp .ne 33, 3) := dk_160 0 33 (dk_at dksX6_endsPiece_0 6 rfl rfl)
theorem dX6_endsPiece_9 : decode cX6_endsPiece 9 = .ok (.aload_n 0, 1) := dk_42 (dk_at dksX6_endsPiece_0 9 rfl rfl)
theorem dX6_endsPiece_10 : decode cX6_endsPiece 10 = .ok (.bipush 10, 2) := dk_16 10 (dk_at dksX6_endsPiece_0 10 rfl rfl)
theorem dX6_endsPiece_12 : decode cX6_endsPiece 12 = .ok (.iconst 0, 1) := dk_3 (dk_at dksX6_endsPiece_0 12 rfl rfl)
theorem dX6_endsPiece_13 : decode cX6_endsPiece 13 = .ok (.invokevirtual 197, 3) := dk_182 0 197 (dk_at dksX6_endsPiece_0 13 rfl rfl)
theorem dX6_endsPiece_16 : decode cX6_endsPiece 16 = .ok (.aload_n 0, 1) := dk_42 (dk_at dksX6_endsPiece_0 16 rfl rfl)
theorem dX6_endsPiece_17 : decode cX6_endsPiece 17 = .ok (.aload_n 0, 1) := dk_42 (dk_at dksX6_endsPiece_0 17 rfl rfl)
theorem dX6_endsPiece_18 : decode cX6_endsPiece 18 = .ok (.getfield 191, 3) := dk_180 0 191 (dk_at dksX6_endsPiece_0 18 rfl rfl)
theorem dX6_endsPiece_21 : decode cX6_endsPiece 21 = .ok (.iconst 1, 1) := dk_4 (dk_at dksX6_endsPiece_0 21 rfl rfl)
theorem dX6_endsPiece_22 : decode cX6_endsPiece 22 = .ok (.isub, 1) := dk_100 (dk_at dksX6_endsPiece_0 22 rfl rfl)
theorem dX6_endsPiece_23 : decode cX6_endsPiece 23 = .ok (.putfield 191, 3) := dk_181 0 191 (dk_at dksX6_endsPiece_1 0 rfl rfl)
theorem dX6_endsPiece_26 : decode cX6_endsPiece 26 = .ok (.aload_n 0, 1) := dk_42 (dk_at dksX6_endsPiece_1 3 rfl rfl)
theorem dX6_endsPiece_27 : decode cX6_endsPiece 27 = .ok (.aload_n 0, 1) := dk_42 (dk_at dksX6_endsPiece_1 4 rfl rfl)
theorem dX6_endsPiece_28 : decode cX6_endsPiece 28 = .ok (.getfield 188, 3) := dk_180 0 188 (dk_at dksX6_endsPiece_1 5 rfl rfl)
theorem dX6_endsPiece_31 : decode cX6_endsPiece 31 = .ok (.iconst 1, 1) := dk_4 (dk_at dksX6_endsPiece_1 8 rfl rfl)
theorem dX6_endsPiece_32 : decode cX6_endsPiece 32 = .ok (.isub, 1) := dk_100 (dk_at dksX6_endsPiece_1 9 rfl rfl)
theorem dX6_endsPiece_33 : decode cX6_endsPiece 33 = .ok (.putfield 188, 3) := dk_181 0 188 (dk_at dksX6_endsPiece_1 10 rfl rfl)
theorem dX6_endsPiece_36 : decode cX6_endsPiece 36 = .ok (.goto (-36), 3) := dk_167 255 220 (dk_at dksX6_endsPiece_1 13 rfl rfl)
theorem dX6_endsPiece_39 : decode cX6_endsPiece 39 = .ok (.return_, 1) := dk_177 (dk_at dksX6_endsPiece_1 16 rfl rfl)
abbrev cX6_lands : ByteArray := prog_17_method_33_code
def yX6_lands : MethodName := ⟨RX6, "lands", "(Z)V"⟩
def dkwX6_lands_3 : List UInt8 := [181, 0, 191, 167, 255, 186, 177]
abbrev dktX6_lands_3 : List UInt8 := dkwX6_lands_3 ++ []
def dkwX6_lands_2 : List UInt8 := [180, 0, 33, 28, 46, 18, 187, 108, 104, 42, 180, 0, 184, 96, 79, 42, 42, 180, 0, 191, 4, 100]
abbrev dktX6_lands_2 : List UInt8 := dkwX6_lands_2 ++ dktX6_lands_3
def dkwX6_lands_1 : List UInt8 := [180, 0, 36, 42, 180, 0, 191, 4, 100, 46, 18, 187, 112, 61, 42, 180, 0, 33, 28, 18, 187, 42]
abbrev dktX6_lands_1 : List UInt8 := dkwX6_lands_1 ++ dktX6_lands_2
def dkwX6_lands_0 : List UInt8 := [42, 182, 0, 194, 16, 11, 159, 0, 16, 27, 153, 0, 63, 42, 182, 0, 194, 16, 12, 160, 0, 54, 42]
abbrev dktX6_lands_0 : List UInt8 := dkwX6_lands_0 ++ dktX6_lands_1
theorem dksX6_lands_0 : cX6_lands.data.toList.drop 0 = dktX6_lands_0 := by decide +kernel
theorem dksX6_lands_1 : cX6_lands.data.toList.drop 23 = dktX6_lands_1 := dk_seg dksX6_lands_0 23 rfl rfl
theorem dksX6_lands_2 : cX6_lands.data.toList.drop 45 = dktX6_lands_2 := dk_seg dksX6_lands_1 22 rfl rfl
theorem dksX6_lands_3 : cX6_lands.data.toList.drop 67 = dktX6_lands_3 := dk_seg dksX6_lands_2 22 rfl rfl
theorem dX6_lands_0 : decode cX6_lands 0 = .ok (.aload_n 0, 1) := dk_42 (dk_at dksX6_lands_0 0 rfl rfl)
theorem dX6_lands_1 : decode cX6_lands 1 = .ok (.invokevirtual 194, 3) := dk_182 0 194 (dk_at dksX6_lands_0 1 rfl rfl)
theorem dX6_lands_4 : decode cX6_lands 4 = .ok (.bipush 11, 2) := dk_16 11 (dk_at dksX6_lands_0 4 rfl rfl)
theorem dX6_lands_6 : decode cX6_lands 6 = .ok (.if_icmp .eq 16, 3) := dk_159 0 16 (dk_at dksX6_lands_0 6 rfl rfl)
theorem dX6_lands_9 : decode cX6_lands 9 = .ok (.iload_n 1, 1) := dk_27 (dk_at dksX6_lands_0 9 rfl rfl)
theorem dX6_lands_10 : decode cX6_lands 10 = .ok (.ifCond .eq 63, 3) := dk_153 0 63 (dk_at dksX6_lands_0 10 rfl rfl)
theorem dX6_lands_13 : decode cX6_lands 13 = .ok (.aload_n 0, 1) := dk_42 (dk_at dksX6_lands_0 13 rfl rfl)
theorem dX6_lands_14 : decode cX6_lands 14 = .ok (.invokevirtual 194, 3) := dk_182 0 194 (dk_at dksX6_lands_0 14 rfl rfl)
theorem dX6_lands_17 : decode cX6_lands 17 = .ok (.bipush 12, 2) := dk_16 12 (dk_at dksX6_lands_0 17 rfl rfl)
theorem dX6_lands_19 : decode cX6_lands 19 = .ok (.if_icmp .ne 54, 3) := dk_160 0 54 (dk_at dksX6_lands_0 19 rfl rfl)
theorem dX6_lands_22 : decode cX6_lands 22 = .ok (.aload_n 0, 1) := dk_42 (dk_at dksX6_lands_0 22 rfl rfl)
theorem dX6_lands_23 : decode cX6_lands 23 = .ok (.getfield 36, 3) := dk_180 0 36 (dk_at dksX6_lands_1 0 rfl rfl)
theorem dX6_lands_26 : decode cX6_lands 26 = .ok (.aload_n 0, 1) := dk_42 (dk_at dksX6_lands_1 3 rfl rfl)
theorem dX6_lands_27 : decode cX6_lands 27 = .ok (.getfield 191, 3) := dk_180 0 191 (dk_at dksX6_lands_1 4 rfl rfl)
theorem dX6_lands_30 : decode cX6_lands 30 = .ok (.iconst 1, 1) := dk_4 (dk_at dksX6_lands_1 7 rfl rfl)
theorem dX6_lands_31 : decode cX6_lands 31 = .ok (.isub, 1) := dk_100 (dk_at dksX6_lands_1 8 rfl rfl)
theorem dX6_lands_32 : decode cX6_lands 32 = .ok (.iaload, 1) := dk_46 (dk_at dksX6_lands_1 9 rfl rfl)
theorem dX6_lands_33 : decode cX6_lands 33 = .ok (.ldc 187, 2) := dk_18 187 (dk_at dksX6_lands_1 10 rfl rfl)
theorem dX6_lands_35 : decode cX6_lands 35 = .ok (.irem, 1) := dk_112 (dk_at dksX6_lands_1 12 rfl rfl)
theorem dX6_lands_36 : decode cX6_lands 36 = .ok (.istore_n 2, 1) := dk_61 (dk_at dksX6_lands_1 13 rfl rfl)
theorem dX6_lands_37 : decode cX6_lands 37 = .ok (.aload_n 0, 1) := dk_42 (dk_at dksX6_lands_1 14 rfl rfl)
theorem dX6_lands_38 : decode cX6_lands 38 = .ok (.getfield 33, 3) := dk_180 0 33 (dk_at dksX6_lands_1 15 rfl rfl)
theorem dX6_lands_41 : decode cX6_lands 41 = .ok (.iload_n 2, 1) := dk_28 (dk_at dksX6_lands_1 18 rfl rfl)
theorem dX6_lands_42 : decode cX6_lands 42 = .ok (.ldc 187, 2) := dk_18 187 (dk_at dksX6_lands_1 19 rfl rfl)
theorem dX6_lands_44 : decode cX6_lands 44 = .ok (.aload_n 0, 1) := dk_42 (dk_at dksX6_lands_1 21 rfl rfl)
theorem dX6_lands_45 : decode cX6_lands 45 = .ok (.getfield 33, 3) := dk_180 0 33 (dk_at dksX6_lands_2 0 rfl rfl)
theorem dX6_lands_48 : decode cX6_lands 48 = .ok (.iload_n 2, 1) := dk_28 (dk_at dksX6_lands_2 3 rfl rfl)
theorem dX6_lands_49 : decode cX6_lands 49 = .ok (.iaload, 1) := dk_46 (dk_at dksX6_lands_2 4 rfl rfl)
theorem dX6_lands_50 : decode cX6_lands 50 = .ok (.ldc 187, 2) := dk_18 187 (dk_at dksX6_lands_2 5 rfl rfl)
theorem dX6_lands_52 : decode cX6_lands 52 = .ok (.idiv, 1) := dk_108 (dk_at dksX6_lands_2 7 rfl rfl)
theorem dX6_lands_53 : decode cX6_lands 53 = .ok (.imul, 1) := dk_104 (dk_at dksX6_lands_2 8 rfl rfl)
theorem dX6_lands_54 : decode cX6_lands 54 = .ok (.aload_n 0, 1) := dk_42 (dk_at dksX6_lands_2 9 rfl rfl)
theorem dX6_lands_55 : decode cX6_lands 55 = .ok (.getfield 184, 3) := dk_180 0 184 (dk_at dksX6_lands_2 10 rfl rfl)
theorem dX6_lands_58 : decode cX6_lands 58 = .ok (.iadd, 1) := dk_96 (dk_at dksX6_lands_2 13 rfl rfl)
theorem dX6_lands_59 : decode cX6_lands 59 = .ok (.iastore, 1) := dk_79 (dk_at dksX6_lands_2 14 rfl rfl)
theorem dX6_lands_60 : decode cX6_lands 60 = .ok (.aload_n 0, 1) := dk_42 (dk_at dksX6_lands_2 15 rfl rfl)
theorem dX6_lands_61 : decode cX6_lands 61 = .ok (.aload_n 0, 1) := dk_42 (dk_at dksX6_lands_2 16 rfl rfl)
theorem dX6_lands_62 : decode cX6_lands 62 = .ok (.getfield 191, 3) := dk_180 0 191 (dk_at dksX6_lands_2 17 rfl rfl)
theorem dX6_lands_65 : decode cX6_lands 65 = .ok (.iconst 1, 1) := dk_4 (dk_at dksX6_lands_2 20 rfl rfl)
theorem dX6_lands_66 : decode cX6_lands 66 = .ok (.isub, 1) := dk_100 (dk_at dksX6_lands_2 21 rfl rfl)
theorem dX6_lands_67 : decode cX6_lands 67 = .ok (.putfield 191, 3) := dk_181 0 191 (dk_at dksX6_lands_3 0 rfl rfl)
theorem dX6_lands_70 : decode cX6_lands 70 = .ok (.goto (-70), 3) := dk_167 255 186 (dk_at dksX6_lands_3 3 rfl rfl)
theorem dX6_lands_73 : decode cX6_lands 73 = .ok (.return_, 1) := dk_177 (dk_at dksX6_lands_3 6 rfl rfl)
abbrev cX6_jumps : ByteArray := prog_17_method_34_code
def yX6_jumps : MethodName := ⟨RX6, "jumps", "(I)V"⟩
def dkwX6_jumps_1 : List UInt8 := [96, 181, 0, 191, 42, 27, 3, 182, 0, 197, 42, 42, 180, 0, 161, 4, 96, 181, 0, 161, 177]
abbrev dktX6_jumps_1 : List UInt8 := dkwX6_jumps_1 ++ []
def dkwX6_jumps_0 : List UInt8 := [42, 180, 0, 36, 42, 180, 0, 191, 18, 187, 27, 104, 42, 180, 0, 184, 96, 79, 42, 42, 180, 0, 191, 4]
abbrev dktX6_jumps_0 : List UInt8 := dkwX6_jumps_0 ++ dktX6_jumps_1
theorem dksX6_jumps_0 : cX6_jumps.data.toList.drop 0 = dktX6_jumps_0 := by decide +kernel
theorem dksX6_jumps_1 : cX6_jumps.data.toList.drop 24 = dktX6_jumps_1 := dk_seg dksX6_jumps_0 24 rfl rfl
theorem dX6_jumps_0 : decode cX6_jumps 0 = .ok (.aload_n 0, 1) := dk_42 (dk_at dksX6_jumps_0 0 rfl rfl)
theorem dX6_jumps_1 : decode cX6_jumps 1 = .ok (.getfield 36, 3) := dk_180 0 36 (dk_at dksX6_jumps_0 1 rfl rfl)
theorem dX6_jumps_4 : decode cX6_jumps 4 = .ok (.aload_n 0, 1) := dk_42 (dk_at dksX6_jumps_0 4 rfl rfl)
theorem dX6_jumps_5 : decode cX6_jumps 5 = .ok (.getfield 191, 3) := dk_180 0 191 (dk_at dksX6_jumps_0 5 rfl rfl)
theorem dX6_jumps_8 : decode cX6_jumps 8 = .ok (.ldc 187, 2) := dk_18 187 (dk_at dksX6_jumps_0 8 rfl rfl)
theorem dX6_jumps_10 : decode cX6_jumps 10 = .ok (.iload_n 1, 1) := dk_27 (dk_at dksX6_jumps_0 10 rfl rfl)
theorem dX6_jumps_11 : decode cX6_jumps 11 = .ok (.imul, 1) := dk_104 (dk_at dksX6_jumps_0 11 rfl rfl)
theorem dX6_jumps_12 : decode cX6_jumps 12 = .ok (.aload_n 0, 1) := dk_42 (dk_at dksX6_jumps_0 12 rfl rfl)
theorem dX6_jumps_13 : decode cX6_jumps 13 = .ok (.getfield 184, 3) := dk_180 0 184 (dk_at dksX6_jumps_0 13 rfl rfl)
theorem dX6_jumps_16 : decode cX6_jumps 16 = .ok (.iadd, 1) := dk_96 (dk_at dksX6_jumps_0 16 rfl rfl)
theorem dX6_jumps_17 : decode cX6_jumps 17 = .ok (.iastore, 1) := dk_79 (dk_at dksX6_jumps_0 17 rfl rfl)
theorem dX6_jumps_18 : decode cX6_jumps 18 = .ok (.aload_n 0, 1) := dk_42 (dk_at dksX6_jumps_0 18 rfl rfl)
theorem dX6_jumps_19 : decode cX6_jumps 19 = .ok (.aload_n 0, 1) := dk_42 (dk_at dksX6_jumps_0 19 rfl rfl)
theorem dX6_jumps_20 : decode cX6_jumps 20 = .ok (.getfield 191, 3) := dk_180 0 191 (dk_at dksX6_jumps_0 20 rfl rfl)
theorem dX6_jumps_23 : decode cX6_jumps 23 = .ok (.iconst 1, 1) := dk_4 (dk_at dksX6_jumps_0 23 rfl rfl)
theorem dX6_jumps_24 : decode cX6_jumps 24 = .ok (.iadd, 1) := dk_96 (dk_at dksX6_jumps_1 0 rfl rfl)
theorem dX6_jumps_25 : decode cX6_jumps 25 = .ok (.putfield 191, 3) := dk_181 0 191 (dk_at dksX6_jumps_1 1 rfl rfl)
theorem dX6_jumps_28 : decode cX6_jumps 28 = .ok (.aload_n 0, 1) := dk_42 (dk_at dksX6_jumps_1 4 rfl rfl)
theorem dX6_jumps_29 : decode cX6_jumps 29 = .ok (.iload_n 1, 1) := dk_27 (dk_at dksX6_jumps_1 5 rfl rfl)
theorem dX6_jumps_30 : decode cX6_jumps 30 = .ok (.iconst 0, 1) := dk_3 (dk_at dksX6_jumps_1 6 rfl rfl)
theorem dX6_jumps_31 : decode cX6_jumps 31 = .ok (.invokevirtual 197, 3) := dk_182 0 197 (dk_at dksX6_jumps_1 7 rfl rfl)
theorem dX6_jumps_34 : decode cX6_jumps 34 = .ok (.aload_n 0, 1) := dk_42 (dk_at dksX6_jumps_1 10 rfl rfl)
theorem dX6_jumps_35 : decode cX6_jumps 35 = .ok (.aload_n 0, 1) := dk_42 (dk_at dksX6_jumps_1 11 rfl rfl)
theorem dX6_jumps_36 : decode cX6_jumps 36 = .ok (.getfield 161, 3) := dk_180 0 161 (dk_at dksX6_jumps_1 12 rfl rfl)
theorem dX6_jumps_39 : decode cX6_jumps 39 = .ok (.iconst 1, 1) := dk_4 (dk_at dksX6_jumps_1 15 rfl rfl)
theorem dX6_jumps_40 : decode cX6_jumps 40 = .ok (.iadd, 1) := dk_96 (dk_at dksX6_jumps_1 16 rfl rfl)
theorem dX6_jumps_41 : decode cX6_jumps 41 = .ok (.putfield 161, 3) := dk_181 0 161 (dk_at dksX6_jumps_1 17 rfl rfl)
theorem dX6_jumps_44 : decode cX6_jumps 44 = .ok (.return_, 1) := dk_177 (dk_at dksX6_jumps_1 20 rfl rfl)
abbrev cX6_takes : ByteArray := prog_17_method_21_code
def yX6_takes : MethodName := ⟨RX6, "takes", "(I)Z"⟩
def dkwX6_takes_1 : List UInt8 := [96, 181, 0, 161, 4, 172]
abbrev dktX6_takes_1 : List UInt8 := dkwX6_takes_1 ++ []
def dkwX6_takes_0 : List UInt8 := [42, 182, 0, 167, 27, 159, 0, 13, 42, 4, 42, 180, 0, 161, 182, 0, 174, 172, 42, 42, 180, 0, 161, 4]
abbrev dktX6_takes_0 : List UInt8 := dkwX6_takes_0 ++ dktX6_takes_1
theorem dksX6_takes_0 : cX6_takes.data.toList.drop 0 = dktX6_takes_0 := by decide +kernel
theorem dksX6_takes_1 : cX6_takes.data.toList.drop 24 = dktX6_takes_1 := dk_seg dksX6_takes_0 24 rfl rfl
theorem dX6_takes_0 : decode cX6_takes 0 = .ok (.aload_n 0, 1) := dk_42 (dk_at dksX6_takes_0 0 rfl rfl)
theorem dX6_takes_1 : decode cX6_takes 1 = .ok (.invokevirtual 167, 3) := dk_182 0 167 (dk_at dksX6_takes_0 1 rfl rfl)
theorem dX6_takes_4 : decode cX6_takes 4 = .ok (.iload_n 1, 1) := dk_27 (dk_at dksX6_takes_0 4 rfl rfl)
theorem dX6_takes_5 : decode cX6_takes 5 = .ok (.if_icmp .eq 13, 3) := dk_159 0 13 (dk_at dksX6_takes_0 5 rfl rfl)
theorem dX6_takes_8 : decode cX6_takes 8 = .ok (.aload_n 0, 1) := dk_42 (dk_at dksX6_takes_0 8 rfl rfl)
theorem dX6_takes_9 : decode cX6_takes 9 = .ok (.iconst 1, 1) := dk_4 (dk_at dksX6_takes_0 9 rfl rfl)
theorem dX6_takes_10 : decode cX6_takes 10 = .ok (.aload_n 0, 1) := dk_42 (dk_at dksX6_takes_0 10 rfl rfl)
theorem dX6_takes_11 : decode cX6_takes 11 = .ok (.getfield 161, 3) := dk_180 0 161 (dk_at dksX6_takes_0 11 rfl rfl)
theorem dX6_takes_14 : decode cX6_takes 14 = .ok (.invokevirtual 174, 3) := dk_182 0 174 (dk_at dksX6_takes_0 14 rfl rfl)
theorem dX6_takes_17 : decode cX6_takes 17 = .ok (.ireturn, 1) := dk_172 (dk_at dksX6_takes_0 17 rfl rfl)
theorem dX6_takes_18 : decode cX6_takes 18 = .ok (.aload_n 0, 1) := dk_42 (dk_at dksX6_takes_0 18 rfl rfl)
theorem dX6_takes_19 : decode cX6_takes 19 = .ok (.aload_n 0, 1) := dk_42 (dk_at dksX6_takes_0 19 rfl rfl)
theorem dX6_takes_20 : decode cX6_takes 20 = .ok (.getfield 161, 3) := dk_180 0 161 (dk_at dksX6_takes_0 20 rfl rfl)
theorem dX6_takes_23 : decode cX6_takes 23 = .ok (.iconst 1, 1) := dk_4 (dk_at dksX6_takes_0 23 rfl rfl)
theorem dX6_takes_24 : decode cX6_takes 24 = .ok (.iadd, 1) := dk_96 (dk_at dksX6_takes_1 0 rfl rfl)
theorem dX6_takes_25 : decode cX6_takes 25 = .ok (.putfield 161, 3) := dk_181 0 161 (dk_at dksX6_takes_1 1 rfl rfl)
theorem dX6_takes_28 : decode cX6_takes 28 = .ok (.iconst 1, 1) := dk_4 (dk_at dksX6_takes_1 4 rfl rfl)
theorem dX6_takes_29 : decode cX6_takes 29 = .ok (.ireturn, 1) := dk_172 (dk_at dksX6_takes_1 5 rfl rfl)
abbrev cX6_step : ByteArray := prog_17_method_51_code
def yX6_step : MethodName := ⟨RX6, "step", "(III)I"⟩
def dkwX6_step_4 : List UInt8 := [172]
abbrev dktX6_step_4 : List UInt8 := dkwX6_step_4 ++ []
def dkwX6_step_3 : List UInt8 := [180, 0, 75, 16, 40, 27, 104, 28, 96, 46, 167, 0, 14, 42, 180, 0, 78, 16, 40, 27, 104, 28, 96, 46]
abbrev dktX6_step_3 : List UInt8 := dkwX6_step_3 ++ dktX6_step_4
def dkwX6_step_2 : List UInt8 := [154, 0, 17, 42, 180, 0, 72, 16, 40, 27, 104, 28, 96, 46, 167, 0, 33, 29, 4, 160, 0, 17, 42]
abbrev dktX6_step_2 : List UInt8 := dkwX6_step_2 ++ dktX6_step_3
def dkwX6_step_1 : List UInt8 := [154, 0, 5, 2, 172, 42, 182, 1, 35, 42, 27, 28, 182, 1, 38, 154, 0, 6, 16, 254, 172, 29]
abbrev dktX6_step_1 : List UInt8 := dkwX6_step_1 ++ dktX6_step_2
def dkwX6_step_0 : List UInt8 := [42, 27, 182, 0, 154, 153, 0, 20, 42, 28, 182, 0, 154, 153, 0, 12, 29, 3, 5, 184, 0, 139]
abbrev dktX6_step_0 : List UInt8 := dkwX6_step_0 ++ dktX6_step_1
theorem dksX6_step_0 : cX6_step.data.toList.drop 0 = dktX6_step_0 := by decide +kernel
theorem dksX6_step_1 : cX6_step.data.toList.drop 22 = dktX6_step_1 := dk_seg dksX6_step_0 22 rfl rfl
theorem dksX6_step_2 : cX6_step.data.toList.drop 44 = dktX6_step_2 := dk_seg dksX6_step_1 22 rfl rfl
theorem dksX6_step_3 : cX6_step.data.toList.drop 67 = dktX6_step_3 := dk_seg dksX6_step_2 23 rfl rfl
theorem dksX6_step_4 : cX6_step.data.toList.drop 91 = dktX6_step_4 := dk_seg dksX6_step_3 24 rfl rfl
theorem dX6_step_0 : decode cX6_step 0 = .ok (.aload_n 0, 1) := dk_42 (dk_at dksX6_step_0 0 rfl rfl)
theorem dX6_step_1 : decode cX6_step 1 = .ok (.iload_n 1, 1) := dk_27 (dk_at dksX6_step_0 1 rfl rfl)
theorem dX6_step_2 : decode cX6_step 2 = .ok (.invokevirtual 154, 3) := dk_182 0 154 (dk_at dksX6_step_0 2 rfl rfl)
theorem dX6_step_5 : decode cX6_step 5 = .ok (.ifCond .eq 20, 3) := dk_153 0 20 (dk_at dksX6_step_0 5 rfl rfl)
theorem dX6_step_8 : decode cX6_step 8 = .ok (.aload_n 0, 1) := dk_42 (dk_at dksX6_step_0 8 rfl rfl)
theorem dX6_step_9 : decode cX6_step 9 = .ok (.iload_n 2, 1) := dk_28 (dk_at dksX6_step_0 9 rfl rfl)
theorem dX6_step_10 : decode cX6_step 10 = .ok (.invokevirtual 154, 3) := dk_182 0 154 (dk_at dksX6_step_0 10 rfl rfl)
theorem dX6_step_13 : decode cX6_step 13 = .ok (.ifCond .eq 12, 3) := dk_153 0 12 (dk_at dksX6_step_0 13 rfl rfl)
theorem dX6_step_16 : decode cX6_step 16 = .ok (.iload_n 3, 1) := dk_29 (dk_at dksX6_step_0 16 rfl rfl)
theorem dX6_step_17 : decode cX6_step 17 = .ok (.iconst 0, 1) := dk_3 (dk_at dksX6_step_0 17 rfl rfl)
theorem dX6_step_18 : decode cX6_step 18 = .ok (.iconst 2, 1) := dk_5 (dk_at dksX6_step_0 18 rfl rfl)
theorem dX6_step_19 : decode cX6_step 19 = .ok (.invokestatic 139, 3) := dk_184 0 139 (dk_at dksX6_step_0 19 rfl rfl)
theorem dX6_step_22 : decode cX6_step 22 = .ok (.ifCond .ne 5, 3) := dk_154 0 5 (dk_at dksX6_step_1 0 rfl rfl)
theorem dX6_step_25 : decode cX6_step 25 = .ok (.iconst (-1), 1) := dk_2 (dk_at dksX6_step_1 3 rfl rfl)
theorem dX6_step_26 : decode cX6_step 26 = .ok (.ireturn, 1) := dk_172 (dk_at dksX6_step_1 4 rfl rfl)
theorem dX6_step_27 : decode cX6_step 27 = .ok (.aload_n 0, 1) := dk_42 (dk_at dksX6_step_1 5 rfl rfl)
theorem dX6_step_28 : decode cX6_step 28 = .ok (.invokevirtual 291, 3) := dk_182 1 35 (dk_at dksX6_step_1 6 rfl rfl)
theorem dX6_step_31 : decode cX6_step 31 = .ok (.aload_n 0, 1) := dk_42 (dk_at dksX6_step_1 9 rfl rfl)
theorem dX6_step_32 : decode cX6_step 32 = .ok (.iload_n 1, 1) := dk_27 (dk_at dksX6_step_1 10 rfl rfl)
theorem dX6_step_33 : decode cX6_step 33 = .ok (.iload_n 2, 1) := dk_28 (dk_at dksX6_step_1 11 rfl rfl)
theorem dX6_step_34 : decode cX6_step 34 = .ok (.invokevirtual 294, 3) := dk_182 1 38 (dk_at dksX6_step_1 12 rfl rfl)
theorem dX6_step_37 : decode cX6_step 37 = .ok (.ifCond .ne 6, 3) := dk_154 0 6 (dk_at dksX6_step_1 15 rfl rfl)
theorem dX6_step_40 : decode cX6_step 40 = .ok (.bipush (-2), 2) := dk_16 254 (dk_at dksX6_step_1 18 rfl rfl)
theorem dX6_step_42 : decode cX6_step 42 = .ok (.ireturn, 1) := dk_172 (dk_at dksX6_step_1 20 rfl rfl)
theorem dX6_step_43 : decode cX6_step 43 = .ok (.iload_n 3, 1) := dk_29 (dk_at dksX6_step_1 21 rfl rfl)
theorem dX6_step_44 : decode cX6_step 44 = .ok (.ifCond .ne 17, 3) := dk_154 0 17 (dk_at dksX6_step_2 0 rfl rfl)
theorem dX6_step_47 : decode cX6_step 47 = .ok (.aload_n 0, 1) := dk_42 (dk_at dksX6_step_2 3 rfl rfl)
theorem dX6_step_48 : decode cX6_step 48 = .ok (.getfield 72, 3) := dk_180 0 72 (dk_at dksX6_step_2 4 rfl rfl)
theorem dX6_step_51 : decode cX6_step 51 = .ok (.bipush 40, 2) := dk_16 40 (dk_at dksX6_step_2 7 rfl rfl)
theorem dX6_step_53 : decode cX6_step 53 = .ok (.iload_n 1, 1) := dk_27 (dk_at dksX6_step_2 9 rfl rfl)
theorem dX6_step_54 : decode cX6_step 54 = .ok (.imul, 1) := dk_104 (dk_at dksX6_step_2 10 rfl rfl)
theorem dX6_step_55 : decode cX6_step 55 = .ok (.iload_n 2, 1) := dk_28 (dk_at dksX6_step_2 11 rfl rfl)
theorem dX6_step_56 : decode cX6_step 56 = .ok (.iadd, 1) := dk_96 (dk_at dksX6_step_2 12 rfl rfl)
theorem dX6_step_57 : decode cX6_step 57 = .ok (.iaload, 1) := dk_46 (dk_at dksX6_step_2 13 rfl rfl)
theorem dX6_step_58 : decode cX6_step 58 = .ok (.goto 33, 3) := dk_167 0 33 (dk_at dksX6_step_2 14 rfl rfl)
theorem dX6_step_61 : decode cX6_step 61 = .ok (.iload_n 3, 1) := dk_29 (dk_at dksX6_step_2 17 rfl rfl)
theorem dX6_step_62 : decode cX6_step 62 = .ok (.iconst 1, 1) := dk_4 (dk_at dksX6_step_2 18 rfl rfl)
theorem dX6_step_63 : decode cX6_step 63 = .ok (.if_icmp .ne 17, 3) := dk_160 0 17 (dk_at dksX6_step_2 19 rfl rfl)
theorem dX6_step_66 : decode cX6_step 66 = .ok (.aload_n 0, 1) := dk_42 (dk_at dksX6_step_2 22 rfl rfl)
theorem dX6_step_67 : decode cX6_step 67 = .ok (.getfield 75, 3) := dk_180 0 75 (dk_at dksX6_step_3 0 rfl rfl)
theorem dX6_step_70 : decode cX6_step 70 = .ok (.bipush 40, 2) := dk_16 40 (dk_at dksX6_step_3 3 rfl rfl)
theorem dX6_step_72 : decode cX6_step 72 = .ok (.iload_n 1, 1) := dk_27 (dk_at dksX6_step_3 5 rfl rfl)
theorem dX6_step_73 : decode cX6_step 73 = .ok (.imul, 1) := dk_104 (dk_at dksX6_step_3 6 rfl rfl)
theorem dX6_step_74 : decode cX6_step 74 = .ok (.iload_n 2, 1) := dk_28 (dk_at dksX6_step_3 7 rfl rfl)
theorem dX6_step_75 : decode cX6_step 75 = .ok (.iadd, 1) := dk_96 (dk_at dksX6_step_3 8 rfl rfl)
theorem dX6_step_76 : decode cX6_step 76 = .ok (.iaload, 1) := dk_46 (dk_at dksX6_step_3 9 rfl rfl)
theorem dX6_step_77 : decode cX6_step 77 = .ok (.goto 14, 3) := dk_167 0 14 (dk_at dksX6_step_3 10 rfl rfl)
theorem dX6_step_80 : decode cX6_step 80 = .ok (.aload_n 0, 1) := dk_42 (dk_at dksX6_step_3 13 rfl rfl)
theorem dX6_step_81 : decode cX6_step 81 = .ok (.getfield 78, 3) := dk_180 0 78 (dk_at dksX6_step_3 14 rfl rfl)
theorem dX6_step_84 : decode cX6_step 84 = .ok (.bipush 40, 2) := dk_16 40 (dk_at dksX6_step_3 17 rfl rfl)
theorem dX6_step_86 : decode cX6_step 86 = .ok (.iload_n 1, 1) := dk_27 (dk_at dksX6_step_3 19 rfl rfl)
theorem dX6_step_87 : decode cX6_step 87 = .ok (.imul, 1) := dk_104 (dk_at dksX6_step_3 20 rfl rfl)
theorem dX6_step_88 : decode cX6_step 88 = .ok (.iload_n 2, 1) := dk_28 (dk_at dksX6_step_3 21 rfl rfl)
theorem dX6_step_89 : decode cX6_step 89 = .ok (.iadd, 1) := dk_96 (dk_at dksX6_step_3 22 rfl rfl)
theorem dX6_step_90 : decode cX6_step 90 = .ok (.iaload, 1) := dk_46 (dk_at dksX6_step_3 23 rfl rfl)
theorem dX6_step_91 : decode cX6_step 91 = .ok (.ireturn, 1) := dk_172 (dk_at dksX6_step_4 0 rfl rfl)
abbrev cX6_laysSteps : ByteArray := prog_17_method_49_code
def yX6_laysSteps : MethodName := ⟨RX6, "laysSteps", "()V"⟩
def dkwX6_laysSteps_3 : List UInt8 := [167, 255, 196, 132, 1, 1, 167, 255, 180, 177]
abbrev dktX6_laysSteps_3 : List UInt8 := dkwX6_laysSteps_3 ++ []
def dkwX6_laysSteps_2 : List UInt8 := [182, 1, 26, 153, 0, 18, 42, 27, 28, 182, 1, 29, 153, 0, 9, 42, 27, 28, 182, 1, 32, 132, 2, 1]
abbrev dktX6_laysSteps_2 : List UInt8 := dkwX6_laysSteps_2 ++ dktX6_laysSteps_3
def dkwX6_laysSteps_1 : List UInt8 := [16, 40, 27, 104, 28, 96, 18, 129, 79, 27, 28, 159, 0, 34, 42, 27, 182, 1, 26, 153, 0, 26, 42, 28]
abbrev dktX6_laysSteps_1 : List UInt8 := dkwX6_laysSteps_1 ++ dktX6_laysSteps_2
def dkwX6_laysSteps_0 : List UInt8 := [3, 60, 27, 42, 180, 0, 130, 162, 0, 74, 3, 61, 28, 42, 180, 0, 130, 162, 0, 58, 42, 180, 0, 72]
abbrev dktX6_laysSteps_0 : List UInt8 := dkwX6_laysSteps_0 ++ dktX6_laysSteps_1
theorem dksX6_laysSteps_0 : cX6_laysSteps.data.toList.drop 0 = dktX6_laysSteps_0 := by decide +kernel
theorem dksX6_laysSteps_1 : cX6_laysSteps.data.toList.drop 24 = dktX6_laysSteps_1 := dk_seg dksX6_laysSteps_0 24 rfl rfl
theorem dksX6_laysSteps_2 : cX6_laysSteps.data.toList.drop 48 = dktX6_laysSteps_2 := dk_seg dksX6_laysSteps_1 24 rfl rfl
theorem dksX6_laysSteps_3 : cX6_laysSteps.data.toList.drop 72 = dktX6_laysSteps_3 := dk_seg dksX6_laysSteps_2 24 rfl rfl
theorem dX6_laysSteps_0 : decode cX6_laysSteps 0 = .ok (.iconst 0, 1) := dk_3 (dk_at dksX6_laysSteps_0 0 rfl rfl)
theorem dX6_laysSteps_1 : decode cX6_laysSteps 1 = .ok (.istore_n 1, 1) := dk_60 (dk_at dksX6_laysSteps_0 1 rfl rfl)
theorem dX6_laysSteps_2 : decode cX6_laysSteps 2 = .ok (.iload_n 1, 1) := dk_27 (dk_at dksX6_laysSteps_0 2 rfl rfl)
theorem dX6_laysSteps_3 : decode cX6_laysSteps 3 = .ok (.aload_n 0, 1) := dk_42 (dk_at dksX6_laysSteps_0 3 rfl rfl)
theorem dX6_laysSteps_4 : decode cX6_laysSteps 4 = .ok (.getfield 130, 3) := dk_180 0 130 (dk_at dksX6_laysSteps_0 4 rfl rfl)
theorem dX6_laysSteps_7 : decode cX6_laysSteps 7 = .ok (.if_icmp .ge 74, 3) := dk_162 0 74 (dk_at dksX6_laysSteps_0 7 rfl rfl)
theorem dX6_laysSteps_10 : decode cX6_laysSteps 10 = .ok (.iconst 0, 1) := dk_3 (dk_at dksX6_laysSteps_0 10 rfl rfl)
theorem dX6_laysSteps_11 : decode cX6_laysSteps 11 = .ok (.istore_n 2, 1) := dk_61 (dk_at dksX6_laysSteps_0 11 rfl rfl)
theorem dX6_laysSteps_12 : decode cX6_laysSteps 12 = .ok (.iload_n 2, 1) := dk_28 (dk_at dksX6_laysSteps_0 12 rfl rfl)
theorem dX6_laysSteps_13 : decode cX6_laysSteps 13 = .ok (.aload_n 0, 1) := dk_42 (dk_at dksX6_laysSteps_0 13 rfl rfl)
theorem dX6_laysSteps_14 : decode cX6_laysSteps 14 = .ok (.getfield 130, 3) := dk_180 0 130 (dk_at dksX6_laysSteps_0 14 rfl rfl)
theorem dX6_laysSteps_17 : decode cX6_laysSteps 17 = .ok (.if_icmp .ge 58, 3) := dk_162 0 58 (dk_at dksX6_laysSteps_0 17 rfl rfl)
theorem dX6_laysSteps_20 : decode cX6_laysSteps 20 = .ok (.aload_n 0, 1) := dk_42 (dk_at dksX6_laysSteps_0 20 rfl rfl)
theorem dX6_laysSteps_21 : decode cX6_laysSteps 21 = .ok (.getfield 72, 3) := dk_180 0 72 (dk_at dksX6_laysSteps_0 21 rfl rfl)
theorem dX6_laysSteps_24 : decode cX6_laysSteps 24 = .ok (.bipush 40, 2) := dk_16 40 (dk_at dksX6_laysSteps_1 0 rfl rfl)
theorem dX6_laysSteps_26 : decode cX6_laysSteps 26 = .ok (.iload_n 1, 1) := dk_27 (dk_at dksX6_laysSteps_1 2 rfl rfl)
theorem dX6_laysSteps_27 : decode cX6_laysSteps 27 = .ok (.imul, 1) := dk_104 (dk_at dksX6_laysSteps_1 3 rfl rfl)
theorem dX6_laysSteps_28 : decode cX6_laysSteps 28 = .ok (.iload_n 2, 1) := dk_28 (dk_at dksX6_laysSteps_1 4 rfl rfl)
theorem dX6_laysSteps_29 : decode cX6_laysSteps 29 = .ok (.iadd, 1) := dk_96 (dk_at dksX6_laysSteps_1 5 rfl rfl)
theorem dX6_laysSteps_30 : decode cX6_laysSteps 30 = .ok (.ldc 129, 2) := dk_18 129 (dk_at dksX6_laysSteps_1 6 rfl rfl)
theorem dX6_laysSteps_32 : decode cX6_laysSteps 32 = .ok (.iastore, 1) := dk_79 (dk_at dksX6_laysSteps_1 8 rfl rfl)
theorem dX6_laysSteps_33 : decode cX6_laysSteps 33 = .ok (.iload_n 1, 1) := dk_27 (dk_at dksX6_laysSteps_1 9 rfl rfl)
theorem dX6_laysSteps_34 : decode cX6_laysSteps 34 = .ok (.iload_n 2, 1) := dk_28 (dk_at dksX6_laysSteps_1 10 rfl rfl)
theorem dX6_laysSteps_35 : decode cX6_laysSteps 35 = .ok (.if_icmp .eq 34, 3) := dk_159 0 34 (dk_at dksX6_laysSteps_1 11 rfl rfl)
theorem dX6_laysSteps_38 : decode cX6_laysSteps 38 = .ok (.aload_n 0, 1) := dk_42 (dk_at dksX6_laysSteps_1 14 rfl rfl)
theorem dX6_laysSteps_39 : decode cX6_laysSteps 39 = .ok (.iload_n 1, 1) := dk_27 (dk_at dksX6_laysSteps_1 15 rfl rfl)
theorem dX6_laysSteps_40 : decode cX6_laysSteps 40 = .ok (.invokevirtual 282, 3) := dk_182 1 26 (dk_at dksX6_laysSteps_1 16 rfl rfl)
theorem dX6_laysSteps_43 : decode cX6_laysSteps 43 = .ok (.ifCond .eq 26, 3) := dk_153 0 26 (dk_at dksX6_laysSteps_1 19 rfl rfl)
theorem dX6_laysSteps_46 : decode cX6_laysSteps 46 = .ok (.aload_n 0, 1) := dk_42 (dk_at dksX6_laysSteps_1 22 rfl rfl)
theorem dX6_laysSteps_47 : decode cX6_laysSteps 47 = .ok (.iload_n 2, 1) := dk_28 (dk_at dksX6_laysSteps_1 23 rfl rfl)
theorem dX6_laysSteps_48 : decode cX6_laysSteps 48 = .ok (.invokevirtual 282, 3) := dk_182 1 26 (dk_at dksX6_laysSteps_2 0 rfl rfl)
theorem dX6_laysSteps_51 : decode cX6_laysSteps 51 = .ok (.ifCond .eq 18, 3) := dk_153 0 18 (dk_at dksX6_laysSteps_2 3 rfl rfl)
theorem dX6_laysSteps_54 : decode cX6_laysSteps 54 = .ok (.aload_n 0, 1) := dk_42 (dk_at dksX6_laysSteps_2 6 rfl rfl)
theorem dX6_laysSteps_55 : decode cX6_laysSteps 55 = .ok (.iload_n 1, 1) := dk_27 (dk_at dksX6_laysSteps_2 7 rfl rfl)
theorem dX6_laysSteps_56 : decode cX6_laysSteps 56 = .ok (.iload_n 2, 1) := dk_28 (dk_at dksX6_laysSteps_2 8 rfl rfl)
theorem dX6_laysSteps_57 : decode cX6_laysSteps 57 = .ok (.invokevirtual 285, 3) := dk_182 1 29 (dk_at dksX6_laysSteps_2 9 rfl rfl)
theorem dX6_laysSteps_60 : decode cX6_laysSteps 60 = .ok (.ifCond .eq 9, 3) := dk_153 0 9 (dk_at dksX6_laysSteps_2 12 rfl rfl)
theorem dX6_laysSteps_63 : decode cX6_laysSteps 63 = .ok (.aload_n 0, 1) := dk_42 (dk_at dksX6_laysSteps_2 15 rfl rfl)
theorem dX6_laysSteps_64 : decode cX6_laysSteps 64 = .ok (.iload_n 1, 1) := dk_27 (dk_at dksX6_laysSteps_2 16 rfl rfl)
theorem dX6_laysSteps_65 : decode cX6_laysSteps 65 = .ok (.iload_n 2, 1) := dk_28 (dk_at dksX6_laysSteps_2 17 rfl rfl)
theorem dX6_laysSteps_66 : decode cX6_laysSteps 66 = .ok (.invokevirtual 288, 3) := dk_182 1 32 (dk_at dksX6_laysSteps_2 18 rfl rfl)
theorem dX6_laysSteps_69 : decode cX6_laysSteps 69 = .ok (.iinc 2 1, 3) := dk_132 2 1 (dk_at dksX6_laysSteps_2 21 rfl rfl)
theorem dX6_laysSteps_72 : decode cX6_laysSteps 72 = .ok (.goto (-60), 3) := dk_167 255 196 (dk_at dksX6_laysSteps_3 0 rfl rfl)
theorem dX6_laysSteps_75 : decode cX6_laysSteps 75 = .ok (.iinc 1 1, 3) := dk_132 1 1 (dk_at dksX6_laysSteps_3 3 rfl rfl)
theorem dX6_laysSteps_78 : decode cX6_laysSteps 78 = .ok (.goto (-76), 3) := dk_167 255 180 (dk_at dksX6_laysSteps_3 6 rfl rfl)
theorem dX6_laysSteps_81 : decode cX6_laysSteps 81 = .ok (.return_, 1) := dk_177 (dk_at dksX6_laysSteps_3 9 rfl rfl)
abbrev cX6_isUsed : ByteArray := prog_17_method_7_code
def yX6_isUsed : MethodName := ⟨RX6, "isUsed", "(I)Z"⟩
def dkwX6_isUsed_1 : List UInt8 := [180, 0, 126, 122, 4, 126, 4, 160, 0, 7, 4, 167, 0, 4, 3, 172]
abbrev dktX6_isUsed_1 : List UInt8 := dkwX6_isUsed_1 ++ []
def dkwX6_isUsed_0 : List UInt8 := [42, 180, 0, 22, 27, 51, 154, 0, 32, 42, 180, 0, 126, 2, 159, 0, 20, 42, 180, 0, 19, 27, 46, 42]
abbrev dktX6_isUsed_0 : List UInt8 := dkwX6_isUsed_0 ++ dktX6_isUsed_1
theorem dksX6_isUsed_0 : cX6_isUsed.data.toList.drop 0 = dktX6_isUsed_0 := by decide +kernel
theorem dksX6_isUsed_1 : cX6_isUsed.data.toList.drop 24 = dktX6_isUsed_1 := dk_seg dksX6_isUsed_0 24 rfl rfl
theorem dX6_isUsed_0 : decode cX6_isUsed 0 = .ok (.aload_n 0, 1) := dk_42 (dk_at dksX6_isUsed_0 0 rfl rfl)
theorem dX6_isUsed_1 : decode cX6_isUsed 1 = .ok (.getfield 22, 3) := dk_180 0 22 (dk_at dksX6_isUsed_0 1 rfl rfl)
theorem dX6_isUsed_4 : decode cX6_isUsed 4 = .ok (.iload_n 1, 1) := dk_27 (dk_at dksX6_isUsed_0 4 rfl rfl)
theorem dX6_isUsed_5 : decode cX6_isUsed 5 = .ok (.baload, 1) := dk_51 (dk_at dksX6_isUsed_0 5 rfl rfl)
theorem dX6_isUsed_6 : decode cX6_isUsed 6 = .ok (.ifCond .ne 32, 3) := dk_154 0 32 (dk_at dksX6_isUsed_0 6 rfl rfl)
theorem dX6_isUsed_9 : decode cX6_isUsed 9 = .ok (.aload_n 0, 1) := dk_42 (dk_at dksX6_isUsed_0 9 rfl rfl)
theorem dX6_isUsed_10 : decode cX6_isUsed 10 = .ok (.getfield 126, 3) := dk_180 0 126 (dk_at dksX6_isUsed_0 10 rfl rfl)
theorem dX6_isUsed_13 : decode cX6_isUsed 13 = .ok (.iconst (-1), 1) := dk_2 (dk_at dksX6_isUsed_0 13 rfl rfl)
theorem dX6_isUsed_14 : decode cX6_isUsed 14 = .ok (.if_icmp .eq 20, 3) := dk_159 0 20 (dk_at dksX6_isUsed_0 14 rfl rfl)
theorem dX6_isUsed_17 : decode cX6_isUsed 17 = .ok (.aload_n 0, 1) := dk_42 (dk_at dksX6_isUsed_0 17 rfl rfl)
theorem dX6_isUsed_18 : decode cX6_isUsed 18 = .ok (.getfield 19, 3) := dk_180 0 19 (dk_at dksX6_isUsed_0 18 rfl rfl)
theorem dX6_isUsed_21 : decode cX6_isUsed 21 = .ok (.iload_n 1, 1) := dk_27 (dk_at dksX6_isUsed_0 21 rfl rfl)
theorem dX6_isUsed_22 : decode cX6_isUsed 22 = .ok (.iaload, 1) := dk_46 (dk_at dksX6_isUsed_0 22 rfl rfl)
theorem dX6_isUsed_23 : decode cX6_isUsed 23 = .ok (.aload_n 0, 1) := dk_42 (dk_at dksX6_isUsed_0 23 rfl rfl)
theorem dX6_isUsed_24 : decode cX6_isUsed 24 = .ok (.getfield 126, 3) := dk_180 0 126 (dk_at dksX6_isUsed_1 0 rfl rfl)
theorem dX6_isUsed_27 : decode cX6_isUsed 27 = .ok (.ishr, 1) := dk_122 (dk_at dksX6_isUsed_1 3 rfl rfl)
theorem dX6_isUsed_28 : decode cX6_isUsed 28 = .ok (.iconst 1, 1) := dk_4 (dk_at dksX6_isUsed_1 4 rfl rfl)
theorem dX6_isUsed_29 : decode cX6_isUsed 29 = .ok (.iand, 1) := dk_126 (dk_at dksX6_isUsed_1 5 rfl rfl)
theorem dX6_isUsed_30 : decode cX6_isUsed 30 = .ok (.iconst 1, 1) := dk_4 (dk_at dksX6_isUsed_1 6 rfl rfl)
theorem dX6_isUsed_31 : decode cX6_isUsed 31 = .ok (.if_icmp .ne 7, 3) := dk_160 0 7 (dk_at dksX6_isUsed_1 7 rfl rfl)
theorem dX6_isUsed_34 : decode cX6_isUsed 34 = .ok (.iconst 1, 1) := dk_4 (dk_at dksX6_isUsed_1 10 rfl rfl)
theorem dX6_isUsed_35 : decode cX6_isUsed 35 = .ok (.goto 4, 3) := dk_167 0 4 (dk_at dksX6_isUsed_1 11 rfl rfl)
theorem dX6_isUsed_38 : decode cX6_isUsed 38 = .ok (.iconst 0, 1) := dk_3 (dk_at dksX6_isUsed_1 14 rfl rfl)
theorem dX6_isUsed_39 : decode cX6_isUsed 39 = .ok (.ireturn, 1) := dk_172 (dk_at dksX6_isUsed_1 15 rfl rfl)
abbrev cX6_mayNear : ByteArray := prog_17_method_48_code
def yX6_mayNear : MethodName := ⟨RX6, "mayNear", "(II)Z"⟩
def dkwX6_mayNear_1 : List UInt8 := [180, 0, 7, 27, 46, 100, 5, 162, 0, 7, 4, 167, 0, 4, 3, 172]
abbrev dktX6_mayNear_1 : List UInt8 := dkwX6_mayNear_1 ++ []
def dkwX6_mayNear_0 : List UInt8 := [42, 180, 0, 7, 27, 46, 42, 180, 0, 7, 28, 46, 100, 5, 162, 0, 24, 42, 180, 0, 7, 28, 46, 42]
abbrev dktX6_mayNear_0 : List UInt8 := dkwX6_mayNear_0 ++ dktX6_mayNear_1
theorem dksX6_mayNear_0 : cX6_mayNear.data.toList.drop 0 = dktX6_mayNear_0 := by decide +kernel
theorem dksX6_mayNear_1 : cX6_mayNear.data.toList.drop 24 = dktX6_mayNear_1 := dk_seg dksX6_mayNear_0 24 rfl rfl
theorem dX6_mayNear_0 : decode cX6_mayNear 0 = .ok (.aload_n 0, 1) := dk_42 (dk_at dksX6_mayNear_0 0 rfl rfl)
theorem dX6_mayNear_1 : decode cX6_mayNear 1 = .ok (.getfield 7, 3) := dk_180 0 7 (dk_at dksX6_mayNear_0 1 rfl rfl)
theorem dX6_mayNear_4 : decode cX6_mayNear 4 = .ok (.iload_n 1, 1) := dk_27 (dk_at dksX6_mayNear_0 4 rfl rfl)
theorem dX6_mayNear_5 : decode cX6_mayNear 5 = .ok (.iaload, 1) := dk_46 (dk_at dksX6_mayNear_0 5 rfl rfl)
theorem dX6_mayNear_6 : decode cX6_mayNear 6 = .ok (.aload_n 0, 1) := dk_42 (dk_at dksX6_mayNear_0 6 rfl rfl)
theorem dX6_mayNear_7 : decode cX6_mayNear 7 = .ok (.getfield 7, 3) := dk_180 0 7 (dk_at dksX6_mayNear_0 7 rfl rfl)
theorem dX6_mayNear_10 : decode cX6_mayNear 10 = .ok (.iload_n 2, 1) := dk_28 (dk_at dksX6_mayNear_0 10 rfl rfl)
theorem dX6_mayNear_11 : decode cX6_mayNear 11 = .ok (.iaload, 1) := dk_46 (dk_at dksX6_mayNear_0 11 rfl rfl)
theorem dX6_mayNear_12 : decode cX6_mayNear 12 = .ok (.isub, 1) := dk_100 (dk_at dksX6_mayNear_0 12 rfl rfl)
theorem dX6_mayNear_13 : decode cX6_mayNear 13 = .ok (.iconst 2, 1) := dk_5 (dk_at dksX6_mayNear_0 13 rfl rfl)
theorem dX6_mayNear_14 : decode cX6_mayNear 14 = .ok (.if_icmp .ge 24, 3) := dk_162 0 24 (dk_at dksX6_mayNear_0 14 rfl rfl)
theorem dX6_mayNear_17 : decode cX6_mayNear 17 = .ok (.aload_n 0, 1) := dk_42 (dk_at dksX6_mayNear_0 17 rfl rfl)
theorem dX6_mayNear_18 : decode cX6_mayNear 18 = .ok (.getfield 7, 3) := dk_180 0 7 (dk_at dksX6_mayNear_0 18 rfl rfl)
theorem dX6_mayNear_21 : decode cX6_mayNear 21 = .ok (.iload_n 2, 1) := dk_28 (dk_at dksX6_mayNear_0 21 rfl rfl)
theorem dX6_mayNear_22 : decode cX6_mayNear 22 = .ok (.iaload, 1) := dk_46 (dk_at dksX6_mayNear_0 22 rfl rfl)
theorem dX6_mayNear_23 : decode cX6_mayNear 23 = .ok (.aload_n 0, 1) := dk_42 (dk_at dksX6_mayNear_0 23 rfl rfl)
theorem dX6_mayNear_24 : decode cX6_mayNear 24 = .ok (.getfield 7, 3) := dk_180 0 7 (dk_at dksX6_mayNear_1 0 rfl rfl)
theorem dX6_mayNear_27 : decode cX6_mayNear 27 = .ok (.iload_n 1, 1) := dk_27 (dk_at dksX6_mayNear_1 3 rfl rfl)
theorem dX6_mayNear_28 : decode cX6_mayNear 28 = .ok (.iaload, 1) := dk_46 (dk_at dksX6_mayNear_1 4 rfl rfl)
theorem dX6_mayNear_29 : decode cX6_mayNear 29 = .ok (.isub, 1) := dk_100 (dk_at dksX6_mayNear_1 5 rfl rfl)
theorem dX6_mayNear_30 : decode cX6_mayNear 30 = .ok (.iconst 2, 1) := dk_5 (dk_at dksX6_mayNear_1 6 rfl rfl)
theorem dX6_mayNear_31 : decode cX6_mayNear 31 = .ok (.if_icmp .ge 7, 3) := dk_162 0 7 (dk_at dksX6_mayNear_1 7 rfl rfl)
theorem dX6_mayNear_34 : decode cX6_mayNear 34 = .ok (.iconst 1, 1) := dk_4 (dk_at dksX6_mayNear_1 10 rfl rfl)
theorem dX6_mayNear_35 : decode cX6_mayNear 35 = .ok (.goto 4, 3) := dk_167 0 4 (dk_at dksX6_mayNear_1 11 rfl rfl)
theorem dX6_mayNear_38 : decode cX6_mayNear 38 = .ok (.iconst 0, 1) := dk_3 (dk_at dksX6_mayNear_1 14 rfl rfl)
theorem dX6_mayNear_39 : decode cX6_mayNear 39 = .ok (.ireturn, 1) := dk_172 (dk_at dksX6_mayNear_1 15 rfl rfl)
abbrev cX6_laysStep : ByteArray := prog_17_method_47_code
def yX6_laysStep : MethodName := ⟨RX6, "laysStep", "(II)V"⟩
def dkwX6_laysStep_4 : List UInt8 := [21, 4, 79, 42, 180, 0, 78, 29, 21, 5, 79, 132, 5, 1, 167, 255, 176, 132, 4, 1, 167, 255, 161, 177]
abbrev dktX6_laysStep_4 : List UInt8 := dkwX6_laysStep_4 ++ []
def dkwX6_laysStep_3 : List UInt8 := [180, 0, 72, 29, 46, 161, 0, 6, 167, 0, 27, 42, 180, 0, 72, 29, 21, 6, 79, 42, 180, 0, 75, 29]
abbrev dktX6_laysStep_3 : List UInt8 := dkwX6_laysStep_3 ++ dktX6_laysStep_4
def dkwX6_laysStep_2 : List UInt8 := [167, 0, 57, 42, 27, 28, 21, 4, 21, 5, 182, 1, 19, 42, 182, 1, 23, 54, 6, 21, 6, 42]
abbrev dktX6_laysStep_2 : List UInt8 := dkwX6_laysStep_2 ++ dktX6_laysStep_3
def dkwX6_laysStep_1 : List UInt8 := [3, 54, 5, 21, 5, 16, 9, 162, 0, 79, 42, 27, 28, 21, 4, 21, 5, 182, 1, 16, 154, 0, 6]
abbrev dktX6_laysStep_1 : List UInt8 := dkwX6_laysStep_1 ++ dktX6_laysStep_2
def dkwX6_laysStep_0 : List UInt8 := [16, 40, 27, 104, 28, 96, 62, 42, 180, 0, 72, 29, 18, 129, 79, 3, 54, 4, 21, 4, 7, 162, 0, 95]
abbrev dktX6_laysStep_0 : List UInt8 := dkwX6_laysStep_0 ++ dktX6_laysStep_1
theorem dksX6_laysStep_0 : cX6_laysStep.data.toList.drop 0 = dktX6_laysStep_0 := by decide +kernel
theorem dksX6_laysStep_1 : cX6_laysStep.data.toList.drop 24 = dktX6_laysStep_1 := dk_seg dksX6_laysStep_0 24 rfl rfl
theorem dksX6_laysStep_2 : cX6_laysStep.data.toList.drop 47 = dktX6_laysStep_2 := dk_seg dksX6_laysStep_1 23 rfl rfl
theorem dksX6_laysStep_3 : cX6_laysStep.data.toList.drop 69 = dktX6_laysStep_3 := dk_seg dksX6_laysStep_2 22 rfl rfl
theorem dksX6_laysStep_4 : cX6_laysStep.data.toList.drop 93 = dktX6_laysStep_4 := dk_seg dksX6_laysStep_3 24 rfl rfl
theorem dX6_laysStep_0 : decode cX6_laysStep 0 = .ok (.bipush 40, 2) := dk_16 40 (dk_at dksX6_laysStep_0 0 rfl rfl)
theorem dX6_laysStep_2 : decode cX6_laysStep 2 = .ok (.iload_n 1, 1) := dk_27 (dk_at dksX6_laysStep_0 2 rfl rfl)
theorem dX6_laysStep_3 : decode cX6_laysStep 3 = .ok (.imul, 1) := dk_104 (dk_at dksX6_laysStep_0 3 rfl rfl)
theorem dX6_laysStep_4 : decode cX6_laysStep 4 = .ok (.iload_n 2, 1) := dk_28 (dk_at dksX6_laysStep_0 4 rfl rfl)
theorem dX6_laysStep_5 : decode cX6_laysStep 5 = .ok (.iadd, 1) := dk_96 (dk_at dksX6_laysStep_0 5 rfl rfl)
theorem dX6_laysStep_6 : decode cX6_laysStep 6 = .ok (.istore_n 3, 1) := dk_62 (dk_at dksX6_laysStep_0 6 rfl rfl)
theorem dX6_laysStep_7 : decode cX6_laysStep 7 = .ok (.aload_n 0, 1) := dk_42 (dk_at dksX6_laysStep_0 7 rfl rfl)
theorem dX6_laysStep_8 : decode cX6_laysStep 8 = .ok (.getfield 72, 3) := dk_180 0 72 (dk_at dksX6_laysStep_0 8 rfl rfl)
theorem dX6_laysStep_11 : decode cX6_laysStep 11 = .ok (.iload_n 3, 1) := dk_29 (dk_at dksX6_laysStep_0 11 rfl rfl)
theorem dX6_laysStep_12 : decode cX6_laysStep 12 = .ok (.ldc 129, 2) := dk_18 129 (dk_at dksX6_laysStep_0 12 rfl rfl)
theorem dX6_laysStep_14 : decode cX6_laysStep 14 = .ok (.iastore, 1) := dk_79 (dk_at dksX6_laysStep_0 14 rfl rfl)
theorem dX6_laysStep_15 : decode cX6_laysStep 15 = .ok (.iconst 0, 1) := dk_3 (dk_at dksX6_laysStep_0 15 rfl rfl)
theorem dX6_laysStep_16 : decode cX6_laysStep 16 = .ok (.istore 4, 2) := dk_54 4 (dk_at dksX6_laysStep_0 16 rfl rfl)
theorem dX6_laysStep_18 : decode cX6_laysStep 18 = .ok (.iload 4, 2) := dk_21 4 (dk_at dksX6_laysStep_0 18 rfl rfl)
theorem dX6_laysStep_20 : decode cX6_laysStep 20 = .ok (.iconst 4, 1) := dk_7 (dk_at dksX6_laysStep_0 20 rfl rfl)
theorem dX6_laysStep_21 : decode cX6_laysStep 21 = .ok (.if_icmp .ge 95, 3) := dk_162 0 95 (dk_at dksX6_laysStep_0 21 rfl rfl)
theorem dX6_laysStep_24 : decode cX6_laysStep 24 = .ok (.iconst 0, 1) := dk_3 (dk_at dksX6_laysStep_1 0 rfl rfl)
theorem dX6_laysStep_25 : decode cX6_laysStep 25 = .ok (.istore 5, 2) := dk_54 5 (dk_at dksX6_laysStep_1 1 rfl rfl)
theorem dX6_laysStep_27 : decode cX6_laysStep 27 = .ok (.iload 5, 2) := dk_21 5 (dk_at dksX6_laysStep_1 3 rfl rfl)
theorem dX6_laysStep_29 : decode cX6_laysStep 29 = .ok (.bipush 9, 2) := dk_16 9 (dk_at dksX6_laysStep_1 5 rfl rfl)
theorem dX6_laysStep_31 : decode cX6_laysStep 31 = .ok (.if_icmp .ge 79, 3) := dk_162 0 79 (dk_at dksX6_laysStep_1 7 rfl rfl)
theorem dX6_laysStep_34 : decode cX6_laysStep 34 = .ok (.aload_n 0, 1) := dk_42 (dk_at dksX6_laysStep_1 10 rfl rfl)
theorem dX6_laysStep_35 : decode cX6_laysStep 35 = .ok (.iload_n 1, 1) := dk_27 (dk_at dksX6_laysStep_1 11 rfl rfl)
theorem dX6_laysStep_36 : decode cX6_laysStep 36 = .ok (.iload_n 2, 1) := dk_28 (dk_at dksX6_laysStep_1 12 rfl rfl)
theorem dX6_laysStep_37 : decode cX6_laysStep 37 = .ok (.iload 4, 2) := dk_21 4 (dk_at dksX6_laysStep_1 13 rfl rfl)
theorem dX6_laysStep_39 : decode cX6_laysStep 39 = .ok (.iload 5, 2) := dk_21 5 (dk_at dksX6_laysStep_1 15 rfl rfl)
theorem dX6_laysStep_41 : decode cX6_laysStep 41 = .ok (.invokevirtual 272, 3) := dk_182 1 16 (dk_at dksX6_laysStep_1 17 rfl rfl)
theorem dX6_laysStep_44 : decode cX6_laysStep 44 = .ok (.ifCond .ne 6, 3) := dk_154 0 6 (dk_at dksX6_laysStep_1 20 rfl rfl)
theorem dX6_laysStep_47 : decode cX6_laysStep 47 = .ok (.goto 57, 3) := dk_167 0 57 (dk_at dksX6_laysStep_2 0 rfl rfl)
theorem dX6_laysStep_50 : decode cX6_laysStep 50 = .ok (.aload_n 0, 1) := dk_42 (dk_at dksX6_laysStep_2 3 rfl rfl)
theorem dX6_laysStep_51 : decode cX6_laysStep 51 = .ok (.iload_n 1, 1) := dk_27 (dk_at dksX6_laysStep_2 4 rfl rfl)
theorem dX6_laysStep_52 : decode cX6_laysStep 52 = .ok (.iload_n 2, 1) := dk_28 (dk_at dksX6_laysStep_2 5 rfl rfl)
theorem dX6_laysStep_53 : decode cX6_laysStep 53 = .ok (.iload 4, 2) := dk_21 4 (dk_at dksX6_laysStep_2 6 rfl rfl)
theorem dX6_laysStep_55 : decode cX6_laysStep 55 = .ok (.iload 5, 2) := dk_21 5 (dk_at dksX6_laysStep_2 8 rfl rfl)
theorem dX6_laysStep_57 : decode cX6_laysStep 57 = .ok (.invokevirtual 275, 3) := dk_182 1 19 (dk_at dksX6_laysStep_2 10 rfl rfl)
theorem dX6_laysStep_60 : decode cX6_laysStep 60 = .ok (.aload_n 0, 1) := dk_42 (dk_at dksX6_laysStep_2 13 rfl rfl)
theorem dX6_laysStep_61 : decode cX6_laysStep 61 = .ok (.invokevirtual 279, 3) := dk_182 1 23 (dk_at dksX6_laysStep_2 14 rfl rfl)
theorem dX6_laysStep_64 : decode cX6_laysStep 64 = .ok (.istore 6, 2) := dk_54 6 (dk_at dksX6_laysStep_2 17 rfl rfl)
theorem dX6_laysStep_66 : decode cX6_laysStep 66 = .ok (.iload 6, 2) := dk_21 6 (dk_at dksX6_laysStep_2 19 rfl rfl)
theorem dX6_laysStep_68 : decode cX6_laysStep 68 = .ok (.aload_n 0, 1) := dk_42 (dk_at dksX6_laysStep_2 21 rfl rfl)
theorem dX6_laysStep_69 : decode cX6_laysStep 69 = .ok (.getfield 72, 3) := dk_180 0 72 (dk_at dksX6_laysStep_3 0 rfl rfl)
theorem dX6_laysStep_72 : decode cX6_laysStep 72 = .ok (.iload_n 3, 1) := dk_29 (dk_at dksX6_laysStep_3 3 rfl rfl)
theorem dX6_laysStep_73 : decode cX6_laysStep 73 = .ok (.iaload, 1) := dk_46 (dk_at dksX6_laysStep_3 4 rfl rfl)
theorem dX6_laysStep_74 : decode cX6_laysStep 74 = .ok (.if_icmp .lt 6, 3) := dk_161 0 6 (dk_at dksX6_laysStep_3 5 rfl rfl)
theorem dX6_laysStep_77 : decode cX6_laysStep 77 = .ok (.goto 27, 3) := dk_167 0 27 (dk_at dksX6_laysStep_3 8 rfl rfl)
theorem dX6_laysStep_80 : decode cX6_laysStep 80 = .ok (.aload_n 0, 1) := dk_42 (dk_at dksX6_laysStep_3 11 rfl rfl)
theorem dX6_laysStep_81 : decode cX6_laysStep 81 = .ok (.getfield 72, 3) := dk_180 0 72 (dk_at dksX6_laysStep_3 12 rfl rfl)
theorem dX6_laysStep_84 : decode cX6_laysStep 84 = .ok (.iload_n 3, 1) := dk_29 (dk_at dksX6_laysStep_3 15 rfl rfl)
theorem dX6_laysStep_85 : decode cX6_laysStep 85 = .ok (.iload 6, 2) := dk_21 6 (dk_at dksX6_laysStep_3 16 rfl rfl)
theorem dX6_laysStep_87 : decode cX6_laysStep 87 = .ok (.iastore, 1) := dk_79 (dk_at dksX6_laysStep_3 18 rfl rfl)
theorem dX6_laysStep_88 : decode cX6_laysStep 88 = .ok (.aload_n 0, 1) := dk_42 (dk_at dksX6_laysStep_3 19 rfl rfl)
theorem dX6_laysStep_89 : decode cX6_laysStep 89 = .ok (.getfield 75, 3) := dk_180 0 75 (dk_at dksX6_laysStep_3 20 rfl rfl)
theorem dX6_laysStep_92 : decode cX6_laysStep 92 = .ok (.iload_n 3, 1) := dk_29 (dk_at dksX6_laysStep_3 23 rfl rfl)
theorem dX6_laysStep_93 : decode cX6_laysStep 93 = .ok (.iload 4, 2) := dk_21 4 (dk_at dksX6_laysStep_4 0 rfl rfl)
theorem dX6_laysStep_95 : decode cX6_laysStep 95 = .ok (.iastore, 1) := dk_79 (dk_at dksX6_laysStep_4 2 rfl rfl)
theorem dX6_laysStep_96 : decode cX6_laysStep 96 = .ok (.aload_n 0, 1) := dk_42 (dk_at dksX6_laysStep_4 3 rfl rfl)
theorem dX6_laysStep_97 : decode cX6_laysStep 97 = .ok (.getfield 78, 3) := dk_180 0 78 (dk_at dksX6_laysStep_4 4 rfl rfl)
theorem dX6_laysStep_100 : decode cX6_laysStep 100 = .ok (.iload_n 3, 1) := dk_29 (dk_at dksX6_laysStep_4 7 rfl rfl)
theorem dX6_laysStep_101 : decode cX6_laysStep 101 = .ok (.iload 5, 2) := dk_21 5 (dk_at dksX6_laysStep_4 8 rfl rfl)
theorem dX6_laysStep_103 : decode cX6_laysStep 103 = .ok (.iastore, 1) := dk_79 (dk_at dksX6_laysStep_4 10 rfl rfl)
theorem dX6_laysStep_104 : decode cX6_laysStep 104 = .ok (.iinc 5 1, 3) := dk_132 5 1 (dk_at dksX6_laysStep_4 11 rfl rfl)
theorem dX6_laysStep_107 : decode cX6_laysStep 107 = .ok (.goto (-80), 3) := dk_167 255 176 (dk_at dksX6_laysStep_4 14 rfl rfl)
theorem dX6_laysStep_110 : decode cX6_laysStep 110 = .ok (.iinc 4 1, 3) := dk_132 4 1 (dk_at dksX6_laysStep_4 17 rfl rfl)
theorem dX6_laysStep_113 : decode cX6_laysStep 113 = .ok (.goto (-95), 3) := dk_167 255 161 (dk_at dksX6_laysStep_4 20 rfl rfl)
theorem dX6_laysStep_116 : decode cX6_laysStep 116 = .ok (.return_, 1) := dk_177 (dk_at dksX6_laysStep_4 23 rfl rfl)
abbrev cX6_isChange : ByteArray := prog_17_method_45_code
def yX6_isChange : MethodName := ⟨RX6, "isChange", "(IIII)Z"⟩
def dkwX6_isChange_10 : List UInt8 := [182, 1, 6, 160, 0, 19, 42, 27, 28, 21, 4, 5, 182, 1, 9, 153, 0, 7, 4, 167, 0, 4, 3, 172]
abbrev dktX6_isChange_10 : List UInt8 := dkwX6_isChange_10 ++ []
def dkwX6_isChange_9 : List UInt8 := [21, 4, 4, 96, 182, 1, 6, 160, 0, 38, 42, 27, 21, 4, 4, 96, 182, 1, 6, 42, 28, 21, 4]
abbrev dktX6_isChange_9 : List UInt8 := dkwX6_isChange_9 ++ dktX6_isChange_10
def dkwX6_isChange_8 : List UInt8 := [182, 1, 6, 42, 27, 21, 4, 4, 96, 182, 1, 6, 159, 0, 57, 42, 27, 21, 4, 182, 1, 6, 42, 28]
abbrev dktX6_isChange_8 : List UInt8 := dkwX6_isChange_8 ++ dktX6_isChange_9
def dkwX6_isChange_7 : List UInt8 := [172, 21, 5, 154, 0, 89, 21, 4, 4, 96, 42, 180, 0, 7, 27, 46, 162, 0, 76, 42, 27, 21, 4]
abbrev dktX6_isChange_7 : List UInt8 := dkwX6_isChange_7 ++ dktX6_isChange_8
def dkwX6_isChange_6 : List UInt8 := [180, 0, 7, 27, 46, 162, 0, 18, 42, 27, 21, 4, 28, 182, 1, 13, 153, 0, 7, 4, 167, 0, 4, 3]
abbrev dktX6_isChange_6 : List UInt8 := dkwX6_isChange_6 ++ dktX6_isChange_7
def dkwX6_isChange_5 : List UInt8 := [21, 4, 27, 182, 1, 13, 153, 0, 7, 4, 167, 0, 4, 3, 172, 21, 5, 2, 160, 0, 29, 21, 4, 42]
abbrev dktX6_isChange_5 : List UInt8 := dkwX6_isChange_5 ++ dktX6_isChange_6
def dkwX6_isChange_4 : List UInt8 := [167, 0, 4, 3, 172, 21, 5, 4, 160, 0, 29, 21, 4, 42, 180, 0, 7, 27, 46, 163, 0, 18, 42, 28]
abbrev dktX6_isChange_4 : List UInt8 := dkwX6_isChange_4 ++ dktX6_isChange_5
def dkwX6_isChange_3 : List UInt8 := [28, 21, 4, 182, 1, 6, 159, 0, 19, 42, 27, 28, 21, 4, 4, 182, 1, 9, 153, 0, 7, 4]
abbrev dktX6_isChange_3 : List UInt8 := dkwX6_isChange_3 ++ dktX6_isChange_4
def dkwX6_isChange_2 : List UInt8 := [21, 5, 154, 0, 47, 21, 4, 42, 180, 0, 7, 27, 46, 162, 0, 36, 42, 27, 21, 4, 182, 1, 6, 42]
abbrev dktX6_isChange_2 : List UInt8 := dkwX6_isChange_2 ++ dktX6_isChange_3
def dkwX6_isChange_1 : List UInt8 := [170, 0, 0, 0, 0, 0, 0, 147, 0, 0, 0, 0, 0, 0, 0, 2, 0, 0, 0, 28, 0, 0, 0, 79, 0, 0, 0, 113]
abbrev dktX6_isChange_1 : List UInt8 := dkwX6_isChange_1 ++ dktX6_isChange_2
def dkwX6_isChange_0 : List UInt8 := [42, 180, 0, 7, 28, 46, 42, 180, 0, 7, 27, 46, 100, 54, 5, 29]
abbrev dktX6_isChange_0 : List UInt8 := dkwX6_isChange_0 ++ dktX6_isChange_1
theorem dksX6_isChange_0 : cX6_isChange.data.toList.drop 0 = dktX6_isChange_0 := by decide +kernel
theorem dksX6_isChange_1 : cX6_isChange.data.toList.drop 16 = dktX6_isChange_1 := dk_seg dksX6_isChange_0 16 rfl rfl
theorem dksX6_isChange_2 : cX6_isChange.data.toList.drop 44 = dktX6_isChange_2 := dk_seg dksX6_isChange_1 28 rfl rfl
theorem dksX6_isChange_3 : cX6_isChange.data.toList.drop 68 = dktX6_isChange_3 := dk_seg dksX6_isChange_2 24 rfl rfl
theorem dksX6_isChange_4 : cX6_isChange.data.toList.drop 90 = dktX6_isChange_4 := dk_seg dksX6_isChange_3 22 rfl rfl
theorem dksX6_isChange_5 : cX6_isChange.data.toList.drop 114 = dktX6_isChange_5 := dk_seg dksX6_isChange_4 24 rfl rfl
theorem dksX6_isChange_6 : cX6_isChange.data.toList.drop 138 = dktX6_isChange_6 := dk_seg dksX6_isChange_5 24 rfl rfl
theorem dksX6_isChange_7 : cX6_isChange.data.toList.drop 162 = dktX6_isChange_7 := dk_seg dksX6_isChange_6 24 rfl rfl
theorem dksX6_isChange_8 : cX6_isChange.data.toList.drop 185 = dktX6_isChange_8 := dk_seg dksX6_isChange_7 23 rfl rfl
theorem dksX6_isChange_9 : cX6_isChange.data.toList.drop 209 = dktX6_isChange_9 := dk_seg dksX6_isChange_8 24 rfl rfl
theorem dksX6_isChange_10 : cX6_isChange.data.toList.drop 232 = dktX6_isChange_10 := dk_seg dksX6_isChange_9 23 rfl rfl
theorem dX6_isChange_0 : decode cX6_isChange 0 = .ok (.aload_n 0, 1) := dk_42 (dk_at dksX6_isChange_0 0 rfl rfl)
theorem dX6_isChange_1 : decode cX6_isChange 1 = .ok (.getfield 7, 3) := dk_180 0 7 (dk_at dksX6_isChange_0 1 rfl rfl)
theorem dX6_isChange_4 : decode cX6_isChange 4 = .ok (.iload_n 2, 1) := dk_28 (dk_at dksX6_isChange_0 4 rfl rfl)
theorem dX6_isChange_5 : decode cX6_isChange 5 = .ok (.iaload, 1) := dk_46 (dk_at dksX6_isChange_0 5 rfl rfl)
theorem dX6_isChange_6 : decode cX6_isChange 6 = .ok (.aload_n 0, 1) := dk_42 (dk_at dksX6_isChange_0 6 rfl rfl)
theorem dX6_isChange_7 : decode cX6_isChange 7 = .ok (.getfield 7, 3) := dk_180 0 7 (dk_at dksX6_isChange_0 7 rfl rfl)
theorem dX6_isChange_10 : decode cX6_isChange 10 = .ok (.iload_n 1, 1) := dk_27 (dk_at dksX6_isChange_0 10 rfl rfl)
theorem dX6_isChange_11 : decode cX6_isChange 11 = .ok (.iaload, 1) := dk_46 (dk_at dksX6_isChange_0 11 rfl rfl)
theorem dX6_isChange_12 : decode cX6_isChange 12 = .ok (.isub, 1) := dk_100 (dk_at dksX6_isChange_0 12 rfl rfl)
theorem dX6_isChange_13 : decode cX6_isChange 13 = .ok (.istore 5, 2) := dk_54 5 (dk_at dksX6_isChange_0 13 rfl rfl)
theorem dX6_isChange_15 : decode cX6_isChange 15 = .ok (.iload_n 3, 1) := dk_29 (dk_at dksX6_isChange_0 15 rfl rfl)
theorem dX6_isChange_16 : decode cX6_isChange 16 = .ok (.tableswitch 147 0 2 #[28, 79, 113], 28) := by decide +kernel
theorem dX6_isChange_44 : decode cX6_isChange 44 = .ok (.iload 5, 2) := dk_21 5 (dk_at dksX6_isChange_2 0 rfl rfl)
theorem dX6_isChange_46 : decode cX6_isChange 46 = .ok (.ifCond .ne 47, 3) := dk_154 0 47 (dk_at dksX6_isChange_2 2 rfl rfl)
theorem dX6_isChange_49 : decode cX6_isChange 49 = .ok (.iload 4, 2) := dk_21 4 (dk_at dksX6_isChange_2 5 rfl rfl)
theorem dX6_isChange_51 : decode cX6_isChange 51 = .ok (.aload_n 0, 1) := dk_42 (dk_at dksX6_isChange_2 7 rfl rfl)
theorem dX6_isChange_52 : decode cX6_isChange 52 = .ok (.getfield 7, 3) := dk_180 0 7 (dk_at dksX6_isChange_2 8 rfl rfl)
theorem dX6_isChange_55 : decode cX6_isChange 55 = .ok (.iload_n 1, 1) := dk_27 (dk_at dksX6_isChange_2 11 rfl rfl)
theorem dX6_isChange_56 : decode cX6_isChange 56 = .ok (.iaload, 1) := dk_46 (dk_at dksX6_isChange_2 12 rfl rfl)
theorem dX6_isChange_57 : decode cX6_isChange 57 = .ok (.if_icmp .ge 36, 3) := dk_162 0 36 (dk_at dksX6_isChange_2 13 rfl rfl)
theorem dX6_isChange_60 : decode cX6_isChange 60 = .ok (.aload_n 0, 1) := dk_42 (dk_at dksX6_isChange_2 16 rfl rfl)
theorem dX6_isChange_61 : decode cX6_isChange 61 = .ok (.iload_n 1, 1) := dk_27 (dk_at dksX6_isChange_2 17 rfl rfl)
theorem dX6_isChange_62 : decode cX6_isChange 62 = .ok (.iload 4, 2) := dk_21 4 (dk_at dksX6_isChange_2 18 rfl rfl)
theorem dX6_isChange_64 : decode cX6_isChange 64 = .ok (.invokevirtual 262, 3) := dk_182 1 6 (dk_at dksX6_isChange_2 20 rfl rfl)
theorem dX6_isChange_67 : decode cX6_isChange 67 = .ok (.aload_n 0, 1) := dk_42 (dk_at dksX6_isChange_2 23 rfl rfl)
theorem dX6_isChange_68 : decode cX6_isChange 68 = .ok (.iload_n 2, 1) := dk_28 (dk_at dksX6_isChange_3 0 rfl rfl)
theorem dX6_isChange_69 : decode cX6_isChange 69 = .ok (.iload 4, 2) := dk_21 4 (dk_at dksX6_isChange_3 1 rfl rfl)
theorem dX6_isChange_71 : decode cX6_isChange 71 = .ok (.invokevirtual 262, 3) := dk_182 1 6 (dk_at dksX6_isChange_3 3 rfl rfl)
theorem dX6_isChange_74 : decode cX6_isChange 74 = .ok (.if_icmp .eq 19, 3) := dk_159 0 19 (dk_at dksX6_isChange_3 6 rfl rfl)
theorem dX6_isChange_77 : decode cX6_isChange 77 = .ok (.aload_n 0, 1) := dk_42 (dk_at dksX6_isChange_3 9 rfl rfl)
theorem dX6_isChange_78 : decode cX6_isChange 78 = .ok (.iload_n 1, 1) := dk_27 (dk_at dksX6_isChange_3 10 rfl rfl)
theorem dX6_isChange_79 : decode cX6_isChange 79 = .ok (.iload_n 2, 1) := dk_28 (dk_at dksX6_isChange_3 11 rfl rfl)
theorem dX6_isChange_80 : decode cX6_isChange 80 = .ok (.iload 4, 2) := dk_21 4 (dk_at dksX6_isChange_3 12 rfl rfl)
theorem dX6_isChange_82 : decode cX6_isChange 82 = .ok (.iconst 1, 1) := dk_4 (dk_at dksX6_isChange_3 14 rfl rfl)
theorem dX6_isChange_83 : decode cX6_isChange 83 = .ok (.invokevirtual 265, 3) := dk_182 1 9 (dk_at dksX6_isChange_3 15 rfl rfl)
theorem dX6_isChange_86 : decode cX6_isChange 86 = .ok (.ifCond .eq 7, 3) := dk_153 0 7 (dk_at dksX6_isChange_3 18 rfl rfl)
theorem dX6_isChange_89 : decode cX6_isChange 89 = .ok (.iconst 1, 1) := dk_4 (dk_at dksX6_isChange_3 21 rfl rfl)
theorem dX6_isChange_90 : decode cX6_isChange 90 = .ok (.goto 4, 3) := dk_167 0 4 (dk_at dksX6_isChange_4 0 rfl rfl)
theorem dX6_isChange_93 : decode cX6_isChange 93 = .ok (.iconst 0, 1) := dk_3 (dk_at dksX6_isChange_4 3 rfl rfl)
theorem dX6_isChange_94 : decode cX6_isChange 94 = .ok (.ireturn, 1) := dk_172 (dk_at dksX6_isChange_4 4 rfl rfl)
theorem dX6_isChange_95 : decode cX6_isChange 95 = .ok (.iload 5, 2) := dk_21 5 (dk_at dksX6_isChange_4 5 rfl rfl)
theorem dX6_isChange_97 : decode cX6_isChange 97 = .ok (.iconst 1, 1) := dk_4 (dk_at dksX6_isChange_4 7 rfl rfl)
theorem dX6_isChange_98 : decode cX6_isChange 98 = .ok (.if_icmp .ne 29, 3) := dk_160 0 29 (dk_at dksX6_isChange_4 8 rfl rfl)
theorem dX6_isChange_101 : decode cX6_isChange 101 = .ok (.iload 4, 2) := dk_21 4 (dk_at dksX6_isChange_4 11 rfl rfl)
theorem dX6_isChange_103 : decode cX6_isChange 103 = .ok (.aload_n 0, 1) := dk_42 (dk_at dksX6_isChange_4 13 rfl rfl)
theorem dX6_isChange_104 : decode cX6_isChange 104 = .ok (.getfield 7, 3) := dk_180 0 7 (dk_at dksX6_isChange_4 14 rfl rfl)
theorem dX6_isChange_107 : decode cX6_isChange 107 = .ok (.iload_n 1, 1) := dk_27 (dk_at dksX6_isChange_4 17 rfl rfl)
theorem dX6_isChange_108 : decode cX6_isChange 108 = .ok (.iaload, 1) := dk_46 (dk_at dksX6_isChange_4 18 rfl rfl)
theorem dX6_isChange_109 : decode cX6_isChange 109 = .ok (.if_icmp .gt 18, 3) := dk_163 0 18 (dk_at dksX6_isChange_4 19 rfl rfl)
theorem dX6_isChange_112 : decode cX6_isChange 112 = .ok (.aload_n 0, 1) := dk_42 (dk_at dksX6_isChange_4 22 rfl rfl)
theorem dX6_isChange_113 : decode cX6_isChange 113 = .ok (.iload_n 2, 1) := dk_28 (dk_at dksX6_isChange_4 23 rfl rfl)
theorem dX6_isChange_114 : decode cX6_isChange 114 = .ok (.iload 4, 2) := dk_21 4 (dk_at dksX6_isChange_5 0 rfl rfl)
theorem dX6_isChange_116 : decode cX6_isChange 116 = .ok (.iload_n 1, 1) := dk_27 (dk_at dksX6_isChange_5 2 rfl rfl)
theorem dX6_isChange_117 : decode cX6_isChange 117 = .ok (.invokevirtual 269, 3) := dk_182 1 13 (dk_at dksX6_isChange_5 3 rfl rfl)
theorem dX6_isChange_120 : decode cX6_isChange 120 = .ok (.ifCond .eq 7, 3) := dk_153 0 7 (dk_at dksX6_isChange_5 6 rfl rfl)
theorem dX6_isChange_123 : decode cX6_isChange 123 = .ok (.iconst 1, 1) := dk_4 (dk_at dksX6_isChange_5 9 rfl rfl)
theorem dX6_isChange_124 : decode cX6_isChange 124 = .ok (.goto 4, 3) := dk_167 0 4 (dk_at dksX6_isChange_5 10 rfl rfl)
theorem dX6_isChange_127 : decode cX6_isChange 127 = .ok (.iconst 0, 1) := dk_3 (dk_at dksX6_isChange_5 13 rfl rfl)
theorem dX6_isChange_128 : decode cX6_isChange 128 = .ok (.ireturn, 1) := dk_172 (dk_at dksX6_isChange_5 14 rfl rfl)
theorem dX6_isChange_129 : decode cX6_isChange 129 = .ok (.iload 5, 2) := dk_21 5 (dk_at dksX6_isChange_5 15 rfl rfl)
theorem dX6_isChange_131 : decode cX6_isChange 131 = .ok (.iconst (-1), 1) := dk_2 (dk_at dksX6_isChange_5 17 rfl rfl)
theorem dX6_isChange_132 : decode cX6_isChange 132 = .ok (.if_icmp .ne 29, 3) := dk_160 0 29 (dk_at dksX6_isChange_5 18 rfl rfl)
theorem dX6_isChange_135 : decode cX6_isChange 135 = .ok (.iload 4, 2) := dk_21 4 (dk_at dksX6_isChange_5 21 rfl rfl)
theorem dX6_isChange_137 : decode cX6_isChange 137 = .ok (.aload_n 0, 1) := dk_42 (dk_at dksX6_isChange_5 23 rfl rfl)
theorem dX6_isChange_138 : decode cX6_isChange 138 = .ok (.getfield 7, 3) := dk_180 0 7 (dk_at dksX6_isChange_6 0 rfl rfl)
theorem dX6_isChange_141 : decode cX6_isChange 141 = .ok (.iload_n 1, 1) := dk_27 (dk_at dksX6_isChange_6 3 rfl rfl)
theorem dX6_isChange_142 : decode cX6_isChange 142 = .ok (.iaload, 1) := dk_46 (dk_at dksX6_isChange_6 4 rfl rfl)
theorem dX6_isChange_143 : decode cX6_isChange 143 = .ok (.if_icmp .ge 18, 3) := dk_162 0 18 (dk_at dksX6_isChange_6 5 rfl rfl)
theorem dX6_isChange_146 : decode cX6_isChange 146 = .ok (.aload_n 0, 1) := dk_42 (dk_at dksX6_isChange_6 8 rfl rfl)
theorem dX6_isChange_147 : decode cX6_isChange 147 = .ok (.iload_n 1, 1) := dk_27 (dk_at dksX6_isChange_6 9 rfl rfl)
theorem dX6_isChange_148 : decode cX6_isChange 148 = .ok (.iload 4, 2) := dk_21 4 (dk_at dksX6_isChange_6 10 rfl rfl)
theorem dX6_isChange_150 : decode cX6_isChange 150 = .ok (.iload_n 2, 1) := dk_28 (dk_at dksX6_isChange_6 12 rfl rfl)
theorem dX6_isChange_151 : decode cX6_isChange 151 = .ok (.invokevirtual 269, 3) := dk_182 1 13 (dk_at dksX6_isChange_6 13 rfl rfl)
theorem dX6_isChange_154 : decode cX6_isChange 154 = .ok (.ifCond .eq 7, 3) := dk_153 0 7 (dk_at dksX6_isChange_6 16 rfl rfl)
theorem dX6_isChange_157 : decode cX6_isChange 157 = .ok (.iconst 1, 1) := dk_4 (dk_at dksX6_isChange_6 19 rfl rfl)
theorem dX6_isChange_158 : decode cX6_isChange 158 = .ok (.goto 4, 3) := dk_167 0 4 (dk_at dksX6_isChange_6 20 rfl rfl)
theorem dX6_isChange_161 : decode cX6_isChange 161 = .ok (.iconst 0, 1) := dk_3 (dk_at dksX6_isChange_6 23 rfl rfl)
theorem dX6_isChange_162 : decode cX6_isChange 162 = .ok (.ireturn, 1) := dk_172 (dk_at dksX6_isChange_7 0 rfl rfl)
theorem dX6_isChange_163 : decode cX6_isChange 163 = .ok (.iload 5, 2) := dk_21 5 (dk_at dksX6_isChange_7 1 rfl rfl)
theorem dX6_isChange_165 : decode cX6_isChange 165 = .ok (.ifCond .ne 89, 3) := dk_154 0 89 (dk_at dksX6_isChange_7 3 rfl rfl)
theorem dX6_isChange_168 : decode cX6_isChange 168 = .ok (.iload 4, 2) := dk_21 4 (dk_at dksX6_isChange_7 6 rfl rfl)
theorem dX6_isChange_170 : decode cX6_isChange 170 = .ok (.iconst 1, 1) := dk_4 (dk_at dksX6_isChange_7 8 rfl rfl)
theorem dX6_isChange_171 : decode cX6_isChange 171 = .ok (.iadd, 1) := dk_96 (dk_at dksX6_isChange_7 9 rfl rfl)
theorem dX6_isChange_172 : decode cX6_isChange 172 = .ok (.aload_n 0, 1) := dk_42 (dk_at dksX6_isChange_7 10 rfl rfl)
theorem dX6_isChange_173 : decode cX6_isChange 173 = .ok (.getfield 7, 3) := dk_180 0 7 (dk_at dksX6_isChange_7 11 rfl rfl)
theorem dX6_isChange_176 : decode cX6_isChange 176 = .ok (.iload_n 1, 1) := dk_27 (dk_at dksX6_isChange_7 14 rfl rfl)
theorem dX6_isChange_177 : decode cX6_isChange 177 = .ok (.iaload, 1) := dk_46 (dk_at dksX6_isChange_7 15 rfl rfl)
theorem dX6_isChange_178 : decode cX6_isChange 178 = .ok (.if_icmp .ge 76, 3) := dk_162 0 76 (dk_at dksX6_isChange_7 16 rfl rfl)
theorem dX6_isChange_181 : decode cX6_isChange 181 = .ok (.aload_n 0, 1) := dk_42 (dk_at dksX6_isChange_7 19 rfl rfl)
theorem dX6_isChange_182 : decode cX6_isChange 182 = .ok (.iload_n 1, 1) := dk_27 (dk_at dksX6_isChange_7 20 rfl rfl)
theorem dX6_isChange_183 : decode cX6_isChange 183 = .ok (.iload 4, 2) := dk_21 4 (dk_at dksX6_isChange_7 21 rfl rfl)
theorem dX6_isChange_185 : decode cX6_isChange 185 = .ok (.invokevirtual 262, 3) := dk_182 1 6 (dk_at dksX6_isChange_8 0 rfl rfl)
theorem dX6_isChange_188 : decode cX6_isChange 188 = .ok (.aload_n 0, 1) := dk_42 (dk_at dksX6_isChange_8 3 rfl rfl)
theorem dX6_isChange_189 : decode cX6_isChange 189 = .ok (.iload_n 1, 1) := dk_27 (dk_at dksX6_isChange_8 4 rfl rfl)
theorem dX6_isChange_190 : decode cX6_isChange 190 = .ok (.iload 4, 2) := dk_21 4 (dk_at dksX6_isChange_8 5 rfl rfl)
theorem dX6_isChange_192 : decode cX6_isChange 192 = .ok (.iconst 1, 1) := dk_4 (dk_at dksX6_isChange_8 7 rfl rfl)
theorem dX6_isChange_193 : decode cX6_isChange 193 = .ok (.iadd, 1) := dk_96 (dk_at dksX6_isChange_8 8 rfl rfl)
theorem dX6_isChange_194 : decode cX6_isChange 194 = .ok (.invokevirtual 262, 3) := dk_182 1 6 (dk_at dksX6_isChange_8 9 rfl rfl)
theorem dX6_isChange_197 : decode cX6_isChange 197 = .ok (.if_icmp .eq 57, 3) := dk_159 0 57 (dk_at dksX6_isChange_8 12 rfl rfl)
theorem dX6_isChange_200 : decode cX6_isChange 200 = .ok (.aload_n 0, 1) := dk_42 (dk_at dksX6_isChange_8 15 rfl rfl)
theorem dX6_isChange_201 : decode cX6_isChange 201 = .ok (.iload_n 1, 1) := dk_27 (dk_at dksX6_isChange_8 16 rfl rfl)
theorem dX6_isChange_202 : decode cX6_isChange 202 = .ok (.iload 4, 2) := dk_21 4 (dk_at dksX6_isChange_8 17 rfl rfl)
theorem dX6_isChange_204 : decode cX6_isChange 204 = .ok (.invokevirtual 262, 3) := dk_182 1 6 (dk_at dksX6_isChange_8 19 rfl rfl)
theorem dX6_isChange_207 : decode cX6_isChange 207 = .ok (.aload_n 0, 1) := dk_42 (dk_at dksX6_isChange_8 22 rfl rfl)
theorem dX6_isChange_208 : decode cX6_isChange 208 = .ok (.iload_n 2, 1) := dk_28 (dk_at dksX6_isChange_8 23 rfl rfl)
theorem dX6_isChange_209 : decode cX6_isChange 209 = .ok (.iload 4, 2) := dk_21 4 (dk_at dksX6_isChange_9 0 rfl rfl)
theorem dX6_isChange_211 : decode cX6_isChange 211 = .ok (.iconst 1, 1) := dk_4 (dk_at dksX6_isChange_9 2 rfl rfl)
theorem dX6_isChange_212 : decode cX6_isChange 212 = .ok (.iadd, 1) := dk_96 (dk_at dksX6_isChange_9 3 rfl rfl)
theorem dX6_isChange_213 : decode cX6_isChange 213 = .ok (.invokevirtual 262, 3) := dk_182 1 6 (dk_at dksX6_isChange_9 4 rfl rfl)
theorem dX6_isChange_216 : decode cX6_isChange 216 = .ok (.if_icmp .ne 38, 3) := dk_160 0 38 (dk_at dksX6_isChange_9 7 rfl rfl)
theorem dX6_isChange_219 : decode cX6_isChange 219 = .ok (.aload_n 0, 1) := dk_42 (dk_at dksX6_isChange_9 10 rfl rfl)
theorem dX6_isChange_220 : decode cX6_isChange 220 = .ok (.iload_n 1, 1) := dk_27 (dk_at dksX6_isChange_9 11 rfl rfl)
theorem dX6_isChange_221 : decode cX6_isChange 221 = .ok (.iload 4, 2) := dk_21 4 (dk_at dksX6_isChange_9 12 rfl rfl)
theorem dX6_isChange_223 : decode cX6_isChange 223 = .ok (.iconst 1, 1) := dk_4 (dk_at dksX6_isChange_9 14 rfl rfl)
theorem dX6_isChange_224 : decode cX6_isChange 224 = .ok (.iadd, 1) := dk_96 (dk_at dksX6_isChange_9 15 rfl rfl)
theorem dX6_isChange_225 : decode cX6_isChange 225 = .ok (.invokevirtual 262, 3) := dk_182 1 6 (dk_at dksX6_isChange_9 16 rfl rfl)
theorem dX6_isChange_228 : decode cX6_isChange 228 = .ok (.aload_n 0, 1) := dk_42 (dk_at dksX6_isChange_9 19 rfl rfl)
theorem dX6_isChange_229 : decode cX6_isChange 229 = .ok (.iload_n 2, 1) := dk_28 (dk_at dksX6_isChange_9 20 rfl rfl)
theorem dX6_isChange_230 : decode cX6_isChange 230 = .ok (.iload 4, 2) := dk_21 4 (dk_at dksX6_isChange_9 21 rfl rfl)
theorem dX6_isChange_232 : decode cX6_isChange 232 = .ok (.invokevirtual 262, 3) := dk_182 1 6 (dk_at dksX6_isChange_10 0 rfl rfl)
theorem dX6_isChange_235 : decode cX6_isChange 235 = .ok (.if_icmp .ne 19, 3) := dk_160 0 19 (dk_at dksX6_isChange_10 3 rfl rfl)
theorem dX6_isChange_238 : decode cX6_isChange 238 = .ok (.aload_n 0, 1) := dk_42 (dk_at dksX6_isChange_10 6 rfl rfl)
theorem dX6_isChange_239 : decode cX6_isChange 239 = .ok (.iload_n 1, 1) := dk_27 (dk_at dksX6_isChange_10 7 rfl rfl)
theorem dX6_isChange_240 : decode cX6_isChange 240 = .ok (.iload_n 2, 1) := dk_28 (dk_at dksX6_isChange_10 8 rfl rfl)
theorem dX6_isChange_241 : decode cX6_isChange 241 = .ok (.iload 4, 2) := dk_21 4 (dk_at dksX6_isChange_10 9 rfl rfl)
theorem dX6_isChange_243 : decode cX6_isChange 243 = .ok (.iconst 2, 1) := dk_5 (dk_at dksX6_isChange_10 11 rfl rfl)
theorem dX6_isChange_244 : decode cX6_isChange 244 = .ok (.invokevirtual 265, 3) := dk_182 1 9 (dk_at dksX6_isChange_10 12 rfl rfl)
theorem dX6_isChange_247 : decode cX6_isChange 247 = .ok (.ifCond .eq 7, 3) := dk_153 0 7 (dk_at dksX6_isChange_10 15 rfl rfl)
theorem dX6_isChange_250 : decode cX6_isChange 250 = .ok (.iconst 1, 1) := dk_4 (dk_at dksX6_isChange_10 18 rfl rfl)
theorem dX6_isChange_251 : decode cX6_isChange 251 = .ok (.goto 4, 3) := dk_167 0 4 (dk_at dksX6_isChange_10 19 rfl rfl)
theorem dX6_isChange_254 : decode cX6_isChange 254 = .ok (.iconst 0, 1) := dk_3 (dk_at dksX6_isChange_10 22 rfl rfl)
theorem dX6_isChange_255 : decode cX6_isChange 255 = .ok (.ireturn, 1) := dk_172 (dk_at dksX6_isChange_10 23 rfl rfl)
abbrev cX6_letter : ByteArray := prog_17_method_42_code
def yX6_letter : MethodName := ⟨RX6, "letter", "(II)I"⟩
def dkwX6_letter_0 : List UInt8 := [42, 180, 0, 13, 16, 8, 27, 104, 28, 96, 46, 172]
abbrev dktX6_letter_0 : List UInt8 := dkwX6_letter_0 ++ []
theorem dksX6_letter_0 : cX6_letter.data.toList.drop 0 = dktX6_letter_0 := by decide +kernel
theorem dX6_letter_0 : decode cX6_letter 0 = .ok (.aload_n 0, 1) := dk_42 (dk_at dksX6_letter_0 0 rfl rfl)
theorem dX6_letter_1 : decode cX6_letter 1 = .ok (.getfield 13, 3) := dk_180 0 13 (dk_at dksX6_letter_0 1 rfl rfl)
theorem dX6_letter_4 : decode cX6_letter 4 = .ok (.bipush 8, 2) := dk_16 8 (dk_at dksX6_letter_0 4 rfl rfl)
theorem dX6_letter_6 : decode cX6_letter 6 = .ok (.iload_n 1, 1) := dk_27 (dk_at dksX6_letter_0 6 rfl rfl)
theorem dX6_letter_7 : decode cX6_letter 7 = .ok (.imul, 1) := dk_104 (dk_at dksX6_letter_0 7 rfl rfl)
theorem dX6_letter_8 : decode cX6_letter 8 = .ok (.iload_n 2, 1) := dk_28 (dk_at dksX6_letter_0 8 rfl rfl)
theorem dX6_letter_9 : decode cX6_letter 9 = .ok (.iadd, 1) := dk_96 (dk_at dksX6_letter_0 9 rfl rfl)
theorem dX6_letter_10 : decode cX6_letter 10 = .ok (.iaload, 1) := dk_46 (dk_at dksX6_letter_0 10 rfl rfl)
theorem dX6_letter_11 : decode cX6_letter 11 = .ok (.ireturn, 1) := dk_172 (dk_at dksX6_letter_0 11 rfl rfl)
abbrev cX6_areAlikeBut : ByteArray := prog_17_method_44_code
def yX6_areAlikeBut : MethodName := ⟨RX6, "areAlikeBut", "(IIII)Z"⟩
def dkwX6_areAlikeBut_2 : List UInt8 := [172, 132, 5, 1, 167, 255, 208, 4, 172]
abbrev dktX6_areAlikeBut_2 : List UInt8 := dkwX6_areAlikeBut_2 ++ []
def dkwX6_areAlikeBut_1 : List UInt8 := [21, 4, 96, 161, 0, 22, 42, 27, 21, 5, 182, 1, 6, 42, 28, 21, 5, 182, 1, 6, 159, 0, 5, 3]
abbrev dktX6_areAlikeBut_1 : List UInt8 := dkwX6_areAlikeBut_1 ++ dktX6_areAlikeBut_2
def dkwX6_areAlikeBut_0 : List UInt8 := [3, 54, 5, 21, 5, 42, 180, 0, 7, 27, 46, 162, 0, 43, 21, 5, 29, 161, 0, 12, 21, 5, 29]
abbrev dktX6_areAlikeBut_0 : List UInt8 := dkwX6_areAlikeBut_0 ++ dktX6_areAlikeBut_1
theorem dksX6_areAlikeBut_0 : cX6_areAlikeBut.data.toList.drop 0 = dktX6_areAlikeBut_0 := by decide +kernel
theorem dksX6_areAlikeBut_1 : cX6_areAlikeBut.data.toList.drop 23 = dktX6_areAlikeBut_1 := dk_seg dksX6_areAlikeBut_0 23 rfl rfl
theorem dksX6_areAlikeBut_2 : cX6_areAlikeBut.data.toList.drop 47 = dktX6_areAlikeBut_2 := dk_seg dksX6_areAlikeBut_1 24 rfl rfl
theorem dX6_areAlikeBut_0 : decode cX6_areAlikeBut 0 = .ok (.iconst 0, 1) := dk_3 (dk_at dksX6_areAlikeBut_0 0 rfl rfl)
theorem dX6_areAlikeBut_1 : decode cX6_areAlikeBut 1 = .ok (.istore 5, 2) := dk_54 5 (dk_at dksX6_areAlikeBut_0 1 rfl rfl)
theorem dX6_areAlikeBut_3 : decode cX6_areAlikeBut 3 = .ok (.iload 5, 2) := dk_21 5 (dk_at dksX6_areAlikeBut_0 3 rfl rfl)
theorem dX6_areAlikeBut_5 : decode cX6_areAlikeBut 5 = .ok (.aload_n 0, 1) := dk_42 (dk_at dksX6_areAlikeBut_0 5 rfl rfl)
theorem dX6_areAlikeBut_6 : decode cX6_areAlikeBut 6 = .ok (.getfield 7, 3) := dk_180 0 7 (dk_at dksX6_areAlikeBut_0 6 rfl rfl)
theorem dX6_areAlikeBut_9 : decode cX6_areAlikeBut 9 = .ok (.iload_n 1, 1) := dk_27 (dk_at dksX6_areAlikeBut_0 9 rfl rfl)
theorem dX6_areAlikeBut_10 : decode cX6_areAlikeBut 10 = .ok (.iaload, 1) := dk_46 (dk_at dksX6_areAlikeBut_0 10 rfl rfl)
theorem dX6_areAlikeBut_11 : decode cX6_areAlikeBut 11 = .ok (.if_icmp .ge 43, 3) := dk_162 0 43 (dk_at dksX6_areAlikeBut_0 11 rfl rfl)
theorem dX6_areAlikeBut_14 : decode cX6_areAlikeBut 14 = .ok (.iload 5, 2) := dk_21 5 (dk_at dksX6_areAlikeBut_0 14 rfl rfl)
theorem dX6_areAlikeBut_16 : decode cX6_areAlikeBut 16 = .ok (.iload_n 3, 1) := dk_29 (dk_at dksX6_areAlikeBut_0 16 rfl rfl)
theorem dX6_areAlikeBut_17 : decode cX6_areAlikeBut 17 = .ok (.if_icmp .lt 12, 3) := dk_161 0 12 (dk_at dksX6_areAlikeBut_0 17 rfl rfl)
theorem dX6_areAlikeBut_20 : decode cX6_areAlikeBut 20 = .ok (.iload 5, 2) := dk_21 5 (dk_at dksX6_areAlikeBut_0 20 rfl rfl)
theorem dX6_areAlikeBut_22 : decode cX6_areAlikeBut 22 = .ok (.iload_n 3, 1) := dk_29 (dk_at dksX6_areAlikeBut_0 22 rfl rfl)
theorem dX6_areAlikeBut_23 : decode cX6_areAlikeBut 23 = .ok (.iload 4, 2) := dk_21 4 (dk_at dksX6_areAlikeBut_1 0 rfl rfl)
theorem dX6_areAlikeBut_25 : decode cX6_areAlikeBut 25 = .ok (.iadd, 1) := dk_96 (dk_at dksX6_areAlikeBut_1 2 rfl rfl)
theorem dX6_areAlikeBut_26 : decode cX6_areAlikeBut 26 = .ok (.if_icmp .lt 22, 3) := dk_161 0 22 (dk_at dksX6_areAlikeBut_1 3 rfl rfl)
theorem dX6_areAlikeBut_29 : decode cX6_areAlikeBut 29 = .ok (.aload_n 0, 1) := dk_42 (dk_at dksX6_areAlikeBut_1 6 rfl rfl)
theorem dX6_areAlikeBut_30 : decode cX6_areAlikeBut 30 = .ok (.iload_n 1, 1) := dk_27 (dk_at dksX6_areAlikeBut_1 7 rfl rfl)
theorem dX6_areAlikeBut_31 : decode cX6_areAlikeBut 31 = .ok (.iload 5, 2) := dk_21 5 (dk_at dksX6_areAlikeBut_1 8 rfl rfl)
theorem dX6_areAlikeBut_33 : decode cX6_areAlikeBut 33 = .ok (.invokevirtual 262, 3) := dk_182 1 6 (dk_at dksX6_areAlikeBut_1 10 rfl rfl)
theorem dX6_areAlikeBut_36 : decode cX6_areAlikeBut 36 = .ok (.aload_n 0, 1) := dk_42 (dk_at dksX6_areAlikeBut_1 13 rfl rfl)
theorem dX6_areAlikeBut_37 : decode cX6_areAlikeBut 37 = .ok (.iload_n 2, 1) := dk_28 (dk_at dksX6_areAlikeBut_1 14 rfl rfl)
theorem dX6_areAlikeBut_38 : decode cX6_areAlikeBut 38 = .ok (.iload 5, 2) := dk_21 5 (dk_at dksX6_areAlikeBut_1 15 rfl rfl)
theorem dX6_areAlikeBut_40 : decode cX6_areAlikeBut 40 = .ok (.invokevirtual 262, 3) := dk_182 1 6 (dk_at dksX6_areAlikeBut_1 17 rfl rfl)
theorem dX6_areAlikeBut_43 : decode cX6_areAlikeBut 43 = .ok (.if_icmp .eq 5, 3) := dk_159 0 5 (dk_at dksX6_areAlikeBut_1 20 rfl rfl)
theorem dX6_areAlikeBut_46 : decode cX6_areAlikeBut 46 = .ok (.iconst 0, 1) := dk_3 (dk_at dksX6_areAlikeBut_1 23 rfl rfl)
theorem dX6_areAlikeBut_47 : decode cX6_areAlikeBut 47 = .ok (.ireturn, 1) := dk_172 (dk_at dksX6_areAlikeBut_2 0 rfl rfl)
theorem dX6_areAlikeBut_48 : decode cX6_areAlikeBut 48 = .ok (.iinc 5 1, 3) := dk_132 5 1 (dk_at dksX6_areAlikeBut_2 1 rfl rfl)
theorem dX6_areAlikeBut_51 : decode cX6_areAlikeBut 51 = .ok (.goto (-48), 3) := dk_167 255 208 (dk_at dksX6_areAlikeBut_2 4 rfl rfl)
theorem dX6_areAlikeBut_54 : decode cX6_areAlikeBut 54 = .ok (.iconst 1, 1) := dk_4 (dk_at dksX6_areAlikeBut_2 7 rfl rfl)
theorem dX6_areAlikeBut_55 : decode cX6_areAlikeBut 55 = .ok (.ireturn, 1) := dk_172 (dk_at dksX6_areAlikeBut_2 8 rfl rfl)
abbrev cX6_isWithout : ByteArray := prog_17_method_43_code
def yX6_isWithout : MethodName := ⟨RX6, "isWithout", "(III)Z"⟩
def dkwX6_isWithout_2 : List UInt8 := [132, 4, 1, 167, 255, 210, 4, 172]
abbrev dktX6_isWithout_2 : List UInt8 := dkwX6_isWithout_2 ++ []
def dkwX6_isWithout_1 : List UInt8 := [21, 4, 28, 162, 0, 8, 21, 4, 167, 0, 7, 21, 4, 4, 96, 182, 1, 6, 159, 0, 5, 3, 172]
abbrev dktX6_isWithout_1 : List UInt8 := dkwX6_isWithout_1 ++ dktX6_isWithout_2
def dkwX6_isWithout_0 : List UInt8 := [3, 54, 4, 21, 4, 42, 180, 0, 7, 29, 46, 162, 0, 41, 42, 29, 21, 4, 182, 1, 6, 42, 27]
abbrev dktX6_isWithout_0 : List UInt8 := dkwX6_isWithout_0 ++ dktX6_isWithout_1
theorem dksX6_isWithout_0 : cX6_isWithout.data.toList.drop 0 = dktX6_isWithout_0 := by decide +kernel
theorem dksX6_isWithout_1 : cX6_isWithout.data.toList.drop 23 = dktX6_isWithout_1 := dk_seg dksX6_isWithout_0 23 rfl rfl
theorem dksX6_isWithout_2 : cX6_isWithout.data.toList.drop 46 = dktX6_isWithout_2 := dk_seg dksX6_isWithout_1 23 rfl rfl
theorem dX6_isWithout_0 : decode cX6_isWithout 0 = .ok (.iconst 0, 1) := dk_3 (dk_at dksX6_isWithout_0 0 rfl rfl)
theorem dX6_isWithout_1 : decode cX6_isWithout 1 = .ok (.istore 4, 2) := dk_54 4 (dk_at dksX6_isWithout_0 1 rfl rfl)
theorem dX6_isWithout_3 : decode cX6_isWithout 3 = .ok (.iload 4, 2) := dk_21 4 (dk_at dksX6_isWithout_0 3 rfl rfl)
theorem dX6_isWithout_5 : decode cX6_isWithout 5 = .ok (.aload_n 0, 1) := dk_42 (dk_at dksX6_isWithout_0 5 rfl rfl)
theorem dX6_isWithout_6 : decode cX6_isWithout 6 = .ok (.getfield 7, 3) := dk_180 0 7 (dk_at dksX6_isWithout_0 6 rfl rfl)
theorem dX6_isWithout_9 : decode cX6_isWithout 9 = .ok (.iload_n 3, 1) := dk_29 (dk_at dksX6_isWithout_0 9 rfl rfl)
theorem dX6_isWithout_10 : decode cX6_isWithout 10 = .ok (.iaload, 1) := dk_46 (dk_at dksX6_isWithout_0 10 rfl rfl)
theorem dX6_isWithout_11 : decode cX6_isWithout 11 = .ok (.if_icmp .ge 41, 3) := dk_162 0 41 (dk_at dksX6_isWithout_0 11 rfl rfl)
theorem dX6_isWithout_14 : decode cX6_isWithout 14 = .ok (.aload_n 0, 1) := dk_42 (dk_at dksX6_isWithout_0 14 rfl rfl)
theorem dX6_isWithout_15 : decode cX6_isWithout 15 = .ok (.iload_n 3, 1) := dk_29 (dk_at dksX6_isWithout_0 15 rfl rfl)
theorem dX6_isWithout_16 : decode cX6_isWithout 16 = .ok (.iload 4, 2) := dk_21 4 (dk_at dksX6_isWithout_0 16 rfl rfl)
theorem dX6_isWithout_18 : decode cX6_isWithout 18 = .ok (.invokevirtual 262, 3) := dk_182 1 6 (dk_at dksX6_isWithout_0 18 rfl rfl)
theorem dX6_isWithout_21 : decode cX6_isWithout 21 = .ok (.aload_n 0, 1) := dk_42 (dk_at dksX6_isWithout_0 21 rfl rfl)
theorem dX6_isWithout_22 : decode cX6_isWithout 22 = .ok (.iload_n 1, 1) := dk_27 (dk_at dksX6_isWithout_0 22 rfl rfl)
theorem dX6_isWithout_23 : decode cX6_isWithout 23 = .ok (.iload 4, 2) := dk_21 4 (dk_at dksX6_isWithout_1 0 rfl rfl)
theorem dX6_isWithout_25 : decode cX6_isWithout 25 = .ok (.iload_n 2, 1) := dk_28 (dk_at dksX6_isWithout_1 2 rfl rfl)
theorem dX6_isWithout_26 : decode cX6_isWithout 26 = .ok (.if_icmp .ge 8, 3) := dk_162 0 8 (dk_at dksX6_isWithout_1 3 rfl rfl)
theorem dX6_isWithout_29 : decode cX6_isWithout 29 = .ok (.iload 4, 2) := dk_21 4 (dk_at dksX6_isWithout_1 6 rfl rfl)
theorem dX6_isWithout_31 : decode cX6_isWithout 31 = .ok (.goto 7, 3) := dk_167 0 7 (dk_at dksX6_isWithout_1 8 rfl rfl)
theorem dX6_isWithout_34 : decode cX6_isWithout 34 = .ok (.iload 4, 2) := dk_21 4 (dk_at dksX6_isWithout_1 11 rfl rfl)
theorem dX6_isWithout_36 : decode cX6_isWithout 36 = .ok (.iconst 1, 1) := dk_4 (dk_at dksX6_isWithout_1 13 rfl rfl)
theorem dX6_isWithout_37 : decode cX6_isWithout 37 = .ok (.iadd, 1) := dk_96 (dk_at dksX6_isWithout_1 14 rfl rfl)
theorem dX6_isWithout_38 : decode cX6_isWithout 38 = .ok (.invokevirtual 262, 3) := dk_182 1 6 (dk_at dksX6_isWithout_1 15 rfl rfl)
theorem dX6_isWithout_41 : decode cX6_isWithout 41 = .ok (.if_icmp .eq 5, 3) := dk_159 0 5 (dk_at dksX6_isWithout_1 18 rfl rfl)
theorem dX6_isWithout_44 : decode cX6_isWithout 44 = .ok (.iconst 0, 1) := dk_3 (dk_at dksX6_isWithout_1 21 rfl rfl)
theorem dX6_isWithout_45 : decode cX6_isWithout 45 = .ok (.ireturn, 1) := dk_172 (dk_at dksX6_isWithout_1 22 rfl rfl)
theorem dX6_isWithout_46 : decode cX6_isWithout 46 = .ok (.iinc 4 1, 3) := dk_132 4 1 (dk_at dksX6_isWithout_2 0 rfl rfl)
theorem dX6_isWithout_49 : decode cX6_isWithout 49 = .ok (.goto (-46), 3) := dk_167 255 210 (dk_at dksX6_isWithout_2 3 rfl rfl)
theorem dX6_isWithout_52 : decode cX6_isWithout 52 = .ok (.iconst 1, 1) := dk_4 (dk_at dksX6_isWithout_2 6 rfl rfl)
theorem dX6_isWithout_53 : decode cX6_isWithout 53 = .ok (.ireturn, 1) := dk_172 (dk_at dksX6_isWithout_2 7 rfl rfl)
abbrev cX6_feels : ByteArray := prog_17_method_46_code
def yX6_feels : MethodName := ⟨RX6, "feels", "(IIII)V"⟩
def dkwX6_feels_5 : List UInt8 := [42, 180, 0, 69, 16, 7, 27, 79, 42, 180, 0, 69, 16, 8, 28, 79, 177]
abbrev dktX6_feels_5 : List UInt8 := dkwX6_feels_5 ++ []
def dkwX6_feels_4 : List UInt8 := [180, 0, 69, 8, 42, 180, 0, 16, 27, 46, 79, 42, 180, 0, 69, 16, 6, 42, 180, 0, 16, 28, 46, 79]
abbrev dktX6_feels_4 : List UInt8 := dkwX6_feels_4 ++ dktX6_feels_5
def dkwX6_feels_3 : List UInt8 := [167, 0, 10, 42, 28, 21, 4, 182, 1, 6, 79, 42, 180, 0, 69, 7, 42, 180, 0, 7, 27, 46, 79, 42]
abbrev dktX6_feels_3 : List UInt8 := dkwX6_feels_3 ++ dktX6_feels_4
def dkwX6_feels_2 : List UInt8 := [160, 0, 8, 16, 26, 167, 0, 27, 29, 6, 160, 0, 15, 42, 27, 21, 4, 4, 96, 182, 1, 6]
abbrev dktX6_feels_2 : List UInt8 := dkwX6_feels_2 ++ dktX6_feels_3
def dkwX6_feels_1 : List UInt8 := [160, 0, 8, 16, 26, 167, 0, 10, 42, 27, 21, 4, 182, 1, 6, 79, 42, 180, 0, 69, 6, 29, 5]
abbrev dktX6_feels_1 : List UInt8 := dkwX6_feels_1 ++ dktX6_feels_2
def dkwX6_feels_0 : List UInt8 := [42, 180, 0, 69, 3, 29, 79, 42, 180, 0, 69, 4, 21, 4, 79, 42, 180, 0, 69, 5, 29, 4]
abbrev dktX6_feels_0 : List UInt8 := dkwX6_feels_0 ++ dktX6_feels_1
theorem dksX6_feels_0 : cX6_feels.data.toList.drop 0 = dktX6_feels_0 := by decide +kernel
theorem dksX6_feels_1 : cX6_feels.data.toList.drop 22 = dktX6_feels_1 := dk_seg dksX6_feels_0 22 rfl rfl
theorem dksX6_feels_2 : cX6_feels.data.toList.drop 45 = dktX6_feels_2 := dk_seg dksX6_feels_1 23 rfl rfl
theorem dksX6_feels_3 : cX6_feels.data.toList.drop 67 = dktX6_feels_3 := dk_seg dksX6_feels_2 22 rfl rfl
theorem dksX6_feels_4 : cX6_feels.data.toList.drop 91 = dktX6_feels_4 := dk_seg dksX6_feels_3 24 rfl rfl
theorem dksX6_feels_5 : cX6_feels.data.toList.drop 115 = dktX6_feels_5 := dk_seg dksX6_feels_4 24 rfl rfl
theorem dX6_feels_0 : decode cX6_feels 0 = .ok (.aload_n 0, 1) := dk_42 (dk_at dksX6_feels_0 0 rfl rfl)
theorem dX6_feels_1 : decode cX6_feels 1 = .ok (.getfield 69, 3) := dk_180 0 69 (dk_at dksX6_feels_0 1 rfl rfl)
theorem dX6_feels_4 : decode cX6_feels 4 = .ok (.iconst 0, 1) := dk_3 (dk_at dksX6_feels_0 4 rfl rfl)
theorem dX6_feels_5 : decode cX6_feels 5 = .ok (.iload_n 3, 1) := dk_29 (dk_at dksX6_feels_0 5 rfl rfl)
theorem dX6_feels_6 : decode cX6_feels 6 = .ok (.iastore, 1) := dk_79 (dk_at dksX6_feels_0 6 rfl rfl)
theorem dX6_feels_7 : decode cX6_feels 7 = .ok (.aload_n 0, 1) := dk_42 (dk_at dksX6_feels_0 7 rfl rfl)
theorem dX6_feels_8 : decode cX6_feels 8 = .ok (.getfield 69, 3) := dk_180 0 69 (dk_at dksX6_feels_0 8 rfl rfl)
theorem dX6_feels_11 : decode cX6_feels 11 = .ok (.iconst 1, 1) := dk_4 (dk_at dksX6_feels_0 11 rfl rfl)
theorem dX6_feels_12 : decode cX6_feels 12 = .ok (.iload 4, 2) := dk_21 4 (dk_at dksX6_feels_0 12 rfl rfl)
theorem dX6_feels_14 : decode cX6_feels 14 = .ok (.iastore, 1) := dk_79 (dk_at dksX6_feels_0 14 rfl rfl)
theorem dX6_feels_15 : decode cX6_feels 15 = .ok (.aload_n 0, 1) := dk_42 (dk_at dksX6_feels_0 15 rfl rfl)
theorem dX6_feels_16 : decode cX6_feels 16 = .ok (.getfield 69, 3) := dk_180 0 69 (dk_at dksX6_feels_0 16 rfl rfl)
theorem dX6_feels_19 : decode cX6_feels 19 = .ok (.iconst 2, 1) := dk_5 (dk_at dksX6_feels_0 19 rfl rfl)
theorem dX6_feels_20 : decode cX6_feels 20 = .ok (.iload_n 3, 1) := dk_29 (dk_at dksX6_feels_0 20 rfl rfl)
theorem dX6_feels_21 : decode cX6_feels 21 = .ok (.iconst 1, 1) := dk_4 (dk_at dksX6_feels_0 21 rfl rfl)
theorem dX6_feels_22 : decode cX6_feels 22 = .ok (.if_icmp .ne 8, 3) := dk_160 0 8 (dk_at dksX6_feels_1 0 rfl rfl)
theorem dX6_feels_25 : decode cX6_feels 25 = .ok (.bipush 26, 2) := dk_16 26 (dk_at dksX6_feels_1 3 rfl rfl)
theorem dX6_feels_27 : decode cX6_feels 27 = .ok (.goto 10, 3) := dk_167 0 10 (dk_at dksX6_feels_1 5 rfl rfl)
theorem dX6_feels_30 : decode cX6_feels 30 = .ok (.aload_n 0, 1) := dk_42 (dk_at dksX6_feels_1 8 rfl rfl)
theorem dX6_feels_31 : decode cX6_feels 31 = .ok (.iload_n 1, 1) := dk_27 (dk_at dksX6_feels_1 9 rfl rfl)
theorem dX6_feels_32 : decode cX6_feels 32 = .ok (.iload 4, 2) := dk_21 4 (dk_at dksX6_feels_1 10 rfl rfl)
theorem dX6_feels_34 : decode cX6_feels 34 = .ok (.invokevirtual 262, 3) := dk_182 1 6 (dk_at dksX6_feels_1 12 rfl rfl)
theorem dX6_feels_37 : decode cX6_feels 37 = .ok (.iastore, 1) := dk_79 (dk_at dksX6_feels_1 15 rfl rfl)
theorem dX6_feels_38 : decode cX6_feels 38 = .ok (.aload_n 0, 1) := dk_42 (dk_at dksX6_feels_1 16 rfl rfl)
theorem dX6_feels_39 : decode cX6_feels 39 = .ok (.getfield 69, 3) := dk_180 0 69 (dk_at dksX6_feels_1 17 rfl rfl)
theorem dX6_feels_42 : decode cX6_feels 42 = .ok (.iconst 3, 1) := dk_6 (dk_at dksX6_feels_1 20 rfl rfl)
theorem dX6_feels_43 : decode cX6_feels 43 = .ok (.iload_n 3, 1) := dk_29 (dk_at dksX6_feels_1 21 rfl rfl)
theorem dX6_feels_44 : decode cX6_feels 44 = .ok (.iconst 2, 1) := dk_5 (dk_at dksX6_feels_1 22 rfl rfl)
theorem dX6_feels_45 : decode cX6_feels 45 = .ok (.if_icmp .ne 8, 3) := dk_160 0 8 (dk_at dksX6_feels_2 0 rfl rfl)
theorem dX6_feels_48 : decode cX6_feels 48 = .ok (.bipush 26, 2) := dk_16 26 (dk_at dksX6_feels_2 3 rfl rfl)
theorem dX6_feels_50 : decode cX6_feels 50 = .ok (.goto 27, 3) := dk_167 0 27 (dk_at dksX6_feels_2 5 rfl rfl)
theorem dX6_feels_53 : decode cX6_feels 53 = .ok (.iload_n 3, 1) := dk_29 (dk_at dksX6_feels_2 8 rfl rfl)
theorem dX6_feels_54 : decode cX6_feels 54 = .ok (.iconst 3, 1) := dk_6 (dk_at dksX6_feels_2 9 rfl rfl)
theorem dX6_feels_55 : decode cX6_feels 55 = .ok (.if_icmp .ne 15, 3) := dk_160 0 15 (dk_at dksX6_feels_2 10 rfl rfl)
theorem dX6_feels_58 : decode cX6_feels 58 = .ok (.aload_n 0, 1) := dk_42 (dk_at dksX6_feels_2 13 rfl rfl)
theorem dX6_feels_59 : decode cX6_feels 59 = .ok (.iload_n 1, 1) := dk_27 (dk_at dksX6_feels_2 14 rfl rfl)
theorem dX6_feels_60 : decode cX6_feels 60 = .ok (.iload 4, 2) := dk_21 4 (dk_at dksX6_feels_2 15 rfl rfl)
theorem dX6_feels_62 : decode cX6_feels 62 = .ok (.iconst 1, 1) := dk_4 (dk_at dksX6_feels_2 17 rfl rfl)
theorem dX6_feels_63 : decode cX6_feels 63 = .ok (.iadd, 1) := dk_96 (dk_at dksX6_feels_2 18 rfl rfl)
theorem dX6_feels_64 : decode cX6_feels 64 = .ok (.invokevirtual 262, 3) := dk_182 1 6 (dk_at dksX6_feels_2 19 rfl rfl)
theorem dX6_feels_67 : decode cX6_feels 67 = .ok (.goto 10, 3) := dk_167 0 10 (dk_at dksX6_feels_3 0 rfl rfl)
theorem dX6_feels_70 : decode cX6_feels 70 = .ok (.aload_n 0, 1) := dk_42 (dk_at dksX6_feels_3 3 rfl rfl)
theorem dX6_feels_71 : decode cX6_feels 71 = .ok (.iload_n 2, 1) := dk_28 (dk_at dksX6_feels_3 4 rfl rfl)
theorem dX6_feels_72 : decode cX6_feels 72 = .ok (.iload 4, 2) := dk_21 4 (dk_at dksX6_feels_3 5 rfl rfl)
theorem dX6_feels_74 : decode cX6_feels 74 = .ok (.invokevirtual 262, 3) := dk_182 1 6 (dk_at dksX6_feels_3 7 rfl rfl)
theorem dX6_feels_77 : decode cX6_feels 77 = .ok (.iastore, 1) := dk_79 (dk_at dksX6_feels_3 10 rfl rfl)
theorem dX6_feels_78 : decode cX6_feels 78 = .ok (.aload_n 0, 1) := dk_42 (dk_at dksX6_feels_3 11 rfl rfl)
theorem dX6_feels_79 : decode cX6_feels 79 = .ok (.getfield 69, 3) := dk_180 0 69 (dk_at dksX6_feels_3 12 rfl rfl)
theorem dX6_feels_82 : decode cX6_feels 82 = .ok (.iconst 4, 1) := dk_7 (dk_at dksX6_feels_3 15 rfl rfl)
theorem dX6_feels_83 : decode cX6_feels 83 = .ok (.aload_n 0, 1) := dk_42 (dk_at dksX6_feels_3 16 rfl rfl)
theorem dX6_feels_84 : decode cX6_feels 84 = .ok (.getfield 7, 3) := dk_180 0 7 (dk_at dksX6_feels_3 17 rfl rfl)
theorem dX6_feels_87 : decode cX6_feels 87 = .ok (.iload_n 1, 1) := dk_27 (dk_at dksX6_feels_3 20 rfl rfl)
theorem dX6_feels_88 : decode cX6_feels 88 = .ok (.iaload, 1) := dk_46 (dk_at dksX6_feels_3 21 rfl rfl)
theorem dX6_feels_89 : decode cX6_feels 89 = .ok (.iastore, 1) := dk_79 (dk_at dksX6_feels_3 22 rfl rfl)
theorem dX6_feels_90 : decode cX6_feels 90 = .ok (.aload_n 0, 1) := dk_42 (dk_at dksX6_feels_3 23 rfl rfl)
theorem dX6_feels_91 : decode cX6_feels 91 = .ok (.getfield 69, 3) := dk_180 0 69 (dk_at dksX6_feels_4 0 rfl rfl)
theorem dX6_feels_94 : decode cX6_feels 94 = .ok (.iconst 5, 1) := dk_8 (dk_at dksX6_feels_4 3 rfl rfl)
theorem dX6_feels_95 : decode cX6_feels 95 = .ok (.aload_n 0, 1) := dk_42 (dk_at dksX6_feels_4 4 rfl rfl)
theorem dX6_feels_96 : decode cX6_feels 96 = .ok (.getfield 16, 3) := dk_180 0 16 (dk_at dksX6_feels_4 5 rfl rfl)
theorem dX6_feels_99 : decode cX6_feels 99 = .ok (.iload_n 1, 1) := dk_27 (dk_at dksX6_feels_4 8 rfl rfl)
theorem dX6_feels_100 : decode cX6_feels 100 = .ok (.iaload, 1) := dk_46 (dk_at dksX6_feels_4 9 rfl rfl)
theorem dX6_feels_101 : decode cX6_feels 101 = .ok (.iastore, 1) := dk_79 (dk_at dksX6_feels_4 10 rfl rfl)
theorem dX6_feels_102 : decode cX6_feels 102 = .ok (.aload_n 0, 1) := dk_42 (dk_at dksX6_feels_4 11 rfl rfl)
theorem dX6_feels_103 : decode cX6_feels 103 = .ok (.getfield 69, 3) := dk_180 0 69 (dk_at dksX6_feels_4 12 rfl rfl)
theorem dX6_feels_106 : decode cX6_feels 106 = .ok (.bipush 6, 2) := dk_16 6 (dk_at dksX6_feels_4 15 rfl rfl)
theorem dX6_feels_108 : decode cX6_feels 108 = .ok (.aload_n 0, 1) := dk_42 (dk_at dksX6_feels_4 17 rfl rfl)
theorem dX6_feels_109 : decode cX6_feels 109 = .ok (.getfield 16, 3) := dk_180 0 16 (dk_at dksX6_feels_4 18 rfl rfl)
theorem dX6_feels_112 : decode cX6_feels 112 = .ok (.iload_n 2, 1) := dk_28 (dk_at dksX6_feels_4 21 rfl rfl)
theorem dX6_feels_113 : decode cX6_feels 113 = .ok (.iaload, 1) := dk_46 (dk_at dksX6_feels_4 22 rfl rfl)
theorem dX6_feels_114 : decode cX6_feels 114 = .ok (.iastore, 1) := dk_79 (dk_at dksX6_feels_4 23 rfl rfl)
theorem dX6_feels_115 : decode cX6_feels 115 = .ok (.aload_n 0, 1) := dk_42 (dk_at dksX6_feels_5 0 rfl rfl)
theorem dX6_feels_116 : decode cX6_feels 116 = .ok (.getfield 69, 3) := dk_180 0 69 (dk_at dksX6_feels_5 1 rfl rfl)
theorem dX6_feels_119 : decode cX6_feels 119 = .ok (.bipush 7, 2) := dk_16 7 (dk_at dksX6_feels_5 4 rfl rfl)
theorem dX6_feels_121 : decode cX6_feels 121 = .ok (.iload_n 1, 1) := dk_27 (dk_at dksX6_feels_5 6 rfl rfl)
theorem dX6_feels_122 : decode cX6_feels 122 = .ok (.iastore, 1) := dk_79 (dk_at dksX6_feels_5 7 rfl rfl)
theorem dX6_feels_123 : decode cX6_feels 123 = .ok (.aload_n 0, 1) := dk_42 (dk_at dksX6_feels_5 8 rfl rfl)
theorem dX6_feels_124 : decode cX6_feels 124 = .ok (.getfield 69, 3) := dk_180 0 69 (dk_at dksX6_feels_5 9 rfl rfl)
theorem dX6_feels_127 : decode cX6_feels 127 = .ok (.bipush 8, 2) := dk_16 8 (dk_at dksX6_feels_5 12 rfl rfl)
theorem dX6_feels_129 : decode cX6_feels 129 = .ok (.iload_n 2, 1) := dk_28 (dk_at dksX6_feels_5 14 rfl rfl)
theorem dX6_feels_130 : decode cX6_feels 130 = .ok (.iastore, 1) := dk_79 (dk_at dksX6_feels_5 15 rfl rfl)
theorem dX6_feels_131 : decode cX6_feels 131 = .ok (.return_, 1) := dk_177 (dk_at dksX6_feels_5 16 rfl rfl)
abbrev cX6_costOf : ByteArray := prog_17_method_41_code
def yX6_costOf : MethodName := ⟨RX6, "costOf", "()I"⟩
def dkwX6_costOf_5 : List UInt8 := [167, 0, 4, 27, 172]
abbrev dktX6_costOf_5 : List UInt8 := dkwX6_costOf_5 ++ []
def dkwX6_costOf_4 : List UInt8 := [164, 0, 8, 16, 99, 167, 0, 4, 29, 60, 132, 2, 1, 167, 255, 153, 27, 2, 160, 0, 7, 4]
abbrev dktX6_costOf_4 : List UInt8 := dkwX6_costOf_4 ++ dktX6_costOf_5
def dkwX6_costOf_3 : List UInt8 := [42, 180, 0, 60, 28, 46, 182, 1, 2, 62, 29, 4, 162, 0, 7, 4, 167, 0, 15, 29, 16, 99]
abbrev dktX6_costOf_3 : List UInt8 := dkwX6_costOf_3 ++ dktX6_costOf_4
def dkwX6_costOf_2 : List UInt8 := [167, 0, 56, 42, 180, 0, 54, 28, 46, 16, 110, 160, 0, 6, 18, 129, 172, 42, 42, 180, 0, 57, 28, 46]
abbrev dktX6_costOf_2 : List UInt8 := dkwX6_costOf_2 ++ dktX6_costOf_3
def dkwX6_costOf_1 : List UInt8 := [2, 160, 0, 79, 42, 42, 180, 0, 60, 28, 46, 42, 180, 0, 63, 28, 46, 182, 1, 2, 4, 159, 0, 6]
abbrev dktX6_costOf_1 : List UInt8 := dkwX6_costOf_1 ++ dktX6_costOf_2
def dkwX6_costOf_0 : List UInt8 := [2, 60, 3, 61, 28, 42, 180, 0, 251, 162, 0, 101, 42, 180, 0, 54, 28, 46, 16, 99, 160, 0, 8, 27]
abbrev dktX6_costOf_0 : List UInt8 := dkwX6_costOf_0 ++ dktX6_costOf_1
theorem dksX6_costOf_0 : cX6_costOf.data.toList.drop 0 = dktX6_costOf_0 := by decide +kernel
theorem dksX6_costOf_1 : cX6_costOf.data.toList.drop 24 = dktX6_costOf_1 := dk_seg dksX6_costOf_0 24 rfl rfl
theorem dksX6_costOf_2 : cX6_costOf.data.toList.drop 48 = dktX6_costOf_2 := dk_seg dksX6_costOf_1 24 rfl rfl
theorem dksX6_costOf_3 : cX6_costOf.data.toList.drop 72 = dktX6_costOf_3 := dk_seg dksX6_costOf_2 24 rfl rfl
theorem dksX6_costOf_4 : cX6_costOf.data.toList.drop 94 = dktX6_costOf_4 := dk_seg dksX6_costOf_3 22 rfl rfl
theorem dksX6_costOf_5 : cX6_costOf.data.toList.drop 116 = dktX6_costOf_5 := dk_seg dksX6_costOf_4 22 rfl rfl
theorem dX6_costOf_0 : decode cX6_costOf 0 = .ok (.iconst (-1), 1) := dk_2 (dk_at dksX6_costOf_0 0 rfl rfl)
theorem dX6_costOf_1 : decode cX6_costOf 1 = .ok (.istore_n 1, 1) := dk_60 (dk_at dksX6_costOf_0 1 rfl rfl)
theorem dX6_costOf_2 : decode cX6_costOf 2 = .ok (.iconst 0, 1) := dk_3 (dk_at dksX6_costOf_0 2 rfl rfl)
theorem dX6_costOf_3 : decode cX6_costOf 3 = .ok (.istore_n 2, 1) := dk_61 (dk_at dksX6_costOf_0 3 rfl rfl)
theorem dX6_costOf_4 : decode cX6_costOf 4 = .ok (.iload_n 2, 1) := dk_28 (dk_at dksX6_costOf_0 4 rfl rfl)
theorem dX6_costOf_5 : decode cX6_costOf 5 = .ok (.aload_n 0, 1) := dk_42 (dk_at dksX6_costOf_0 5 rfl rfl)
theorem dX6_costOf_6 : decode cX6_costOf 6 = .ok (.getfield 251, 3) := dk_180 0 251 (dk_at dksX6_costOf_0 6 rfl rfl)
theorem dX6_costOf_9 : decode cX6_costOf 9 = .ok (.if_icmp .ge 101, 3) := dk_162 0 101 (dk_at dksX6_costOf_0 9 rfl rfl)
theorem dX6_costOf_12 : decode cX6_costOf 12 = .ok (.aload_n 0, 1) := dk_42 (dk_at dksX6_costOf_0 12 rfl rfl)
theorem dX6_costOf_13 : decode cX6_costOf 13 = .ok (.getfield 54, 3) := dk_180 0 54 (dk_at dksX6_costOf_0 13 rfl rfl)
theorem dX6_costOf_16 : decode cX6_costOf 16 = .ok (.iload_n 2, 1) := dk_28 (dk_at dksX6_costOf_0 16 rfl rfl)
theorem dX6_costOf_17 : decode cX6_costOf 17 = .ok (.iaload, 1) := dk_46 (dk_at dksX6_costOf_0 17 rfl rfl)
theorem dX6_costOf_18 : decode cX6_costOf 18 = .ok (.bipush 99, 2) := dk_16 99 (dk_at dksX6_costOf_0 18 rfl rfl)
theorem dX6_costOf_20 : decode cX6_costOf 20 = .ok (.if_icmp .ne 8, 3) := dk_160 0 8 (dk_at dksX6_costOf_0 20 rfl rfl)
theorem dX6_costOf_23 : decode cX6_costOf 23 = .ok (.iload_n 1, 1) := dk_27 (dk_at dksX6_costOf_0 23 rfl rfl)
theorem dX6_costOf_24 : decode cX6_costOf 24 = .ok (.iconst (-1), 1) := dk_2 (dk_at dksX6_costOf_1 0 rfl rfl)
theorem dX6_costOf_25 : decode cX6_costOf 25 = .ok (.if_icmp .ne 79, 3) := dk_160 0 79 (dk_at dksX6_costOf_1 1 rfl rfl)
theorem dX6_costOf_28 : decode cX6_costOf 28 = .ok (.aload_n 0, 1) := dk_42 (dk_at dksX6_costOf_1 4 rfl rfl)
theorem dX6_costOf_29 : decode cX6_costOf 29 = .ok (.aload_n 0, 1) := dk_42 (dk_at dksX6_costOf_1 5 rfl rfl)
theorem dX6_costOf_30 : decode cX6_costOf 30 = .ok (.getfield 60, 3) := dk_180 0 60 (dk_at dksX6_costOf_1 6 rfl rfl)
theorem dX6_costOf_33 : decode cX6_costOf 33 = .ok (.iload_n 2, 1) := dk_28 (dk_at dksX6_costOf_1 9 rfl rfl)
theorem dX6_costOf_34 : decode cX6_costOf 34 = .ok (.iaload, 1) := dk_46 (dk_at dksX6_costOf_1 10 rfl rfl)
theorem dX6_costOf_35 : decode cX6_costOf 35 = .ok (.aload_n 0, 1) := dk_42 (dk_at dksX6_costOf_1 11 rfl rfl)
theorem dX6_costOf_36 : decode cX6_costOf 36 = .ok (.getfield 63, 3) := dk_180 0 63 (dk_at dksX6_costOf_1 12 rfl rfl)
theorem dX6_costOf_39 : decode cX6_costOf 39 = .ok (.iload_n 2, 1) := dk_28 (dk_at dksX6_costOf_1 15 rfl rfl)
theorem dX6_costOf_40 : decode cX6_costOf 40 = .ok (.iaload, 1) := dk_46 (dk_at dksX6_costOf_1 16 rfl rfl)
theorem dX6_costOf_41 : decode cX6_costOf 41 = .ok (.invokevirtual 258, 3) := dk_182 1 2 (dk_at dksX6_costOf_1 17 rfl rfl)
theorem dX6_costOf_44 : decode cX6_costOf 44 = .ok (.iconst 1, 1) := dk_4 (dk_at dksX6_costOf_1 20 rfl rfl)
theorem dX6_costOf_45 : decode cX6_costOf 45 = .ok (.if_icmp .eq 6, 3) := dk_159 0 6 (dk_at dksX6_costOf_1 21 rfl rfl)
theorem dX6_costOf_48 : decode cX6_costOf 48 = .ok (.goto 56, 3) := dk_167 0 56 (dk_at dksX6_costOf_2 0 rfl rfl)
theorem dX6_costOf_51 : decode cX6_costOf 51 = .ok (.aload_n 0, 1) := dk_42 (dk_at dksX6_costOf_2 3 rfl rfl)
theorem dX6_costOf_52 : decode cX6_costOf 52 = .ok (.getfield 54, 3) := dk_180 0 54 (dk_at dksX6_costOf_2 4 rfl rfl)
theorem dX6_costOf_55 : decode cX6_costOf 55 = .ok (.iload_n 2, 1) := dk_28 (dk_at dksX6_costOf_2 7 rfl rfl)
theorem dX6_costOf_56 : decode cX6_costOf 56 = .ok (.iaload, 1) := dk_46 (dk_at dksX6_costOf_2 8 rfl rfl)
theorem dX6_costOf_57 : decode cX6_costOf 57 = .ok (.bipush 110, 2) := dk_16 110 (dk_at dksX6_costOf_2 9 rfl rfl)
theorem dX6_costOf_59 : decode cX6_costOf 59 = .ok (.if_icmp .ne 6, 3) := dk_160 0 6 (dk_at dksX6_costOf_2 11 rfl rfl)
theorem dX6_costOf_62 : decode cX6_costOf 62 = .ok (.ldc 129, 2) := dk_18 129 (dk_at dksX6_costOf_2 14 rfl rfl)
theorem dX6_costOf_64 : decode cX6_costOf 64 = .ok (.ireturn, 1) := dk_172 (dk_at dksX6_costOf_2 16 rfl rfl)
theorem dX6_costOf_65 : decode cX6_costOf 65 = .ok (.aload_n 0, 1) := dk_42 (dk_at dksX6_costOf_2 17 rfl rfl)
theorem dX6_costOf_66 : decode cX6_costOf 66 = .ok (.aload_n 0, 1) := dk_42 (dk_at dksX6_costOf_2 18 rfl rfl)
theorem dX6_costOf_67 : decode cX6_costOf 67 = .ok (.getfield 57, 3) := dk_180 0 57 (dk_at dksX6_costOf_2 19 rfl rfl)
theorem dX6_costOf_70 : decode cX6_costOf 70 = .ok (.iload_n 2, 1) := dk_28 (dk_at dksX6_costOf_2 22 rfl rfl)
theorem dX6_costOf_71 : decode cX6_costOf 71 = .ok (.iaload, 1) := dk_46 (dk_at dksX6_costOf_2 23 rfl rfl)
theorem dX6_costOf_72 : decode cX6_costOf 72 = .ok (.aload_n 0, 1) := dk_42 (dk_at dksX6_costOf_3 0 rfl rfl)
theorem dX6_costOf_73 : decode cX6_costOf 73 = .ok (.getfield 60, 3) := dk_180 0 60 (dk_at dksX6_costOf_3 1 rfl rfl)
theorem dX6_costOf_76 : decode cX6_costOf 76 = .ok (.iload_n 2, 1) := dk_28 (dk_at dksX6_costOf_3 4 rfl rfl)
theorem dX6_costOf_77 : decode cX6_costOf 77 = .ok (.iaload, 1) := dk_46 (dk_at dksX6_costOf_3 5 rfl rfl)
theorem dX6_costOf_78 : decode cX6_costOf 78 = .ok (.invokevirtual 258, 3) := dk_182 1 2 (dk_at dksX6_costOf_3 6 rfl rfl)
theorem dX6_costOf_81 : decode cX6_costOf 81 = .ok (.istore_n 3, 1) := dk_62 (dk_at dksX6_costOf_3 9 rfl rfl)
theorem dX6_costOf_82 : decode cX6_costOf 82 = .ok (.iload_n 3, 1) := dk_29 (dk_at dksX6_costOf_3 10 rfl rfl)
theorem dX6_costOf_83 : decode cX6_costOf 83 = .ok (.iconst 1, 1) := dk_4 (dk_at dksX6_costOf_3 11 rfl rfl)
theorem dX6_costOf_84 : decode cX6_costOf 84 = .ok (.if_icmp .ge 7, 3) := dk_162 0 7 (dk_at dksX6_costOf_3 12 rfl rfl)
theorem dX6_costOf_87 : decode cX6_costOf 87 = .ok (.iconst 1, 1) := dk_4 (dk_at dksX6_costOf_3 15 rfl rfl)
theorem dX6_costOf_88 : decode cX6_costOf 88 = .ok (.goto 15, 3) := dk_167 0 15 (dk_at dksX6_costOf_3 16 rfl rfl)
theorem dX6_costOf_91 : decode cX6_costOf 91 = .ok (.iload_n 3, 1) := dk_29 (dk_at dksX6_costOf_3 19 rfl rfl)
theorem dX6_costOf_92 : decode cX6_costOf 92 = .ok (.bipush 99, 2) := dk_16 99 (dk_at dksX6_costOf_3 20 rfl rfl)
theorem dX6_costOf_94 : decode cX6_costOf 94 = .ok (.if_icmp .le 8, 3) := dk_164 0 8 (dk_at dksX6_costOf_4 0 rfl rfl)
theorem dX6_costOf_97 : decode cX6_costOf 97 = .ok (.bipush 99, 2) := dk_16 99 (dk_at dksX6_costOf_4 3 rfl rfl)
theorem dX6_costOf_99 : decode cX6_costOf 99 = .ok (.goto 4, 3) := dk_167 0 4 (dk_at dksX6_costOf_4 5 rfl rfl)
theorem dX6_costOf_102 : decode cX6_costOf 102 = .ok (.iload_n 3, 1) := dk_29 (dk_at dksX6_costOf_4 8 rfl rfl)
theorem dX6_costOf_103 : decode cX6_costOf 103 = .ok (.istore_n 1, 1) := dk_60 (dk_at dksX6_costOf_4 9 rfl rfl)
theorem dX6_costOf_104 : decode cX6_costOf 104 = .ok (.iinc 2 1, 3) := dk_132 2 1 (dk_at dksX6_costOf_4 10 rfl rfl)
theorem dX6_costOf_107 : decode cX6_costOf 107 = .ok (.goto (-103), 3) := dk_167 255 153 (dk_at dksX6_costOf_4 13 rfl rfl)
theorem dX6_costOf_110 : decode cX6_costOf 110 = .ok (.iload_n 1, 1) := dk_27 (dk_at dksX6_costOf_4 16 rfl rfl)
theorem dX6_costOf_111 : decode cX6_costOf 111 = .ok (.iconst (-1), 1) := dk_2 (dk_at dksX6_costOf_4 17 rfl rfl)
theorem dX6_costOf_112 : decode cX6_costOf 112 = .ok (.if_icmp .ne 7, 3) := dk_160 0 7 (dk_at dksX6_costOf_4 18 rfl rfl)
theorem dX6_costOf_115 : decode cX6_costOf 115 = .ok (.iconst 1, 1) := dk_4 (dk_at dksX6_costOf_4 21 rfl rfl)
theorem dX6_costOf_116 : decode cX6_costOf 116 = .ok (.goto 4, 3) := dk_167 0 4 (dk_at dksX6_costOf_5 0 rfl rfl)
theorem dX6_costOf_119 : decode cX6_costOf 119 = .ok (.iload_n 1, 1) := dk_27 (dk_at dksX6_costOf_5 3 rfl rfl)
theorem dX6_costOf_120 : decode cX6_costOf 120 = .ok (.ireturn, 1) := dk_172 (dk_at dksX6_costOf_5 4 rfl rfl)
abbrev cX6_comesTo : ByteArray := prog_17_method_40_code
def yX6_comesTo : MethodName := ⟨RX6, "comesTo", "(II)I"⟩
def dkwX6_comesTo_10 : List UInt8 := [3, 46, 172]
abbrev dktX6_comesTo_10 : List UInt8 := dkwX6_comesTo_10 ++ []
def dkwX6_comesTo_9 : List UInt8 := [180, 0, 66, 29, 4, 100, 46, 42, 180, 0, 66, 29, 46, 184, 0, 254, 79, 167, 255, 42, 42, 180, 0, 66]
abbrev dktX6_comesTo_9 : List UInt8 := dkwX6_comesTo_9 ++ dktX6_comesTo_10
def dkwX6_comesTo_8 : List UInt8 := [160, 0, 14, 42, 180, 0, 66, 29, 46, 154, 0, 5, 3, 172, 42, 180, 0, 66, 29, 4, 100, 21, 6, 42]
abbrev dktX6_comesTo_8 : List UInt8 := dkwX6_comesTo_8 ++ dktX6_comesTo_9
def dkwX6_comesTo_7 : List UInt8 := [167, 0, 65, 29, 4, 100, 62, 167, 0, 58, 29, 4, 100, 62, 21, 6, 8, 159, 0, 10, 21, 6, 16, 6]
abbrev dktX6_comesTo_7 : List UInt8 := dkwX6_comesTo_7 ++ dktX6_comesTo_8
def dkwX6_comesTo_6 : List UInt8 := [100, 46, 21, 6, 16, 12, 160, 0, 7, 4, 167, 0, 4, 3, 160, 0, 13, 21, 4, 21, 7, 96, 54, 5]
abbrev dktX6_comesTo_6 : List UInt8 := dkwX6_comesTo_6 ++ dktX6_comesTo_7
def dkwX6_comesTo_5 : List UInt8 := [79, 167, 0, 112, 21, 6, 16, 11, 159, 0, 10, 21, 6, 16, 12, 160, 0, 43, 42, 180, 0, 66, 29, 4]
abbrev dktX6_comesTo_5 : List UInt8 := dkwX6_comesTo_5 ++ dktX6_comesTo_6
def dkwX6_comesTo_4 : List UInt8 := [21, 6, 16, 10, 160, 0, 24, 42, 180, 0, 66, 29, 4, 100, 4, 42, 180, 0, 66, 29, 4, 100, 46, 100]
abbrev dktX6_comesTo_4 : List UInt8 := dkwX6_comesTo_4 ++ dktX6_comesTo_5
def dkwX6_comesTo_3 : List UInt8 := [154, 0, 8, 21, 7, 167, 0, 10, 42, 180, 0, 69, 21, 7, 46, 79, 29, 4, 96, 62, 167, 0, 140]
abbrev dktX6_comesTo_3 : List UInt8 := dkwX6_comesTo_3 ++ dktX6_comesTo_4
def dkwX6_comesTo_2 : List UInt8 := [21, 5, 4, 96, 54, 5, 21, 6, 153, 0, 9, 21, 6, 4, 160, 0, 33, 42, 180, 0, 66, 29, 21, 6]
abbrev dktX6_comesTo_2 : List UInt8 := dkwX6_comesTo_2 ++ dktX6_comesTo_3
def dkwX6_comesTo_1 : List UInt8 := [180, 0, 51, 21, 5, 46, 18, 187, 108, 54, 6, 42, 180, 0, 51, 21, 5, 46, 18, 187, 112, 54, 7]
abbrev dktX6_comesTo_1 : List UInt8 := dkwX6_comesTo_1 ++ dktX6_comesTo_2
def dkwX6_comesTo_0 : List UInt8 := [3, 62, 17, 0, 180, 27, 17, 0, 180, 108, 104, 54, 4, 27, 54, 5, 21, 5, 28, 162, 0, 214, 42]
abbrev dktX6_comesTo_0 : List UInt8 := dkwX6_comesTo_0 ++ dktX6_comesTo_1
theorem dksX6_comesTo_0 : cX6_comesTo.data.toList.drop 0 = dktX6_comesTo_0 := by decide +kernel
theorem dksX6_comesTo_1 : cX6_comesTo.data.toList.drop 23 = dktX6_comesTo_1 := dk_seg dksX6_comesTo_0 23 rfl rfl
theorem dksX6_comesTo_2 : cX6_comesTo.data.toList.drop 46 = dktX6_comesTo_2 := dk_seg dksX6_comesTo_1 23 rfl rfl
theorem dksX6_comesTo_3 : cX6_comesTo.data.toList.drop 70 = dktX6_comesTo_3 := dk_seg dksX6_comesTo_2 24 rfl rfl
theorem dksX6_comesTo_4 : cX6_comesTo.data.toList.drop 93 = dktX6_comesTo_4 := dk_seg dksX6_comesTo_3 23 rfl rfl
theorem dksX6_comesTo_5 : cX6_comesTo.data.toList.drop 117 = dktX6_comesTo_5 := dk_seg dksX6_comesTo_4 24 rfl rfl
theorem dksX6_comesTo_6 : cX6_comesTo.data.toList.drop 141 = dktX6_comesTo_6 := dk_seg dksX6_comesTo_5 24 rfl rfl
theorem dksX6_comesTo_7 : cX6_comesTo.data.toList.drop 165 = dktX6_comesTo_7 := dk_seg dksX6_comesTo_6 24 rfl rfl
theorem dksX6_comesTo_8 : cX6_comesTo.data.toList.drop 189 = dktX6_comesTo_8 := dk_seg dksX6_comesTo_7 24 rfl rfl
theorem dksX6_comesTo_9 : cX6_comesTo.data.toList.drop 213 = dktX6_comesTo_9 := dk_seg dksX6_comesTo_8 24 rfl rfl
theorem dksX6_comesTo_10 : cX6_comesTo.data.toList.drop 237 = dktX6_comesTo_10 := dk_seg dksX6_comesTo_9 24 rfl rfl
theorem dX6_comesTo_0 : decode cX6_comesTo 0 = .ok (.iconst 0, 1) := dk_3 (dk_at dksX6_comesTo_0 0 rfl rfl)
theorem dX6_comesTo_1 : decode cX6_comesTo 1 = .ok (.istore_n 3, 1) := dk_62 (dk_at dksX6_comesTo_0 1 rfl rfl)
theorem dX6_comesTo_2 : decode cX6_comesTo 2 = .ok (.sipush 180, 3) := dk_17 0 180 (dk_at dksX6_comesTo_0 2 rfl rfl)
theorem dX6_comesTo_5 : decode cX6_comesTo 5 = .ok (.iload_n 1, 1) := dk_27 (dk_at dksX6_comesTo_0 5 rfl rfl)
theorem dX6_comesTo_6 : decode cX6_comesTo 6 = .ok (.sipush 180, 3) := dk_17 0 180 (dk_at dksX6_comesTo_0 6 rfl rfl)
theorem dX6_comesTo_9 : decode cX6_comesTo 9 = .ok (.idiv, 1) := dk_108 (dk_at dksX6_comesTo_0 9 rfl rfl)
theorem dX6_comesTo_10 : decode cX6_comesTo 10 = .ok (.imul, 1) := dk_104 (dk_at dksX6_comesTo_0 10 rfl rfl)
theorem dX6_comesTo_11 : decode cX6_comesTo 11 = .ok (.istore 4, 2) := dk_54 4 (dk_at dksX6_comesTo_0 11 rfl rfl)
theorem dX6_comesTo_13 : decode cX6_comesTo 13 = .ok (.iload_n 1, 1) := dk_27 (dk_at dksX6_comesTo_0 13 rfl rfl)
theorem dX6_comesTo_14 : decode cX6_comesTo 14 = .ok (.istore 5, 2) := dk_54 5 (dk_at dksX6_comesTo_0 14 rfl rfl)
theorem dX6_comesTo_16 : decode cX6_comesTo 16 = .ok (.iload 5, 2) := dk_21 5 (dk_at dksX6_comesTo_0 16 rfl rfl)
theorem dX6_comesTo_18 : decode cX6_comesTo 18 = .ok (.iload_n 2, 1) := dk_28 (dk_at dksX6_comesTo_0 18 rfl rfl)
theorem dX6_comesTo_19 : decode cX6_comesTo 19 = .ok (.if_icmp .ge 214, 3) := dk_162 0 214 (dk_at dksX6_comesTo_0 19 rfl rfl)
theorem dX6_comesTo_22 : decode cX6_comesTo 22 = .ok (.aload_n 0, 1) := dk_42 (dk_at dksX6_comesTo_0 22 rfl rfl)
theorem dX6_comesTo_23 : decode cX6_comesTo 23 = .ok (.getfield 51, 3) := dk_180 0 51 (dk_at dksX6_comesTo_1 0 rfl rfl)
theorem dX6_comesTo_26 : decode cX6_comesTo 26 = .ok (.iload 5, 2) := dk_21 5 (dk_at dksX6_comesTo_1 3 rfl rfl)
theorem dX6_comesTo_28 : decode cX6_comesTo 28 = .ok (.iaload, 1) := dk_46 (dk_at dksX6_comesTo_1 5 rfl rfl)
theorem dX6_comesTo_29 : decode cX6_comesTo 29 = .ok (.ldc 187, 2) := dk_18 187 (dk_at dksX6_comesTo_1 6 rfl rfl)
theorem dX6_comesTo_31 : decode cX6_comesTo 31 = .ok (.idiv, 1) := dk_108 (dk_at dksX6_comesTo_1 8 rfl rfl)
theorem dX6_comesTo_32 : decode cX6_comesTo 32 = .ok (.istore 6, 2) := dk_54 6 (dk_at dksX6_comesTo_1 9 rfl rfl)
theorem dX6_comesTo_34 : decode cX6_comesTo 34 = .ok (.aload_n 0, 1) := dk_42 (dk_at dksX6_comesTo_1 11 rfl rfl)
theorem dX6_comesTo_35 : decode cX6_comesTo 35 = .ok (.getfield 51, 3) := dk_180 0 51 (dk_at dksX6_comesTo_1 12 rfl rfl)
theorem dX6_comesTo_38 : decode cX6_comesTo 38 = .ok (.iload 5, 2) := dk_21 5 (dk_at dksX6_comesTo_1 15 rfl rfl)
theorem dX6_comesTo_40 : decode cX6_comesTo 40 = .ok (.iaload, 1) := dk_46 (dk_at dksX6_comesTo_1 17 rfl rfl)
theorem dX6_comesTo_41 : decode cX6_comesTo 41 = .ok (.ldc 187, 2) := dk_18 187 (dk_at dksX6_comesTo_1 18 rfl rfl)
theorem dX6_comesTo_43 : decode cX6_comesTo 43 = .ok (.irem, 1) := dk_112 (dk_at dksX6_comesTo_1 20 rfl rfl)
theorem dX6_comesTo_44 : decode cX6_comesTo 44 = .ok (.istore 7, 2) := dk_54 7 (dk_at dksX6_comesTo_1 21 rfl rfl)
theorem dX6_comesTo_46 : decode cX6_comesTo 46 = .ok (.iload 5, 2) := dk_21 5 (dk_at dksX6_comesTo_2 0 rfl rfl)
theorem dX6_comesTo_48 : decode cX6_comesTo 48 = .ok (.iconst 1, 1) := dk_4 (dk_at dksX6_comesTo_2 2 rfl rfl)
theorem dX6_comesTo_49 : decode cX6_comesTo 49 = .ok (.iadd, 1) := dk_96 (dk_at dksX6_comesTo_2 3 rfl rfl)
theorem dX6_comesTo_50 : decode cX6_comesTo 50 = .ok (.istore 5, 2) := dk_54 5 (dk_at dksX6_comesTo_2 4 rfl rfl)
theorem dX6_comesTo_52 : decode cX6_comesTo 52 = .ok (.iload 6, 2) := dk_21 6 (dk_at dksX6_comesTo_2 6 rfl rfl)
theorem dX6_comesTo_54 : decode cX6_comesTo 54 = .ok (.ifCond .eq 9, 3) := dk_153 0 9 (dk_at dksX6_comesTo_2 8 rfl rfl)
theorem dX6_comesTo_57 : decode cX6_comesTo 57 = .ok (.iload 6, 2) := dk_21 6 (dk_at dksX6_comesTo_2 11 rfl rfl)
theorem dX6_comesTo_59 : decode cX6_comesTo 59 = .ok (.iconst 1, 1) := dk_4 (dk_at dksX6_comesTo_2 13 rfl rfl)
theorem dX6_comesTo_60 : decode cX6_comesTo 60 = .ok (.if_icmp .ne 33, 3) := dk_160 0 33 (dk_at dksX6_comesTo_2 14 rfl rfl)
theorem dX6_comesTo_63 : decode cX6_comesTo 63 = .ok (.aload_n 0, 1) := dk_42 (dk_at dksX6_comesTo_2 17 rfl rfl)
theorem dX6_comesTo_64 : decode cX6_comesTo 64 = .ok (.getfield 66, 3) := dk_180 0 66 (dk_at dksX6_comesTo_2 18 rfl rfl)
theorem dX6_comesTo_67 : decode cX6_comesTo 67 = .ok (.iload_n 3, 1) := dk_29 (dk_at dksX6_comesTo_2 21 rfl rfl)
theorem dX6_comesTo_68 : decode cX6_comesTo 68 = .ok (.iload 6, 2) := dk_21 6 (dk_at dksX6_comesTo_2 22 rfl rfl)
theorem dX6_comesTo_70 : decode cX6_comesTo 70 = .ok (.ifCond .ne 8, 3) := dk_154 0 8 (dk_at dksX6_comesTo_3 0 rfl rfl)
theorem dX6_comesTo_73 : decode cX6_comesTo 73 = .ok (.iload 7, 2) := dk_21 7 (dk_at dksX6_comesTo_3 3 rfl rfl)
theorem dX6_comesTo_75 : decode cX6_comesTo 75 = .ok (.goto 10, 3) := dk_167 0 10 (dk_at dksX6_comesTo_3 5 rfl rfl)
theorem dX6_comesTo_78 : decode cX6_comesTo 78 = .ok (.aload_n 0, 1) := dk_42 (dk_at dksX6_comesTo_3 8 rfl rfl)
theorem dX6_comesTo_79 : decode cX6_comesTo 79 = .ok (.getfield 69, 3) := dk_180 0 69 (dk_at dksX6_comesTo_3 9 rfl rfl)
theorem dX6_comesTo_82 : decode cX6_comesTo 82 = .ok (.iload 7, 2) := dk_21 7 (dk_at dksX6_comesTo_3 12 rfl rfl)
theorem dX6_comesTo_84 : decode cX6_comesTo 84 = .ok (.iaload, 1) := dk_46 (dk_at dksX6_comesTo_3 14 rfl rfl)
theorem dX6_comesTo_85 : decode cX6_comesTo 85 = .ok (.iastore, 1) := dk_79 (dk_at dksX6_comesTo_3 15 rfl rfl)
theorem dX6_comesTo_86 : decode cX6_comesTo 86 = .ok (.iload_n 3, 1) := dk_29 (dk_at dksX6_comesTo_3 16 rfl rfl)
theorem dX6_comesTo_87 : decode cX6_comesTo 87 = .ok (.iconst 1, 1) := dk_4 (dk_at dksX6_comesTo_3 17 rfl rfl)
theorem dX6_comesTo_88 : decode cX6_comesTo 88 = .ok (.iadd, 1) := dk_96 (dk_at dksX6_comesTo_3 18 rfl rfl)
theorem dX6_comesTo_89 : decode cX6_comesTo 89 = .ok (.istore_n 3, 1) := dk_62 (dk_at dksX6_comesTo_3 19 rfl rfl)
theorem dX6_comesTo_90 : decode cX6_comesTo 90 = .ok (.goto 140, 3) := dk_167 0 140 (dk_at dksX6_comesTo_3 20 rfl rfl)
theorem dX6_comesTo_93 : decode cX6_comesTo 93 = .ok (.iload 6, 2) := dk_21 6 (dk_at dksX6_comesTo_4 0 rfl rfl)
theorem dX6_comesTo_95 : decode cX6_comesTo 95 = .ok (.bipush 10, 2) := dk_16 10 (dk_at dksX6_comesTo_4 2 rfl rfl)
theorem dX6_comesTo_97 : decode cX6_comesTo 97 = .ok (.if_icmp .ne 24, 3) := dk_160 0 24 (dk_at dksX6_comesTo_4 4 rfl rfl)
theorem dX6_comesTo_100 : decode cX6_comesTo 100 = .ok (.aload_n 0, 1) := dk_42 (dk_at dksX6_comesTo_4 7 rfl rfl)
theorem dX6_comesTo_101 : decode cX6_comesTo 101 = .ok (.getfield 66, 3) := dk_180 0 66 (dk_at dksX6_comesTo_4 8 rfl rfl)
theorem dX6_comesTo_104 : decode cX6_comesTo 104 = .ok (.iload_n 3, 1) := dk_29 (dk_at dksX6_comesTo_4 11 rfl rfl)
theorem dX6_comesTo_105 : decode cX6_comesTo 105 = .ok (.iconst 1, 1) := dk_4 (dk_at dksX6_comesTo_4 12 rfl rfl)
theorem dX6_comesTo_106 : decode cX6_comesTo 106 = .ok (.isub, 1) := dk_100 (dk_at dksX6_comesTo_4 13 rfl rfl)
theorem dX6_comesTo_107 : decode cX6_comesTo 107 = .ok (.iconst 1, 1) := dk_4 (dk_at dksX6_comesTo_4 14 rfl rfl)
theorem dX6_comesTo_108 : decode cX6_comesTo 108 = .ok (.aload_n 0, 1) := dk_42 (dk_at dksX6_comesTo_4 15 rfl rfl)
theorem dX6_comesTo_109 : decode cX6_comesTo 109 = .ok (.getfield 66, 3) := dk_180 0 66 (dk_at dksX6_comesTo_4 16 rfl rfl)
theorem dX6_comesTo_112 : decode cX6_comesTo 112 = .ok (.iload_n 3, 1) := dk_29 (dk_at dksX6_comesTo_4 19 rfl rfl)
theorem dX6_comesTo_113 : decode cX6_comesTo 113 = .ok (.iconst 1, 1) := dk_4 (dk_at dksX6_comesTo_4 20 rfl rfl)
theorem dX6_comesTo_114 : decode cX6_comesTo 114 = .ok (.isub, 1) := dk_100 (dk_at dksX6_comesTo_4 21 rfl rfl)
theorem dX6_comesTo_115 : decode cX6_comesTo 115 = .ok (.iaload, 1) := dk_46 (dk_at dksX6_comesTo_4 22 rfl rfl)
theorem dX6_comesTo_116 : decode cX6_comesTo 116 = .ok (.isub, 1) := dk_100 (dk_at dksX6_comesTo_4 23 rfl rfl)
theorem dX6_comesTo_117 : decode cX6_comesTo 117 = .ok (.iastore, 1) := dk_79 (dk_at dksX6_comesTo_5 0 rfl rfl)
theorem dX6_comesTo_118 : decode cX6_comesTo 118 = .ok (.goto 112, 3) := dk_167 0 112 (dk_at dksX6_comesTo_5 1 rfl rfl)
theorem dX6_comesTo_121 : decode cX6_comesTo 121 = .ok (.iload 6, 2) := dk_21 6 (dk_at dksX6_comesTo_5 4 rfl rfl)
theorem dX6_comesTo_123 : decode cX6_comesTo 123 = .ok (.bipush 11, 2) := dk_16 11 (dk_at dksX6_comesTo_5 6 rfl rfl)
theorem dX6_comesTo_125 : decode cX6_comesTo 125 = .ok (.if_icmp .eq 10, 3) := dk_159 0 10 (dk_at dksX6_comesTo_5 8 rfl rfl)
theorem dX6_comesTo_128 : decode cX6_comesTo 128 = .ok (.iload 6, 2) := dk_21 6 (dk_at dksX6_comesTo_5 11 rfl rfl)
theorem dX6_comesTo_130 : decode cX6_comesTo 130 = .ok (.bipush 12, 2) := dk_16 12 (dk_at dksX6_comesTo_5 13 rfl rfl)
theorem dX6_comesTo_132 : decode cX6_comesTo 132 = .ok (.if_icmp .ne 43, 3) := dk_160 0 43 (dk_at dksX6_comesTo_5 15 rfl rfl)
theorem dX6_comesTo_135 : decode cX6_comesTo 135 = .ok (.aload_n 0, 1) := dk_42 (dk_at dksX6_comesTo_5 18 rfl rfl)
theorem dX6_comesTo_136 : decode cX6_comesTo 136 = .ok (.getfield 66, 3) := dk_180 0 66 (dk_at dksX6_comesTo_5 19 rfl rfl)
theorem dX6_comesTo_139 : decode cX6_comesTo 139 = .ok (.iload_n 3, 1) := dk_29 (dk_at dksX6_comesTo_5 22 rfl rfl)
theorem dX6_comesTo_140 : decode cX6_comesTo 140 = .ok (.iconst 1, 1) := dk_4 (dk_at dksX6_comesTo_5 23 rfl rfl)
theorem dX6_comesTo_141 : decode cX6_comesTo 141 = .ok (.isub, 1) := dk_100 (dk_at dksX6_comesTo_6 0 rfl rfl)
theorem dX6_comesTo_142 : decode cX6_comesTo 142 = .ok (.iaload, 1) := dk_46 (dk_at dksX6_comesTo_6 1 rfl rfl)
theorem dX6_comesTo_143 : decode cX6_comesTo 143 = .ok (.iload 6, 2) := dk_21 6 (dk_at dksX6_comesTo_6 2 rfl rfl)
theorem dX6_comesTo_145 : decode cX6_comesTo 145 = .ok (.bipush 12, 2) := dk_16 12 (dk_at dksX6_comesTo_6 4 rfl rfl)
theorem dX6_comesTo_147 : decode cX6_comesTo 147 = .ok (.if_icmp .ne 7, 3) := dk_160 0 7 (dk_at dksX6_comesTo_6 6 rfl rfl)
theorem dX6_comesTo_150 : decode cX6_comesTo 150 = .ok (.iconst 1, 1) := dk_4 (dk_at dksX6_comesTo_6 9 rfl rfl)
theorem dX6_comesTo_151 : decode cX6_comesTo 151 = .ok (.goto 4, 3) := dk_167 0 4 (dk_at dksX6_comesTo_6 10 rfl rfl)
theorem dX6_comesTo_154 : decode cX6_comesTo 154 = .ok (.iconst 0, 1) := dk_3 (dk_at dksX6_comesTo_6 13 rfl rfl)
theorem dX6_comesTo_155 : decode cX6_comesTo 155 = .ok (.if_icmp .ne 13, 3) := dk_160 0 13 (dk_at dksX6_comesTo_6 14 rfl rfl)
theorem dX6_comesTo_158 : decode cX6_comesTo 158 = .ok (.iload 4, 2) := dk_21 4 (dk_at dksX6_comesTo_6 17 rfl rfl)
theorem dX6_comesTo_160 : decode cX6_comesTo 160 = .ok (.iload 7, 2) := dk_21 7 (dk_at dksX6_comesTo_6 19 rfl rfl)
theorem dX6_comesTo_162 : decode cX6_comesTo 162 = .ok (.iadd, 1) := dk_96 (dk_at dksX6_comesTo_6 21 rfl rfl)
theorem dX6_comesTo_163 : decode cX6_comesTo 163 = .ok (.istore 5, 2) := dk_54 5 (dk_at dksX6_comesTo_6 22 rfl rfl)
theorem dX6_comesTo_165 : decode cX6_comesTo 165 = .ok (.goto 65, 3) := dk_167 0 65 (dk_at dksX6_comesTo_7 0 rfl rfl)
theorem dX6_comesTo_168 : decode cX6_comesTo 168 = .ok (.iload_n 3, 1) := dk_29 (dk_at dksX6_comesTo_7 3 rfl rfl)
theorem dX6_comesTo_169 : decode cX6_comesTo 169 = .ok (.iconst 1, 1) := dk_4 (dk_at dksX6_comesTo_7 4 rfl rfl)
theorem dX6_comesTo_170 : decode cX6_comesTo 170 = .ok (.isub, 1) := dk_100 (dk_at dksX6_comesTo_7 5 rfl rfl)
theorem dX6_comesTo_171 : decode cX6_comesTo 171 = .ok (.istore_n 3, 1) := dk_62 (dk_at dksX6_comesTo_7 6 rfl rfl)
theorem dX6_comesTo_172 : decode cX6_comesTo 172 = .ok (.goto 58, 3) := dk_167 0 58 (dk_at dksX6_comesTo_7 7 rfl rfl)
theorem dX6_comesTo_175 : decode cX6_comesTo 175 = .ok (.iload_n 3, 1) := dk_29 (dk_at dksX6_comesTo_7 10 rfl rfl)
theorem dX6_comesTo_176 : decode cX6_comesTo 176 = .ok (.iconst 1, 1) := dk_4 (dk_at dksX6_comesTo_7 11 rfl rfl)
theorem dX6_comesTo_177 : decode cX6_comesTo 177 = .ok (.isub, 1) := dk_100 (dk_at dksX6_comesTo_7 12 rfl rfl)
theorem dX6_comesTo_178 : decode cX6_comesTo 178 = .ok (.istore_n 3, 1) := dk_62 (dk_at dksX6_comesTo_7 13 rfl rfl)
theorem dX6_comesTo_179 : decode cX6_comesTo 179 = .ok (.iload 6, 2) := dk_21 6 (dk_at dksX6_comesTo_7 14 rfl rfl)
theorem dX6_comesTo_181 : decode cX6_comesTo 181 = .ok (.iconst 5, 1) := dk_8 (dk_at dksX6_comesTo_7 16 rfl rfl)
theorem dX6_comesTo_182 : decode cX6_comesTo 182 = .ok (.if_icmp .eq 10, 3) := dk_159 0 10 (dk_at dksX6_comesTo_7 17 rfl rfl)
theorem dX6_comesTo_185 : decode cX6_comesTo 185 = .ok (.iload 6, 2) := dk_21 6 (dk_at dksX6_comesTo_7 20 rfl rfl)
theorem dX6_comesTo_187 : decode cX6_comesTo 187 = .ok (.bipush 6, 2) := dk_16 6 (dk_at dksX6_comesTo_7 22 rfl rfl)
theorem dX6_comesTo_189 : decode cX6_comesTo 189 = .ok (.if_icmp .ne 14, 3) := dk_160 0 14 (dk_at dksX6_comesTo_8 0 rfl rfl)
theorem dX6_comesTo_192 : decode cX6_comesTo 192 = .ok (.aload_n 0, 1) := dk_42 (dk_at dksX6_comesTo_8 3 rfl rfl)
theorem dX6_comesTo_193 : decode cX6_comesTo 193 = .ok (.getfield 66, 3) := dk_180 0 66 (dk_at dksX6_comesTo_8 4 rfl rfl)
theorem dX6_comesTo_196 : decode cX6_comesTo 196 = .ok (.iload_n 3, 1) := dk_29 (dk_at dksX6_comesTo_8 7 rfl rfl)
theorem dX6_comesTo_197 : decode cX6_comesTo 197 = .ok (.iaload, 1) := dk_46 (dk_at dksX6_comesTo_8 8 rfl rfl)
theorem dX6_comesTo_198 : decode cX6_comesTo 198 = .ok (.ifCond .ne 5, 3) := dk_154 0 5 (dk_at dksX6_comesTo_8 9 rfl rfl)
theorem dX6_comesTo_201 : decode cX6_comesTo 201 = .ok (.iconst 0, 1) := dk_3 (dk_at dksX6_comesTo_8 12 rfl rfl)
theorem dX6_comesTo_202 : decode cX6_comesTo 202 = .ok (.ireturn, 1) := dk_172 (dk_at dksX6_comesTo_8 13 rfl rfl)
theorem dX6_comesTo_203 : decode cX6_comesTo 203 = .ok (.aload_n 0, 1) := dk_42 (dk_at dksX6_comesTo_8 14 rfl rfl)
theorem dX6_comesTo_204 : decode cX6_comesTo 204 = .ok (.getfield 66, 3) := dk_180 0 66 (dk_at dksX6_comesTo_8 15 rfl rfl)
theorem dX6_comesTo_207 : decode cX6_comesTo 207 = .ok (.iload_n 3, 1) := dk_29 (dk_at dksX6_comesTo_8 18 rfl rfl)
theorem dX6_comesTo_208 : decode cX6_comesTo 208 = .ok (.iconst 1, 1) := dk_4 (dk_at dksX6_comesTo_8 19 rfl rfl)
theorem dX6_comesTo_209 : decode cX6_comesTo 209 = .ok (.isub, 1) := dk_100 (dk_at dksX6_comesTo_8 20 rfl rfl)
theorem dX6_comesTo_210 : decode cX6_comesTo 210 = .ok (.iload 6, 2) := dk_21 6 (dk_at dksX6_comesTo_8 21 rfl rfl)
theorem dX6_comesTo_212 : decode cX6_comesTo 212 = .ok (.aload_n 0, 1) := dk_42 (dk_at dksX6_comesTo_8 23 rfl rfl)
theorem dX6_comesTo_213 : decode cX6_comesTo 213 = .ok (.getfield 66, 3) := dk_180 0 66 (dk_at dksX6_comesTo_9 0 rfl rfl)
theorem dX6_comesTo_216 : decode cX6_comesTo 216 = .ok (.iload_n 3, 1) := dk_29 (dk_at dksX6_comesTo_9 3 rfl rfl)
theorem dX6_comesTo_217 : decode cX6_comesTo 217 = .ok (.iconst 1, 1) := dk_4 (dk_at dksX6_comesTo_9 4 rfl rfl)
theorem dX6_comesTo_218 : decode cX6_comesTo 218 = .ok (.isub, 1) := dk_100 (dk_at dksX6_comesTo_9 5 rfl rfl)
theorem dX6_comesTo_219 : decode cX6_comesTo 219 = .ok (.iaload, 1) := dk_46 (dk_at dksX6_comesTo_9 6 rfl rfl)
theorem dX6_comesTo_220 : decode cX6_comesTo 220 = .ok (.aload_n 0, 1) := dk_42 (dk_at dksX6_comesTo_9 7 rfl rfl)
theorem dX6_comesTo_221 : decode cX6_comesTo 221 = .ok (.getfield 66, 3) := dk_180 0 66 (dk_at dksX6_comesTo_9 8 rfl rfl)
theorem dX6_comesTo_224 : decode cX6_comesTo 224 = .ok (.iload_n 3, 1) := dk_29 (dk_at dksX6_comesTo_9 11 rfl rfl)
theorem dX6_comesTo_225 : decode cX6_comesTo 225 = .ok (.iaload, 1) := dk_46 (dk_at dksX6_comesTo_9 12 rfl rfl)
theorem dX6_comesTo_226 : decode cX6_comesTo 226 = .ok (.invokestatic 254, 3) := dk_184 0 254 (dk_at dksX6_comesTo_9 13 rfl rfl)
theorem dX6_comesTo_229 : decode cX6_comesTo 229 = .ok (.iastore, 1) := dk_79 (dk_at dksX6_comesTo_9 16 rfl rfl)
theorem dX6_comesTo_230 : decode cX6_comesTo 230 = .ok (.goto (-214), 3) := dk_167 255 42 (dk_at dksX6_comesTo_9 17 rfl rfl)
theorem dX6_comesTo_233 : decode cX6_comesTo 233 = .ok (.aload_n 0, 1) := dk_42 (dk_at dksX6_comesTo_9 20 rfl rfl)
theorem dX6_comesTo_234 : decode cX6_comesTo 234 = .ok (.getfield 66, 3) := dk_180 0 66 (dk_at dksX6_comesTo_9 21 rfl rfl)
theorem dX6_comesTo_237 : decode cX6_comesTo 237 = .ok (.iconst 0, 1) := dk_3 (dk_at dksX6_comesTo_10 0 rfl rfl)
theorem dX6_comesTo_238 : decode cX6_comesTo 238 = .ok (.iaload, 1) := dk_46 (dk_at dksX6_comesTo_10 1 rfl rfl)
theorem dX6_comesTo_239 : decode cX6_comesTo 239 = .ok (.ireturn, 1) := dk_172 (dk_at dksX6_comesTo_10 2 rfl rfl)
abbrev cX6_reckon : ByteArray := prog_17_method_39_code
def yX6_reckon : MethodName := ⟨RX6, "reckon", "(III)I"⟩
def dkwX6_reckon_4 : List UInt8 := [160, 0, 7, 4, 167, 0, 4, 3, 172]
abbrev dktX6_reckon_4 : List UInt8 := dkwX6_reckon_4 ++ []
def dkwX6_reckon_3 : List UInt8 := [162, 0, 7, 4, 167, 0, 4, 3, 172, 27, 28, 164, 0, 7, 4, 167, 0, 4, 3, 172, 27, 28]
abbrev dktX6_reckon_3 : List UInt8 := dkwX6_reckon_3 ++ dktX6_reckon_4
def dkwX6_reckon_2 : List UInt8 := [27, 28, 96, 172, 27, 28, 100, 172, 27, 28, 104, 172, 27, 28, 108, 172, 27, 28, 112, 172, 27, 28]
abbrev dktX6_reckon_2 : List UInt8 := dkwX6_reckon_2 ++ dktX6_reckon_3
def dkwX6_reckon_1 : List UInt8 := [170, 0, 0, 0, 0, 0, 85, 0, 0, 0, 2, 0, 0, 0, 8, 0, 0, 0, 43, 0, 0, 0, 47, 0, 0, 0, 51, 0, 0, 0, 55, 0, 0, 0, 59, 0, 0, 0, 63, 0, 0, 0, 74]
abbrev dktX6_reckon_1 : List UInt8 := dkwX6_reckon_1 ++ dktX6_reckon_2
def dkwX6_reckon_0 : List UInt8 := [26]
abbrev dktX6_reckon_0 : List UInt8 := dkwX6_reckon_0 ++ dktX6_reckon_1
theorem dksX6_reckon_0 : cX6_reckon.data.toList.drop 0 = dktX6_reckon_0 := by decide +kernel
theorem dksX6_reckon_1 : cX6_reckon.data.toList.drop 1 = dktX6_reckon_1 := dk_seg dksX6_reckon_0 1 rfl rfl
theorem dksX6_reckon_2 : cX6_reckon.data.toList.drop 44 = dktX6_reckon_2 := dk_seg dksX6_reckon_1 43 rfl rfl
theorem dksX6_reckon_3 : cX6_reckon.data.toList.drop 66 = dktX6_reckon_3 := dk_seg dksX6_reckon_2 22 rfl rfl
theorem dksX6_reckon_4 : cX6_reckon.data.toList.drop 88 = dktX6_reckon_4 := dk_seg dksX6_reckon_3 22 rfl rfl
theorem dX6_reckon_0 : decode cX6_reckon 0 = .ok (.iload_n 0, 1) := dk_26 (dk_at dksX6_reckon_0 0 rfl rfl)
theorem dX6_reckon_1 : decode cX6_reckon 1 = .ok (.tableswitch 85 2 8 #[43, 47, 51, 55, 59, 63, 74], 43) := by decide +kernel
theorem dX6_reckon_44 : decode cX6_reckon 44 = .ok (.iload_n 1, 1) := dk_27 (dk_at dksX6_reckon_2 0 rfl rfl)
theorem dX6_reckon_45 : decode cX6_reckon 45 = .ok (.iload_n 2, 1) := dk_28 (dk_at dksX6_reckon_2 1 rfl rfl)
theorem dX6_reckon_46 : decode cX6_reckon 46 = .ok (.iadd, 1) := dk_96 (dk_at dksX6_reckon_2 2 rfl rfl)
theorem dX6_reckon_47 : decode cX6_reckon 47 = .ok (.ireturn, 1) := dk_172 (dk_at dksX6_reckon_2 3 rfl rfl)
theorem dX6_reckon_48 : decode cX6_reckon 48 = .ok (.iload_n 1, 1) := dk_27 (dk_at dksX6_reckon_2 4 rfl rfl)
theorem dX6_reckon_49 : decode cX6_reckon 49 = .ok (.iload_n 2, 1) := dk_28 (dk_at dksX6_reckon_2 5 rfl rfl)
theorem dX6_reckon_50 : decode cX6_reckon 50 = .ok (.isub, 1) := dk_100 (dk_at dksX6_reckon_2 6 rfl rfl)
theorem dX6_reckon_51 : decode cX6_reckon 51 = .ok (.ireturn, 1) := dk_172 (dk_at dksX6_reckon_2 7 rfl rfl)
theorem dX6_reckon_52 : decode cX6_reckon 52 = .ok (.iload_n 1, 1) := dk_27 (dk_at dksX6_reckon_2 8 rfl rfl)
theorem dX6_reckon_53 : decode cX6_reckon 53 = .ok (.iload_n 2, 1) := dk_28 (dk_at dksX6_reckon_2 9 rfl rfl)
theorem dX6_reckon_54 : decode cX6_reckon 54 = .ok (.imul, 1) := dk_104 (dk_at dksX6_reckon_2 10 rfl rfl)
theorem dX6_reckon_55 : decode cX6_reckon 55 = .ok (.ireturn, 1) := dk_172 (dk_at dksX6_reckon_2 11 rfl rfl)
theorem dX6_reckon_56 : decode cX6_reckon 56 = .ok (.iload_n 1, 1) := dk_27 (dk_at dksX6_reckon_2 12 rfl rfl)
theorem dX6_reckon_57 : decode cX6_reckon 57 = .ok (.iload_n 2, 1) := dk_28 (dk_at dksX6_reckon_2 13 rfl rfl)
theorem dX6_reckon_58 : decode cX6_reckon 58 = .ok (.idiv, 1) := dk_108 (dk_at dksX6_reckon_2 14 rfl rfl)
theorem dX6_reckon_59 : decode cX6_reckon 59 = .ok (.ireturn, 1) := dk_172 (dk_at dksX6_reckon_2 15 rfl rfl)
theorem dX6_reckon_60 : decode cX6_reckon 60 = .ok (.iload_n 1, 1) := dk_27 (dk_at dksX6_reckon_2 16 rfl rfl)
theorem dX6_reckon_61 : decode cX6_reckon 61 = .ok (.iload_n 2, 1) := dk_28 (dk_at dksX6_reckon_2 17 rfl rfl)
theorem dX6_reckon_62 : decode cX6_reckon 62 = .ok (.irem, 1) := dk_112 (dk_at dksX6_reckon_2 18 rfl rfl)
theorem dX6_reckon_63 : decode cX6_reckon 63 = .ok (.ireturn, 1) := dk_172 (dk_at dksX6_reckon_2 19 rfl rfl)
theorem dX6_reckon_64 : decode cX6_reckon 64 = .ok (.iload_n 1, 1) := dk_27 (dk_at dksX6_reckon_2 20 rfl rfl)
theorem dX6_reckon_65 : decode cX6_reckon 65 = .ok (.iload_n 2, 1) := dk_28 (dk_at dksX6_reckon_2 21 rfl rfl)
theorem dX6_reckon_66 : decode cX6_reckon 66 = .ok (.if_icmp .ge 7, 3) := dk_162 0 7 (dk_at dksX6_reckon_3 0 rfl rfl)
theorem dX6_reckon_69 : decode cX6_reckon 69 = .ok (.iconst 1, 1) := dk_4 (dk_at dksX6_reckon_3 3 rfl rfl)
theorem dX6_reckon_70 : decode cX6_reckon 70 = .ok (.goto 4, 3) := dk_167 0 4 (dk_at dksX6_reckon_3 4 rfl rfl)
theorem dX6_reckon_73 : decode cX6_reckon 73 = .ok (.iconst 0, 1) := dk_3 (dk_at dksX6_reckon_3 7 rfl rfl)
theorem dX6_reckon_74 : decode cX6_reckon 74 = .ok (.ireturn, 1) := dk_172 (dk_at dksX6_reckon_3 8 rfl rfl)
theorem dX6_reckon_75 : decode cX6_reckon 75 = .ok (.iload_n 1, 1) := dk_27 (dk_at dksX6_reckon_3 9 rfl rfl)
theorem dX6_reckon_76 : decode cX6_reckon 76 = .ok (.iload_n 2, 1) := dk_28 (dk_at dksX6_reckon_3 10 rfl rfl)
theorem dX6_reckon_77 : decode cX6_reckon 77 = .ok (.if_icmp .le 7, 3) := dk_164 0 7 (dk_at dksX6_reckon_3 11 rfl rfl)
theorem dX6_reckon_80 : decode cX6_reckon 80 = .ok (.iconst 1, 1) := dk_4 (dk_at dksX6_reckon_3 14 rfl rfl)
theorem dX6_reckon_81 : decode cX6_reckon 81 = .ok (.goto 4, 3) := dk_167 0 4 (dk_at dksX6_reckon_3 15 rfl rfl)
theorem dX6_reckon_84 : decode cX6_reckon 84 = .ok (.iconst 0, 1) := dk_3 (dk_at dksX6_reckon_3 18 rfl rfl)
theorem dX6_reckon_85 : decode cX6_reckon 85 = .ok (.ireturn, 1) := dk_172 (dk_at dksX6_reckon_3 19 rfl rfl)
theorem dX6_reckon_86 : decode cX6_reckon 86 = .ok (.iload_n 1, 1) := dk_27 (dk_at dksX6_reckon_3 20 rfl rfl)
theorem dX6_reckon_87 : decode cX6_reckon 87 = .ok (.iload_n 2, 1) := dk_28 (dk_at dksX6_reckon_3 21 rfl rfl)
theorem dX6_reckon_88 : decode cX6_reckon 88 = .ok (.if_icmp .ne 7, 3) := dk_160 0 7 (dk_at dksX6_reckon_4 0 rfl rfl)
theorem dX6_reckon_91 : decode cX6_reckon 91 = .ok (.iconst 1, 1) := dk_4 (dk_at dksX6_reckon_4 3 rfl rfl)
theorem dX6_reckon_92 : decode cX6_reckon 92 = .ok (.goto 4, 3) := dk_167 0 4 (dk_at dksX6_reckon_4 4 rfl rfl)
theorem dX6_reckon_95 : decode cX6_reckon 95 = .ok (.iconst 0, 1) := dk_3 (dk_at dksX6_reckon_4 7 rfl rfl)
theorem dX6_reckon_96 : decode cX6_reckon 96 = .ok (.ireturn, 1) := dk_172 (dk_at dksX6_reckon_4 8 rfl rfl)
abbrev cX6_isStep : ByteArray := prog_17_method_50_code
def yX6_isStep : MethodName := ⟨RX6, "isStep", "(II)Z"⟩
def dkwX6_isStep_0 : List UInt8 := [42, 180, 0, 72, 16, 40, 27, 104, 28, 96, 46, 18, 129, 162, 0, 7, 4, 167, 0, 4, 3, 172]
abbrev dktX6_isStep_0 : List UInt8 := dkwX6_isStep_0 ++ []
theorem dksX6_isStep_0 : cX6_isStep.data.toList.drop 0 = dktX6_isStep_0 := by decide +kernel
theorem dX6_isStep_0 : decode cX6_isStep 0 = .ok (.aload_n 0, 1) := dk_42 (dk_at dksX6_isStep_0 0 rfl rfl)
theorem dX6_isStep_1 : decode cX6_isStep 1 = .ok (.getfield 72, 3) := dk_180 0 72 (dk_at dksX6_isStep_0 1 rfl rfl)
theorem dX6_isStep_4 : decode cX6_isStep 4 = .ok (.bipush 40, 2) := dk_16 40 (dk_at dksX6_isStep_0 4 rfl rfl)
theorem dX6_isStep_6 : decode cX6_isStep 6 = .ok (.iload_n 1, 1) := dk_27 (dk_at dksX6_isStep_0 6 rfl rfl)
theorem dX6_isStep_7 : decode cX6_isStep 7 = .ok (.imul, 1) := dk_104 (dk_at dksX6_isStep_0 7 rfl rfl)
theorem dX6_isStep_8 : decode cX6_isStep 8 = .ok (.iload_n 2, 1) := dk_28 (dk_at dksX6_isStep_0 8 rfl rfl)
theorem dX6_isStep_9 : decode cX6_isStep 9 = .ok (.iadd, 1) := dk_96 (dk_at dksX6_isStep_0 9 rfl rfl)
theorem dX6_isStep_10 : decode cX6_isStep 10 = .ok (.iaload, 1) := dk_46 (dk_at dksX6_isStep_0 10 rfl rfl)
theorem dX6_isStep_11 : decode cX6_isStep 11 = .ok (.ldc 129, 2) := dk_18 129 (dk_at dksX6_isStep_0 11 rfl rfl)
theorem dX6_isStep_13 : decode cX6_isStep 13 = .ok (.if_icmp .ge 7, 3) := dk_162 0 7 (dk_at dksX6_isStep_0 13 rfl rfl)
theorem dX6_isStep_16 : decode cX6_isStep 16 = .ok (.iconst 1, 1) := dk_4 (dk_at dksX6_isStep_0 16 rfl rfl)
theorem dX6_isStep_17 : decode cX6_isStep 17 = .ok (.goto 4, 3) := dk_167 0 4 (dk_at dksX6_isStep_0 17 rfl rfl)
theorem dX6_isStep_20 : decode cX6_isStep 20 = .ok (.iconst 0, 1) := dk_3 (dk_at dksX6_isStep_0 20 rfl rfl)
theorem dX6_isStep_21 : decode cX6_isStep 21 = .ok (.ireturn, 1) := dk_172 (dk_at dksX6_isStep_0 21 rfl rfl)
abbrev cX6_least : ByteArray := prog_17_method_56_code
def yX6_least : MethodName := ⟨RX6, "least", "(III)I"⟩
def dkwX6_least_5 : List UInt8 := [21, 5, 172]
abbrev dktX6_least_5 : List UInt8 := dkwX6_least_5 ++ []
def dkwX6_least_4 : List UInt8 := [54, 6, 21, 6, 29, 162, 0, 18, 42, 21, 5, 28, 182, 1, 53, 54, 5, 132, 6, 1, 167, 255, 238]
abbrev dktX6_least_4 : List UInt8 := dkwX6_least_4 ++ dktX6_least_5
def dkwX6_least_3 : List UInt8 := [160, 0, 9, 21, 4, 16, 64, 112, 172, 29, 21, 4, 16, 64, 112, 164, 0, 5, 2, 172, 27, 54, 5, 3]
abbrev dktX6_least_3 : List UInt8 := dkwX6_least_3 ++ dktX6_least_4
def dkwX6_least_2 : List UInt8 := [18, 129, 161, 0, 6, 16, 254, 172, 29, 2, 160, 0, 9, 21, 4, 16, 64, 108, 172, 29, 16, 40]
abbrev dktX6_least_2 : List UInt8 := dkwX6_least_2 ++ dktX6_least_3
def dkwX6_least_1 : List UInt8 := [154, 0, 5, 2, 172, 42, 182, 1, 50, 42, 180, 0, 81, 16, 40, 27, 104, 28, 96, 46, 54, 4, 21, 4]
abbrev dktX6_least_1 : List UInt8 := dkwX6_least_1 ++ dktX6_least_2
def dkwX6_least_0 : List UInt8 := [42, 27, 182, 0, 154, 153, 0, 21, 42, 28, 182, 0, 154, 153, 0, 13, 29, 2, 16, 40, 184, 0, 139]
abbrev dktX6_least_0 : List UInt8 := dkwX6_least_0 ++ dktX6_least_1
theorem dksX6_least_0 : cX6_least.data.toList.drop 0 = dktX6_least_0 := by decide +kernel
theorem dksX6_least_1 : cX6_least.data.toList.drop 23 = dktX6_least_1 := dk_seg dksX6_least_0 23 rfl rfl
theorem dksX6_least_2 : cX6_least.data.toList.drop 47 = dktX6_least_2 := dk_seg dksX6_least_1 24 rfl rfl
theorem dksX6_least_3 : cX6_least.data.toList.drop 69 = dktX6_least_3 := dk_seg dksX6_least_2 22 rfl rfl
theorem dksX6_least_4 : cX6_least.data.toList.drop 93 = dktX6_least_4 := dk_seg dksX6_least_3 24 rfl rfl
theorem dksX6_least_5 : cX6_least.data.toList.drop 116 = dktX6_least_5 := dk_seg dksX6_least_4 23 rfl rfl
theorem dX6_least_0 : decode cX6_least 0 = .ok (.aload_n 0, 1) := dk_42 (dk_at dksX6_least_0 0 rfl rfl)
theorem dX6_least_1 : decode cX6_least 1 = .ok (.iload_n 1, 1) := dk_27 (dk_at dksX6_least_0 1 rfl rfl)
theorem dX6_least_2 : decode cX6_least 2 = .ok (.invokevirtual 154, 3) := dk_182 0 154 (dk_at dksX6_least_0 2 rfl rfl)
theorem dX6_least_5 : decode cX6_least 5 = .ok (.ifCond .eq 21, 3) := dk_153 0 21 (dk_at dksX6_least_0 5 rfl rfl)
theorem dX6_least_8 : decode cX6_least 8 = .ok (.aload_n 0, 1) := dk_42 (dk_at dksX6_least_0 8 rfl rfl)
theorem dX6_least_9 : decode cX6_least 9 = .ok (.iload_n 2, 1) := dk_28 (dk_at dksX6_least_0 9 rfl rfl)
theorem dX6_least_10 : decode cX6_least 10 = .ok (.invokevirtual 154, 3) := dk_182 0 154 (dk_at dksX6_least_0 10 rfl rfl)
theorem dX6_least_13 : decode cX6_least 13 = .ok (.ifCond .eq 13, 3) := dk_153 0 13 (dk_at dksX6_least_0 13 rfl rfl)
theorem dX6_least_16 : decode cX6_least 16 = .ok (.iload_n 3, 1) := dk_29 (dk_at dksX6_least_0 16 rfl rfl)
theorem dX6_least_17 : decode cX6_least 17 = .ok (.iconst (-1), 1) := dk_2 (dk_at dksX6_least_0 17 rfl rfl)
theorem dX6_least_18 : decode cX6_least 18 = .ok (.bipush 40, 2) := dk_16 40 (dk_at dksX6_least_0 18 rfl rfl)
theorem dX6_least_20 : decode cX6_least 20 = .ok (.invokestatic 139, 3) := dk_184 0 139 (dk_at dksX6_least_0 20 rfl rfl)
theorem dX6_least_23 : decode cX6_least 23 = .ok (.ifCond .ne 5, 3) := dk_154 0 5 (dk_at dksX6_least_1 0 rfl rfl)
theorem dX6_least_26 : decode cX6_least 26 = .ok (.iconst (-1), 1) := dk_2 (dk_at dksX6_least_1 3 rfl rfl)
theorem dX6_least_27 : decode cX6_least 27 = .ok (.ireturn, 1) := dk_172 (dk_at dksX6_least_1 4 rfl rfl)
theorem dX6_least_28 : decode cX6_least 28 = .ok (.aload_n 0, 1) := dk_42 (dk_at dksX6_least_1 5 rfl rfl)
theorem dX6_least_29 : decode cX6_least 29 = .ok (.invokevirtual 306, 3) := dk_182 1 50 (dk_at dksX6_least_1 6 rfl rfl)
theorem dX6_least_32 : decode cX6_least 32 = .ok (.aload_n 0, 1) := dk_42 (dk_at dksX6_least_1 9 rfl rfl)
theorem dX6_least_33 : decode cX6_least 33 = .ok (.getfield 81, 3) := dk_180 0 81 (dk_at dksX6_least_1 10 rfl rfl)
theorem dX6_least_36 : decode cX6_least 36 = .ok (.bipush 40, 2) := dk_16 40 (dk_at dksX6_least_1 13 rfl rfl)
theorem dX6_least_38 : decode cX6_least 38 = .ok (.iload_n 1, 1) := dk_27 (dk_at dksX6_least_1 15 rfl rfl)
theorem dX6_least_39 : decode cX6_least 39 = .ok (.imul, 1) := dk_104 (dk_at dksX6_least_1 16 rfl rfl)
theorem dX6_least_40 : decode cX6_least 40 = .ok (.iload_n 2, 1) := dk_28 (dk_at dksX6_least_1 17 rfl rfl)
theorem dX6_least_41 : decode cX6_least 41 = .ok (.iadd, 1) := dk_96 (dk_at dksX6_least_1 18 rfl rfl)
theorem dX6_least_42 : decode cX6_least 42 = .ok (.iaload, 1) := dk_46 (dk_at dksX6_least_1 19 rfl rfl)
theorem dX6_least_43 : decode cX6_least 43 = .ok (.istore 4, 2) := dk_54 4 (dk_at dksX6_least_1 20 rfl rfl)
theorem dX6_least_45 : decode cX6_least 45 = .ok (.iload 4, 2) := dk_21 4 (dk_at dksX6_least_1 22 rfl rfl)
theorem dX6_least_47 : decode cX6_least 47 = .ok (.ldc 129, 2) := dk_18 129 (dk_at dksX6_least_2 0 rfl rfl)
theorem dX6_least_49 : decode cX6_least 49 = .ok (.if_icmp .lt 6, 3) := dk_161 0 6 (dk_at dksX6_least_2 2 rfl rfl)
theorem dX6_least_52 : decode cX6_least 52 = .ok (.bipush (-2), 2) := dk_16 254 (dk_at dksX6_least_2 5 rfl rfl)
theorem dX6_least_54 : decode cX6_least 54 = .ok (.ireturn, 1) := dk_172 (dk_at dksX6_least_2 7 rfl rfl)
theorem dX6_least_55 : decode cX6_least 55 = .ok (.iload_n 3, 1) := dk_29 (dk_at dksX6_least_2 8 rfl rfl)
theorem dX6_least_56 : decode cX6_least 56 = .ok (.iconst (-1), 1) := dk_2 (dk_at dksX6_least_2 9 rfl rfl)
theorem dX6_least_57 : decode cX6_least 57 = .ok (.if_icmp .ne 9, 3) := dk_160 0 9 (dk_at dksX6_least_2 10 rfl rfl)
theorem dX6_least_60 : decode cX6_least 60 = .ok (.iload 4, 2) := dk_21 4 (dk_at dksX6_least_2 13 rfl rfl)
theorem dX6_least_62 : decode cX6_least 62 = .ok (.bipush 64, 2) := dk_16 64 (dk_at dksX6_least_2 15 rfl rfl)
theorem dX6_least_64 : decode cX6_least 64 = .ok (.idiv, 1) := dk_108 (dk_at dksX6_least_2 17 rfl rfl)
theorem dX6_least_65 : decode cX6_least 65 = .ok (.ireturn, 1) := dk_172 (dk_at dksX6_least_2 18 rfl rfl)
theorem dX6_least_66 : decode cX6_least 66 = .ok (.iload_n 3, 1) := dk_29 (dk_at dksX6_least_2 19 rfl rfl)
theorem dX6_least_67 : decode cX6_least 67 = .ok (.bipush 40, 2) := dk_16 40 (dk_at dksX6_least_2 20 rfl rfl)
theorem dX6_least_69 : decode cX6_least 69 = .ok (.if_icmp .ne 9, 3) := dk_160 0 9 (dk_at dksX6_least_3 0 rfl rfl)
theorem dX6_least_72 : decode cX6_least 72 = .ok (.iload 4, 2) := dk_21 4 (dk_at dksX6_least_3 3 rfl rfl)
theorem dX6_least_74 : decode cX6_least 74 = .ok (.bipush 64, 2) := dk_16 64 (dk_at dksX6_least_3 5 rfl rfl)
theorem dX6_least_76 : decode cX6_least 76 = .ok (.irem, 1) := dk_112 (dk_at dksX6_least_3 7 rfl rfl)
theorem dX6_least_77 : decode cX6_least 77 = .ok (.ireturn, 1) := dk_172 (dk_at dksX6_least_3 8 rfl rfl)
theorem dX6_least_78 : decode cX6_least 78 = .ok (.iload_n 3, 1) := dk_29 (dk_at dksX6_least_3 9 rfl rfl)
theorem dX6_least_79 : decode cX6_least 79 = .ok (.iload 4, 2) := dk_21 4 (dk_at dksX6_least_3 10 rfl rfl)
theorem dX6_least_81 : decode cX6_least 81 = .ok (.bipush 64, 2) := dk_16 64 (dk_at dksX6_least_3 12 rfl rfl)
theorem dX6_least_83 : decode cX6_least 83 = .ok (.irem, 1) := dk_112 (dk_at dksX6_least_3 14 rfl rfl)
theorem dX6_least_84 : decode cX6_least 84 = .ok (.if_icmp .le 5, 3) := dk_164 0 5 (dk_at dksX6_least_3 15 rfl rfl)
theorem dX6_least_87 : decode cX6_least 87 = .ok (.iconst (-1), 1) := dk_2 (dk_at dksX6_least_3 18 rfl rfl)
theorem dX6_least_88 : decode cX6_least 88 = .ok (.ireturn, 1) := dk_172 (dk_at dksX6_least_3 19 rfl rfl)
theorem dX6_least_89 : decode cX6_least 89 = .ok (.iload_n 1, 1) := dk_27 (dk_at dksX6_least_3 20 rfl rfl)
theorem dX6_least_90 : decode cX6_least 90 = .ok (.istore 5, 2) := dk_54 5 (dk_at dksX6_least_3 21 rfl rfl)
theorem dX6_least_92 : decode cX6_least 92 = .ok (.iconst 0, 1) := dk_3 (dk_at dksX6_least_3 23 rfl rfl)
theorem dX6_least_93 : decode cX6_least 93 = .ok (.istore 6, 2) := dk_54 6 (dk_at dksX6_least_4 0 rfl rfl)
theorem dX6_least_95 : decode cX6_least 95 = .ok (.iload 6, 2) := dk_21 6 (dk_at dksX6_least_4 2 rfl rfl)
theorem dX6_least_97 : decode cX6_least 97 = .ok (.iload_n 3, 1) := dk_29 (dk_at dksX6_least_4 4 rfl rfl)
theorem dX6_least_98 : decode cX6_least 98 = .ok (.if_icmp .ge 18, 3) := dk_162 0 18 (dk_at dksX6_least_4 5 rfl rfl)
theorem dX6_least_101 : decode cX6_least 101 = .ok (.aload_n 0, 1) := dk_42 (dk_at dksX6_least_4 8 rfl rfl)
theorem dX6_least_102 : decode cX6_least 102 = .ok (.iload 5, 2) := dk_21 5 (dk_at dksX6_least_4 9 rfl rfl)
theorem dX6_least_104 : decode cX6_least 104 = .ok (.iload_n 2, 1) := dk_28 (dk_at dksX6_least_4 11 rfl rfl)
theorem dX6_least_105 : decode cX6_least 105 = .ok (.invokevirtual 309, 3) := dk_182 1 53 (dk_at dksX6_least_4 12 rfl rfl)
theorem dX6_least_108 : decode cX6_least 108 = .ok (.istore 5, 2) := dk_54 5 (dk_at dksX6_least_4 15 rfl rfl)
theorem dX6_least_110 : decode cX6_least 110 = .ok (.iinc 6 1, 3) := dk_132 6 1 (dk_at dksX6_least_4 17 rfl rfl)
theorem dX6_least_113 : decode cX6_least 113 = .ok (.goto (-18), 3) := dk_167 255 238 (dk_at dksX6_least_4 20 rfl rfl)
theorem dX6_least_116 : decode cX6_least 116 = .ok (.iload 5, 2) := dk_21 5 (dk_at dksX6_least_5 0 rfl rfl)
theorem dX6_least_118 : decode cX6_least 118 = .ok (.ireturn, 1) := dk_172 (dk_at dksX6_least_5 2 rfl rfl)
abbrev cX6_laysWays : ByteArray := prog_17_method_53_code
def yX6_laysWays : MethodName := ⟨RX6, "laysWays", "()V"⟩
def dkwX6_laysWays_7 : List UInt8 := [167, 255, 163, 177]
abbrev dktX6_laysWays_7 : List UInt8 := dkwX6_laysWays_7 ++ []
def dkwX6_laysWays_6 : List UInt8 := [46, 184, 1, 44, 184, 1, 47, 79, 132, 3, 1, 167, 255, 195, 132, 2, 1, 167, 255, 179, 132, 1, 1]
abbrev dktX6_laysWays_6 : List UInt8 := dkwX6_laysWays_6 ++ dktX6_laysWays_7
def dkwX6_laysWays_5 : List UInt8 := [29, 96, 46, 42, 180, 0, 81, 16, 40, 28, 104, 27, 96, 46, 42, 180, 0, 81, 16, 40, 27, 104, 29, 96]
abbrev dktX6_laysWays_5 : List UInt8 := dkwX6_laysWays_5 ++ dktX6_laysWays_6
def dkwX6_laysWays_4 : List UInt8 := [180, 0, 130, 162, 0, 59, 42, 180, 0, 81, 16, 40, 28, 104, 29, 96, 42, 180, 0, 81, 16, 40, 28, 104]
abbrev dktX6_laysWays_4 : List UInt8 := dkwX6_laysWays_4 ++ dktX6_laysWays_5
def dkwX6_laysWays_3 : List UInt8 := [27, 42, 180, 0, 130, 162, 0, 91, 3, 61, 28, 42, 180, 0, 130, 162, 0, 75, 3, 62, 29, 42]
abbrev dktX6_laysWays_3 : List UInt8 := dkwX6_laysWays_3 ++ dktX6_laysWays_4
def dkwX6_laysWays_2 : List UInt8 := [167, 0, 9, 42, 27, 28, 182, 1, 41, 79, 132, 2, 1, 167, 255, 211, 132, 1, 1, 167, 255, 195, 3, 60]
abbrev dktX6_laysWays_2 : List UInt8 := dkwX6_laysWays_2 ++ dktX6_laysWays_3
def dkwX6_laysWays_1 : List UInt8 := [42, 180, 0, 81, 16, 40, 27, 104, 28, 96, 27, 28, 160, 0, 15, 42, 27, 182, 1, 26, 153, 0, 7, 3]
abbrev dktX6_laysWays_1 : List UInt8 := dkwX6_laysWays_1 ++ dktX6_laysWays_2
def dkwX6_laysWays_0 : List UInt8 := [42, 182, 1, 35, 3, 60, 27, 42, 180, 0, 130, 162, 0, 59, 3, 61, 28, 42, 180, 0, 130, 162, 0, 43]
abbrev dktX6_laysWays_0 : List UInt8 := dkwX6_laysWays_0 ++ dktX6_laysWays_1
theorem dksX6_laysWays_0 : cX6_laysWays.data.toList.drop 0 = dktX6_laysWays_0 := by decide +kernel
theorem dksX6_laysWays_1 : cX6_laysWays.data.toList.drop 24 = dktX6_laysWays_1 := dk_seg dksX6_laysWays_0 24 rfl rfl
theorem dksX6_laysWays_2 : cX6_laysWays.data.toList.drop 48 = dktX6_laysWays_2 := dk_seg dksX6_laysWays_1 24 rfl rfl
theorem dksX6_laysWays_3 : cX6_laysWays.data.toList.drop 72 = dktX6_laysWays_3 := dk_seg dksX6_laysWays_2 24 rfl rfl
theorem dksX6_laysWays_4 : cX6_laysWays.data.toList.drop 94 = dktX6_laysWays_4 := dk_seg dksX6_laysWays_3 22 rfl rfl
theorem dksX6_laysWays_5 : cX6_laysWays.data.toList.drop 118 = dktX6_laysWays_5 := dk_seg dksX6_laysWays_4 24 rfl rfl
theorem dksX6_laysWays_6 : cX6_laysWays.data.toList.drop 142 = dktX6_laysWays_6 := dk_seg dksX6_laysWays_5 24 rfl rfl
theorem dksX6_laysWays_7 : cX6_laysWays.data.toList.drop 165 = dktX6_laysWays_7 := dk_seg dksX6_laysWays_6 23 rfl rfl
theorem dX6_laysWays_0 : decode cX6_laysWays 0 = .ok (.aload_n 0, 1) := dk_42 (dk_at dksX6_laysWays_0 0 rfl rfl)
theorem dX6_laysWays_1 : decode cX6_laysWays 1 = .ok (.invokevirtual 291, 3) := dk_182 1 35 (dk_at dksX6_laysWays_0 1 rfl rfl)
theorem dX6_laysWays_4 : decode cX6_laysWays 4 = .ok (.iconst 0, 1) := dk_3 (dk_at dksX6_laysWays_0 4 rfl rfl)
theorem dX6_laysWays_5 : decode cX6_laysWays 5 = .ok (.istore_n 1, 1) := dk_60 (dk_at dksX6_laysWays_0 5 rfl rfl)
theorem dX6_laysWays_6 : decode cX6_laysWays 6 = .ok (.iload_n 1, 1) := dk_27 (dk_at dksX6_laysWays_0 6 rfl rfl)
theorem dX6_laysWays_7 : decode cX6_laysWays 7 = .ok (.aload_n 0, 1) := dk_42 (dk_at dksX6_laysWays_0 7 rfl rfl)
theorem dX6_laysWays_8 : decode cX6_laysWays 8 = .ok (.getfield 130, 3) := dk_180 0 130 (dk_at dksX6_laysWays_0 8 rfl rfl)
theorem dX6_laysWays_11 : decode cX6_laysWays 11 = .ok (.if_icmp .ge 59, 3) := dk_162 0 59 (dk_at dksX6_laysWays_0 11 rfl rfl)
theorem dX6_laysWays_14 : decode cX6_laysWays 14 = .ok (.iconst 0, 1) := dk_3 (dk_at dksX6_laysWays_0 14 rfl rfl)
theorem dX6_laysWays_15 : decode cX6_laysWays 15 = .ok (.istore_n 2, 1) := dk_61 (dk_at dksX6_laysWays_0 15 rfl rfl)
theorem dX6_laysWays_16 : decode cX6_laysWays 16 = .ok (.iload_n 2, 1) := dk_28 (dk_at dksX6_laysWays_0 16 rfl rfl)
theorem dX6_laysWays_17 : decode cX6_laysWays 17 = .ok (.aload_n 0, 1) := dk_42 (dk_at dksX6_laysWays_0 17 rfl rfl)
theorem dX6_laysWays_18 : decode cX6_laysWays 18 = .ok (.getfield 130, 3) := dk_180 0 130 (dk_at dksX6_laysWays_0 18 rfl rfl)
theorem dX6_laysWays_21 : decode cX6_laysWays 21 = .ok (.if_icmp .ge 43, 3) := dk_162 0 43 (dk_at dksX6_laysWays_0 21 rfl rfl)
theorem dX6_laysWays_24 : decode cX6_laysWays 24 = .ok (.aload_n 0, 1) := dk_42 (dk_at dksX6_laysWays_1 0 rfl rfl)
theorem dX6_laysWays_25 : decode cX6_laysWays 25 = .ok (.getfield 81, 3) := dk_180 0 81 (dk_at dksX6_laysWays_1 1 rfl rfl)
theorem dX6_laysWays_28 : decode cX6_laysWays 28 = .ok (.bipush 40, 2) := dk_16 40 (dk_at dksX6_laysWays_1 4 rfl rfl)
theorem dX6_laysWays_30 : decode cX6_laysWays 30 = .ok (.iload_n 1, 1) := dk_27 (dk_at dksX6_laysWays_1 6 rfl rfl)
theorem dX6_laysWays_31 : decode cX6_laysWays 31 = .ok (.imul, 1) := dk_104 (dk_at dksX6_laysWays_1 7 rfl rfl)
theorem dX6_laysWays_32 : decode cX6_laysWays 32 = .ok (.iload_n 2, 1) := dk_28 (dk_at dksX6_laysWays_1 8 rfl rfl)
theorem dX6_laysWays_33 : decode cX6_laysWays 33 = .ok (.iadd, 1) := dk_96 (dk_at dksX6_laysWays_1 9 rfl rfl)
theorem dX6_laysWays_34 : decode cX6_laysWays 34 = .ok (.iload_n 1, 1) := dk_27 (dk_at dksX6_laysWays_1 10 rfl rfl)
theorem dX6_laysWays_35 : decode cX6_laysWays 35 = .ok (.iload_n 2, 1) := dk_28 (dk_at dksX6_laysWays_1 11 rfl rfl)
theorem dX6_laysWays_36 : decode cX6_laysWays 36 = .ok (.if_icmp .ne 15, 3) := dk_160 0 15 (dk_at dksX6_laysWays_1 12 rfl rfl)
theorem dX6_laysWays_39 : decode cX6_laysWays 39 = .ok (.aload_n 0, 1) := dk_42 (dk_at dksX6_laysWays_1 15 rfl rfl)
theorem dX6_laysWays_40 : decode cX6_laysWays 40 = .ok (.iload_n 1, 1) := dk_27 (dk_at dksX6_laysWays_1 16 rfl rfl)
theorem dX6_laysWays_41 : decode cX6_laysWays 41 = .ok (.invokevirtual 282, 3) := dk_182 1 26 (dk_at dksX6_laysWays_1 17 rfl rfl)
theorem dX6_laysWays_44 : decode cX6_laysWays 44 = .ok (.ifCond .eq 7, 3) := dk_153 0 7 (dk_at dksX6_laysWays_1 20 rfl rfl)
theorem dX6_laysWays_47 : decode cX6_laysWays 47 = .ok (.iconst 0, 1) := dk_3 (dk_at dksX6_laysWays_1 23 rfl rfl)
theorem dX6_laysWays_48 : decode cX6_laysWays 48 = .ok (.goto 9, 3) := dk_167 0 9 (dk_at dksX6_laysWays_2 0 rfl rfl)
theorem dX6_laysWays_51 : decode cX6_laysWays 51 = .ok (.aload_n 0, 1) := dk_42 (dk_at dksX6_laysWays_2 3 rfl rfl)
theorem dX6_laysWays_52 : decode cX6_laysWays 52 = .ok (.iload_n 1, 1) := dk_27 (dk_at dksX6_laysWays_2 4 rfl rfl)
theorem dX6_laysWays_53 : decode cX6_laysWays 53 = .ok (.iload_n 2, 1) := dk_28 (dk_at dksX6_laysWays_2 5 rfl rfl)
theorem dX6_laysWays_54 : decode cX6_laysWays 54 = .ok (.invokevirtual 297, 3) := dk_182 1 41 (dk_at dksX6_laysWays_2 6 rfl rfl)
theorem dX6_laysWays_57 : decode cX6_laysWays 57 = .ok (.iastore, 1) := dk_79 (dk_at dksX6_laysWays_2 9 rfl rfl)
theorem dX6_laysWays_58 : decode cX6_laysWays 58 = .ok (.iinc 2 1, 3) := dk_132 2 1 (dk_at dksX6_laysWays_2 10 rfl rfl)
theorem dX6_laysWays_61 : decode cX6_laysWays 61 = .ok (.goto (-45), 3) := dk_167 255 211 (dk_at dksX6_laysWays_2 13 rfl rfl)
theorem dX6_laysWays_64 : decode cX6_laysWays 64 = .ok (.iinc 1 1, 3) := dk_132 1 1 (dk_at dksX6_laysWays_2 16 rfl rfl)
theorem dX6_laysWays_67 : decode cX6_laysWays 67 = .ok (.goto (-61), 3) := dk_167 255 195 (dk_at dksX6_laysWays_2 19 rfl rfl)
theorem dX6_laysWays_70 : decode cX6_laysWays 70 = .ok (.iconst 0, 1) := dk_3 (dk_at dksX6_laysWays_2 22 rfl rfl)
theorem dX6_laysWays_71 : decode cX6_laysWays 71 = .ok (.istore_n 1, 1) := dk_60 (dk_at dksX6_laysWays_2 23 rfl rfl)
theorem dX6_laysWays_72 : decode cX6_laysWays 72 = .ok (.iload_n 1, 1) := dk_27 (dk_at dksX6_laysWays_3 0 rfl rfl)
theorem dX6_laysWays_73 : decode cX6_laysWays 73 = .ok (.aload_n 0, 1) := dk_42 (dk_at dksX6_laysWays_3 1 rfl rfl)
theorem dX6_laysWays_74 : decode cX6_laysWays 74 = .ok (.getfield 130, 3) := dk_180 0 130 (dk_at dksX6_laysWays_3 2 rfl rfl)
theorem dX6_laysWays_77 : decode cX6_laysWays 77 = .ok (.if_icmp .ge 91, 3) := dk_162 0 91 (dk_at dksX6_laysWays_3 5 rfl rfl)
theorem dX6_laysWays_80 : decode cX6_laysWays 80 = .ok (.iconst 0, 1) := dk_3 (dk_at dksX6_laysWays_3 8 rfl rfl)
theorem dX6_laysWays_81 : decode cX6_laysWays 81 = .ok (.istore_n 2, 1) := dk_61 (dk_at dksX6_laysWays_3 9 rfl rfl)
theorem dX6_laysWays_82 : decode cX6_laysWays 82 = .ok (.iload_n 2, 1) := dk_28 (dk_at dksX6_laysWays_3 10 rfl rfl)
theorem dX6_laysWays_83 : decode cX6_laysWays 83 = .ok (.aload_n 0, 1) := dk_42 (dk_at dksX6_laysWays_3 11 rfl rfl)
theorem dX6_laysWays_84 : decode cX6_laysWays 84 = .ok (.getfield 130, 3) := dk_180 0 130 (dk_at dksX6_laysWays_3 12 rfl rfl)
theorem dX6_laysWays_87 : decode cX6_laysWays 87 = .ok (.if_icmp .ge 75, 3) := dk_162 0 75 (dk_at dksX6_laysWays_3 15 rfl rfl)
theorem dX6_laysWays_90 : decode cX6_laysWays 90 = .ok (.iconst 0, 1) := dk_3 (dk_at dksX6_laysWays_3 18 rfl rfl)
theorem dX6_laysWays_91 : decode cX6_laysWays 91 = .ok (.istore_n 3, 1) := dk_62 (dk_at dksX6_laysWays_3 19 rfl rfl)
theorem dX6_laysWays_92 : decode cX6_laysWays 92 = .ok (.iload_n 3, 1) := dk_29 (dk_at dksX6_laysWays_3 20 rfl rfl)
theorem dX6_laysWays_93 : decode cX6_laysWays 93 = .ok (.aload_n 0, 1) := dk_42 (dk_at dksX6_laysWays_3 21 rfl rfl)
theorem dX6_laysWays_94 : decode cX6_laysWays 94 = .ok (.getfield 130, 3) := dk_180 0 130 (dk_at dksX6_laysWays_4 0 rfl rfl)
theorem dX6_laysWays_97 : decode cX6_laysWays 97 = .ok (.if_icmp .ge 59, 3) := dk_162 0 59 (dk_at dksX6_laysWays_4 3 rfl rfl)
theorem dX6_laysWays_100 : decode cX6_laysWays 100 = .ok (.aload_n 0, 1) := dk_42 (dk_at dksX6_laysWays_4 6 rfl rfl)
theorem dX6_laysWays_101 : decode cX6_laysWays 101 = .ok (.getfield 81, 3) := dk_180 0 81 (dk_at dksX6_laysWays_4 7 rfl rfl)
theorem dX6_laysWays_104 : decode cX6_laysWays 104 = .ok (.bipush 40, 2) := dk_16 40 (dk_at dksX6_laysWays_4 10 rfl rfl)
theorem dX6_laysWays_106 : decode cX6_laysWays 106 = .ok (.iload_n 2, 1) := dk_28 (dk_at dksX6_laysWays_4 12 rfl rfl)
theorem dX6_laysWays_107 : decode cX6_laysWays 107 = .ok (.imul, 1) := dk_104 (dk_at dksX6_laysWays_4 13 rfl rfl)
theorem dX6_laysWays_108 : decode cX6_laysWays 108 = .ok (.iload_n 3, 1) := dk_29 (dk_at dksX6_laysWays_4 14 rfl rfl)
theorem dX6_laysWays_109 : decode cX6_laysWays 109 = .ok (.iadd, 1) := dk_96 (dk_at dksX6_laysWays_4 15 rfl rfl)
theorem dX6_laysWays_110 : decode cX6_laysWays 110 = .ok (.aload_n 0, 1) := dk_42 (dk_at dksX6_laysWays_4 16 rfl rfl)
theorem dX6_laysWays_111 : decode cX6_laysWays 111 = .ok (.getfield 81, 3) := dk_180 0 81 (dk_at dksX6_laysWays_4 17 rfl rfl)
theorem dX6_laysWays_114 : decode cX6_laysWays 114 = .ok (.bipush 40, 2) := dk_16 40 (dk_at dksX6_laysWays_4 20 rfl rfl)
theorem dX6_laysWays_116 : decode cX6_laysWays 116 = .ok (.iload_n 2, 1) := dk_28 (dk_at dksX6_laysWays_4 22 rfl rfl)
theorem dX6_laysWays_117 : decode cX6_laysWays 117 = .ok (.imul, 1) := dk_104 (dk_at dksX6_laysWays_4 23 rfl rfl)
theorem dX6_laysWays_118 : decode cX6_laysWays 118 = .ok (.iload_n 3, 1) := dk_29 (dk_at dksX6_laysWays_5 0 rfl rfl)
theorem dX6_laysWays_119 : decode cX6_laysWays 119 = .ok (.iadd, 1) := dk_96 (dk_at dksX6_laysWays_5 1 rfl rfl)
theorem dX6_laysWays_120 : decode cX6_laysWays 120 = .ok (.iaload, 1) := dk_46 (dk_at dksX6_laysWays_5 2 rfl rfl)
theorem dX6_laysWays_121 : decode cX6_laysWays 121 = .ok (.aload_n 0, 1) := dk_42 (dk_at dksX6_laysWays_5 3 rfl rfl)
theorem dX6_laysWays_122 : decode cX6_laysWays 122 = .ok (.getfield 81, 3) := dk_180 0 81 (dk_at dksX6_laysWays_5 4 rfl rfl)
theorem dX6_laysWays_125 : decode cX6_laysWays 125 = .ok (.bipush 40, 2) := dk_16 40 (dk_at dksX6_laysWays_5 7 rfl rfl)
theorem dX6_laysWays_127 : decode cX6_laysWays 127 = .ok (.iload_n 2, 1) := dk_28 (dk_at dksX6_laysWays_5 9 rfl rfl)
theorem dX6_laysWays_128 : decode cX6_laysWays 128 = .ok (.imul, 1) := dk_104 (dk_at dksX6_laysWays_5 10 rfl rfl)
theorem dX6_laysWays_129 : decode cX6_laysWays 129 = .ok (.iload_n 1, 1) := dk_27 (dk_at dksX6_laysWays_5 11 rfl rfl)
theorem dX6_laysWays_130 : decode cX6_laysWays 130 = .ok (.iadd, 1) := dk_96 (dk_at dksX6_laysWays_5 12 rfl rfl)
theorem dX6_laysWays_131 : decode cX6_laysWays 131 = .ok (.iaload, 1) := dk_46 (dk_at dksX6_laysWays_5 13 rfl rfl)
theorem dX6_laysWays_132 : decode cX6_laysWays 132 = .ok (.aload_n 0, 1) := dk_42 (dk_at dksX6_laysWays_5 14 rfl rfl)
theorem dX6_laysWays_133 : decode cX6_laysWays 133 = .ok (.getfield 81, 3) := dk_180 0 81 (dk_at dksX6_laysWays_5 15 rfl rfl)
theorem dX6_laysWays_136 : decode cX6_laysWays 136 = .ok (.bipush 40, 2) := dk_16 40 (dk_at dksX6_laysWays_5 18 rfl rfl)
theorem dX6_laysWays_138 : decode cX6_laysWays 138 = .ok (.iload_n 1, 1) := dk_27 (dk_at dksX6_laysWays_5 20 rfl rfl)
theorem dX6_laysWays_139 : decode cX6_laysWays 139 = .ok (.imul, 1) := dk_104 (dk_at dksX6_laysWays_5 21 rfl rfl)
theorem dX6_laysWays_140 : decode cX6_laysWays 140 = .ok (.iload_n 3, 1) := dk_29 (dk_at dksX6_laysWays_5 22 rfl rfl)
theorem dX6_laysWays_141 : decode cX6_laysWays 141 = .ok (.iadd, 1) := dk_96 (dk_at dksX6_laysWays_5 23 rfl rfl)
theorem dX6_laysWays_142 : decode cX6_laysWays 142 = .ok (.iaload, 1) := dk_46 (dk_at dksX6_laysWays_6 0 rfl rfl)
theorem dX6_laysWays_143 : decode cX6_laysWays 143 = .ok (.invokestatic 300, 3) := dk_184 1 44 (dk_at dksX6_laysWays_6 1 rfl rfl)
theorem dX6_laysWays_146 : decode cX6_laysWays 146 = .ok (.invokestatic 303, 3) := dk_184 1 47 (dk_at dksX6_laysWays_6 4 rfl rfl)
theorem dX6_laysWays_149 : decode cX6_laysWays 149 = .ok (.iastore, 1) := dk_79 (dk_at dksX6_laysWays_6 7 rfl rfl)
theorem dX6_laysWays_150 : decode cX6_laysWays 150 = .ok (.iinc 3 1, 3) := dk_132 3 1 (dk_at dksX6_laysWays_6 8 rfl rfl)
theorem dX6_laysWays_153 : decode cX6_laysWays 153 = .ok (.goto (-61), 3) := dk_167 255 195 (dk_at dksX6_laysWays_6 11 rfl rfl)
theorem dX6_laysWays_156 : decode cX6_laysWays 156 = .ok (.iinc 2 1, 3) := dk_132 2 1 (dk_at dksX6_laysWays_6 14 rfl rfl)
theorem dX6_laysWays_159 : decode cX6_laysWays 159 = .ok (.goto (-77), 3) := dk_167 255 179 (dk_at dksX6_laysWays_6 17 rfl rfl)
theorem dX6_laysWays_162 : decode cX6_laysWays 162 = .ok (.iinc 1 1, 3) := dk_132 1 1 (dk_at dksX6_laysWays_6 20 rfl rfl)
theorem dX6_laysWays_165 : decode cX6_laysWays 165 = .ok (.goto (-93), 3) := dk_167 255 163 (dk_at dksX6_laysWays_7 0 rfl rfl)
theorem dX6_laysWays_168 : decode cX6_laysWays 168 = .ok (.return_, 1) := dk_177 (dk_at dksX6_laysWays_7 3 rfl rfl)
abbrev cX6_stepWay : ByteArray := prog_17_method_52_code
def yX6_stepWay : MethodName := ⟨RX6, "stepWay", "(II)I"⟩
def dkwX6_stepWay_1 : List UInt8 := [96, 167, 0, 5, 18, 129, 172]
abbrev dktX6_stepWay_1 : List UInt8 := dkwX6_stepWay_1 ++ []
def dkwX6_stepWay_0 : List UInt8 := [42, 27, 28, 182, 1, 38, 153, 0, 22, 16, 64, 42, 180, 0, 72, 16, 40, 27, 104, 28, 96, 46, 104, 4]
abbrev dktX6_stepWay_0 : List UInt8 := dkwX6_stepWay_0 ++ dktX6_stepWay_1
theorem dksX6_stepWay_0 : cX6_stepWay.data.toList.drop 0 = dktX6_stepWay_0 := by decide +kernel
theorem dksX6_stepWay_1 : cX6_stepWay.data.toList.drop 24 = dktX6_stepWay_1 := dk_seg dksX6_stepWay_0 24 rfl rfl
theorem dX6_stepWay_0 : decode cX6_stepWay 0 = .ok (.aload_n 0, 1) := dk_42 (dk_at dksX6_stepWay_0 0 rfl rfl)
theorem dX6_stepWay_1 : decode cX6_stepWay 1 = .ok (.iload_n 1, 1) := dk_27 (dk_at dksX6_stepWay_0 1 rfl rfl)
theorem dX6_stepWay_2 : decode cX6_stepWay 2 = .ok (.iload_n 2, 1) := dk_28 (dk_at dksX6_stepWay_0 2 rfl rfl)
theorem dX6_stepWay_3 : decode cX6_stepWay 3 = .ok (.invokevirtual 294, 3) := dk_182 1 38 (dk_at dksX6_stepWay_0 3 rfl rfl)
theorem dX6_stepWay_6 : decode cX6_stepWay 6 = .ok (.ifCond .eq 22, 3) := dk_153 0 22 (dk_at dksX6_stepWay_0 6 rfl rfl)
theorem dX6_stepWay_9 : decode cX6_stepWay 9 = .ok (.bipush 64, 2) := dk_16 64 (dk_at dksX6_stepWay_0 9 rfl rfl)
theorem dX6_stepWay_11 : decode cX6_stepWay 11 = .ok (.aload_n 0, 1) := dk_42 (dk_at dksX6_stepWay_0 11 rfl rfl)
theorem dX6_stepWay_12 : decode cX6_stepWay 12 = .ok (.getfield 72, 3) := dk_180 0 72 (dk_at dksX6_stepWay_0 12 rfl rfl)
theorem dX6_stepWay_15 : decode cX6_stepWay 15 = .ok (.bipush 40, 2) := dk_16 40 (dk_at dksX6_stepWay_0 15 rfl rfl)
theorem dX6_stepWay_17 : decode cX6_stepWay 17 = .ok (.iload_n 1, 1) := dk_27 (dk_at dksX6_stepWay_0 17 rfl rfl)
theorem dX6_stepWay_18 : decode cX6_stepWay 18 = .ok (.imul, 1) := dk_104 (dk_at dksX6_stepWay_0 18 rfl rfl)
theorem dX6_stepWay_19 : decode cX6_stepWay 19 = .ok (.iload_n 2, 1) := dk_28 (dk_at dksX6_stepWay_0 19 rfl rfl)
theorem dX6_stepWay_20 : decode cX6_stepWay 20 = .ok (.iadd, 1) := dk_96 (dk_at dksX6_stepWay_0 20 rfl rfl)
theorem dX6_stepWay_21 : decode cX6_stepWay 21 = .ok (.iaload, 1) := dk_46 (dk_at dksX6_stepWay_0 21 rfl rfl)
theorem dX6_stepWay_22 : decode cX6_stepWay 22 = .ok (.imul, 1) := dk_104 (dk_at dksX6_stepWay_0 22 rfl rfl)
theorem dX6_stepWay_23 : decode cX6_stepWay 23 = .ok (.iconst 1, 1) := dk_4 (dk_at dksX6_stepWay_0 23 rfl rfl)
theorem dX6_stepWay_24 : decode cX6_stepWay 24 = .ok (.iadd, 1) := dk_96 (dk_at dksX6_stepWay_1 0 rfl rfl)
theorem dX6_stepWay_25 : decode cX6_stepWay 25 = .ok (.goto 5, 3) := dk_167 0 5 (dk_at dksX6_stepWay_1 1 rfl rfl)
theorem dX6_stepWay_28 : decode cX6_stepWay 28 = .ok (.ldc 129, 2) := dk_18 129 (dk_at dksX6_stepWay_1 4 rfl rfl)
theorem dX6_stepWay_30 : decode cX6_stepWay 30 = .ok (.ireturn, 1) := dk_172 (dk_at dksX6_stepWay_1 6 rfl rfl)
abbrev cX6_sum : ByteArray := prog_17_method_3_code
def yX6_sum : MethodName := ⟨RX6, "sum", "(II)I"⟩
def dkwX6_sum_0 : List UInt8 := [26, 18, 129, 162, 0, 9, 27, 18, 129, 161, 0, 8, 18, 129, 167, 0, 6, 26, 27, 96, 172]
abbrev dktX6_sum_0 : List UInt8 := dkwX6_sum_0 ++ []
theorem dksX6_sum_0 : cX6_sum.data.toList.drop 0 = dktX6_sum_0 := by decide +kernel
theorem dX6_sum_0 : decode cX6_sum 0 = .ok (.iload_n 0, 1) := dk_26 (dk_at dksX6_sum_0 0 rfl rfl)
theorem dX6_sum_1 : decode cX6_sum 1 = .ok (.ldc 129, 2) := dk_18 129 (dk_at dksX6_sum_0 1 rfl rfl)
theorem dX6_sum_3 : decode cX6_sum 3 = .ok (.if_icmp .ge 9, 3) := dk_162 0 9 (dk_at dksX6_sum_0 3 rfl rfl)
theorem dX6_sum_6 : decode cX6_sum 6 = .ok (.iload_n 1, 1) := dk_27 (dk_at dksX6_sum_0 6 rfl rfl)
theorem dX6_sum_7 : decode cX6_sum 7 = .ok (.ldc 129, 2) := dk_18 129 (dk_at dksX6_sum_0 7 rfl rfl)
theorem dX6_sum_9 : decode cX6_sum 9 = .ok (.if_icmp .lt 8, 3) := dk_161 0 8 (dk_at dksX6_sum_0 9 rfl rfl)
theorem dX6_sum_12 : decode cX6_sum 12 = .ok (.ldc 129, 2) := dk_18 129 (dk_at dksX6_sum_0 12 rfl rfl)
theorem dX6_sum_14 : decode cX6_sum 14 = .ok (.goto 6, 3) := dk_167 0 6 (dk_at dksX6_sum_0 14 rfl rfl)
theorem dX6_sum_17 : decode cX6_sum 17 = .ok (.iload_n 0, 1) := dk_26 (dk_at dksX6_sum_0 17 rfl rfl)
theorem dX6_sum_18 : decode cX6_sum 18 = .ok (.iload_n 1, 1) := dk_27 (dk_at dksX6_sum_0 18 rfl rfl)
theorem dX6_sum_19 : decode cX6_sum 19 = .ok (.iadd, 1) := dk_96 (dk_at dksX6_sum_0 19 rfl rfl)
theorem dX6_sum_20 : decode cX6_sum 20 = .ok (.ireturn, 1) := dk_172 (dk_at dksX6_sum_0 20 rfl rfl)
abbrev cX6_min : ByteArray := prog_17_method_4_code
def yX6_min : MethodName := ⟨RX6, "min", "(II)I"⟩
def dkwX6_min_0 : List UInt8 := [26, 27, 162, 0, 7, 26, 167, 0, 4, 27, 172]
abbrev dktX6_min_0 : List UInt8 := dkwX6_min_0 ++ []
theorem dksX6_min_0 : cX6_min.data.toList.drop 0 = dktX6_min_0 := by decide +kernel
theorem dX6_min_0 : decode cX6_min 0 = .ok (.iload_n 0, 1) := dk_26 (dk_at dksX6_min_0 0 rfl rfl)
theorem dX6_min_1 : decode cX6_min 1 = .ok (.iload_n 1, 1) := dk_27 (dk_at dksX6_min_0 1 rfl rfl)
theorem dX6_min_2 : decode cX6_min 2 = .ok (.if_icmp .ge 7, 3) := dk_162 0 7 (dk_at dksX6_min_0 2 rfl rfl)
theorem dX6_min_5 : decode cX6_min 5 = .ok (.iload_n 0, 1) := dk_26 (dk_at dksX6_min_0 5 rfl rfl)
theorem dX6_min_6 : decode cX6_min 6 = .ok (.goto 4, 3) := dk_167 0 4 (dk_at dksX6_min_0 6 rfl rfl)
theorem dX6_min_9 : decode cX6_min 9 = .ok (.iload_n 1, 1) := dk_27 (dk_at dksX6_min_0 9 rfl rfl)
theorem dX6_min_10 : decode cX6_min 10 = .ok (.ireturn, 1) := dk_172 (dk_at dksX6_min_0 10 rfl rfl)
abbrev cX6_nextOn : ByteArray := prog_17_method_55_code
def yX6_nextOn : MethodName := ⟨RX6, "nextOn", "(II)I"⟩
def dkwX6_nextOn_1 : List UInt8 := [180, 0, 81, 16, 40, 27, 104, 28, 96, 46, 159, 0, 10, 29, 4, 96, 62, 167, 255, 218, 29, 172]
abbrev dktX6_nextOn_1 : List UInt8 := dkwX6_nextOn_1 ++ []
def dkwX6_nextOn_0 : List UInt8 := [3, 62, 42, 27, 29, 182, 1, 41, 42, 180, 0, 81, 16, 40, 29, 104, 28, 96, 46, 184, 1, 44, 42]
abbrev dktX6_nextOn_0 : List UInt8 := dkwX6_nextOn_0 ++ dktX6_nextOn_1
theorem dksX6_nextOn_0 : cX6_nextOn.data.toList.drop 0 = dktX6_nextOn_0 := by decide +kernel
theorem dksX6_nextOn_1 : cX6_nextOn.data.toList.drop 23 = dktX6_nextOn_1 := dk_seg dksX6_nextOn_0 23 rfl rfl
theorem dX6_nextOn_0 : decode cX6_nextOn 0 = .ok (.iconst 0, 1) := dk_3 (dk_at dksX6_nextOn_0 0 rfl rfl)
theorem dX6_nextOn_1 : decode cX6_nextOn 1 = .ok (.istore_n 3, 1) := dk_62 (dk_at dksX6_nextOn_0 1 rfl rfl)
theorem dX6_nextOn_2 : decode cX6_nextOn 2 = .ok (.aload_n 0, 1) := dk_42 (dk_at dksX6_nextOn_0 2 rfl rfl)
theorem dX6_nextOn_3 : decode cX6_nextOn 3 = .ok (.iload_n 1, 1) := dk_27 (dk_at dksX6_nextOn_0 3 rfl rfl)
theorem dX6_nextOn_4 : decode cX6_nextOn 4 = .ok (.iload_n 3, 1) := dk_29 (dk_at dksX6_nextOn_0 4 rfl rfl)
theorem dX6_nextOn_5 : decode cX6_nextOn 5 = .ok (.invokevirtual 297, 3) := dk_182 1 41 (dk_at dksX6_nextOn_0 5 rfl rfl)
theorem dX6_nextOn_8 : decode cX6_nextOn 8 = .ok (.aload_n 0, 1) := dk_42 (dk_at dksX6_nextOn_0 8 rfl rfl)
theorem dX6_nextOn_9 : decode cX6_nextOn 9 = .ok (.getfield 81, 3) := dk_180 0 81 (dk_at dksX6_nextOn_0 9 rfl rfl)
theorem dX6_nextOn_12 : decode cX6_nextOn 12 = .ok (.bipush 40, 2) := dk_16 40 (dk_at dksX6_nextOn_0 12 rfl rfl)
theorem dX6_nextOn_14 : decode cX6_nextOn 14 = .ok (.iload_n 3, 1) := dk_29 (dk_at dksX6_nextOn_0 14 rfl rfl)
theorem dX6_nextOn_15 : decode cX6_nextOn 15 = .ok (.imul, 1) := dk_104 (dk_at dksX6_nextOn_0 15 rfl rfl)
theorem dX6_nextOn_16 : decode cX6_nextOn 16 = .ok (.iload_n 2, 1) := dk_28 (dk_at dksX6_nextOn_0 16 rfl rfl)
theorem dX6_nextOn_17 : decode cX6_nextOn 17 = .ok (.iadd, 1) := dk_96 (dk_at dksX6_nextOn_0 17 rfl rfl)
theorem dX6_nextOn_18 : decode cX6_nextOn 18 = .ok (.iaload, 1) := dk_46 (dk_at dksX6_nextOn_0 18 rfl rfl)
theorem dX6_nextOn_19 : decode cX6_nextOn 19 = .ok (.invokestatic 300, 3) := dk_184 1 44 (dk_at dksX6_nextOn_0 19 rfl rfl)
theorem dX6_nextOn_22 : decode cX6_nextOn 22 = .ok (.aload_n 0, 1) := dk_42 (dk_at dksX6_nextOn_0 22 rfl rfl)
theorem dX6_nextOn_23 : decode cX6_nextOn 23 = .ok (.getfield 81, 3) := dk_180 0 81 (dk_at dksX6_nextOn_1 0 rfl rfl)
theorem dX6_nextOn_26 : decode cX6_nextOn 26 = .ok (.bipush 40, 2) := dk_16 40 (dk_at dksX6_nextOn_1 3 rfl rfl)
theorem dX6_nextOn_28 : decode cX6_nextOn 28 = .ok (.iload_n 1, 1) := dk_27 (dk_at dksX6_nextOn_1 5 rfl rfl)
theorem dX6_nextOn_29 : decode cX6_nextOn 29 = .ok (.imul, 1) := dk_104 (dk_at dksX6_nextOn_1 6 rfl rfl)
theorem dX6_nextOn_30 : decode cX6_nextOn 30 = .ok (.iload_n 2, 1) := dk_28 (dk_at dksX6_nextOn_1 7 rfl rfl)
theorem dX6_nextOn_31 : decode cX6_nextOn 31 = .ok (.iadd, 1) := dk_96 (dk_at dksX6_nextOn_1 8 rfl rfl)
theorem dX6_nextOn_32 : decode cX6_nextOn 32 = .ok (.iaload, 1) := dk_46 (dk_at dksX6_nextOn_1 9 rfl rfl)
theorem dX6_nextOn_33 : decode cX6_nextOn 33 = .ok (.if_icmp .eq 10, 3) := dk_159 0 10 (dk_at dksX6_nextOn_1 10 rfl rfl)
theorem dX6_nextOn_36 : decode cX6_nextOn 36 = .ok (.iload_n 3, 1) := dk_29 (dk_at dksX6_nextOn_1 13 rfl rfl)
theorem dX6_nextOn_37 : decode cX6_nextOn 37 = .ok (.iconst 1, 1) := dk_4 (dk_at dksX6_nextOn_1 14 rfl rfl)
theorem dX6_nextOn_38 : decode cX6_nextOn 38 = .ok (.iadd, 1) := dk_96 (dk_at dksX6_nextOn_1 15 rfl rfl)
theorem dX6_nextOn_39 : decode cX6_nextOn 39 = .ok (.istore_n 3, 1) := dk_62 (dk_at dksX6_nextOn_1 16 rfl rfl)
theorem dX6_nextOn_40 : decode cX6_nextOn 40 = .ok (.goto (-38), 3) := dk_167 255 218 (dk_at dksX6_nextOn_1 17 rfl rfl)
theorem dX6_nextOn_43 : decode cX6_nextOn 43 = .ok (.iload_n 3, 1) := dk_29 (dk_at dksX6_nextOn_1 20 rfl rfl)
theorem dX6_nextOn_44 : decode cX6_nextOn 44 = .ok (.ireturn, 1) := dk_172 (dk_at dksX6_nextOn_1 21 rfl rfl)
abbrev cX6_howMany : ByteArray := prog_17_method_57_code
def yX6_howMany : MethodName := ⟨RX6, "howMany", "(II)J"⟩
def dkwX6_howMany_6 : List UInt8 := [167, 255, 201, 42, 180, 0, 84, 27, 47, 173]
abbrev dktX6_howMany_6 : List UInt8 := dkwX6_howMany_6 ++ []
def dkwX6_howMany_5 : List UInt8 := [180, 0, 84, 21, 5, 42, 21, 5, 28, 21, 4, 182, 1, 61, 80, 132, 5, 1, 167, 255, 216, 132, 4, 1]
abbrev dktX6_howMany_5 : List UInt8 := dkwX6_howMany_5 ++ dktX6_howMany_6
def dkwX6_howMany_4 : List UInt8 := [54, 5, 21, 5, 42, 180, 0, 130, 162, 0, 37, 42, 21, 5, 28, 182, 1, 58, 21, 4, 160, 0, 19, 42]
abbrev dktX6_howMany_4 : List UInt8 := dkwX6_howMany_4 ++ dktX6_howMany_5
def dkwX6_howMany_3 : List UInt8 := [132, 3, 1, 167, 255, 229, 42, 27, 28, 182, 1, 58, 62, 4, 54, 4, 21, 4, 29, 163, 0, 55, 3]
abbrev dktX6_howMany_3 : List UInt8 := dkwX6_howMany_3 ++ dktX6_howMany_4
def dkwX6_howMany_2 : List UInt8 := [180, 0, 130, 162, 0, 25, 42, 180, 0, 84, 29, 29, 28, 160, 0, 7, 10, 167, 0, 4, 9, 80]
abbrev dktX6_howMany_2 : List UInt8 := dkwX6_howMany_2 ++ dktX6_howMany_3
def dkwX6_howMany_1 : List UInt8 := [42, 180, 0, 81, 16, 40, 27, 104, 28, 96, 46, 18, 129, 161, 0, 5, 9, 173, 3, 62, 29, 42]
abbrev dktX6_howMany_1 : List UInt8 := dkwX6_howMany_1 ++ dktX6_howMany_2
def dkwX6_howMany_0 : List UInt8 := [42, 27, 182, 0, 154, 153, 0, 11, 42, 28, 182, 0, 154, 154, 0, 7, 20, 1, 56, 173, 42, 182, 1, 50]
abbrev dktX6_howMany_0 : List UInt8 := dkwX6_howMany_0 ++ dktX6_howMany_1
theorem dksX6_howMany_0 : cX6_howMany.data.toList.drop 0 = dktX6_howMany_0 := by decide +kernel
theorem dksX6_howMany_1 : cX6_howMany.data.toList.drop 24 = dktX6_howMany_1 := dk_seg dksX6_howMany_0 24 rfl rfl
theorem dksX6_howMany_2 : cX6_howMany.data.toList.drop 46 = dktX6_howMany_2 := dk_seg dksX6_howMany_1 22 rfl rfl
theorem dksX6_howMany_3 : cX6_howMany.data.toList.drop 68 = dktX6_howMany_3 := dk_seg dksX6_howMany_2 22 rfl rfl
theorem dksX6_howMany_4 : cX6_howMany.data.toList.drop 91 = dktX6_howMany_4 := dk_seg dksX6_howMany_3 23 rfl rfl
theorem dksX6_howMany_5 : cX6_howMany.data.toList.drop 115 = dktX6_howMany_5 := dk_seg dksX6_howMany_4 24 rfl rfl
theorem dksX6_howMany_6 : cX6_howMany.data.toList.drop 139 = dktX6_howMany_6 := dk_seg dksX6_howMany_5 24 rfl rfl
theorem dX6_howMany_0 : decode cX6_howMany 0 = .ok (.aload_n 0, 1) := dk_42 (dk_at dksX6_howMany_0 0 rfl rfl)
theorem dX6_howMany_1 : decode cX6_howMany 1 = .ok (.iload_n 1, 1) := dk_27 (dk_at dksX6_howMany_0 1 rfl rfl)
theorem dX6_howMany_2 : decode cX6_howMany 2 = .ok (.invokevirtual 154, 3) := dk_182 0 154 (dk_at dksX6_howMany_0 2 rfl rfl)
theorem dX6_howMany_5 : decode cX6_howMany 5 = .ok (.ifCond .eq 11, 3) := dk_153 0 11 (dk_at dksX6_howMany_0 5 rfl rfl)
theorem dX6_howMany_8 : decode cX6_howMany 8 = .ok (.aload_n 0, 1) := dk_42 (dk_at dksX6_howMany_0 8 rfl rfl)
theorem dX6_howMany_9 : decode cX6_howMany 9 = .ok (.iload_n 2, 1) := dk_28 (dk_at dksX6_howMany_0 9 rfl rfl)
theorem dX6_howMany_10 : decode cX6_howMany 10 = .ok (.invokevirtual 154, 3) := dk_182 0 154 (dk_at dksX6_howMany_0 10 rfl rfl)
theorem dX6_howMany_13 : decode cX6_howMany 13 = .ok (.ifCond .ne 7, 3) := dk_154 0 7 (dk_at dksX6_howMany_0 13 rfl rfl)
theorem dX6_howMany_16 : decode cX6_howMany 16 = .ok (.ldc2_w 312, 3) := dk_20 1 56 (dk_at dksX6_howMany_0 16 rfl rfl)
theorem dX6_howMany_19 : decode cX6_howMany 19 = .ok (.lreturn, 1) := dk_173 (dk_at dksX6_howMany_0 19 rfl rfl)
theorem dX6_howMany_20 : decode cX6_howMany 20 = .ok (.aload_n 0, 1) := dk_42 (dk_at dksX6_howMany_0 20 rfl rfl)
theorem dX6_howMany_21 : decode cX6_howMany 21 = .ok (.invokevirtual 306, 3) := dk_182 1 50 (dk_at dksX6_howMany_0 21 rfl rfl)
theorem dX6_howMany_24 : decode cX6_howMany 24 = .ok (.aload_n 0, 1) := dk_42 (dk_at dksX6_howMany_1 0 rfl rfl)
theorem dX6_howMany_25 : decode cX6_howMany 25 = .ok (.getfield 81, 3) := dk_180 0 81 (dk_at dksX6_howMany_1 1 rfl rfl)
theorem dX6_howMany_28 : decode cX6_howMany 28 = .ok (.bipush 40, 2) := dk_16 40 (dk_at dksX6_howMany_1 4 rfl rfl)
theorem dX6_howMany_30 : decode cX6_howMany 30 = .ok (.iload_n 1, 1) := dk_27 (dk_at dksX6_howMany_1 6 rfl rfl)
theorem dX6_howMany_31 : decode cX6_howMany 31 = .ok (.imul, 1) := dk_104 (dk_at dksX6_howMany_1 7 rfl rfl)
theorem dX6_howMany_32 : decode cX6_howMany 32 = .ok (.iload_n 2, 1) := dk_28 (dk_at dksX6_howMany_1 8 rfl rfl)
theorem dX6_howMany_33 : decode cX6_howMany 33 = .ok (.iadd, 1) := dk_96 (dk_at dksX6_howMany_1 9 rfl rfl)
theorem dX6_howMany_34 : decode cX6_howMany 34 = .ok (.iaload, 1) := dk_46 (dk_at dksX6_howMany_1 10 rfl rfl)
theorem dX6_howMany_35 : decode cX6_howMany 35 = .ok (.ldc 129, 2) := dk_18 129 (dk_at dksX6_howMany_1 11 rfl rfl)
theorem dX6_howMany_37 : decode cX6_howMany 37 = .ok (.if_icmp .lt 5, 3) := dk_161 0 5 (dk_at dksX6_howMany_1 13 rfl rfl)
theorem dX6_howMany_40 : decode cX6_howMany 40 = .ok (.lconst 0, 1) := dk_9 (dk_at dksX6_howMany_1 16 rfl rfl)
theorem dX6_howMany_41 : decode cX6_howMany 41 = .ok (.lreturn, 1) := dk_173 (dk_at dksX6_howMany_1 17 rfl rfl)
theorem dX6_howMany_42 : decode cX6_howMany 42 = .ok (.iconst 0, 1) := dk_3 (dk_at dksX6_howMany_1 18 rfl rfl)
theorem dX6_howMany_43 : decode cX6_howMany 43 = .ok (.istore_n 3, 1) := dk_62 (dk_at dksX6_howMany_1 19 rfl rfl)
theorem dX6_howMany_44 : decode cX6_howMany 44 = .ok (.iload_n 3, 1) := dk_29 (dk_at dksX6_howMany_1 20 rfl rfl)
theorem dX6_howMany_45 : decode cX6_howMany 45 = .ok (.aload_n 0, 1) := dk_42 (dk_at dksX6_howMany_1 21 rfl rfl)
theorem dX6_howMany_46 : decode cX6_howMany 46 = .ok (.getfield 130, 3) := dk_180 0 130 (dk_at dksX6_howMany_2 0 rfl rfl)
theorem dX6_howMany_49 : decode cX6_howMany 49 = .ok (.if_icmp .ge 25, 3) := dk_162 0 25 (dk_at dksX6_howMany_2 3 rfl rfl)
theorem dX6_howMany_52 : decode cX6_howMany 52 = .ok (.aload_n 0, 1) := dk_42 (dk_at dksX6_howMany_2 6 rfl rfl)
theorem dX6_howMany_53 : decode cX6_howMany 53 = .ok (.getfield 84, 3) := dk_180 0 84 (dk_at dksX6_howMany_2 7 rfl rfl)
theorem dX6_howMany_56 : decode cX6_howMany 56 = .ok (.iload_n 3, 1) := dk_29 (dk_at dksX6_howMany_2 10 rfl rfl)
theorem dX6_howMany_57 : decode cX6_howMany 57 = .ok (.iload_n 3, 1) := dk_29 (dk_at dksX6_howMany_2 11 rfl rfl)
theorem dX6_howMany_58 : decode cX6_howMany 58 = .ok (.iload_n 2, 1) := dk_28 (dk_at dksX6_howMany_2 12 rfl rfl)
theorem dX6_howMany_59 : decode cX6_howMany 59 = .ok (.if_icmp .ne 7, 3) := dk_160 0 7 (dk_at dksX6_howMany_2 13 rfl rfl)
theorem dX6_howMany_62 : decode cX6_howMany 62 = .ok (.lconst 1, 1) := dk_10 (dk_at dksX6_howMany_2 16 rfl rfl)
theorem dX6_howMany_63 : decode cX6_howMany 63 = .ok (.goto 4, 3) := dk_167 0 4 (dk_at dksX6_howMany_2 17 rfl rfl)
theorem dX6_howMany_66 : decode cX6_howMany 66 = .ok (.lconst 0, 1) := dk_9 (dk_at dksX6_howMany_2 20 rfl rfl)
theorem dX6_howMany_67 : decode cX6_howMany 67 = .ok (.lastore, 1) := dk_80 (dk_at dksX6_howMany_2 21 rfl rfl)
theorem dX6_howMany_68 : decode cX6_howMany 68 = .ok (.iinc 3 1, 3) := dk_132 3 1 (dk_at dksX6_howMany_3 0 rfl rfl)
theorem dX6_howMany_71 : decode cX6_howMany 71 = .ok (.goto (-27), 3) := dk_167 255 229 (dk_at dksX6_howMany_3 3 rfl rfl)
theorem dX6_howMany_74 : decode cX6_howMany 74 = .ok (.aload_n 0, 1) := dk_42 (dk_at dksX6_howMany_3 6 rfl rfl)
theorem dX6_howMany_75 : decode cX6_howMany 75 = .ok (.iload_n 1, 1) := dk_27 (dk_at dksX6_howMany_3 7 rfl rfl)
theorem dX6_howMany_76 : decode cX6_howMany 76 = .ok (.iload_n 2, 1) := dk_28 (dk_at dksX6_howMany_3 8 rfl rfl)
theorem dX6_howMany_77 : decode cX6_howMany 77 = .ok (.invokevirtual 314, 3) := dk_182 1 58 (dk_at dksX6_howMany_3 9 rfl rfl)
theorem dX6_howMany_80 : decode cX6_howMany 80 = .ok (.istore_n 3, 1) := dk_62 (dk_at dksX6_howMany_3 12 rfl rfl)
theorem dX6_howMany_81 : decode cX6_howMany 81 = .ok (.iconst 1, 1) := dk_4 (dk_at dksX6_howMany_3 13 rfl rfl)
theorem dX6_howMany_82 : decode cX6_howMany 82 = .ok (.istore 4, 2) := dk_54 4 (dk_at dksX6_howMany_3 14 rfl rfl)
theorem dX6_howMany_84 : decode cX6_howMany 84 = .ok (.iload 4, 2) := dk_21 4 (dk_at dksX6_howMany_3 16 rfl rfl)
theorem dX6_howMany_86 : decode cX6_howMany 86 = .ok (.iload_n 3, 1) := dk_29 (dk_at dksX6_howMany_3 18 rfl rfl)
theorem dX6_howMany_87 : decode cX6_howMany 87 = .ok (.if_icmp .gt 55, 3) := dk_163 0 55 (dk_at dksX6_howMany_3 19 rfl rfl)
theorem dX6_howMany_90 : decode cX6_howMany 90 = .ok (.iconst 0, 1) := dk_3 (dk_at dksX6_howMany_3 22 rfl rfl)
theorem dX6_howMany_91 : decode cX6_howMany 91 = .ok (.istore 5, 2) := dk_54 5 (dk_at dksX6_howMany_4 0 rfl rfl)
theorem dX6_howMany_93 : decode cX6_howMany 93 = .ok (.iload 5, 2) := dk_21 5 (dk_at dksX6_howMany_4 2 rfl rfl)
theorem dX6_howMany_95 : decode cX6_howMany 95 = .ok (.aload_n 0, 1) := dk_42 (dk_at dksX6_howMany_4 4 rfl rfl)
theorem dX6_howMany_96 : decode cX6_howMany 96 = .ok (.getfield 130, 3) := dk_180 0 130 (dk_at dksX6_howMany_4 5 rfl rfl)
theorem dX6_howMany_99 : decode cX6_howMany 99 = .ok (.if_icmp .ge 37, 3) := dk_162 0 37 (dk_at dksX6_howMany_4 8 rfl rfl)
theorem dX6_howMany_102 : decode cX6_howMany 102 = .ok (.aload_n 0, 1) := dk_42 (dk_at dksX6_howMany_4 11 rfl rfl)
theorem dX6_howMany_103 : decode cX6_howMany 103 = .ok (.iload 5, 2) := dk_21 5 (dk_at dksX6_howMany_4 12 rfl rfl)
theorem dX6_howMany_105 : decode cX6_howMany 105 = .ok (.iload_n 2, 1) := dk_28 (dk_at dksX6_howMany_4 14 rfl rfl)
theorem dX6_howMany_106 : decode cX6_howMany 106 = .ok (.invokevirtual 314, 3) := dk_182 1 58 (dk_at dksX6_howMany_4 15 rfl rfl)
theorem dX6_howMany_109 : decode cX6_howMany 109 = .ok (.iload 4, 2) := dk_21 4 (dk_at dksX6_howMany_4 18 rfl rfl)
theorem dX6_howMany_111 : decode cX6_howMany 111 = .ok (.if_icmp .ne 19, 3) := dk_160 0 19 (dk_at dksX6_howMany_4 20 rfl rfl)
theorem dX6_howMany_114 : decode cX6_howMany 114 = .ok (.aload_n 0, 1) := dk_42 (dk_at dksX6_howMany_4 23 rfl rfl)
theorem dX6_howMany_115 : decode cX6_howMany 115 = .ok (.getfield 84, 3) := dk_180 0 84 (dk_at dksX6_howMany_5 0 rfl rfl)
theorem dX6_howMany_118 : decode cX6_howMany 118 = .ok (.iload 5, 2) := dk_21 5 (dk_at dksX6_howMany_5 3 rfl rfl)
theorem dX6_howMany_120 : decode cX6_howMany 120 = .ok (.aload_n 0, 1) := dk_42 (dk_at dksX6_howMany_5 5 rfl rfl)
theorem dX6_howMany_121 : decode cX6_howMany 121 = .ok (.iload 5, 2) := dk_21 5 (dk_at dksX6_howMany_5 6 rfl rfl)
theorem dX6_howMany_123 : decode cX6_howMany 123 = .ok (.iload_n 2, 1) := dk_28 (dk_at dksX6_howMany_5 8 rfl rfl)
theorem dX6_howMany_124 : decode cX6_howMany 124 = .ok (.iload 4, 2) := dk_21 4 (dk_at dksX6_howMany_5 9 rfl rfl)
theorem dX6_howMany_126 : decode cX6_howMany 126 = .ok (.invokevirtual 317, 3) := dk_182 1 61 (dk_at dksX6_howMany_5 11 rfl rfl)
theorem dX6_howMany_129 : decode cX6_howMany 129 = .ok (.lastore, 1) := dk_80 (dk_at dksX6_howMany_5 14 rfl rfl)
theorem dX6_howMany_130 : decode cX6_howMany 130 = .ok (.iinc 5 1, 3) := dk_132 5 1 (dk_at dksX6_howMany_5 15 rfl rfl)
theorem dX6_howMany_133 : decode cX6_howMany 133 = .ok (.goto (-40), 3) := dk_167 255 216 (dk_at dksX6_howMany_5 18 rfl rfl)
theorem dX6_howMany_136 : decode cX6_howMany 136 = .ok (.iinc 4 1, 3) := dk_132 4 1 (dk_at dksX6_howMany_5 21 rfl rfl)
theorem dX6_howMany_139 : decode cX6_howMany 139 = .ok (.goto (-55), 3) := dk_167 255 201 (dk_at dksX6_howMany_6 0 rfl rfl)
theorem dX6_howMany_142 : decode cX6_howMany 142 = .ok (.aload_n 0, 1) := dk_42 (dk_at dksX6_howMany_6 3 rfl rfl)
theorem dX6_howMany_143 : decode cX6_howMany 143 = .ok (.getfield 84, 3) := dk_180 0 84 (dk_at dksX6_howMany_6 4 rfl rfl)
theorem dX6_howMany_146 : decode cX6_howMany 146 = .ok (.iload_n 1, 1) := dk_27 (dk_at dksX6_howMany_6 7 rfl rfl)
theorem dX6_howMany_147 : decode cX6_howMany 147 = .ok (.laload, 1) := dk_47 (dk_at dksX6_howMany_6 8 rfl rfl)
theorem dX6_howMany_148 : decode cX6_howMany 148 = .ok (.lreturn, 1) := dk_173 (dk_at dksX6_howMany_6 9 rfl rfl)
abbrev cX6_leastOf : ByteArray := prog_17_method_54_code
def yX6_leastOf : MethodName := ⟨RX6, "leastOf", "(II)I"⟩
def dkwX6_leastOf_1 : List UInt8 := [180, 0, 81, 16, 40, 27, 104, 28, 96, 46, 16, 64, 108, 172]
abbrev dktX6_leastOf_1 : List UInt8 := dkwX6_leastOf_1 ++ []
def dkwX6_leastOf_0 : List UInt8 := [42, 180, 0, 81, 16, 40, 27, 104, 28, 96, 46, 18, 129, 161, 0, 8, 18, 129, 167, 0, 17, 42]
abbrev dktX6_leastOf_0 : List UInt8 := dkwX6_leastOf_0 ++ dktX6_leastOf_1
theorem dksX6_leastOf_0 : cX6_leastOf.data.toList.drop 0 = dktX6_leastOf_0 := by decide +kernel
theorem dksX6_leastOf_1 : cX6_leastOf.data.toList.drop 22 = dktX6_leastOf_1 := dk_seg dksX6_leastOf_0 22 rfl rfl
theorem dX6_leastOf_0 : decode cX6_leastOf 0 = .ok (.aload_n 0, 1) := dk_42 (dk_at dksX6_leastOf_0 0 rfl rfl)
theorem dX6_leastOf_1 : decode cX6_leastOf 1 = .ok (.getfield 81, 3) := dk_180 0 81 (dk_at dksX6_leastOf_0 1 rfl rfl)
theorem dX6_leastOf_4 : decode cX6_leastOf 4 = .ok (.bipush 40, 2) := dk_16 40 (dk_at dksX6_leastOf_0 4 rfl rfl)
theorem dX6_leastOf_6 : decode cX6_leastOf 6 = .ok (.iload_n 1, 1) := dk_27 (dk_at dksX6_leastOf_0 6 rfl rfl)
theorem dX6_leastOf_7 : decode cX6_leastOf 7 = .ok (.imul, 1) := dk_104 (dk_at dksX6_leastOf_0 7 rfl rfl)
theorem dX6_leastOf_8 : decode cX6_leastOf 8 = .ok (.iload_n 2, 1) := dk_28 (dk_at dksX6_leastOf_0 8 rfl rfl)
theorem dX6_leastOf_9 : decode cX6_leastOf 9 = .ok (.iadd, 1) := dk_96 (dk_at dksX6_leastOf_0 9 rfl rfl)
theorem dX6_leastOf_10 : decode cX6_leastOf 10 = .ok (.iaload, 1) := dk_46 (dk_at dksX6_leastOf_0 10 rfl rfl)
theorem dX6_leastOf_11 : decode cX6_leastOf 11 = .ok (.ldc 129, 2) := dk_18 129 (dk_at dksX6_leastOf_0 11 rfl rfl)
theorem dX6_leastOf_13 : decode cX6_leastOf 13 = .ok (.if_icmp .lt 8, 3) := dk_161 0 8 (dk_at dksX6_leastOf_0 13 rfl rfl)
theorem dX6_leastOf_16 : decode cX6_leastOf 16 = .ok (.ldc 129, 2) := dk_18 129 (dk_at dksX6_leastOf_0 16 rfl rfl)
theorem dX6_leastOf_18 : decode cX6_leastOf 18 = .ok (.goto 17, 3) := dk_167 0 17 (dk_at dksX6_leastOf_0 18 rfl rfl)
theorem dX6_leastOf_21 : decode cX6_leastOf 21 = .ok (.aload_n 0, 1) := dk_42 (dk_at dksX6_leastOf_0 21 rfl rfl)
theorem dX6_leastOf_22 : decode cX6_leastOf 22 = .ok (.getfield 81, 3) := dk_180 0 81 (dk_at dksX6_leastOf_1 0 rfl rfl)
theorem dX6_leastOf_25 : decode cX6_leastOf 25 = .ok (.bipush 40, 2) := dk_16 40 (dk_at dksX6_leastOf_1 3 rfl rfl)
theorem dX6_leastOf_27 : decode cX6_leastOf 27 = .ok (.iload_n 1, 1) := dk_27 (dk_at dksX6_leastOf_1 5 rfl rfl)
theorem dX6_leastOf_28 : decode cX6_leastOf 28 = .ok (.imul, 1) := dk_104 (dk_at dksX6_leastOf_1 6 rfl rfl)
theorem dX6_leastOf_29 : decode cX6_leastOf 29 = .ok (.iload_n 2, 1) := dk_28 (dk_at dksX6_leastOf_1 7 rfl rfl)
theorem dX6_leastOf_30 : decode cX6_leastOf 30 = .ok (.iadd, 1) := dk_96 (dk_at dksX6_leastOf_1 8 rfl rfl)
theorem dX6_leastOf_31 : decode cX6_leastOf 31 = .ok (.iaload, 1) := dk_46 (dk_at dksX6_leastOf_1 9 rfl rfl)
theorem dX6_leastOf_32 : decode cX6_leastOf 32 = .ok (.bipush 64, 2) := dk_16 64 (dk_at dksX6_leastOf_1 10 rfl rfl)
theorem dX6_leastOf_34 : decode cX6_leastOf 34 = .ok (.idiv, 1) := dk_108 (dk_at dksX6_leastOf_1 12 rfl rfl)
theorem dX6_leastOf_35 : decode cX6_leastOf 35 = .ok (.ireturn, 1) := dk_172 (dk_at dksX6_leastOf_1 13 rfl rfl)
abbrev cX6_sumOf : ByteArray := prog_17_method_58_code
def yX6_sumOf : MethodName := ⟨RX6, "sumOf", "(III)J"⟩
def dkwX6_sumOf_3 : List UInt8 := [167, 255, 196, 22, 4, 173]
abbrev dktX6_sumOf_3 : List UInt8 := dkwX6_sumOf_3 ++ []
def dkwX6_sumOf_2 : List UInt8 := [184, 1, 44, 29, 160, 0, 15, 22, 4, 42, 180, 0, 84, 21, 6, 47, 97, 55, 4, 132, 6, 1]
abbrev dktX6_sumOf_2 : List UInt8 := dkwX6_sumOf_2 ++ dktX6_sumOf_3
def dkwX6_sumOf_1 : List UInt8 := [153, 0, 41, 42, 180, 0, 72, 16, 40, 27, 104, 21, 6, 96, 46, 42, 21, 6, 28, 182, 1, 58]
abbrev dktX6_sumOf_1 : List UInt8 := dkwX6_sumOf_1 ++ dktX6_sumOf_2
def dkwX6_sumOf_0 : List UInt8 := [9, 55, 4, 3, 54, 6, 21, 6, 42, 180, 0, 130, 162, 0, 57, 42, 27, 21, 6, 182, 1, 38]
abbrev dktX6_sumOf_0 : List UInt8 := dkwX6_sumOf_0 ++ dktX6_sumOf_1
theorem dksX6_sumOf_0 : cX6_sumOf.data.toList.drop 0 = dktX6_sumOf_0 := by decide +kernel
theorem dksX6_sumOf_1 : cX6_sumOf.data.toList.drop 22 = dktX6_sumOf_1 := dk_seg dksX6_sumOf_0 22 rfl rfl
theorem dksX6_sumOf_2 : cX6_sumOf.data.toList.drop 44 = dktX6_sumOf_2 := dk_seg dksX6_sumOf_1 22 rfl rfl
theorem dksX6_sumOf_3 : cX6_sumOf.data.toList.drop 66 = dktX6_sumOf_3 := dk_seg dksX6_sumOf_2 22 rfl rfl
theorem dX6_sumOf_0 : decode cX6_sumOf 0 = .ok (.lconst 0, 1) := dk_9 (dk_at dksX6_sumOf_0 0 rfl rfl)
theorem dX6_sumOf_1 : decode cX6_sumOf 1 = .ok (.lstore 4, 2) := dk_55 4 (dk_at dksX6_sumOf_0 1 rfl rfl)
theorem dX6_sumOf_3 : decode cX6_sumOf 3 = .ok (.iconst 0, 1) := dk_3 (dk_at dksX6_sumOf_0 3 rfl rfl)
theorem dX6_sumOf_4 : decode cX6_sumOf 4 = .ok (.istore 6, 2) := dk_54 6 (dk_at dksX6_sumOf_0 4 rfl rfl)
theorem dX6_sumOf_6 : decode cX6_sumOf 6 = .ok (.iload 6, 2) := dk_21 6 (dk_at dksX6_sumOf_0 6 rfl rfl)
theorem dX6_sumOf_8 : decode cX6_sumOf 8 = .ok (.aload_n 0, 1) := dk_42 (dk_at dksX6_sumOf_0 8 rfl rfl)
theorem dX6_sumOf_9 : decode cX6_sumOf 9 = .ok (.getfield 130, 3) := dk_180 0 130 (dk_at dksX6_sumOf_0 9 rfl rfl)
theorem dX6_sumOf_12 : decode cX6_sumOf 12 = .ok (.if_icmp .ge 57, 3) := dk_162 0 57 (dk_at dksX6_sumOf_0 12 rfl rfl)
theorem dX6_sumOf_15 : decode cX6_sumOf 15 = .ok (.aload_n 0, 1) := dk_42 (dk_at dksX6_sumOf_0 15 rfl rfl)
theorem dX6_sumOf_16 : decode cX6_sumOf 16 = .ok (.iload_n 1, 1) := dk_27 (dk_at dksX6_sumOf_0 16 rfl rfl)
theorem dX6_sumOf_17 : decode cX6_sumOf 17 = .ok (.iload 6, 2) := dk_21 6 (dk_at dksX6_sumOf_0 17 rfl rfl)
theorem dX6_sumOf_19 : decode cX6_sumOf 19 = .ok (.invokevirtual 294, 3) := dk_182 1 38 (dk_at dksX6_sumOf_0 19 rfl rfl)
theorem dX6_sumOf_22 : decode cX6_sumOf 22 = .ok (.ifCond .eq 41, 3) := dk_153 0 41 (dk_at dksX6_sumOf_1 0 rfl rfl)
theorem dX6_sumOf_25 : decode cX6_sumOf 25 = .ok (.aload_n 0, 1) := dk_42 (dk_at dksX6_sumOf_1 3 rfl rfl)
theorem dX6_sumOf_26 : decode cX6_sumOf 26 = .ok (.getfield 72, 3) := dk_180 0 72 (dk_at dksX6_sumOf_1 4 rfl rfl)
theorem dX6_sumOf_29 : decode cX6_sumOf 29 = .ok (.bipush 40, 2) := dk_16 40 (dk_at dksX6_sumOf_1 7 rfl rfl)
theorem dX6_sumOf_31 : decode cX6_sumOf 31 = .ok (.iload_n 1, 1) := dk_27 (dk_at dksX6_sumOf_1 9 rfl rfl)
theorem dX6_sumOf_32 : decode cX6_sumOf 32 = .ok (.imul, 1) := dk_104 (dk_at dksX6_sumOf_1 10 rfl rfl)
theorem dX6_sumOf_33 : decode cX6_sumOf 33 = .ok (.iload 6, 2) := dk_21 6 (dk_at dksX6_sumOf_1 11 rfl rfl)
theorem dX6_sumOf_35 : decode cX6_sumOf 35 = .ok (.iadd, 1) := dk_96 (dk_at dksX6_sumOf_1 13 rfl rfl)
theorem dX6_sumOf_36 : decode cX6_sumOf 36 = .ok (.iaload, 1) := dk_46 (dk_at dksX6_sumOf_1 14 rfl rfl)
theorem dX6_sumOf_37 : decode cX6_sumOf 37 = .ok (.aload_n 0, 1) := dk_42 (dk_at dksX6_sumOf_1 15 rfl rfl)
theorem dX6_sumOf_38 : decode cX6_sumOf 38 = .ok (.iload 6, 2) := dk_21 6 (dk_at dksX6_sumOf_1 16 rfl rfl)
theorem dX6_sumOf_40 : decode cX6_sumOf 40 = .ok (.iload_n 2, 1) := dk_28 (dk_at dksX6_sumOf_1 18 rfl rfl)
theorem dX6_sumOf_41 : decode cX6_sumOf 41 = .ok (.invokevirtual 314, 3) := dk_182 1 58 (dk_at dksX6_sumOf_1 19 rfl rfl)
theorem dX6_sumOf_44 : decode cX6_sumOf 44 = .ok (.invokestatic 300, 3) := dk_184 1 44 (dk_at dksX6_sumOf_2 0 rfl rfl)
theorem dX6_sumOf_47 : decode cX6_sumOf 47 = .ok (.iload_n 3, 1) := dk_29 (dk_at dksX6_sumOf_2 3 rfl rfl)
theorem dX6_sumOf_48 : decode cX6_sumOf 48 = .ok (.if_icmp .ne 15, 3) := dk_160 0 15 (dk_at dksX6_sumOf_2 4 rfl rfl)
theorem dX6_sumOf_51 : decode cX6_sumOf 51 = .ok (.lload 4, 2) := dk_22 4 (dk_at dksX6_sumOf_2 7 rfl rfl)
theorem dX6_sumOf_53 : decode cX6_sumOf 53 = .ok (.aload_n 0, 1) := dk_42 (dk_at dksX6_sumOf_2 9 rfl rfl)
theorem dX6_sumOf_54 : decode cX6_sumOf 54 = .ok (.getfield 84, 3) := dk_180 0 84 (dk_at dksX6_sumOf_2 10 rfl rfl)
theorem dX6_sumOf_57 : decode cX6_sumOf 57 = .ok (.iload 6, 2) := dk_21 6 (dk_at dksX6_sumOf_2 13 rfl rfl)
theorem dX6_sumOf_59 : decode cX6_sumOf 59 = .ok (.laload, 1) := dk_47 (dk_at dksX6_sumOf_2 15 rfl rfl)
theorem dX6_sumOf_60 : decode cX6_sumOf 60 = .ok (.ladd, 1) := dk_97 (dk_at dksX6_sumOf_2 16 rfl rfl)
theorem dX6_sumOf_61 : decode cX6_sumOf 61 = .ok (.lstore 4, 2) := dk_55 4 (dk_at dksX6_sumOf_2 17 rfl rfl)
theorem dX6_sumOf_63 : decode cX6_sumOf 63 = .ok (.iinc 6 1, 3) := dk_132 6 1 (dk_at dksX6_sumOf_2 19 rfl rfl)
theorem dX6_sumOf_66 : decode cX6_sumOf 66 = .ok (.goto (-60), 3) := dk_167 255 196 (dk_at dksX6_sumOf_3 0 rfl rfl)
theorem dX6_sumOf_69 : decode cX6_sumOf 69 = .ok (.lload 4, 2) := dk_22 4 (dk_at dksX6_sumOf_3 3 rfl rfl)
theorem dX6_sumOf_71 : decode cX6_sumOf 71 = .ok (.lreturn, 1) := dk_173 (dk_at dksX6_sumOf_3 5 rfl rfl)
abbrev cX6_without : ByteArray := prog_17_method_60_code
def yX6_without : MethodName := ⟨RX6, "without", "(II)J"⟩
def dkwX6_without_4 : List UInt8 := [121, 129, 66, 132, 5, 1, 167, 255, 214, 33, 173]
abbrev dktX6_without_4 : List UInt8 := dkwX6_without_4 ++ []
def dkwX6_without_3 : List UInt8 := [159, 0, 27, 21, 5, 28, 159, 0, 21, 42, 27, 28, 21, 5, 182, 1, 65, 154, 0, 10, 33, 10, 21, 5]
abbrev dktX6_without_3 : List UInt8 := dkwX6_without_3 ++ dktX6_without_4
def dkwX6_without_2 : List UInt8 := [154, 0, 7, 20, 1, 68, 173, 9, 66, 3, 54, 5, 21, 5, 42, 180, 0, 130, 162, 0, 39, 21, 5, 27]
abbrev dktX6_without_2 : List UInt8 := dkwX6_without_2 ++ dktX6_without_3
def dkwX6_without_1 : List UInt8 := [42, 27, 182, 1, 26, 153, 0, 21, 42, 28, 182, 1, 26, 153, 0, 13, 42, 27, 28, 2, 182, 1, 65]
abbrev dktX6_without_1 : List UInt8 := dkwX6_without_1 ++ dktX6_without_2
def dkwX6_without_0 : List UInt8 := [42, 27, 182, 0, 154, 153, 0, 11, 42, 28, 182, 0, 154, 154, 0, 7, 20, 1, 56, 173, 42, 182, 1, 35]
abbrev dktX6_without_0 : List UInt8 := dkwX6_without_0 ++ dktX6_without_1
theorem dksX6_without_0 : cX6_without.data.toList.drop 0 = dktX6_without_0 := by decide +kernel
theorem dksX6_without_1 : cX6_without.data.toList.drop 24 = dktX6_without_1 := dk_seg dksX6_without_0 24 rfl rfl
theorem dksX6_without_2 : cX6_without.data.toList.drop 47 = dktX6_without_2 := dk_seg dksX6_without_1 23 rfl rfl
theorem dksX6_without_3 : cX6_without.data.toList.drop 71 = dktX6_without_3 := dk_seg dksX6_without_2 24 rfl rfl
theorem dksX6_without_4 : cX6_without.data.toList.drop 95 = dktX6_without_4 := dk_seg dksX6_without_3 24 rfl rfl
theorem dX6_without_0 : decode cX6_without 0 = .ok (.aload_n 0, 1) := dk_42 (dk_at dksX6_without_0 0 rfl rfl)
theorem dX6_without_1 : decode cX6_without 1 = .ok (.iload_n 1, 1) := dk_27 (dk_at dksX6_without_0 1 rfl rfl)
theorem dX6_without_2 : decode cX6_without 2 = .ok (.invokevirtual 154, 3) := dk_182 0 154 (dk_at dksX6_without_0 2 rfl rfl)
theorem dX6_without_5 : decode cX6_without 5 = .ok (.ifCond .eq 11, 3) := dk_153 0 11 (dk_at dksX6_without_0 5 rfl rfl)
theorem dX6_without_8 : decode cX6_without 8 = .ok (.aload_n 0, 1) := dk_42 (dk_at dksX6_without_0 8 rfl rfl)
theorem dX6_without_9 : decode cX6_without 9 = .ok (.iload_n 2, 1) := dk_28 (dk_at dksX6_without_0 9 rfl rfl)
theorem dX6_without_10 : decode cX6_without 10 = .ok (.invokevirtual 154, 3) := dk_182 0 154 (dk_at dksX6_without_0 10 rfl rfl)
theorem dX6_without_13 : decode cX6_without 13 = .ok (.ifCond .ne 7, 3) := dk_154 0 7 (dk_at dksX6_without_0 13 rfl rfl)
theorem dX6_without_16 : decode cX6_without 16 = .ok (.ldc2_w 312, 3) := dk_20 1 56 (dk_at dksX6_without_0 16 rfl rfl)
theorem dX6_without_19 : decode cX6_without 19 = .ok (.lreturn, 1) := dk_173 (dk_at dksX6_without_0 19 rfl rfl)
theorem dX6_without_20 : decode cX6_without 20 = .ok (.aload_n 0, 1) := dk_42 (dk_at dksX6_without_0 20 rfl rfl)
theorem dX6_without_21 : decode cX6_without 21 = .ok (.invokevirtual 291, 3) := dk_182 1 35 (dk_at dksX6_without_0 21 rfl rfl)
theorem dX6_without_24 : decode cX6_without 24 = .ok (.aload_n 0, 1) := dk_42 (dk_at dksX6_without_1 0 rfl rfl)
theorem dX6_without_25 : decode cX6_without 25 = .ok (.iload_n 1, 1) := dk_27 (dk_at dksX6_without_1 1 rfl rfl)
theorem dX6_without_26 : decode cX6_without 26 = .ok (.invokevirtual 282, 3) := dk_182 1 26 (dk_at dksX6_without_1 2 rfl rfl)
theorem dX6_without_29 : decode cX6_without 29 = .ok (.ifCond .eq 21, 3) := dk_153 0 21 (dk_at dksX6_without_1 5 rfl rfl)
theorem dX6_without_32 : decode cX6_without 32 = .ok (.aload_n 0, 1) := dk_42 (dk_at dksX6_without_1 8 rfl rfl)
theorem dX6_without_33 : decode cX6_without 33 = .ok (.iload_n 2, 1) := dk_28 (dk_at dksX6_without_1 9 rfl rfl)
theorem dX6_without_34 : decode cX6_without 34 = .ok (.invokevirtual 282, 3) := dk_182 1 26 (dk_at dksX6_without_1 10 rfl rfl)
theorem dX6_without_37 : decode cX6_without 37 = .ok (.ifCond .eq 13, 3) := dk_153 0 13 (dk_at dksX6_without_1 13 rfl rfl)
theorem dX6_without_40 : decode cX6_without 40 = .ok (.aload_n 0, 1) := dk_42 (dk_at dksX6_without_1 16 rfl rfl)
theorem dX6_without_41 : decode cX6_without 41 = .ok (.iload_n 1, 1) := dk_27 (dk_at dksX6_without_1 17 rfl rfl)
theorem dX6_without_42 : decode cX6_without 42 = .ok (.iload_n 2, 1) := dk_28 (dk_at dksX6_without_1 18 rfl rfl)
theorem dX6_without_43 : decode cX6_without 43 = .ok (.iconst (-1), 1) := dk_2 (dk_at dksX6_without_1 19 rfl rfl)
theorem dX6_without_44 : decode cX6_without 44 = .ok (.invokevirtual 321, 3) := dk_182 1 65 (dk_at dksX6_without_1 20 rfl rfl)
theorem dX6_without_47 : decode cX6_without 47 = .ok (.ifCond .ne 7, 3) := dk_154 0 7 (dk_at dksX6_without_2 0 rfl rfl)
theorem dX6_without_50 : decode cX6_without 50 = .ok (.ldc2_w 324, 3) := dk_20 1 68 (dk_at dksX6_without_2 3 rfl rfl)
theorem dX6_without_53 : decode cX6_without 53 = .ok (.lreturn, 1) := dk_173 (dk_at dksX6_without_2 6 rfl rfl)
theorem dX6_without_54 : decode cX6_without 54 = .ok (.lconst 0, 1) := dk_9 (dk_at dksX6_without_2 7 rfl rfl)
theorem dX6_without_55 : decode cX6_without 55 = .ok (.lstore_n 3, 1) := dk_66 (dk_at dksX6_without_2 8 rfl rfl)
theorem dX6_without_56 : decode cX6_without 56 = .ok (.iconst 0, 1) := dk_3 (dk_at dksX6_without_2 9 rfl rfl)
theorem dX6_without_57 : decode cX6_without 57 = .ok (.istore 5, 2) := dk_54 5 (dk_at dksX6_without_2 10 rfl rfl)
theorem dX6_without_59 : decode cX6_without 59 = .ok (.iload 5, 2) := dk_21 5 (dk_at dksX6_without_2 12 rfl rfl)
theorem dX6_without_61 : decode cX6_without 61 = .ok (.aload_n 0, 1) := dk_42 (dk_at dksX6_without_2 14 rfl rfl)
theorem dX6_without_62 : decode cX6_without 62 = .ok (.getfield 130, 3) := dk_180 0 130 (dk_at dksX6_without_2 15 rfl rfl)
theorem dX6_without_65 : decode cX6_without 65 = .ok (.if_icmp .ge 39, 3) := dk_162 0 39 (dk_at dksX6_without_2 18 rfl rfl)
theorem dX6_without_68 : decode cX6_without 68 = .ok (.iload 5, 2) := dk_21 5 (dk_at dksX6_without_2 21 rfl rfl)
theorem dX6_without_70 : decode cX6_without 70 = .ok (.iload_n 1, 1) := dk_27 (dk_at dksX6_without_2 23 rfl rfl)
theorem dX6_without_71 : decode cX6_without 71 = .ok (.if_icmp .eq 27, 3) := dk_159 0 27 (dk_at dksX6_without_3 0 rfl rfl)
theorem dX6_without_74 : decode cX6_without 74 = .ok (.iload 5, 2) := dk_21 5 (dk_at dksX6_without_3 3 rfl rfl)
theorem dX6_without_76 : decode cX6_without 76 = .ok (.iload_n 2, 1) := dk_28 (dk_at dksX6_without_3 5 rfl rfl)
theorem dX6_without_77 : decode cX6_without 77 = .ok (.if_icmp .eq 21, 3) := dk_159 0 21 (dk_at dksX6_without_3 6 rfl rfl)
theorem dX6_without_80 : decode cX6_without 80 = .ok (.aload_n 0, 1) := dk_42 (dk_at dksX6_without_3 9 rfl rfl)
theorem dX6_without_81 : decode cX6_without 81 = .ok (.iload_n 1, 1) := dk_27 (dk_at dksX6_without_3 10 rfl rfl)
theorem dX6_without_82 : decode cX6_without 82 = .ok (.iload_n 2, 1) := dk_28 (dk_at dksX6_without_3 11 rfl rfl)
theorem dX6_without_83 : decode cX6_without 83 = .ok (.iload 5, 2) := dk_21 5 (dk_at dksX6_without_3 12 rfl rfl)
theorem dX6_without_85 : decode cX6_without 85 = .ok (.invokevirtual 321, 3) := dk_182 1 65 (dk_at dksX6_without_3 14 rfl rfl)
theorem dX6_without_88 : decode cX6_without 88 = .ok (.ifCond .ne 10, 3) := dk_154 0 10 (dk_at dksX6_without_3 17 rfl rfl)
theorem dX6_without_91 : decode cX6_without 91 = .ok (.lload_n 3, 1) := dk_33 (dk_at dksX6_without_3 20 rfl rfl)
theorem dX6_without_92 : decode cX6_without 92 = .ok (.lconst 1, 1) := dk_10 (dk_at dksX6_without_3 21 rfl rfl)
theorem dX6_without_93 : decode cX6_without 93 = .ok (.iload 5, 2) := dk_21 5 (dk_at dksX6_without_3 22 rfl rfl)
theorem dX6_without_95 : decode cX6_without 95 = .ok (.lshl, 1) := dk_121 (dk_at dksX6_without_4 0 rfl rfl)
theorem dX6_without_96 : decode cX6_without 96 = .ok (.lor, 1) := dk_129 (dk_at dksX6_without_4 1 rfl rfl)
theorem dX6_without_97 : decode cX6_without 97 = .ok (.lstore_n 3, 1) := dk_66 (dk_at dksX6_without_4 2 rfl rfl)
theorem dX6_without_98 : decode cX6_without 98 = .ok (.iinc 5 1, 3) := dk_132 5 1 (dk_at dksX6_without_4 3 rfl rfl)
theorem dX6_without_101 : decode cX6_without 101 = .ok (.goto (-42), 3) := dk_167 255 214 (dk_at dksX6_without_4 6 rfl rfl)
theorem dX6_without_104 : decode cX6_without 104 = .ok (.lload_n 3, 1) := dk_33 (dk_at dksX6_without_4 9 rfl rfl)
theorem dX6_without_105 : decode cX6_without 105 = .ok (.lreturn, 1) := dk_173 (dk_at dksX6_without_4 10 rfl rfl)
abbrev cX6_comes : ByteArray := prog_17_method_59_code
def yX6_comes : MethodName := ⟨RX6, "comes", "(III)Z"⟩
def dkwX6_comes_6 : List UInt8 := [51, 172]
abbrev dktX6_comes_6 : List UInt8 := dkwX6_comes_6 ++ []
def dkwX6_comes_5 : List UInt8 := [84, 4, 54, 4, 132, 6, 1, 167, 255, 193, 132, 5, 1, 167, 255, 175, 167, 255, 161, 42, 180, 0, 88, 28]
abbrev dktX6_comes_5 : List UInt8 := dkwX6_comes_5 ++ dktX6_comes_6
def dkwX6_comes_4 : List UInt8 := [159, 0, 28, 42, 21, 5, 21, 6, 182, 1, 38, 154, 0, 6, 167, 0, 14, 42, 180, 0, 88, 21, 6, 4]
abbrev dktX6_comes_4 : List UInt8 := dkwX6_comes_4 ++ dktX6_comes_5
def dkwX6_comes_3 : List UInt8 := [180, 0, 88, 21, 5, 51, 153, 0, 50, 42, 180, 0, 88, 21, 6, 51, 154, 0, 34, 21, 6, 29]
abbrev dktX6_comes_3 : List UInt8 := dkwX6_comes_3 ++ dktX6_comes_4
def dkwX6_comes_2 : List UInt8 := [54, 5, 21, 5, 42, 180, 0, 130, 162, 0, 78, 3, 54, 6, 21, 6, 42, 180, 0, 130, 162, 0, 60, 42]
abbrev dktX6_comes_2 : List UInt8 := dkwX6_comes_2 ++ dktX6_comes_3
def dkwX6_comes_1 : List UInt8 := [4, 167, 0, 4, 3, 84, 132, 4, 1, 167, 255, 226, 4, 54, 4, 21, 4, 153, 0, 96, 3, 54, 4, 3]
abbrev dktX6_comes_1 : List UInt8 := dkwX6_comes_1 ++ dktX6_comes_2
def dkwX6_comes_0 : List UInt8 := [3, 54, 4, 21, 4, 42, 180, 0, 130, 162, 0, 27, 42, 180, 0, 88, 21, 4, 21, 4, 27, 160, 0, 7]
abbrev dktX6_comes_0 : List UInt8 := dkwX6_comes_0 ++ dktX6_comes_1
theorem dksX6_comes_0 : cX6_comes.data.toList.drop 0 = dktX6_comes_0 := by decide +kernel
theorem dksX6_comes_1 : cX6_comes.data.toList.drop 24 = dktX6_comes_1 := dk_seg dksX6_comes_0 24 rfl rfl
theorem dksX6_comes_2 : cX6_comes.data.toList.drop 48 = dktX6_comes_2 := dk_seg dksX6_comes_1 24 rfl rfl
theorem dksX6_comes_3 : cX6_comes.data.toList.drop 72 = dktX6_comes_3 := dk_seg dksX6_comes_2 24 rfl rfl
theorem dksX6_comes_4 : cX6_comes.data.toList.drop 94 = dktX6_comes_4 := dk_seg dksX6_comes_3 22 rfl rfl
theorem dksX6_comes_5 : cX6_comes.data.toList.drop 118 = dktX6_comes_5 := dk_seg dksX6_comes_4 24 rfl rfl
theorem dksX6_comes_6 : cX6_comes.data.toList.drop 142 = dktX6_comes_6 := dk_seg dksX6_comes_5 24 rfl rfl
theorem dX6_comes_0 : decode cX6_comes 0 = .ok (.iconst 0, 1) := dk_3 (dk_at dksX6_comes_0 0 rfl rfl)
theorem dX6_comes_1 : decode cX6_comes 1 = .ok (.istore 4, 2) := dk_54 4 (dk_at dksX6_comes_0 1 rfl rfl)
theorem dX6_comes_3 : decode cX6_comes 3 = .ok (.iload 4, 2) := dk_21 4 (dk_at dksX6_comes_0 3 rfl rfl)
theorem dX6_comes_5 : decode cX6_comes 5 = .ok (.aload_n 0, 1) := dk_42 (dk_at dksX6_comes_0 5 rfl rfl)
theorem dX6_comes_6 : decode cX6_comes 6 = .ok (.getfield 130, 3) := dk_180 0 130 (dk_at dksX6_comes_0 6 rfl rfl)
theorem dX6_comes_9 : decode cX6_comes 9 = .ok (.if_icmp .ge 27, 3) := dk_162 0 27 (dk_at dksX6_comes_0 9 rfl rfl)
theorem dX6_comes_12 : decode cX6_comes 12 = .ok (.aload_n 0, 1) := dk_42 (dk_at dksX6_comes_0 12 rfl rfl)
theorem dX6_comes_13 : decode cX6_comes 13 = .ok (.getfield 88, 3) := dk_180 0 88 (dk_at dksX6_comes_0 13 rfl rfl)
theorem dX6_comes_16 : decode cX6_comes 16 = .ok (.iload 4, 2) := dk_21 4 (dk_at dksX6_comes_0 16 rfl rfl)
theorem dX6_comes_18 : decode cX6_comes 18 = .ok (.iload 4, 2) := dk_21 4 (dk_at dksX6_comes_0 18 rfl rfl)
theorem dX6_comes_20 : decode cX6_comes 20 = .ok (.iload_n 1, 1) := dk_27 (dk_at dksX6_comes_0 20 rfl rfl)
theorem dX6_comes_21 : decode cX6_comes 21 = .ok (.if_icmp .ne 7, 3) := dk_160 0 7 (dk_at dksX6_comes_0 21 rfl rfl)
theorem dX6_comes_24 : decode cX6_comes 24 = .ok (.iconst 1, 1) := dk_4 (dk_at dksX6_comes_1 0 rfl rfl)
theorem dX6_comes_25 : decode cX6_comes 25 = .ok (.goto 4, 3) := dk_167 0 4 (dk_at dksX6_comes_1 1 rfl rfl)
theorem dX6_comes_28 : decode cX6_comes 28 = .ok (.iconst 0, 1) := dk_3 (dk_at dksX6_comes_1 4 rfl rfl)
theorem dX6_comes_29 : decode cX6_comes 29 = .ok (.bastore, 1) := dk_84 (dk_at dksX6_comes_1 5 rfl rfl)
theorem dX6_comes_30 : decode cX6_comes 30 = .ok (.iinc 4 1, 3) := dk_132 4 1 (dk_at dksX6_comes_1 6 rfl rfl)
theorem dX6_comes_33 : decode cX6_comes 33 = .ok (.goto (-30), 3) := dk_167 255 226 (dk_at dksX6_comes_1 9 rfl rfl)
theorem dX6_comes_36 : decode cX6_comes 36 = .ok (.iconst 1, 1) := dk_4 (dk_at dksX6_comes_1 12 rfl rfl)
theorem dX6_comes_37 : decode cX6_comes 37 = .ok (.istore 4, 2) := dk_54 4 (dk_at dksX6_comes_1 13 rfl rfl)
theorem dX6_comes_39 : decode cX6_comes 39 = .ok (.iload 4, 2) := dk_21 4 (dk_at dksX6_comes_1 15 rfl rfl)
theorem dX6_comes_41 : decode cX6_comes 41 = .ok (.ifCond .eq 96, 3) := dk_153 0 96 (dk_at dksX6_comes_1 17 rfl rfl)
theorem dX6_comes_44 : decode cX6_comes 44 = .ok (.iconst 0, 1) := dk_3 (dk_at dksX6_comes_1 20 rfl rfl)
theorem dX6_comes_45 : decode cX6_comes 45 = .ok (.istore 4, 2) := dk_54 4 (dk_at dksX6_comes_1 21 rfl rfl)
theorem dX6_comes_47 : decode cX6_comes 47 = .ok (.iconst 0, 1) := dk_3 (dk_at dksX6_comes_1 23 rfl rfl)
theorem dX6_comes_48 : decode cX6_comes 48 = .ok (.istore 5, 2) := dk_54 5 (dk_at dksX6_comes_2 0 rfl rfl)
theorem dX6_comes_50 : decode cX6_comes 50 = .ok (.iload 5, 2) := dk_21 5 (dk_at dksX6_comes_2 2 rfl rfl)
theorem dX6_comes_52 : decode cX6_comes 52 = .ok (.aload_n 0, 1) := dk_42 (dk_at dksX6_comes_2 4 rfl rfl)
theorem dX6_comes_53 : decode cX6_comes 53 = .ok (.getfield 130, 3) := dk_180 0 130 (dk_at dksX6_comes_2 5 rfl rfl)
theorem dX6_comes_56 : decode cX6_comes 56 = .ok (.if_icmp .ge 78, 3) := dk_162 0 78 (dk_at dksX6_comes_2 8 rfl rfl)
theorem dX6_comes_59 : decode cX6_comes 59 = .ok (.iconst 0, 1) := dk_3 (dk_at dksX6_comes_2 11 rfl rfl)
theorem dX6_comes_60 : decode cX6_comes 60 = .ok (.istore 6, 2) := dk_54 6 (dk_at dksX6_comes_2 12 rfl rfl)
theorem dX6_comes_62 : decode cX6_comes 62 = .ok (.iload 6, 2) := dk_21 6 (dk_at dksX6_comes_2 14 rfl rfl)
theorem dX6_comes_64 : decode cX6_comes 64 = .ok (.aload_n 0, 1) := dk_42 (dk_at dksX6_comes_2 16 rfl rfl)
theorem dX6_comes_65 : decode cX6_comes 65 = .ok (.getfield 130, 3) := dk_180 0 130 (dk_at dksX6_comes_2 17 rfl rfl)
theorem dX6_comes_68 : decode cX6_comes 68 = .ok (.if_icmp .ge 60, 3) := dk_162 0 60 (dk_at dksX6_comes_2 20 rfl rfl)
theorem dX6_comes_71 : decode cX6_comes 71 = .ok (.aload_n 0, 1) := dk_42 (dk_at dksX6_comes_2 23 rfl rfl)
theorem dX6_comes_72 : decode cX6_comes 72 = .ok (.getfield 88, 3) := dk_180 0 88 (dk_at dksX6_comes_3 0 rfl rfl)
theorem dX6_comes_75 : decode cX6_comes 75 = .ok (.iload 5, 2) := dk_21 5 (dk_at dksX6_comes_3 3 rfl rfl)
theorem dX6_comes_77 : decode cX6_comes 77 = .ok (.baload, 1) := dk_51 (dk_at dksX6_comes_3 5 rfl rfl)
theorem dX6_comes_78 : decode cX6_comes 78 = .ok (.ifCond .eq 50, 3) := dk_153 0 50 (dk_at dksX6_comes_3 6 rfl rfl)
theorem dX6_comes_81 : decode cX6_comes 81 = .ok (.aload_n 0, 1) := dk_42 (dk_at dksX6_comes_3 9 rfl rfl)
theorem dX6_comes_82 : decode cX6_comes 82 = .ok (.getfield 88, 3) := dk_180 0 88 (dk_at dksX6_comes_3 10 rfl rfl)
theorem dX6_comes_85 : decode cX6_comes 85 = .ok (.iload 6, 2) := dk_21 6 (dk_at dksX6_comes_3 13 rfl rfl)
theorem dX6_comes_87 : decode cX6_comes 87 = .ok (.baload, 1) := dk_51 (dk_at dksX6_comes_3 15 rfl rfl)
theorem dX6_comes_88 : decode cX6_comes 88 = .ok (.ifCond .ne 34, 3) := dk_154 0 34 (dk_at dksX6_comes_3 16 rfl rfl)
theorem dX6_comes_91 : decode cX6_comes 91 = .ok (.iload 6, 2) := dk_21 6 (dk_at dksX6_comes_3 19 rfl rfl)
theorem dX6_comes_93 : decode cX6_comes 93 = .ok (.iload_n 3, 1) := dk_29 (dk_at dksX6_comes_3 21 rfl rfl)
theorem dX6_comes_94 : decode cX6_comes 94 = .ok (.if_icmp .eq 28, 3) := dk_159 0 28 (dk_at dksX6_comes_4 0 rfl rfl)
theorem dX6_comes_97 : decode cX6_comes 97 = .ok (.aload_n 0, 1) := dk_42 (dk_at dksX6_comes_4 3 rfl rfl)
theorem dX6_comes_98 : decode cX6_comes 98 = .ok (.iload 5, 2) := dk_21 5 (dk_at dksX6_comes_4 4 rfl rfl)
theorem dX6_comes_100 : decode cX6_comes 100 = .ok (.iload 6, 2) := dk_21 6 (dk_at dksX6_comes_4 6 rfl rfl)
theorem dX6_comes_102 : decode cX6_comes 102 = .ok (.invokevirtual 294, 3) := dk_182 1 38 (dk_at dksX6_comes_4 8 rfl rfl)
theorem dX6_comes_105 : decode cX6_comes 105 = .ok (.ifCond .ne 6, 3) := dk_154 0 6 (dk_at dksX6_comes_4 11 rfl rfl)
theorem dX6_comes_108 : decode cX6_comes 108 = .ok (.goto 14, 3) := dk_167 0 14 (dk_at dksX6_comes_4 14 rfl rfl)
theorem dX6_comes_111 : decode cX6_comes 111 = .ok (.aload_n 0, 1) := dk_42 (dk_at dksX6_comes_4 17 rfl rfl)
theorem dX6_comes_112 : decode cX6_comes 112 = .ok (.getfield 88, 3) := dk_180 0 88 (dk_at dksX6_comes_4 18 rfl rfl)
theorem dX6_comes_115 : decode cX6_comes 115 = .ok (.iload 6, 2) := dk_21 6 (dk_at dksX6_comes_4 21 rfl rfl)
theorem dX6_comes_117 : decode cX6_comes 117 = .ok (.iconst 1, 1) := dk_4 (dk_at dksX6_comes_4 23 rfl rfl)
theorem dX6_comes_118 : decode cX6_comes 118 = .ok (.bastore, 1) := dk_84 (dk_at dksX6_comes_5 0 rfl rfl)
theorem dX6_comes_119 : decode cX6_comes 119 = .ok (.iconst 1, 1) := dk_4 (dk_at dksX6_comes_5 1 rfl rfl)
theorem dX6_comes_120 : decode cX6_comes 120 = .ok (.istore 4, 2) := dk_54 4 (dk_at dksX6_comes_5 2 rfl rfl)
theorem dX6_comes_122 : decode cX6_comes 122 = .ok (.iinc 6 1, 3) := dk_132 6 1 (dk_at dksX6_comes_5 4 rfl rfl)
theorem dX6_comes_125 : decode cX6_comes 125 = .ok (.goto (-63), 3) := dk_167 255 193 (dk_at dksX6_comes_5 7 rfl rfl)
theorem dX6_comes_128 : decode cX6_comes 128 = .ok (.iinc 5 1, 3) := dk_132 5 1 (dk_at dksX6_comes_5 10 rfl rfl)
theorem dX6_comes_131 : decode cX6_comes 131 = .ok (.goto (-81), 3) := dk_167 255 175 (dk_at dksX6_comes_5 13 rfl rfl)
theorem dX6_comes_134 : decode cX6_comes 134 = .ok (.goto (-95), 3) := dk_167 255 161 (dk_at dksX6_comes_5 16 rfl rfl)
theorem dX6_comes_137 : decode cX6_comes 137 = .ok (.aload_n 0, 1) := dk_42 (dk_at dksX6_comes_5 19 rfl rfl)
theorem dX6_comes_138 : decode cX6_comes 138 = .ok (.getfield 88, 3) := dk_180 0 88 (dk_at dksX6_comes_5 20 rfl rfl)
theorem dX6_comes_141 : decode cX6_comes 141 = .ok (.iload_n 2, 1) := dk_28 (dk_at dksX6_comes_5 23 rfl rfl)
theorem dX6_comes_142 : decode cX6_comes 142 = .ok (.baload, 1) := dk_51 (dk_at dksX6_comes_6 0 rfl rfl)
theorem dX6_comes_143 : decode cX6_comes 143 = .ok (.ireturn, 1) := dk_172 (dk_at dksX6_comes_6 1 rfl rfl)
abbrev cX6_heap : ByteArray := prog_17_method_62_code
def yX6_heap : MethodName := ⟨RX6, "heap", "(I)I"⟩
def dkwX6_heap_1 : List UInt8 := [182, 1, 50, 42, 27, 182, 1, 70, 172]
abbrev dktX6_heap_1 : List UInt8 := dkwX6_heap_1 ++ []
def dkwX6_heap_0 : List UInt8 := [42, 27, 182, 0, 154, 154, 0, 5, 2, 172, 42, 27, 182, 1, 26, 154, 0, 6, 16, 254, 172, 42]
abbrev dktX6_heap_0 : List UInt8 := dkwX6_heap_0 ++ dktX6_heap_1
theorem dksX6_heap_0 : cX6_heap.data.toList.drop 0 = dktX6_heap_0 := by decide +kernel
theorem dksX6_heap_1 : cX6_heap.data.toList.drop 22 = dktX6_heap_1 := dk_seg dksX6_heap_0 22 rfl rfl
theorem dX6_heap_0 : decode cX6_heap 0 = .ok (.aload_n 0, 1) := dk_42 (dk_at dksX6_heap_0 0 rfl rfl)
theorem dX6_heap_1 : decode cX6_heap 1 = .ok (.iload_n 1, 1) := dk_27 (dk_at dksX6_heap_0 1 rfl rfl)
theorem dX6_heap_2 : decode cX6_heap 2 = .ok (.invokevirtual 154, 3) := dk_182 0 154 (dk_at dksX6_heap_0 2 rfl rfl)
theorem dX6_heap_5 : decode cX6_heap 5 = .ok (.ifCond .ne 5, 3) := dk_154 0 5 (dk_at dksX6_heap_0 5 rfl rfl)
theorem dX6_heap_8 : decode cX6_heap 8 = .ok (.iconst (-1), 1) := dk_2 (dk_at dksX6_heap_0 8 rfl rfl)
theorem dX6_heap_9 : decode cX6_heap 9 = .ok (.ireturn, 1) := dk_172 (dk_at dksX6_heap_0 9 rfl rfl)
theorem dX6_heap_10 : decode cX6_heap 10 = .ok (.aload_n 0, 1) := dk_42 (dk_at dksX6_heap_0 10 rfl rfl)
theorem dX6_heap_11 : decode cX6_heap 11 = .ok (.iload_n 1, 1) := dk_27 (dk_at dksX6_heap_0 11 rfl rfl)
theorem dX6_heap_12 : decode cX6_heap 12 = .ok (.invokevirtual 282, 3) := dk_182 1 26 (dk_at dksX6_heap_0 12 rfl rfl)
theorem dX6_heap_15 : decode cX6_heap 15 = .ok (.ifCond .ne 6, 3) := dk_154 0 6 (dk_at dksX6_heap_0 15 rfl rfl)
theorem dX6_heap_18 : decode cX6_heap 18 = .ok (.bipush (-2), 2) := dk_16 254 (dk_at dksX6_heap_0 18 rfl rfl)
theorem dX6_heap_20 : decode cX6_heap 20 = .ok (.ireturn, 1) := dk_172 (dk_at dksX6_heap_0 20 rfl rfl)
theorem dX6_heap_21 : decode cX6_heap 21 = .ok (.aload_n 0, 1) := dk_42 (dk_at dksX6_heap_0 21 rfl rfl)
theorem dX6_heap_22 : decode cX6_heap 22 = .ok (.invokevirtual 306, 3) := dk_182 1 50 (dk_at dksX6_heap_1 0 rfl rfl)
theorem dX6_heap_25 : decode cX6_heap 25 = .ok (.aload_n 0, 1) := dk_42 (dk_at dksX6_heap_1 3 rfl rfl)
theorem dX6_heap_26 : decode cX6_heap 26 = .ok (.iload_n 1, 1) := dk_27 (dk_at dksX6_heap_1 4 rfl rfl)
theorem dX6_heap_27 : decode cX6_heap 27 = .ok (.invokevirtual 326, 3) := dk_182 1 70 (dk_at dksX6_heap_1 5 rfl rfl)
theorem dX6_heap_30 : decode cX6_heap 30 = .ok (.ireturn, 1) := dk_172 (dk_at dksX6_heap_1 8 rfl rfl)
abbrev cX6_heapOf : ByteArray := prog_17_method_61_code
def yX6_heapOf : MethodName := ⟨RX6, "heapOf", "(I)I"⟩
def dkwX6_heapOf_1 : List UInt8 := [28, 104, 27, 96, 46, 18, 129, 161, 0, 10, 28, 4, 96, 61, 167, 255, 220, 28, 172]
abbrev dktX6_heapOf_1 : List UInt8 := dkwX6_heapOf_1 ++ []
def dkwX6_heapOf_0 : List UInt8 := [3, 61, 42, 180, 0, 81, 16, 40, 27, 104, 28, 96, 46, 18, 129, 162, 0, 19, 42, 180, 0, 81, 16, 40]
abbrev dktX6_heapOf_0 : List UInt8 := dkwX6_heapOf_0 ++ dktX6_heapOf_1
theorem dksX6_heapOf_0 : cX6_heapOf.data.toList.drop 0 = dktX6_heapOf_0 := by decide +kernel
theorem dksX6_heapOf_1 : cX6_heapOf.data.toList.drop 24 = dktX6_heapOf_1 := dk_seg dksX6_heapOf_0 24 rfl rfl
theorem dX6_heapOf_0 : decode cX6_heapOf 0 = .ok (.iconst 0, 1) := dk_3 (dk_at dksX6_heapOf_0 0 rfl rfl)
theorem dX6_heapOf_1 : decode cX6_heapOf 1 = .ok (.istore_n 2, 1) := dk_61 (dk_at dksX6_heapOf_0 1 rfl rfl)
theorem dX6_heapOf_2 : decode cX6_heapOf 2 = .ok (.aload_n 0, 1) := dk_42 (dk_at dksX6_heapOf_0 2 rfl rfl)
theorem dX6_heapOf_3 : decode cX6_heapOf 3 = .ok (.getfield 81, 3) := dk_180 0 81 (dk_at dksX6_heapOf_0 3 rfl rfl)
theorem dX6_heapOf_6 : decode cX6_heapOf 6 = .ok (.bipush 40, 2) := dk_16 40 (dk_at dksX6_heapOf_0 6 rfl rfl)
theorem dX6_heapOf_8 : decode cX6_heapOf 8 = .ok (.iload_n 1, 1) := dk_27 (dk_at dksX6_heapOf_0 8 rfl rfl)
theorem dX6_heapOf_9 : decode cX6_heapOf 9 = .ok (.imul, 1) := dk_104 (dk_at dksX6_heapOf_0 9 rfl rfl)
theorem dX6_heapOf_10 : decode cX6_heapOf 10 = .ok (.iload_n 2, 1) := dk_28 (dk_at dksX6_heapOf_0 10 rfl rfl)
theorem dX6_heapOf_11 : decode cX6_heapOf 11 = .ok (.iadd, 1) := dk_96 (dk_at dksX6_heapOf_0 11 rfl rfl)
theorem dX6_heapOf_12 : decode cX6_heapOf 12 = .ok (.iaload, 1) := dk_46 (dk_at dksX6_heapOf_0 12 rfl rfl)
theorem dX6_heapOf_13 : decode cX6_heapOf 13 = .ok (.ldc 129, 2) := dk_18 129 (dk_at dksX6_heapOf_0 13 rfl rfl)
theorem dX6_heapOf_15 : decode cX6_heapOf 15 = .ok (.if_icmp .ge 19, 3) := dk_162 0 19 (dk_at dksX6_heapOf_0 15 rfl rfl)
theorem dX6_heapOf_18 : decode cX6_heapOf 18 = .ok (.aload_n 0, 1) := dk_42 (dk_at dksX6_heapOf_0 18 rfl rfl)
theorem dX6_heapOf_19 : decode cX6_heapOf 19 = .ok (.getfield 81, 3) := dk_180 0 81 (dk_at dksX6_heapOf_0 19 rfl rfl)
theorem dX6_heapOf_22 : decode cX6_heapOf 22 = .ok (.bipush 40, 2) := dk_16 40 (dk_at dksX6_heapOf_0 22 rfl rfl)
theorem dX6_heapOf_24 : decode cX6_heapOf 24 = .ok (.iload_n 2, 1) := dk_28 (dk_at dksX6_heapOf_1 0 rfl rfl)
theorem dX6_heapOf_25 : decode cX6_heapOf 25 = .ok (.imul, 1) := dk_104 (dk_at dksX6_heapOf_1 1 rfl rfl)
theorem dX6_heapOf_26 : decode cX6_heapOf 26 = .ok (.iload_n 1, 1) := dk_27 (dk_at dksX6_heapOf_1 2 rfl rfl)
theorem dX6_heapOf_27 : decode cX6_heapOf 27 = .ok (.iadd, 1) := dk_96 (dk_at dksX6_heapOf_1 3 rfl rfl)
theorem dX6_heapOf_28 : decode cX6_heapOf 28 = .ok (.iaload, 1) := dk_46 (dk_at dksX6_heapOf_1 4 rfl rfl)
theorem dX6_heapOf_29 : decode cX6_heapOf 29 = .ok (.ldc 129, 2) := dk_18 129 (dk_at dksX6_heapOf_1 5 rfl rfl)
theorem dX6_heapOf_31 : decode cX6_heapOf 31 = .ok (.if_icmp .lt 10, 3) := dk_161 0 10 (dk_at dksX6_heapOf_1 7 rfl rfl)
theorem dX6_heapOf_34 : decode cX6_heapOf 34 = .ok (.iload_n 2, 1) := dk_28 (dk_at dksX6_heapOf_1 10 rfl rfl)
theorem dX6_heapOf_35 : decode cX6_heapOf 35 = .ok (.iconst 1, 1) := dk_4 (dk_at dksX6_heapOf_1 11 rfl rfl)
theorem dX6_heapOf_36 : decode cX6_heapOf 36 = .ok (.iadd, 1) := dk_96 (dk_at dksX6_heapOf_1 12 rfl rfl)
theorem dX6_heapOf_37 : decode cX6_heapOf 37 = .ok (.istore_n 2, 1) := dk_61 (dk_at dksX6_heapOf_1 13 rfl rfl)
theorem dX6_heapOf_38 : decode cX6_heapOf 38 = .ok (.goto (-36), 3) := dk_167 255 220 (dk_at dksX6_heapOf_1 14 rfl rfl)
theorem dX6_heapOf_41 : decode cX6_heapOf 41 = .ok (.iload_n 2, 1) := dk_28 (dk_at dksX6_heapOf_1 17 rfl rfl)
theorem dX6_heapOf_42 : decode cX6_heapOf 42 = .ok (.ireturn, 1) := dk_172 (dk_at dksX6_heapOf_1 18 rfl rfl)
abbrev cX6_heaps : ByteArray := prog_17_method_63_code
def yX6_heaps : MethodName := ⟨RX6, "heaps", "()I"⟩
def dkwX6_heaps_2 : List UInt8 := [167, 255, 220, 27, 172]
abbrev dktX6_heaps_2 : List UInt8 := dkwX6_heaps_2 ++ []
def dkwX6_heaps_1 : List UInt8 := [153, 0, 16, 42, 28, 182, 1, 70, 28, 160, 0, 7, 4, 167, 0, 4, 3, 96, 60, 132, 2, 1]
abbrev dktX6_heaps_1 : List UInt8 := dkwX6_heaps_1 ++ dktX6_heaps_2
def dkwX6_heaps_0 : List UInt8 := [42, 182, 1, 50, 3, 60, 3, 61, 28, 42, 180, 0, 130, 162, 0, 34, 27, 42, 28, 182, 1, 26]
abbrev dktX6_heaps_0 : List UInt8 := dkwX6_heaps_0 ++ dktX6_heaps_1
theorem dksX6_heaps_0 : cX6_heaps.data.toList.drop 0 = dktX6_heaps_0 := by decide +kernel
theorem dksX6_heaps_1 : cX6_heaps.data.toList.drop 22 = dktX6_heaps_1 := dk_seg dksX6_heaps_0 22 rfl rfl
theorem dksX6_heaps_2 : cX6_heaps.data.toList.drop 44 = dktX6_heaps_2 := dk_seg dksX6_heaps_1 22 rfl rfl
theorem dX6_heaps_0 : decode cX6_heaps 0 = .ok (.aload_n 0, 1) := dk_42 (dk_at dksX6_heaps_0 0 rfl rfl)
theorem dX6_heaps_1 : decode cX6_heaps 1 = .ok (.invokevirtual 306, 3) := dk_182 1 50 (dk_at dksX6_heaps_0 1 rfl rfl)
theorem dX6_heaps_4 : decode cX6_heaps 4 = .ok (.iconst 0, 1) := dk_3 (dk_at dksX6_heaps_0 4 rfl rfl)
theorem dX6_heaps_5 : decode cX6_heaps 5 = .ok (.istore_n 1, 1) := dk_60 (dk_at dksX6_heaps_0 5 rfl rfl)
theorem dX6_heaps_6 : decode cX6_heaps 6 = .ok (.iconst 0, 1) := dk_3 (dk_at dksX6_heaps_0 6 rfl rfl)
theorem dX6_heaps_7 : decode cX6_heaps 7 = .ok (.istore_n 2, 1) := dk_61 (dk_at dksX6_heaps_0 7 rfl rfl)
theorem dX6_heaps_8 : decode cX6_heaps 8 = .ok (.iload_n 2, 1) := dk_28 (dk_at dksX6_heaps_0 8 rfl rfl)
theorem dX6_heaps_9 : decode cX6_heaps 9 = .ok (.aload_n 0, 1) := dk_42 (dk_at dksX6_heaps_0 9 rfl rfl)
theorem dX6_heaps_10 : decode cX6_heaps 10 = .ok (.getfield 130, 3) := dk_180 0 130 (dk_at dksX6_heaps_0 10 rfl rfl)
theorem dX6_heaps_13 : decode cX6_heaps 13 = .ok (.if_icmp .ge 34, 3) := dk_162 0 34 (dk_at dksX6_heaps_0 13 rfl rfl)
theorem dX6_heaps_16 : decode cX6_heaps 16 = .ok (.iload_n 1, 1) := dk_27 (dk_at dksX6_heaps_0 16 rfl rfl)
theorem dX6_heaps_17 : decode cX6_heaps 17 = .ok (.aload_n 0, 1) := dk_42 (dk_at dksX6_heaps_0 17 rfl rfl)
theorem dX6_heaps_18 : decode cX6_heaps 18 = .ok (.iload_n 2, 1) := dk_28 (dk_at dksX6_heaps_0 18 rfl rfl)
theorem dX6_heaps_19 : decode cX6_heaps 19 = .ok (.invokevirtual 282, 3) := dk_182 1 26 (dk_at dksX6_heaps_0 19 rfl rfl)
theorem dX6_heaps_22 : decode cX6_heaps 22 = .ok (.ifCond .eq 16, 3) := dk_153 0 16 (dk_at dksX6_heaps_1 0 rfl rfl)
theorem dX6_heaps_25 : decode cX6_heaps 25 = .ok (.aload_n 0, 1) := dk_42 (dk_at dksX6_heaps_1 3 rfl rfl)
theorem dX6_heaps_26 : decode cX6_heaps 26 = .ok (.iload_n 2, 1) := dk_28 (dk_at dksX6_heaps_1 4 rfl rfl)
theorem dX6_heaps_27 : decode cX6_heaps 27 = .ok (.invokevirtual 326, 3) := dk_182 1 70 (dk_at dksX6_heaps_1 5 rfl rfl)
theorem dX6_heaps_30 : decode cX6_heaps 30 = .ok (.iload_n 2, 1) := dk_28 (dk_at dksX6_heaps_1 8 rfl rfl)
theorem dX6_heaps_31 : decode cX6_heaps 31 = .ok (.if_icmp .ne 7, 3) := dk_160 0 7 (dk_at dksX6_heaps_1 9 rfl rfl)
theorem dX6_heaps_34 : decode cX6_heaps 34 = .ok (.iconst 1, 1) := dk_4 (dk_at dksX6_heaps_1 12 rfl rfl)
theorem dX6_heaps_35 : decode cX6_heaps 35 = .ok (.goto 4, 3) := dk_167 0 4 (dk_at dksX6_heaps_1 13 rfl rfl)
theorem dX6_heaps_38 : decode cX6_heaps 38 = .ok (.iconst 0, 1) := dk_3 (dk_at dksX6_heaps_1 16 rfl rfl)
theorem dX6_heaps_39 : decode cX6_heaps 39 = .ok (.iadd, 1) := dk_96 (dk_at dksX6_heaps_1 17 rfl rfl)
theorem dX6_heaps_40 : decode cX6_heaps 40 = .ok (.istore_n 1, 1) := dk_60 (dk_at dksX6_heaps_1 18 rfl rfl)
theorem dX6_heaps_41 : decode cX6_heaps 41 = .ok (.iinc 2 1, 3) := dk_132 2 1 (dk_at dksX6_heaps_1 19 rfl rfl)
theorem dX6_heaps_44 : decode cX6_heaps 44 = .ok (.goto (-36), 3) := dk_167 255 220 (dk_at dksX6_heaps_2 0 rfl rfl)
theorem dX6_heaps_47 : decode cX6_heaps 47 = .ok (.iload_n 1, 1) := dk_27 (dk_at dksX6_heaps_2 3 rfl rfl)
theorem dX6_heaps_48 : decode cX6_heaps 48 = .ok (.ireturn, 1) := dk_172 (dk_at dksX6_heaps_2 4 rfl rfl)
abbrev cX6_far : ByteArray := prog_17_method_64_code
def yX6_far : MethodName := ⟨RX6, "far", "(I)I"⟩
def dkwX6_far_6 : List UInt8 := [21, 4, 172]
abbrev dktX6_far_6 : List UInt8 := dkwX6_far_6 ++ []
def dkwX6_far_5 : List UInt8 := [2, 160, 0, 6, 16, 254, 172, 27, 154, 0, 7, 28, 167, 0, 14, 27, 4, 160, 0, 7, 29, 167, 0, 5]
abbrev dktX6_far_5 : List UInt8 := dkwX6_far_5 ++ dktX6_far_6
def dkwX6_far_4 : List UInt8 := [182, 1, 58, 61, 21, 5, 62, 21, 6, 54, 4, 132, 6, 1, 167, 255, 188, 132, 5, 1, 167, 255, 170, 28]
abbrev dktX6_far_4 : List UInt8 := dkwX6_far_4 ++ dktX6_far_5
def dkwX6_far_3 : List UInt8 := [162, 0, 34, 42, 21, 5, 21, 6, 182, 1, 58, 28, 163, 0, 6, 167, 0, 19, 42, 21, 5, 21, 6]
abbrev dktX6_far_3 : List UInt8 := dkwX6_far_3 ++ dktX6_far_4
def dkwX6_far_2 : List UInt8 := [21, 5, 21, 6, 159, 0, 52, 42, 180, 0, 81, 16, 40, 21, 5, 104, 21, 6, 96, 46, 18, 129]
abbrev dktX6_far_2 : List UInt8 := dkwX6_far_2 ++ dktX6_far_3
def dkwX6_far_1 : List UInt8 := [54, 5, 21, 5, 42, 180, 0, 130, 162, 0, 83, 3, 54, 6, 21, 6, 42, 180, 0, 130, 162, 0, 65]
abbrev dktX6_far_1 : List UInt8 := dkwX6_far_1 ++ dktX6_far_2
def dkwX6_far_0 : List UInt8 := [27, 3, 5, 184, 0, 139, 154, 0, 5, 2, 172, 42, 182, 1, 50, 2, 61, 2, 62, 2, 54, 4, 3]
abbrev dktX6_far_0 : List UInt8 := dkwX6_far_0 ++ dktX6_far_1
theorem dksX6_far_0 : cX6_far.data.toList.drop 0 = dktX6_far_0 := by decide +kernel
theorem dksX6_far_1 : cX6_far.data.toList.drop 23 = dktX6_far_1 := dk_seg dksX6_far_0 23 rfl rfl
theorem dksX6_far_2 : cX6_far.data.toList.drop 46 = dktX6_far_2 := dk_seg dksX6_far_1 23 rfl rfl
theorem dksX6_far_3 : cX6_far.data.toList.drop 68 = dktX6_far_3 := dk_seg dksX6_far_2 22 rfl rfl
theorem dksX6_far_4 : cX6_far.data.toList.drop 91 = dktX6_far_4 := dk_seg dksX6_far_3 23 rfl rfl
theorem dksX6_far_5 : cX6_far.data.toList.drop 115 = dktX6_far_5 := dk_seg dksX6_far_4 24 rfl rfl
theorem dksX6_far_6 : cX6_far.data.toList.drop 139 = dktX6_far_6 := dk_seg dksX6_far_5 24 rfl rfl
theorem dX6_far_0 : decode cX6_far 0 = .ok (.iload_n 1, 1) := dk_27 (dk_at dksX6_far_0 0 rfl rfl)
theorem dX6_far_1 : decode cX6_far 1 = .ok (.iconst 0, 1) := dk_3 (dk_at dksX6_far_0 1 rfl rfl)
theorem dX6_far_2 : decode cX6_far 2 = .ok (.iconst 2, 1) := dk_5 (dk_at dksX6_far_0 2 rfl rfl)
theorem dX6_far_3 : decode cX6_far 3 = .ok (.invokestatic 139, 3) := dk_184 0 139 (dk_at dksX6_far_0 3 rfl rfl)
theorem dX6_far_6 : decode cX6_far 6 = .ok (.ifCond .ne 5, 3) := dk_154 0 5 (dk_at dksX6_far_0 6 rfl rfl)
theorem dX6_far_9 : decode cX6_far 9 = .ok (.iconst (-1), 1) := dk_2 (dk_at dksX6_far_0 9 rfl rfl)
theorem dX6_far_10 : decode cX6_far 10 = .ok (.ireturn, 1) := dk_172 (dk_at dksX6_far_0 10 rfl rfl)
theorem dX6_far_11 : decode cX6_far 11 = .ok (.aload_n 0, 1) := dk_42 (dk_at dksX6_far_0 11 rfl rfl)
theorem dX6_far_12 : decode cX6_far 12 = .ok (.invokevirtual 306, 3) := dk_182 1 50 (dk_at dksX6_far_0 12 rfl rfl)
theorem dX6_far_15 : decode cX6_far 15 = .ok (.iconst (-1), 1) := dk_2 (dk_at dksX6_far_0 15 rfl rfl)
theorem dX6_far_16 : decode cX6_far 16 = .ok (.istore_n 2, 1) := dk_61 (dk_at dksX6_far_0 16 rfl rfl)
theorem dX6_far_17 : decode cX6_far 17 = .ok (.iconst (-1), 1) := dk_2 (dk_at dksX6_far_0 17 rfl rfl)
theorem dX6_far_18 : decode cX6_far 18 = .ok (.istore_n 3, 1) := dk_62 (dk_at dksX6_far_0 18 rfl rfl)
theorem dX6_far_19 : decode cX6_far 19 = .ok (.iconst (-1), 1) := dk_2 (dk_at dksX6_far_0 19 rfl rfl)
theorem dX6_far_20 : decode cX6_far 20 = .ok (.istore 4, 2) := dk_54 4 (dk_at dksX6_far_0 20 rfl rfl)
theorem dX6_far_22 : decode cX6_far 22 = .ok (.iconst 0, 1) := dk_3 (dk_at dksX6_far_0 22 rfl rfl)
theorem dX6_far_23 : decode cX6_far 23 = .ok (.istore 5, 2) := dk_54 5 (dk_at dksX6_far_1 0 rfl rfl)
theorem dX6_far_25 : decode cX6_far 25 = .ok (.iload 5, 2) := dk_21 5 (dk_at dksX6_far_1 2 rfl rfl)
theorem dX6_far_27 : decode cX6_far 27 = .ok (.aload_n 0, 1) := dk_42 (dk_at dksX6_far_1 4 rfl rfl)
theorem dX6_far_28 : decode cX6_far 28 = .ok (.getfield 130, 3) := dk_180 0 130 (dk_at dksX6_far_1 5 rfl rfl)
theorem dX6_far_31 : decode cX6_far 31 = .ok (.if_icmp .ge 83, 3) := dk_162 0 83 (dk_at dksX6_far_1 8 rfl rfl)
theorem dX6_far_34 : decode cX6_far 34 = .ok (.iconst 0, 1) := dk_3 (dk_at dksX6_far_1 11 rfl rfl)
theorem dX6_far_35 : decode cX6_far 35 = .ok (.istore 6, 2) := dk_54 6 (dk_at dksX6_far_1 12 rfl rfl)
theorem dX6_far_37 : decode cX6_far 37 = .ok (.iload 6, 2) := dk_21 6 (dk_at dksX6_far_1 14 rfl rfl)
theorem dX6_far_39 : decode cX6_far 39 = .ok (.aload_n 0, 1) := dk_42 (dk_at dksX6_far_1 16 rfl rfl)
theorem dX6_far_40 : decode cX6_far 40 = .ok (.getfield 130, 3) := dk_180 0 130 (dk_at dksX6_far_1 17 rfl rfl)
theorem dX6_far_43 : decode cX6_far 43 = .ok (.if_icmp .ge 65, 3) := dk_162 0 65 (dk_at dksX6_far_1 20 rfl rfl)
theorem dX6_far_46 : decode cX6_far 46 = .ok (.iload 5, 2) := dk_21 5 (dk_at dksX6_far_2 0 rfl rfl)
theorem dX6_far_48 : decode cX6_far 48 = .ok (.iload 6, 2) := dk_21 6 (dk_at dksX6_far_2 2 rfl rfl)
theorem dX6_far_50 : decode cX6_far 50 = .ok (.if_icmp .eq 52, 3) := dk_159 0 52 (dk_at dksX6_far_2 4 rfl rfl)
theorem dX6_far_53 : decode cX6_far 53 = .ok (.aload_n 0, 1) := dk_42 (dk_at dksX6_far_2 7 rfl rfl)
theorem dX6_far_54 : decode cX6_far 54 = .ok (.getfield 81, 3) := dk_180 0 81 (dk_at dksX6_far_2 8 rfl rfl)
theorem dX6_far_57 : decode cX6_far 57 = .ok (.bipush 40, 2) := dk_16 40 (dk_at dksX6_far_2 11 rfl rfl)
theorem dX6_far_59 : decode cX6_far 59 = .ok (.iload 5, 2) := dk_21 5 (dk_at dksX6_far_2 13 rfl rfl)
theorem dX6_far_61 : decode cX6_far 61 = .ok (.imul, 1) := dk_104 (dk_at dksX6_far_2 15 rfl rfl)
theorem dX6_far_62 : decode cX6_far 62 = .ok (.iload 6, 2) := dk_21 6 (dk_at dksX6_far_2 16 rfl rfl)
theorem dX6_far_64 : decode cX6_far 64 = .ok (.iadd, 1) := dk_96 (dk_at dksX6_far_2 18 rfl rfl)
theorem dX6_far_65 : decode cX6_far 65 = .ok (.iaload, 1) := dk_46 (dk_at dksX6_far_2 19 rfl rfl)
theorem dX6_far_66 : decode cX6_far 66 = .ok (.ldc 129, 2) := dk_18 129 (dk_at dksX6_far_2 20 rfl rfl)
theorem dX6_far_68 : decode cX6_far 68 = .ok (.if_icmp .ge 34, 3) := dk_162 0 34 (dk_at dksX6_far_3 0 rfl rfl)
theorem dX6_far_71 : decode cX6_far 71 = .ok (.aload_n 0, 1) := dk_42 (dk_at dksX6_far_3 3 rfl rfl)
theorem dX6_far_72 : decode cX6_far 72 = .ok (.iload 5, 2) := dk_21 5 (dk_at dksX6_far_3 4 rfl rfl)
theorem dX6_far_74 : decode cX6_far 74 = .ok (.iload 6, 2) := dk_21 6 (dk_at dksX6_far_3 6 rfl rfl)
theorem dX6_far_76 : decode cX6_far 76 = .ok (.invokevirtual 314, 3) := dk_182 1 58 (dk_at dksX6_far_3 8 rfl rfl)
theorem dX6_far_79 : decode cX6_far 79 = .ok (.iload_n 2, 1) := dk_28 (dk_at dksX6_far_3 11 rfl rfl)
theorem dX6_far_80 : decode cX6_far 80 = .ok (.if_icmp .gt 6, 3) := dk_163 0 6 (dk_at dksX6_far_3 12 rfl rfl)
theorem dX6_far_83 : decode cX6_far 83 = .ok (.goto 19, 3) := dk_167 0 19 (dk_at dksX6_far_3 15 rfl rfl)
theorem dX6_far_86 : decode cX6_far 86 = .ok (.aload_n 0, 1) := dk_42 (dk_at dksX6_far_3 18 rfl rfl)
theorem dX6_far_87 : decode cX6_far 87 = .ok (.iload 5, 2) := dk_21 5 (dk_at dksX6_far_3 19 rfl rfl)
theorem dX6_far_89 : decode cX6_far 89 = .ok (.iload 6, 2) := dk_21 6 (dk_at dksX6_far_3 21 rfl rfl)
theorem dX6_far_91 : decode cX6_far 91 = .ok (.invokevirtual 314, 3) := dk_182 1 58 (dk_at dksX6_far_4 0 rfl rfl)
theorem dX6_far_94 : decode cX6_far 94 = .ok (.istore_n 2, 1) := dk_61 (dk_at dksX6_far_4 3 rfl rfl)
theorem dX6_far_95 : decode cX6_far 95 = .ok (.iload 5, 2) := dk_21 5 (dk_at dksX6_far_4 4 rfl rfl)
theorem dX6_far_97 : decode cX6_far 97 = .ok (.istore_n 3, 1) := dk_62 (dk_at dksX6_far_4 6 rfl rfl)
theorem dX6_far_98 : decode cX6_far 98 = .ok (.iload 6, 2) := dk_21 6 (dk_at dksX6_far_4 7 rfl rfl)
theorem dX6_far_100 : decode cX6_far 100 = .ok (.istore 4, 2) := dk_54 4 (dk_at dksX6_far_4 9 rfl rfl)
theorem dX6_far_102 : decode cX6_far 102 = .ok (.iinc 6 1, 3) := dk_132 6 1 (dk_at dksX6_far_4 11 rfl rfl)
theorem dX6_far_105 : decode cX6_far 105 = .ok (.goto (-68), 3) := dk_167 255 188 (dk_at dksX6_far_4 14 rfl rfl)
theorem dX6_far_108 : decode cX6_far 108 = .ok (.iinc 5 1, 3) := dk_132 5 1 (dk_at dksX6_far_4 17 rfl rfl)
theorem dX6_far_111 : decode cX6_far 111 = .ok (.goto (-86), 3) := dk_167 255 170 (dk_at dksX6_far_4 20 rfl rfl)
theorem dX6_far_114 : decode cX6_far 114 = .ok (.iload_n 2, 1) := dk_28 (dk_at dksX6_far_4 23 rfl rfl)
theorem dX6_far_115 : decode cX6_far 115 = .ok (.iconst (-1), 1) := dk_2 (dk_at dksX6_far_5 0 rfl rfl)
theorem dX6_far_116 : decode cX6_far 116 = .ok (.if_icmp .ne 6, 3) := dk_160 0 6 (dk_at dksX6_far_5 1 rfl rfl)
theorem dX6_far_119 : decode cX6_far 119 = .ok (.bipush (-2), 2) := dk_16 254 (dk_at dksX6_far_5 4 rfl rfl)
theorem dX6_far_121 : decode cX6_far 121 = .ok (.ireturn, 1) := dk_172 (dk_at dksX6_far_5 6 rfl rfl)
theorem dX6_far_122 : decode cX6_far 122 = .ok (.iload_n 1, 1) := dk_27 (dk_at dksX6_far_5 7 rfl rfl)
theorem dX6_far_123 : decode cX6_far 123 = .ok (.ifCond .ne 7, 3) := dk_154 0 7 (dk_at dksX6_far_5 8 rfl rfl)
theorem dX6_far_126 : decode cX6_far 126 = .ok (.iload_n 2, 1) := dk_28 (dk_at dksX6_far_5 11 rfl rfl)
theorem dX6_far_127 : decode cX6_far 127 = .ok (.goto 14, 3) := dk_167 0 14 (dk_at dksX6_far_5 12 rfl rfl)
theorem dX6_far_130 : decode cX6_far 130 = .ok (.iload_n 1, 1) := dk_27 (dk_at dksX6_far_5 15 rfl rfl)
theorem dX6_far_131 : decode cX6_far 131 = .ok (.iconst 1, 1) := dk_4 (dk_at dksX6_far_5 16 rfl rfl)
theorem dX6_far_132 : decode cX6_far 132 = .ok (.if_icmp .ne 7, 3) := dk_160 0 7 (dk_at dksX6_far_5 17 rfl rfl)
theorem dX6_far_135 : decode cX6_far 135 = .ok (.iload_n 3, 1) := dk_29 (dk_at dksX6_far_5 20 rfl rfl)
theorem dX6_far_136 : decode cX6_far 136 = .ok (.goto 5, 3) := dk_167 0 5 (dk_at dksX6_far_5 21 rfl rfl)
theorem dX6_far_139 : decode cX6_far 139 = .ok (.iload 4, 2) := dk_21 4 (dk_at dksX6_far_6 0 rfl rfl)
theorem dX6_far_141 : decode cX6_far 141 = .ok (.ireturn, 1) := dk_172 (dk_at dksX6_far_6 2 rfl rfl)
abbrev cX6_between : ByteArray := prog_17_method_66_code
def yX6_between : MethodName := ⟨RX6, "between", "(I)I"⟩
def dkwX6_between_3 : List UInt8 := [21, 5, 62, 132, 4, 1, 167, 255, 203, 27, 154, 0, 7, 28, 167, 0, 4, 29, 172]
abbrev dktX6_between_3 : List UInt8 := dkwX6_between_3 ++ []
def dkwX6_between_2 : List UInt8 := [182, 1, 73, 54, 5, 28, 16, 254, 159, 0, 12, 21, 5, 29, 163, 0, 6, 167, 0, 9, 21, 4, 61]
abbrev dktX6_between_2 : List UInt8 := dkwX6_between_2 ++ dktX6_between_3
def dkwX6_between_1 : List UInt8 := [21, 4, 42, 180, 0, 130, 162, 0, 50, 42, 21, 4, 182, 1, 26, 154, 0, 6, 167, 0, 32, 42, 21, 4]
abbrev dktX6_between_1 : List UInt8 := dkwX6_between_1 ++ dktX6_between_2
def dkwX6_between_0 : List UInt8 := [27, 3, 4, 184, 0, 139, 154, 0, 5, 2, 172, 42, 182, 1, 50, 16, 254, 61, 16, 254, 62, 3, 54, 4]
abbrev dktX6_between_0 : List UInt8 := dkwX6_between_0 ++ dktX6_between_1
theorem dksX6_between_0 : cX6_between.data.toList.drop 0 = dktX6_between_0 := by decide +kernel
theorem dksX6_between_1 : cX6_between.data.toList.drop 24 = dktX6_between_1 := dk_seg dksX6_between_0 24 rfl rfl
theorem dksX6_between_2 : cX6_between.data.toList.drop 48 = dktX6_between_2 := dk_seg dksX6_between_1 24 rfl rfl
theorem dksX6_between_3 : cX6_between.data.toList.drop 71 = dktX6_between_3 := dk_seg dksX6_between_2 23 rfl rfl
theorem dX6_between_0 : decode cX6_between 0 = .ok (.iload_n 1, 1) := dk_27 (dk_at dksX6_between_0 0 rfl rfl)
theorem dX6_between_1 : decode cX6_between 1 = .ok (.iconst 0, 1) := dk_3 (dk_at dksX6_between_0 1 rfl rfl)
theorem dX6_between_2 : decode cX6_between 2 = .ok (.iconst 1, 1) := dk_4 (dk_at dksX6_between_0 2 rfl rfl)
theorem dX6_between_3 : decode cX6_between 3 = .ok (.invokestatic 139, 3) := dk_184 0 139 (dk_at dksX6_between_0 3 rfl rfl)
theorem dX6_between_6 : decode cX6_between 6 = .ok (.ifCond .ne 5, 3) := dk_154 0 5 (dk_at dksX6_between_0 6 rfl rfl)
theorem dX6_between_9 : decode cX6_between 9 = .ok (.iconst (-1), 1) := dk_2 (dk_at dksX6_between_0 9 rfl rfl)
theorem dX6_between_10 : decode cX6_between 10 = .ok (.ireturn, 1) := dk_172 (dk_at dksX6_between_0 10 rfl rfl)
theorem dX6_between_11 : decode cX6_between 11 = .ok (.aload_n 0, 1) := dk_42 (dk_at dksX6_between_0 11 rfl rfl)
theorem dX6_between_12 : decode cX6_between 12 = .ok (.invokevirtual 306, 3) := dk_182 1 50 (dk_at dksX6_between_0 12 rfl rfl)
theorem dX6_between_15 : decode cX6_between 15 = .ok (.bipush (-2), 2) := dk_16 254 (dk_at dksX6_between_0 15 rfl rfl)
theorem dX6_between_17 : decode cX6_between 17 = .ok (.istore_n 2, 1) := dk_61 (dk_at dksX6_between_0 17 rfl rfl)
theorem dX6_between_18 : decode cX6_between 18 = .ok (.bipush (-2), 2) := dk_16 254 (dk_at dksX6_between_0 18 rfl rfl)
theorem dX6_between_20 : decode cX6_between 20 = .ok (.istore_n 3, 1) := dk_62 (dk_at dksX6_between_0 20 rfl rfl)
theorem dX6_between_21 : decode cX6_between 21 = .ok (.iconst 0, 1) := dk_3 (dk_at dksX6_between_0 21 rfl rfl)
theorem dX6_between_22 : decode cX6_between 22 = .ok (.istore 4, 2) := dk_54 4 (dk_at dksX6_between_0 22 rfl rfl)
theorem dX6_between_24 : decode cX6_between 24 = .ok (.iload 4, 2) := dk_21 4 (dk_at dksX6_between_1 0 rfl rfl)
theorem dX6_between_26 : decode cX6_between 26 = .ok (.aload_n 0, 1) := dk_42 (dk_at dksX6_between_1 2 rfl rfl)
theorem dX6_between_27 : decode cX6_between 27 = .ok (.getfield 130, 3) := dk_180 0 130 (dk_at dksX6_between_1 3 rfl rfl)
theorem dX6_between_30 : decode cX6_between 30 = .ok (.if_icmp .ge 50, 3) := dk_162 0 50 (dk_at dksX6_between_1 6 rfl rfl)
theorem dX6_between_33 : decode cX6_between 33 = .ok (.aload_n 0, 1) := dk_42 (dk_at dksX6_between_1 9 rfl rfl)
theorem dX6_between_34 : decode cX6_between 34 = .ok (.iload 4, 2) := dk_21 4 (dk_at dksX6_between_1 10 rfl rfl)
theorem dX6_between_36 : decode cX6_between 36 = .ok (.invokevirtual 282, 3) := dk_182 1 26 (dk_at dksX6_between_1 12 rfl rfl)
theorem dX6_between_39 : decode cX6_between 39 = .ok (.ifCond .ne 6, 3) := dk_154 0 6 (dk_at dksX6_between_1 15 rfl rfl)
theorem dX6_between_42 : decode cX6_between 42 = .ok (.goto 32, 3) := dk_167 0 32 (dk_at dksX6_between_1 18 rfl rfl)
theorem dX6_between_45 : decode cX6_between 45 = .ok (.aload_n 0, 1) := dk_42 (dk_at dksX6_between_1 21 rfl rfl)
theorem dX6_between_46 : decode cX6_between 46 = .ok (.iload 4, 2) := dk_21 4 (dk_at dksX6_between_1 22 rfl rfl)
theorem dX6_between_48 : decode cX6_between 48 = .ok (.invokevirtual 329, 3) := dk_182 1 73 (dk_at dksX6_between_2 0 rfl rfl)
theorem dX6_between_51 : decode cX6_between 51 = .ok (.istore 5, 2) := dk_54 5 (dk_at dksX6_between_2 3 rfl rfl)
theorem dX6_between_53 : decode cX6_between 53 = .ok (.iload_n 2, 1) := dk_28 (dk_at dksX6_between_2 5 rfl rfl)
theorem dX6_between_54 : decode cX6_between 54 = .ok (.bipush (-2), 2) := dk_16 254 (dk_at dksX6_between_2 6 rfl rfl)
theorem dX6_between_56 : decode cX6_between 56 = .ok (.if_icmp .eq 12, 3) := dk_159 0 12 (dk_at dksX6_between_2 8 rfl rfl)
theorem dX6_between_59 : decode cX6_between 59 = .ok (.iload 5, 2) := dk_21 5 (dk_at dksX6_between_2 11 rfl rfl)
theorem dX6_between_61 : decode cX6_between 61 = .ok (.iload_n 3, 1) := dk_29 (dk_at dksX6_between_2 13 rfl rfl)
theorem dX6_between_62 : decode cX6_between 62 = .ok (.if_icmp .gt 6, 3) := dk_163 0 6 (dk_at dksX6_between_2 14 rfl rfl)
theorem dX6_between_65 : decode cX6_between 65 = .ok (.goto 9, 3) := dk_167 0 9 (dk_at dksX6_between_2 17 rfl rfl)
theorem dX6_between_68 : decode cX6_between 68 = .ok (.iload 4, 2) := dk_21 4 (dk_at dksX6_between_2 20 rfl rfl)
theorem dX6_between_70 : decode cX6_between 70 = .ok (.istore_n 2, 1) := dk_61 (dk_at dksX6_between_2 22 rfl rfl)
theorem dX6_between_71 : decode cX6_between 71 = .ok (.iload 5, 2) := dk_21 5 (dk_at dksX6_between_3 0 rfl rfl)
theorem dX6_between_73 : decode cX6_between 73 = .ok (.istore_n 3, 1) := dk_62 (dk_at dksX6_between_3 2 rfl rfl)
theorem dX6_between_74 : decode cX6_between 74 = .ok (.iinc 4 1, 3) := dk_132 4 1 (dk_at dksX6_between_3 3 rfl rfl)
theorem dX6_between_77 : decode cX6_between 77 = .ok (.goto (-53), 3) := dk_167 255 203 (dk_at dksX6_between_3 6 rfl rfl)
theorem dX6_between_80 : decode cX6_between 80 = .ok (.iload_n 1, 1) := dk_27 (dk_at dksX6_between_3 9 rfl rfl)
theorem dX6_between_81 : decode cX6_between 81 = .ok (.ifCond .ne 7, 3) := dk_154 0 7 (dk_at dksX6_between_3 10 rfl rfl)
theorem dX6_between_84 : decode cX6_between 84 = .ok (.iload_n 2, 1) := dk_28 (dk_at dksX6_between_3 13 rfl rfl)
theorem dX6_between_85 : decode cX6_between 85 = .ok (.goto 4, 3) := dk_167 0 4 (dk_at dksX6_between_3 14 rfl rfl)
theorem dX6_between_88 : decode cX6_between 88 = .ok (.iload_n 3, 1) := dk_29 (dk_at dksX6_between_3 17 rfl rfl)
theorem dX6_between_89 : decode cX6_between 89 = .ok (.ireturn, 1) := dk_172 (dk_at dksX6_between_3 18 rfl rfl)
abbrev cX6_twosBy : ByteArray := prog_17_method_65_code
def yX6_twosBy : MethodName := ⟨RX6, "twosBy", "(I)I"⟩
def dkwX6_twosBy_4 : List UInt8 := [28, 172]
abbrev dktX6_twosBy_4 : List UInt8 := dkwX6_twosBy_4 ++ []
def dkwX6_twosBy_3 : List UInt8 := [21, 4, 182, 1, 58, 160, 0, 7, 28, 4, 96, 61, 132, 4, 1, 167, 255, 185, 132, 3, 1, 167, 255, 168]
abbrev dktX6_twosBy_3 : List UInt8 := dkwX6_twosBy_3 ++ dktX6_twosBy_4
def dkwX6_twosBy_2 : List UInt8 := [18, 129, 162, 0, 33, 42, 29, 27, 182, 1, 58, 42, 27, 21, 4, 182, 1, 58, 184, 1, 44, 42, 29]
abbrev dktX6_twosBy_2 : List UInt8 := dkwX6_twosBy_2 ++ dktX6_twosBy_3
def dkwX6_twosBy_1 : List UInt8 := [29, 21, 4, 159, 0, 56, 29, 27, 159, 0, 51, 21, 4, 27, 159, 0, 45, 42, 29, 21, 4, 182, 1, 58]
abbrev dktX6_twosBy_1 : List UInt8 := dkwX6_twosBy_1 ++ dktX6_twosBy_2
def dkwX6_twosBy_0 : List UInt8 := [3, 61, 3, 62, 29, 42, 180, 0, 130, 162, 0, 86, 3, 54, 4, 21, 4, 42, 180, 0, 130, 162, 0, 68]
abbrev dktX6_twosBy_0 : List UInt8 := dkwX6_twosBy_0 ++ dktX6_twosBy_1
theorem dksX6_twosBy_0 : cX6_twosBy.data.toList.drop 0 = dktX6_twosBy_0 := by decide +kernel
theorem dksX6_twosBy_1 : cX6_twosBy.data.toList.drop 24 = dktX6_twosBy_1 := dk_seg dksX6_twosBy_0 24 rfl rfl
theorem dksX6_twosBy_2 : cX6_twosBy.data.toList.drop 48 = dktX6_twosBy_2 := dk_seg dksX6_twosBy_1 24 rfl rfl
theorem dksX6_twosBy_3 : cX6_twosBy.data.toList.drop 71 = dktX6_twosBy_3 := dk_seg dksX6_twosBy_2 23 rfl rfl
theorem dksX6_twosBy_4 : cX6_twosBy.data.toList.drop 95 = dktX6_twosBy_4 := dk_seg dksX6_twosBy_3 24 rfl rfl
theorem dX6_twosBy_0 : decode cX6_twosBy 0 = .ok (.iconst 0, 1) := dk_3 (dk_at dksX6_twosBy_0 0 rfl rfl)
theorem dX6_twosBy_1 : decode cX6_twosBy 1 = .ok (.istore_n 2, 1) := dk_61 (dk_at dksX6_twosBy_0 1 rfl rfl)
theorem dX6_twosBy_2 : decode cX6_twosBy 2 = .ok (.iconst 0, 1) := dk_3 (dk_at dksX6_twosBy_0 2 rfl rfl)
theorem dX6_twosBy_3 : decode cX6_twosBy 3 = .ok (.istore_n 3, 1) := dk_62 (dk_at dksX6_twosBy_0 3 rfl rfl)
theorem dX6_twosBy_4 : decode cX6_twosBy 4 = .ok (.iload_n 3, 1) := dk_29 (dk_at dksX6_twosBy_0 4 rfl rfl)
theorem dX6_twosBy_5 : decode cX6_twosBy 5 = .ok (.aload_n 0, 1) := dk_42 (dk_at dksX6_twosBy_0 5 rfl rfl)
theorem dX6_twosBy_6 : decode cX6_twosBy 6 = .ok (.getfield 130, 3) := dk_180 0 130 (dk_at dksX6_twosBy_0 6 rfl rfl)
theorem dX6_twosBy_9 : decode cX6_twosBy 9 = .ok (.if_icmp .ge 86, 3) := dk_162 0 86 (dk_at dksX6_twosBy_0 9 rfl rfl)
theorem dX6_twosBy_12 : decode cX6_twosBy 12 = .ok (.iconst 0, 1) := dk_3 (dk_at dksX6_twosBy_0 12 rfl rfl)
theorem dX6_twosBy_13 : decode cX6_twosBy 13 = .ok (.istore 4, 2) := dk_54 4 (dk_at dksX6_twosBy_0 13 rfl rfl)
theorem dX6_twosBy_15 : decode cX6_twosBy 15 = .ok (.iload 4, 2) := dk_21 4 (dk_at dksX6_twosBy_0 15 rfl rfl)
theorem dX6_twosBy_17 : decode cX6_twosBy 17 = .ok (.aload_n 0, 1) := dk_42 (dk_at dksX6_twosBy_0 17 rfl rfl)
theorem dX6_twosBy_18 : decode cX6_twosBy 18 = .ok (.getfield 130, 3) := dk_180 0 130 (dk_at dksX6_twosBy_0 18 rfl rfl)
theorem dX6_twosBy_21 : decode cX6_twosBy 21 = .ok (.if_icmp .ge 68, 3) := dk_162 0 68 (dk_at dksX6_twosBy_0 21 rfl rfl)
theorem dX6_twosBy_24 : decode cX6_twosBy 24 = .ok (.iload_n 3, 1) := dk_29 (dk_at dksX6_twosBy_1 0 rfl rfl)
theorem dX6_twosBy_25 : decode cX6_twosBy 25 = .ok (.iload 4, 2) := dk_21 4 (dk_at dksX6_twosBy_1 1 rfl rfl)
theorem dX6_twosBy_27 : decode cX6_twosBy 27 = .ok (.if_icmp .eq 56, 3) := dk_159 0 56 (dk_at dksX6_twosBy_1 3 rfl rfl)
theorem dX6_twosBy_30 : decode cX6_twosBy 30 = .ok (.iload_n 3, 1) := dk_29 (dk_at dksX6_twosBy_1 6 rfl rfl)
theorem dX6_twosBy_31 : decode cX6_twosBy 31 = .ok (.iload_n 1, 1) := dk_27 (dk_at dksX6_twosBy_1 7 rfl rfl)
theorem dX6_twosBy_32 : decode cX6_twosBy 32 = .ok (.if_icmp .eq 51, 3) := dk_159 0 51 (dk_at dksX6_twosBy_1 8 rfl rfl)
theorem dX6_twosBy_35 : decode cX6_twosBy 35 = .ok (.iload 4, 2) := dk_21 4 (dk_at dksX6_twosBy_1 11 rfl rfl)
theorem dX6_twosBy_37 : decode cX6_twosBy 37 = .ok (.iload_n 1, 1) := dk_27 (dk_at dksX6_twosBy_1 13 rfl rfl)
theorem dX6_twosBy_38 : decode cX6_twosBy 38 = .ok (.if_icmp .eq 45, 3) := dk_159 0 45 (dk_at dksX6_twosBy_1 14 rfl rfl)
theorem dX6_twosBy_41 : decode cX6_twosBy 41 = .ok (.aload_n 0, 1) := dk_42 (dk_at dksX6_twosBy_1 17 rfl rfl)
theorem dX6_twosBy_42 : decode cX6_twosBy 42 = .ok (.iload_n 3, 1) := dk_29 (dk_at dksX6_twosBy_1 18 rfl rfl)
theorem dX6_twosBy_43 : decode cX6_twosBy 43 = .ok (.iload 4, 2) := dk_21 4 (dk_at dksX6_twosBy_1 19 rfl rfl)
theorem dX6_twosBy_45 : decode cX6_twosBy 45 = .ok (.invokevirtual 314, 3) := dk_182 1 58 (dk_at dksX6_twosBy_1 21 rfl rfl)
theorem dX6_twosBy_48 : decode cX6_twosBy 48 = .ok (.ldc 129, 2) := dk_18 129 (dk_at dksX6_twosBy_2 0 rfl rfl)
theorem dX6_twosBy_50 : decode cX6_twosBy 50 = .ok (.if_icmp .ge 33, 3) := dk_162 0 33 (dk_at dksX6_twosBy_2 2 rfl rfl)
theorem dX6_twosBy_53 : decode cX6_twosBy 53 = .ok (.aload_n 0, 1) := dk_42 (dk_at dksX6_twosBy_2 5 rfl rfl)
theorem dX6_twosBy_54 : decode cX6_twosBy 54 = .ok (.iload_n 3, 1) := dk_29 (dk_at dksX6_twosBy_2 6 rfl rfl)
theorem dX6_twosBy_55 : decode cX6_twosBy 55 = .ok (.iload_n 1, 1) := dk_27 (dk_at dksX6_twosBy_2 7 rfl rfl)
theorem dX6_twosBy_56 : decode cX6_twosBy 56 = .ok (.invokevirtual 314, 3) := dk_182 1 58 (dk_at dksX6_twosBy_2 8 rfl rfl)
theorem dX6_twosBy_59 : decode cX6_twosBy 59 = .ok (.aload_n 0, 1) := dk_42 (dk_at dksX6_twosBy_2 11 rfl rfl)
theorem dX6_twosBy_60 : decode cX6_twosBy 60 = .ok (.iload_n 1, 1) := dk_27 (dk_at dksX6_twosBy_2 12 rfl rfl)
theorem dX6_twosBy_61 : decode cX6_twosBy 61 = .ok (.iload 4, 2) := dk_21 4 (dk_at dksX6_twosBy_2 13 rfl rfl)
theorem dX6_twosBy_63 : decode cX6_twosBy 63 = .ok (.invokevirtual 314, 3) := dk_182 1 58 (dk_at dksX6_twosBy_2 15 rfl rfl)
theorem dX6_twosBy_66 : decode cX6_twosBy 66 = .ok (.invokestatic 300, 3) := dk_184 1 44 (dk_at dksX6_twosBy_2 18 rfl rfl)
theorem dX6_twosBy_69 : decode cX6_twosBy 69 = .ok (.aload_n 0, 1) := dk_42 (dk_at dksX6_twosBy_2 21 rfl rfl)
theorem dX6_twosBy_70 : decode cX6_twosBy 70 = .ok (.iload_n 3, 1) := dk_29 (dk_at dksX6_twosBy_2 22 rfl rfl)
theorem dX6_twosBy_71 : decode cX6_twosBy 71 = .ok (.iload 4, 2) := dk_21 4 (dk_at dksX6_twosBy_3 0 rfl rfl)
theorem dX6_twosBy_73 : decode cX6_twosBy 73 = .ok (.invokevirtual 314, 3) := dk_182 1 58 (dk_at dksX6_twosBy_3 2 rfl rfl)
theorem dX6_twosBy_76 : decode cX6_twosBy 76 = .ok (.if_icmp .ne 7, 3) := dk_160 0 7 (dk_at dksX6_twosBy_3 5 rfl rfl)
theorem dX6_twosBy_79 : decode cX6_twosBy 79 = .ok (.iload_n 2, 1) := dk_28 (dk_at dksX6_twosBy_3 8 rfl rfl)
theorem dX6_twosBy_80 : decode cX6_twosBy 80 = .ok (.iconst 1, 1) := dk_4 (dk_at dksX6_twosBy_3 9 rfl rfl)
theorem dX6_twosBy_81 : decode cX6_twosBy 81 = .ok (.iadd, 1) := dk_96 (dk_at dksX6_twosBy_3 10 rfl rfl)
theorem dX6_twosBy_82 : decode cX6_twosBy 82 = .ok (.istore_n 2, 1) := dk_61 (dk_at dksX6_twosBy_3 11 rfl rfl)
theorem dX6_twosBy_83 : decode cX6_twosBy 83 = .ok (.iinc 4 1, 3) := dk_132 4 1 (dk_at dksX6_twosBy_3 12 rfl rfl)
theorem dX6_twosBy_86 : decode cX6_twosBy 86 = .ok (.goto (-71), 3) := dk_167 255 185 (dk_at dksX6_twosBy_3 15 rfl rfl)
theorem dX6_twosBy_89 : decode cX6_twosBy 89 = .ok (.iinc 3 1, 3) := dk_132 3 1 (dk_at dksX6_twosBy_3 18 rfl rfl)
theorem dX6_twosBy_92 : decode cX6_twosBy 92 = .ok (.goto (-88), 3) := dk_167 255 168 (dk_at dksX6_twosBy_3 21 rfl rfl)
theorem dX6_twosBy_95 : decode cX6_twosBy 95 = .ok (.iload_n 2, 1) := dk_28 (dk_at dksX6_twosBy_4 0 rfl rfl)
theorem dX6_twosBy_96 : decode cX6_twosBy 96 = .ok (.ireturn, 1) := dk_172 (dk_at dksX6_twosBy_4 1 rfl rfl)
abbrev cX6_newWord : ByteArray := prog_17_method_76_code
def yX6_newWord : MethodName := ⟨RX6, "newWord", "(I)I"⟩
def dkwX6_newWord_7 : List UInt8 := [180, 0, 91, 27, 16, 10, 100, 46, 167, 0, 4, 2, 172]
abbrev dktX6_newWord_7 : List UInt8 := dkwX6_newWord_7 ++ []
def dkwX6_newWord_6 : List UInt8 := [5, 160, 0, 10, 42, 180, 1, 83, 167, 0, 27, 27, 16, 10, 100, 42, 180, 1, 83, 162, 0, 15, 42]
abbrev dktX6_newWord_6 : List UInt8 := dkwX6_newWord_6 ++ dktX6_newWord_7
def dkwX6_newWord_5 : List UInt8 := [27, 154, 0, 10, 42, 180, 1, 89, 167, 0, 51, 27, 4, 160, 0, 10, 42, 180, 1, 92, 167, 0, 39, 27]
abbrev dktX6_newWord_5 : List UInt8 := dkwX6_newWord_5 ++ dktX6_newWord_6
def dkwX6_newWord_4 : List UInt8 := [153, 0, 8, 42, 28, 182, 1, 111, 132, 2, 1, 167, 255, 232, 42, 180, 1, 89, 154, 0, 6, 16, 254, 172]
abbrev dktX6_newWord_4 : List UInt8 := dkwX6_newWord_4 ++ dktX6_newWord_5
def dkwX6_newWord_3 : List UInt8 := [79, 132, 2, 1, 167, 255, 226, 3, 61, 28, 42, 180, 0, 130, 162, 0, 22, 42, 28, 182, 1, 26]
abbrev dktX6_newWord_3 : List UInt8 := dkwX6_newWord_3 ++ dktX6_newWord_4
def dkwX6_newWord_2 : List UInt8 := [180, 0, 130, 162, 0, 28, 42, 28, 182, 1, 26, 153, 0, 14, 42, 180, 0, 94, 28, 42, 28, 182, 1, 70]
abbrev dktX6_newWord_2 : List UInt8 := dkwX6_newWord_2 ++ dktX6_newWord_3
def dkwX6_newWord_1 : List UInt8 := [182, 1, 50, 42, 3, 181, 1, 89, 42, 3, 181, 1, 92, 42, 16, 99, 181, 1, 83, 3, 61, 28, 42]
abbrev dktX6_newWord_1 : List UInt8 := dkwX6_newWord_1 ++ dktX6_newWord_2
def dkwX6_newWord_0 : List UInt8 := [27, 3, 5, 184, 0, 139, 154, 0, 16, 27, 16, 10, 16, 17, 184, 0, 139, 154, 0, 5, 2, 172, 42]
abbrev dktX6_newWord_0 : List UInt8 := dkwX6_newWord_0 ++ dktX6_newWord_1
theorem dksX6_newWord_0 : cX6_newWord.data.toList.drop 0 = dktX6_newWord_0 := by decide +kernel
theorem dksX6_newWord_1 : cX6_newWord.data.toList.drop 23 = dktX6_newWord_1 := dk_seg dksX6_newWord_0 23 rfl rfl
theorem dksX6_newWord_2 : cX6_newWord.data.toList.drop 46 = dktX6_newWord_2 := dk_seg dksX6_newWord_1 23 rfl rfl
theorem dksX6_newWord_3 : cX6_newWord.data.toList.drop 70 = dktX6_newWord_3 := dk_seg dksX6_newWord_2 24 rfl rfl
theorem dksX6_newWord_4 : cX6_newWord.data.toList.drop 92 = dktX6_newWord_4 := dk_seg dksX6_newWord_3 22 rfl rfl
theorem dksX6_newWord_5 : cX6_newWord.data.toList.drop 116 = dktX6_newWord_5 := dk_seg dksX6_newWord_4 24 rfl rfl
theorem dksX6_newWord_6 : cX6_newWord.data.toList.drop 140 = dktX6_newWord_6 := dk_seg dksX6_newWord_5 24 rfl rfl
theorem dksX6_newWord_7 : cX6_newWord.data.toList.drop 163 = dktX6_newWord_7 := dk_seg dksX6_newWord_6 23 rfl rfl
theorem dX6_newWord_0 : decode cX6_newWord 0 = .ok (.iload_n 1, 1) := dk_27 (dk_at dksX6_newWord_0 0 rfl rfl)
theorem dX6_newWord_1 : decode cX6_newWord 1 = .ok (.iconst 0, 1) := dk_3 (dk_at dksX6_newWord_0 1 rfl rfl)
theorem dX6_newWord_2 : decode cX6_newWord 2 = .ok (.iconst 2, 1) := dk_5 (dk_at dksX6_newWord_0 2 rfl rfl)
theorem dX6_newWord_3 : decode cX6_newWord 3 = .ok (.invokestatic 139, 3) := dk_184 0 139 (dk_at dksX6_newWord_0 3 rfl rfl)
theorem dX6_newWord_6 : decode cX6_newWord 6 = .ok (.ifCond .ne 16, 3) := dk_154 0 16 (dk_at dksX6_newWord_0 6 rfl rfl)
theorem dX6_newWord_9 : decode cX6_newWord 9 = .ok (.iload_n 1, 1) := dk_27 (dk_at dksX6_newWord_0 9 rfl rfl)
theorem dX6_newWord_10 : decode cX6_newWord 10 = .ok (.bipush 10, 2) := dk_16 10 (dk_at dksX6_newWord_0 10 rfl rfl)
theorem dX6_newWord_12 : decode cX6_newWord 12 = .ok (.bipush 17, 2) := dk_16 17 (dk_at dksX6_newWord_0 12 rfl rfl)
theorem dX6_newWord_14 : decode cX6_newWord 14 = .ok (.invokestatic 139, 3) := dk_184 0 139 (dk_at dksX6_newWord_0 14 rfl rfl)
theorem dX6_newWord_17 : decode cX6_newWord 17 = .ok (.ifCond .ne 5, 3) := dk_154 0 5 (dk_at dksX6_newWord_0 17 rfl rfl)
theorem dX6_newWord_20 : decode cX6_newWord 20 = .ok (.iconst (-1), 1) := dk_2 (dk_at dksX6_newWord_0 20 rfl rfl)
theorem dX6_newWord_21 : decode cX6_newWord 21 = .ok (.ireturn, 1) := dk_172 (dk_at dksX6_newWord_0 21 rfl rfl)
theorem dX6_newWord_22 : decode cX6_newWord 22 = .ok (.aload_n 0, 1) := dk_42 (dk_at dksX6_newWord_0 22 rfl rfl)
theorem dX6_newWord_23 : decode cX6_newWord 23 = .ok (.invokevirtual 306, 3) := dk_182 1 50 (dk_at dksX6_newWord_1 0 rfl rfl)
theorem dX6_newWord_26 : decode cX6_newWord 26 = .ok (.aload_n 0, 1) := dk_42 (dk_at dksX6_newWord_1 3 rfl rfl)
theorem dX6_newWord_27 : decode cX6_newWord 27 = .ok (.iconst 0, 1) := dk_3 (dk_at dksX6_newWord_1 4 rfl rfl)
theorem dX6_newWord_28 : decode cX6_newWord 28 = .ok (.putfield 345, 3) := dk_181 1 89 (dk_at dksX6_newWord_1 5 rfl rfl)
theorem dX6_newWord_31 : decode cX6_newWord 31 = .ok (.aload_n 0, 1) := dk_42 (dk_at dksX6_newWord_1 8 rfl rfl)
theorem dX6_newWord_32 : decode cX6_newWord 32 = .ok (.iconst 0, 1) := dk_3 (dk_at dksX6_newWord_1 9 rfl rfl)
theorem dX6_newWord_33 : decode cX6_newWord 33 = .ok (.putfield 348, 3) := dk_181 1 92 (dk_at dksX6_newWord_1 10 rfl rfl)
theorem dX6_newWord_36 : decode cX6_newWord 36 = .ok (.aload_n 0, 1) := dk_42 (dk_at dksX6_newWord_1 13 rfl rfl)
theorem dX6_newWord_37 : decode cX6_newWord 37 = .ok (.bipush 99, 2) := dk_16 99 (dk_at dksX6_newWord_1 14 rfl rfl)
theorem dX6_newWord_39 : decode cX6_newWord 39 = .ok (.putfield 339, 3) := dk_181 1 83 (dk_at dksX6_newWord_1 16 rfl rfl)
theorem dX6_newWord_42 : decode cX6_newWord 42 = .ok (.iconst 0, 1) := dk_3 (dk_at dksX6_newWord_1 19 rfl rfl)
theorem dX6_newWord_43 : decode cX6_newWord 43 = .ok (.istore_n 2, 1) := dk_61 (dk_at dksX6_newWord_1 20 rfl rfl)
theorem dX6_newWord_44 : decode cX6_newWord 44 = .ok (.iload_n 2, 1) := dk_28 (dk_at dksX6_newWord_1 21 rfl rfl)
theorem dX6_newWord_45 : decode cX6_newWord 45 = .ok (.aload_n 0, 1) := dk_42 (dk_at dksX6_newWord_1 22 rfl rfl)
theorem dX6_newWord_46 : decode cX6_newWord 46 = .ok (.getfield 130, 3) := dk_180 0 130 (dk_at dksX6_newWord_2 0 rfl rfl)
theorem dX6_newWord_49 : decode cX6_newWord 49 = .ok (.if_icmp .ge 28, 3) := dk_162 0 28 (dk_at dksX6_newWord_2 3 rfl rfl)
theorem dX6_newWord_52 : decode cX6_newWord 52 = .ok (.aload_n 0, 1) := dk_42 (dk_at dksX6_newWord_2 6 rfl rfl)
theorem dX6_newWord_53 : decode cX6_newWord 53 = .ok (.iload_n 2, 1) := dk_28 (dk_at dksX6_newWord_2 7 rfl rfl)
theorem dX6_newWord_54 : decode cX6_newWord 54 = .ok (.invokevirtual 282, 3) := dk_182 1 26 (dk_at dksX6_newWord_2 8 rfl rfl)
theorem dX6_newWord_57 : decode cX6_newWord 57 = .ok (.ifCond .eq 14, 3) := dk_153 0 14 (dk_at dksX6_newWord_2 11 rfl rfl)
theorem dX6_newWord_60 : decode cX6_newWord 60 = .ok (.aload_n 0, 1) := dk_42 (dk_at dksX6_newWord_2 14 rfl rfl)
theorem dX6_newWord_61 : decode cX6_newWord 61 = .ok (.getfield 94, 3) := dk_180 0 94 (dk_at dksX6_newWord_2 15 rfl rfl)
theorem dX6_newWord_64 : decode cX6_newWord 64 = .ok (.iload_n 2, 1) := dk_28 (dk_at dksX6_newWord_2 18 rfl rfl)
theorem dX6_newWord_65 : decode cX6_newWord 65 = .ok (.aload_n 0, 1) := dk_42 (dk_at dksX6_newWord_2 19 rfl rfl)
theorem dX6_newWord_66 : decode cX6_newWord 66 = .ok (.iload_n 2, 1) := dk_28 (dk_at dksX6_newWord_2 20 rfl rfl)
theorem dX6_newWord_67 : decode cX6_newWord 67 = .ok (.invokevirtual 326, 3) := dk_182 1 70 (dk_at dksX6_newWord_2 21 rfl rfl)
theorem dX6_newWord_70 : decode cX6_newWord 70 = .ok (.iastore, 1) := dk_79 (dk_at dksX6_newWord_3 0 rfl rfl)
theorem dX6_newWord_71 : decode cX6_newWord 71 = .ok (.iinc 2 1, 3) := dk_132 2 1 (dk_at dksX6_newWord_3 1 rfl rfl)
theorem dX6_newWord_74 : decode cX6_newWord 74 = .ok (.goto (-30), 3) := dk_167 255 226 (dk_at dksX6_newWord_3 4 rfl rfl)
theorem dX6_newWord_77 : decode cX6_newWord 77 = .ok (.iconst 0, 1) := dk_3 (dk_at dksX6_newWord_3 7 rfl rfl)
theorem dX6_newWord_78 : decode cX6_newWord 78 = .ok (.istore_n 2, 1) := dk_61 (dk_at dksX6_newWord_3 8 rfl rfl)
theorem dX6_newWord_79 : decode cX6_newWord 79 = .ok (.iload_n 2, 1) := dk_28 (dk_at dksX6_newWord_3 9 rfl rfl)
theorem dX6_newWord_80 : decode cX6_newWord 80 = .ok (.aload_n 0, 1) := dk_42 (dk_at dksX6_newWord_3 10 rfl rfl)
theorem dX6_newWord_81 : decode cX6_newWord 81 = .ok (.getfield 130, 3) := dk_180 0 130 (dk_at dksX6_newWord_3 11 rfl rfl)
theorem dX6_newWord_84 : decode cX6_newWord 84 = .ok (.if_icmp .ge 22, 3) := dk_162 0 22 (dk_at dksX6_newWord_3 14 rfl rfl)
theorem dX6_newWord_87 : decode cX6_newWord 87 = .ok (.aload_n 0, 1) := dk_42 (dk_at dksX6_newWord_3 17 rfl rfl)
theorem dX6_newWord_88 : decode cX6_newWord 88 = .ok (.iload_n 2, 1) := dk_28 (dk_at dksX6_newWord_3 18 rfl rfl)
theorem dX6_newWord_89 : decode cX6_newWord 89 = .ok (.invokevirtual 282, 3) := dk_182 1 26 (dk_at dksX6_newWord_3 19 rfl rfl)
theorem dX6_newWord_92 : decode cX6_newWord 92 = .ok (.ifCond .eq 8, 3) := dk_153 0 8 (dk_at dksX6_newWord_4 0 rfl rfl)
theorem dX6_newWord_95 : decode cX6_newWord 95 = .ok (.aload_n 0, 1) := dk_42 (dk_at dksX6_newWord_4 3 rfl rfl)
theorem dX6_newWord_96 : decode cX6_newWord 96 = .ok (.iload_n 2, 1) := dk_28 (dk_at dksX6_newWord_4 4 rfl rfl)
theorem dX6_newWord_97 : decode cX6_newWord 97 = .ok (.invokevirtual 367, 3) := dk_182 1 111 (dk_at dksX6_newWord_4 5 rfl rfl)
theorem dX6_newWord_100 : decode cX6_newWord 100 = .ok (.iinc 2 1, 3) := dk_132 2 1 (dk_at dksX6_newWord_4 8 rfl rfl)
theorem dX6_newWord_103 : decode cX6_newWord 103 = .ok (.goto (-24), 3) := dk_167 255 232 (dk_at dksX6_newWord_4 11 rfl rfl)
theorem dX6_newWord_106 : decode cX6_newWord 106 = .ok (.aload_n 0, 1) := dk_42 (dk_at dksX6_newWord_4 14 rfl rfl)
theorem dX6_newWord_107 : decode cX6_newWord 107 = .ok (.getfield 345, 3) := dk_180 1 89 (dk_at dksX6_newWord_4 15 rfl rfl)
theorem dX6_newWord_110 : decode cX6_newWord 110 = .ok (.ifCond .ne 6, 3) := dk_154 0 6 (dk_at dksX6_newWord_4 18 rfl rfl)
theorem dX6_newWord_113 : decode cX6_newWord 113 = .ok (.bipush (-2), 2) := dk_16 254 (dk_at dksX6_newWord_4 21 rfl rfl)
theorem dX6_newWord_115 : decode cX6_newWord 115 = .ok (.ireturn, 1) := dk_172 (dk_at dksX6_newWord_4 23 rfl rfl)
theorem dX6_newWord_116 : decode cX6_newWord 116 = .ok (.iload_n 1, 1) := dk_27 (dk_at dksX6_newWord_5 0 rfl rfl)
theorem dX6_newWord_117 : decode cX6_newWord 117 = .ok (.ifCond .ne 10, 3) := dk_154 0 10 (dk_at dksX6_newWord_5 1 rfl rfl)
theorem dX6_newWord_120 : decode cX6_newWord 120 = .ok (.aload_n 0, 1) := dk_42 (dk_at dksX6_newWord_5 4 rfl rfl)
theorem dX6_newWord_121 : decode cX6_newWord 121 = .ok (.getfield 345, 3) := dk_180 1 89 (dk_at dksX6_newWord_5 5 rfl rfl)
theorem dX6_newWord_124 : decode cX6_newWord 124 = .ok (.goto 51, 3) := dk_167 0 51 (dk_at dksX6_newWord_5 8 rfl rfl)
theorem dX6_newWord_127 : decode cX6_newWord 127 = .ok (.iload_n 1, 1) := dk_27 (dk_at dksX6_newWord_5 11 rfl rfl)
theorem dX6_newWord_128 : decode cX6_newWord 128 = .ok (.iconst 1, 1) := dk_4 (dk_at dksX6_newWord_5 12 rfl rfl)
theorem dX6_newWord_129 : decode cX6_newWord 129 = .ok (.if_icmp .ne 10, 3) := dk_160 0 10 (dk_at dksX6_newWord_5 13 rfl rfl)
theorem dX6_newWord_132 : decode cX6_newWord 132 = .ok (.aload_n 0, 1) := dk_42 (dk_at dksX6_newWord_5 16 rfl rfl)
theorem dX6_newWord_133 : decode cX6_newWord 133 = .ok (.getfield 348, 3) := dk_180 1 92 (dk_at dksX6_newWord_5 17 rfl rfl)
theorem dX6_newWord_136 : decode cX6_newWord 136 = .ok (.goto 39, 3) := dk_167 0 39 (dk_at dksX6_newWord_5 20 rfl rfl)
theorem dX6_newWord_139 : decode cX6_newWord 139 = .ok (.iload_n 1, 1) := dk_27 (dk_at dksX6_newWord_5 23 rfl rfl)
theorem dX6_newWord_140 : decode cX6_newWord 140 = .ok (.iconst 2, 1) := dk_5 (dk_at dksX6_newWord_6 0 rfl rfl)
theorem dX6_newWord_141 : decode cX6_newWord 141 = .ok (.if_icmp .ne 10, 3) := dk_160 0 10 (dk_at dksX6_newWord_6 1 rfl rfl)
theorem dX6_newWord_144 : decode cX6_newWord 144 = .ok (.aload_n 0, 1) := dk_42 (dk_at dksX6_newWord_6 4 rfl rfl)
theorem dX6_newWord_145 : decode cX6_newWord 145 = .ok (.getfield 339, 3) := dk_180 1 83 (dk_at dksX6_newWord_6 5 rfl rfl)
theorem dX6_newWord_148 : decode cX6_newWord 148 = .ok (.goto 27, 3) := dk_167 0 27 (dk_at dksX6_newWord_6 8 rfl rfl)
theorem dX6_newWord_151 : decode cX6_newWord 151 = .ok (.iload_n 1, 1) := dk_27 (dk_at dksX6_newWord_6 11 rfl rfl)
theorem dX6_newWord_152 : decode cX6_newWord 152 = .ok (.bipush 10, 2) := dk_16 10 (dk_at dksX6_newWord_6 12 rfl rfl)
theorem dX6_newWord_154 : decode cX6_newWord 154 = .ok (.isub, 1) := dk_100 (dk_at dksX6_newWord_6 14 rfl rfl)
theorem dX6_newWord_155 : decode cX6_newWord 155 = .ok (.aload_n 0, 1) := dk_42 (dk_at dksX6_newWord_6 15 rfl rfl)
theorem dX6_newWord_156 : decode cX6_newWord 156 = .ok (.getfield 339, 3) := dk_180 1 83 (dk_at dksX6_newWord_6 16 rfl rfl)
theorem dX6_newWord_159 : decode cX6_newWord 159 = .ok (.if_icmp .ge 15, 3) := dk_162 0 15 (dk_at dksX6_newWord_6 19 rfl rfl)
theorem dX6_newWord_162 : decode cX6_newWord 162 = .ok (.aload_n 0, 1) := dk_42 (dk_at dksX6_newWord_6 22 rfl rfl)
theorem dX6_newWord_163 : decode cX6_newWord 163 = .ok (.getfield 91, 3) := dk_180 0 91 (dk_at dksX6_newWord_7 0 rfl rfl)
theorem dX6_newWord_166 : decode cX6_newWord 166 = .ok (.iload_n 1, 1) := dk_27 (dk_at dksX6_newWord_7 3 rfl rfl)
theorem dX6_newWord_167 : decode cX6_newWord 167 = .ok (.bipush 10, 2) := dk_16 10 (dk_at dksX6_newWord_7 4 rfl rfl)
theorem dX6_newWord_169 : decode cX6_newWord 169 = .ok (.isub, 1) := dk_100 (dk_at dksX6_newWord_7 6 rfl rfl)
theorem dX6_newWord_170 : decode cX6_newWord 170 = .ok (.iaload, 1) := dk_46 (dk_at dksX6_newWord_7 7 rfl rfl)
theorem dX6_newWord_171 : decode cX6_newWord 171 = .ok (.goto 4, 3) := dk_167 0 4 (dk_at dksX6_newWord_7 8 rfl rfl)
theorem dX6_newWord_174 : decode cX6_newWord 174 = .ok (.iconst (-1), 1) := dk_2 (dk_at dksX6_newWord_7 11 rfl rfl)
theorem dX6_newWord_175 : decode cX6_newWord 175 = .ok (.ireturn, 1) := dk_172 (dk_at dksX6_newWord_7 12 rfl rfl)
abbrev cX6_triesAbout : ByteArray := prog_17_method_75_code
def yX6_triesAbout : MethodName := ⟨RX6, "triesAbout", "(I)V"⟩
def dkwX6_triesAbout_6 : List UInt8 := [182, 1, 102, 132, 2, 1, 167, 255, 114, 177]
abbrev dktX6_triesAbout_6 : List UInt8 := dkwX6_triesAbout_6 ++ []
def dkwX6_triesAbout_5 : List UInt8 := [28, 4, 96, 182, 1, 6, 79, 42, 180, 0, 26, 28, 4, 96, 42, 27, 28, 182, 1, 6, 79, 42]
abbrev dktX6_triesAbout_5 : List UInt8 := dkwX6_triesAbout_5 ++ dktX6_triesAbout_6
def dkwX6_triesAbout_4 : List UInt8 := [42, 180, 0, 7, 27, 46, 160, 0, 6, 167, 0, 40, 42, 27, 182, 1, 105, 42, 180, 0, 26, 28, 42, 27]
abbrev dktX6_triesAbout_4 : List UInt8 := dkwX6_triesAbout_4 ++ dktX6_triesAbout_5
def dkwX6_triesAbout_3 : List UInt8 := [180, 0, 7, 27, 46, 160, 0, 6, 167, 0, 65, 42, 27, 28, 182, 1, 108, 42, 182, 1, 102, 28, 4, 96]
abbrev dktX6_triesAbout_3 : List UInt8 := dkwX6_triesAbout_3 ++ dktX6_triesAbout_4
def dkwX6_triesAbout_2 : List UInt8 := [182, 1, 105, 42, 180, 0, 26, 28, 29, 79, 42, 182, 1, 102, 132, 3, 1, 167, 255, 207, 28, 42]
abbrev dktX6_triesAbout_2 : List UInt8 := dkwX6_triesAbout_2 ++ dktX6_triesAbout_3
def dkwX6_triesAbout_1 : List UInt8 := [182, 1, 98, 42, 182, 1, 102, 28, 42, 180, 0, 7, 27, 46, 160, 0, 6, 167, 0, 19, 42, 27]
abbrev dktX6_triesAbout_1 : List UInt8 := dkwX6_triesAbout_1 ++ dktX6_triesAbout_2
def dkwX6_triesAbout_0 : List UInt8 := [3, 61, 28, 42, 180, 0, 7, 27, 46, 163, 0, 138, 3, 62, 29, 16, 26, 162, 0, 49, 42, 27, 28, 29]
abbrev dktX6_triesAbout_0 : List UInt8 := dkwX6_triesAbout_0 ++ dktX6_triesAbout_1
theorem dksX6_triesAbout_0 : cX6_triesAbout.data.toList.drop 0 = dktX6_triesAbout_0 := by decide +kernel
theorem dksX6_triesAbout_1 : cX6_triesAbout.data.toList.drop 24 = dktX6_triesAbout_1 := dk_seg dksX6_triesAbout_0 24 rfl rfl
theorem dksX6_triesAbout_2 : cX6_triesAbout.data.toList.drop 46 = dktX6_triesAbout_2 := dk_seg dksX6_triesAbout_1 22 rfl rfl
theorem dksX6_triesAbout_3 : cX6_triesAbout.data.toList.drop 68 = dktX6_triesAbout_3 := dk_seg dksX6_triesAbout_2 22 rfl rfl
theorem dksX6_triesAbout_4 : cX6_triesAbout.data.toList.drop 92 = dktX6_triesAbout_4 := dk_seg dksX6_triesAbout_3 24 rfl rfl
theorem dksX6_triesAbout_5 : cX6_triesAbout.data.toList.drop 116 = dktX6_triesAbout_5 := dk_seg dksX6_triesAbout_4 24 rfl rfl
theorem dksX6_triesAbout_6 : cX6_triesAbout.data.toList.drop 138 = dktX6_triesAbout_6 := dk_seg dksX6_triesAbout_5 22 rfl rfl
theorem dX6_triesAbout_0 : decode cX6_triesAbout 0 = .ok (.iconst 0, 1) := dk_3 (dk_at dksX6_triesAbout_0 0 rfl rfl)
theorem dX6_triesAbout_1 : decode cX6_triesAbout 1 = .ok (.istore_n 2, 1) := dk_61 (dk_at dksX6_triesAbout_0 1 rfl rfl)
theorem dX6_triesAbout_2 : decode cX6_triesAbout 2 = .ok (.iload_n 2, 1) := dk_28 (dk_at dksX6_triesAbout_0 2 rfl rfl)
theorem dX6_triesAbout_3 : decode cX6_triesAbout 3 = .ok (.aload_n 0, 1) := dk_42 (dk_at dksX6_triesAbout_0 3 rfl rfl)
theorem dX6_triesAbout_4 : decode cX6_triesAbout 4 = .ok (.getfield 7, 3) := dk_180 0 7 (dk_at dksX6_triesAbout_0 4 rfl rfl)
theorem dX6_triesAbout_7 : decode cX6_triesAbout 7 = .ok (.iload_n 1, 1) := dk_27 (dk_at dksX6_triesAbout_0 7 rfl rfl)
theorem dX6_triesAbout_8 : decode cX6_triesAbout 8 = .ok (.iaload, 1) := dk_46 (dk_at dksX6_triesAbout_0 8 rfl rfl)
theorem dX6_triesAbout_9 : decode cX6_triesAbout 9 = .ok (.if_icmp .gt 138, 3) := dk_163 0 138 (dk_at dksX6_triesAbout_0 9 rfl rfl)
theorem dX6_triesAbout_12 : decode cX6_triesAbout 12 = .ok (.iconst 0, 1) := dk_3 (dk_at dksX6_triesAbout_0 12 rfl rfl)
theorem dX6_triesAbout_13 : decode cX6_triesAbout 13 = .ok (.istore_n 3, 1) := dk_62 (dk_at dksX6_triesAbout_0 13 rfl rfl)
theorem dX6_triesAbout_14 : decode cX6_triesAbout 14 = .ok (.iload_n 3, 1) := dk_29 (dk_at dksX6_triesAbout_0 14 rfl rfl)
theorem dX6_triesAbout_15 : decode cX6_triesAbout 15 = .ok (.bipush 26, 2) := dk_16 26 (dk_at dksX6_triesAbout_0 15 rfl rfl)
theorem dX6_triesAbout_17 : decode cX6_triesAbout 17 = .ok (.if_icmp .ge 49, 3) := dk_162 0 49 (dk_at dksX6_triesAbout_0 17 rfl rfl)
theorem dX6_triesAbout_20 : decode cX6_triesAbout 20 = .ok (.aload_n 0, 1) := dk_42 (dk_at dksX6_triesAbout_0 20 rfl rfl)
theorem dX6_triesAbout_21 : decode cX6_triesAbout 21 = .ok (.iload_n 1, 1) := dk_27 (dk_at dksX6_triesAbout_0 21 rfl rfl)
theorem dX6_triesAbout_22 : decode cX6_triesAbout 22 = .ok (.iload_n 2, 1) := dk_28 (dk_at dksX6_triesAbout_0 22 rfl rfl)
theorem dX6_triesAbout_23 : decode cX6_triesAbout 23 = .ok (.iload_n 3, 1) := dk_29 (dk_at dksX6_triesAbout_0 23 rfl rfl)
theorem dX6_triesAbout_24 : decode cX6_triesAbout 24 = .ok (.invokevirtual 354, 3) := dk_182 1 98 (dk_at dksX6_triesAbout_1 0 rfl rfl)
theorem dX6_triesAbout_27 : decode cX6_triesAbout 27 = .ok (.aload_n 0, 1) := dk_42 (dk_at dksX6_triesAbout_1 3 rfl rfl)
theorem dX6_triesAbout_28 : decode cX6_triesAbout 28 = .ok (.invokevirtual 358, 3) := dk_182 1 102 (dk_at dksX6_triesAbout_1 4 rfl rfl)
theorem dX6_triesAbout_31 : decode cX6_triesAbout 31 = .ok (.iload_n 2, 1) := dk_28 (dk_at dksX6_triesAbout_1 7 rfl rfl)
theorem dX6_triesAbout_32 : decode cX6_triesAbout 32 = .ok (.aload_n 0, 1) := dk_42 (dk_at dksX6_triesAbout_1 8 rfl rfl)
theorem dX6_triesAbout_33 : decode cX6_triesAbout 33 = .ok (.getfield 7, 3) := dk_180 0 7 (dk_at dksX6_triesAbout_1 9 rfl rfl)
theorem dX6_triesAbout_36 : decode cX6_triesAbout 36 = .ok (.iload_n 1, 1) := dk_27 (dk_at dksX6_triesAbout_1 12 rfl rfl)
theorem dX6_triesAbout_37 : decode cX6_triesAbout 37 = .ok (.iaload, 1) := dk_46 (dk_at dksX6_triesAbout_1 13 rfl rfl)
theorem dX6_triesAbout_38 : decode cX6_triesAbout 38 = .ok (.if_icmp .ne 6, 3) := dk_160 0 6 (dk_at dksX6_triesAbout_1 14 rfl rfl)
theorem dX6_triesAbout_41 : decode cX6_triesAbout 41 = .ok (.goto 19, 3) := dk_167 0 19 (dk_at dksX6_triesAbout_1 17 rfl rfl)
theorem dX6_triesAbout_44 : decode cX6_triesAbout 44 = .ok (.aload_n 0, 1) := dk_42 (dk_at dksX6_triesAbout_1 20 rfl rfl)
theorem dX6_triesAbout_45 : decode cX6_triesAbout 45 = .ok (.iload_n 1, 1) := dk_27 (dk_at dksX6_triesAbout_1 21 rfl rfl)
theorem dX6_triesAbout_46 : decode cX6_triesAbout 46 = .ok (.invokevirtual 361, 3) := dk_182 1 105 (dk_at dksX6_triesAbout_2 0 rfl rfl)
theorem dX6_triesAbout_49 : decode cX6_triesAbout 49 = .ok (.aload_n 0, 1) := dk_42 (dk_at dksX6_triesAbout_2 3 rfl rfl)
theorem dX6_triesAbout_50 : decode cX6_triesAbout 50 = .ok (.getfield 26, 3) := dk_180 0 26 (dk_at dksX6_triesAbout_2 4 rfl rfl)
theorem dX6_triesAbout_53 : decode cX6_triesAbout 53 = .ok (.iload_n 2, 1) := dk_28 (dk_at dksX6_triesAbout_2 7 rfl rfl)
theorem dX6_triesAbout_54 : decode cX6_triesAbout 54 = .ok (.iload_n 3, 1) := dk_29 (dk_at dksX6_triesAbout_2 8 rfl rfl)
theorem dX6_triesAbout_55 : decode cX6_triesAbout 55 = .ok (.iastore, 1) := dk_79 (dk_at dksX6_triesAbout_2 9 rfl rfl)
theorem dX6_triesAbout_56 : decode cX6_triesAbout 56 = .ok (.aload_n 0, 1) := dk_42 (dk_at dksX6_triesAbout_2 10 rfl rfl)
theorem dX6_triesAbout_57 : decode cX6_triesAbout 57 = .ok (.invokevirtual 358, 3) := dk_182 1 102 (dk_at dksX6_triesAbout_2 11 rfl rfl)
theorem dX6_triesAbout_60 : decode cX6_triesAbout 60 = .ok (.iinc 3 1, 3) := dk_132 3 1 (dk_at dksX6_triesAbout_2 14 rfl rfl)
theorem dX6_triesAbout_63 : decode cX6_triesAbout 63 = .ok (.goto (-49), 3) := dk_167 255 207 (dk_at dksX6_triesAbout_2 17 rfl rfl)
theorem dX6_triesAbout_66 : decode cX6_triesAbout 66 = .ok (.iload_n 2, 1) := dk_28 (dk_at dksX6_triesAbout_2 20 rfl rfl)
theorem dX6_triesAbout_67 : decode cX6_triesAbout 67 = .ok (.aload_n 0, 1) := dk_42 (dk_at dksX6_triesAbout_2 21 rfl rfl)
theorem dX6_triesAbout_68 : decode cX6_triesAbout 68 = .ok (.getfield 7, 3) := dk_180 0 7 (dk_at dksX6_triesAbout_3 0 rfl rfl)
theorem dX6_triesAbout_71 : decode cX6_triesAbout 71 = .ok (.iload_n 1, 1) := dk_27 (dk_at dksX6_triesAbout_3 3 rfl rfl)
theorem dX6_triesAbout_72 : decode cX6_triesAbout 72 = .ok (.iaload, 1) := dk_46 (dk_at dksX6_triesAbout_3 4 rfl rfl)
theorem dX6_triesAbout_73 : decode cX6_triesAbout 73 = .ok (.if_icmp .ne 6, 3) := dk_160 0 6 (dk_at dksX6_triesAbout_3 5 rfl rfl)
theorem dX6_triesAbout_76 : decode cX6_triesAbout 76 = .ok (.goto 65, 3) := dk_167 0 65 (dk_at dksX6_triesAbout_3 8 rfl rfl)
theorem dX6_triesAbout_79 : decode cX6_triesAbout 79 = .ok (.aload_n 0, 1) := dk_42 (dk_at dksX6_triesAbout_3 11 rfl rfl)
theorem dX6_triesAbout_80 : decode cX6_triesAbout 80 = .ok (.iload_n 1, 1) := dk_27 (dk_at dksX6_triesAbout_3 12 rfl rfl)
theorem dX6_triesAbout_81 : decode cX6_triesAbout 81 = .ok (.iload_n 2, 1) := dk_28 (dk_at dksX6_triesAbout_3 13 rfl rfl)
theorem dX6_triesAbout_82 : decode cX6_triesAbout 82 = .ok (.invokevirtual 364, 3) := dk_182 1 108 (dk_at dksX6_triesAbout_3 14 rfl rfl)
theorem dX6_triesAbout_85 : decode cX6_triesAbout 85 = .ok (.aload_n 0, 1) := dk_42 (dk_at dksX6_triesAbout_3 17 rfl rfl)
theorem dX6_triesAbout_86 : decode cX6_triesAbout 86 = .ok (.invokevirtual 358, 3) := dk_182 1 102 (dk_at dksX6_triesAbout_3 18 rfl rfl)
theorem dX6_triesAbout_89 : decode cX6_triesAbout 89 = .ok (.iload_n 2, 1) := dk_28 (dk_at dksX6_triesAbout_3 21 rfl rfl)
theorem dX6_triesAbout_90 : decode cX6_triesAbout 90 = .ok (.iconst 1, 1) := dk_4 (dk_at dksX6_triesAbout_3 22 rfl rfl)
theorem dX6_triesAbout_91 : decode cX6_triesAbout 91 = .ok (.iadd, 1) := dk_96 (dk_at dksX6_triesAbout_3 23 rfl rfl)
theorem dX6_triesAbout_92 : decode cX6_triesAbout 92 = .ok (.aload_n 0, 1) := dk_42 (dk_at dksX6_triesAbout_4 0 rfl rfl)
theorem dX6_triesAbout_93 : decode cX6_triesAbout 93 = .ok (.getfield 7, 3) := dk_180 0 7 (dk_at dksX6_triesAbout_4 1 rfl rfl)
theorem dX6_triesAbout_96 : decode cX6_triesAbout 96 = .ok (.iload_n 1, 1) := dk_27 (dk_at dksX6_triesAbout_4 4 rfl rfl)
theorem dX6_triesAbout_97 : decode cX6_triesAbout 97 = .ok (.iaload, 1) := dk_46 (dk_at dksX6_triesAbout_4 5 rfl rfl)
theorem dX6_triesAbout_98 : decode cX6_triesAbout 98 = .ok (.if_icmp .ne 6, 3) := dk_160 0 6 (dk_at dksX6_triesAbout_4 6 rfl rfl)
theorem dX6_triesAbout_101 : decode cX6_triesAbout 101 = .ok (.goto 40, 3) := dk_167 0 40 (dk_at dksX6_triesAbout_4 9 rfl rfl)
theorem dX6_triesAbout_104 : decode cX6_triesAbout 104 = .ok (.aload_n 0, 1) := dk_42 (dk_at dksX6_triesAbout_4 12 rfl rfl)
theorem dX6_triesAbout_105 : decode cX6_triesAbout 105 = .ok (.iload_n 1, 1) := dk_27 (dk_at dksX6_triesAbout_4 13 rfl rfl)
theorem dX6_triesAbout_106 : decode cX6_triesAbout 106 = .ok (.invokevirtual 361, 3) := dk_182 1 105 (dk_at dksX6_triesAbout_4 14 rfl rfl)
theorem dX6_triesAbout_109 : decode cX6_triesAbout 109 = .ok (.aload_n 0, 1) := dk_42 (dk_at dksX6_triesAbout_4 17 rfl rfl)
theorem dX6_triesAbout_110 : decode cX6_triesAbout 110 = .ok (.getfield 26, 3) := dk_180 0 26 (dk_at dksX6_triesAbout_4 18 rfl rfl)
theorem dX6_triesAbout_113 : decode cX6_triesAbout 113 = .ok (.iload_n 2, 1) := dk_28 (dk_at dksX6_triesAbout_4 21 rfl rfl)
theorem dX6_triesAbout_114 : decode cX6_triesAbout 114 = .ok (.aload_n 0, 1) := dk_42 (dk_at dksX6_triesAbout_4 22 rfl rfl)
theorem dX6_triesAbout_115 : decode cX6_triesAbout 115 = .ok (.iload_n 1, 1) := dk_27 (dk_at dksX6_triesAbout_4 23 rfl rfl)
theorem dX6_triesAbout_116 : decode cX6_triesAbout 116 = .ok (.iload_n 2, 1) := dk_28 (dk_at dksX6_triesAbout_5 0 rfl rfl)
theorem dX6_triesAbout_117 : decode cX6_triesAbout 117 = .ok (.iconst 1, 1) := dk_4 (dk_at dksX6_triesAbout_5 1 rfl rfl)
theorem dX6_triesAbout_118 : decode cX6_triesAbout 118 = .ok (.iadd, 1) := dk_96 (dk_at dksX6_triesAbout_5 2 rfl rfl)
theorem dX6_triesAbout_119 : decode cX6_triesAbout 119 = .ok (.invokevirtual 262, 3) := dk_182 1 6 (dk_at dksX6_triesAbout_5 3 rfl rfl)
theorem dX6_triesAbout_122 : decode cX6_triesAbout 122 = .ok (.iastore, 1) := dk_79 (dk_at dksX6_triesAbout_5 6 rfl rfl)
theorem dX6_triesAbout_123 : decode cX6_triesAbout 123 = .ok (.aload_n 0, 1) := dk_42 (dk_at dksX6_triesAbout_5 7 rfl rfl)
theorem dX6_triesAbout_124 : decode cX6_triesAbout 124 = .ok (.getfield 26, 3) := dk_180 0 26 (dk_at dksX6_triesAbout_5 8 rfl rfl)
theorem dX6_triesAbout_127 : decode cX6_triesAbout 127 = .ok (.iload_n 2, 1) := dk_28 (dk_at dksX6_triesAbout_5 11 rfl rfl)
theorem dX6_triesAbout_128 : decode cX6_triesAbout 128 = .ok (.iconst 1, 1) := dk_4 (dk_at dksX6_triesAbout_5 12 rfl rfl)
theorem dX6_triesAbout_129 : decode cX6_triesAbout 129 = .ok (.iadd, 1) := dk_96 (dk_at dksX6_triesAbout_5 13 rfl rfl)
theorem dX6_triesAbout_130 : decode cX6_triesAbout 130 = .ok (.aload_n 0, 1) := dk_42 (dk_at dksX6_triesAbout_5 14 rfl rfl)
theorem dX6_triesAbout_131 : decode cX6_triesAbout 131 = .ok (.iload_n 1, 1) := dk_27 (dk_at dksX6_triesAbout_5 15 rfl rfl)
theorem dX6_triesAbout_132 : decode cX6_triesAbout 132 = .ok (.iload_n 2, 1) := dk_28 (dk_at dksX6_triesAbout_5 16 rfl rfl)
theorem dX6_triesAbout_133 : decode cX6_triesAbout 133 = .ok (.invokevirtual 262, 3) := dk_182 1 6 (dk_at dksX6_triesAbout_5 17 rfl rfl)
theorem dX6_triesAbout_136 : decode cX6_triesAbout 136 = .ok (.iastore, 1) := dk_79 (dk_at dksX6_triesAbout_5 20 rfl rfl)
theorem dX6_triesAbout_137 : decode cX6_triesAbout 137 = .ok (.aload_n 0, 1) := dk_42 (dk_at dksX6_triesAbout_5 21 rfl rfl)
theorem dX6_triesAbout_138 : decode cX6_triesAbout 138 = .ok (.invokevirtual 358, 3) := dk_182 1 102 (dk_at dksX6_triesAbout_6 0 rfl rfl)
theorem dX6_triesAbout_141 : decode cX6_triesAbout 141 = .ok (.iinc 2 1, 3) := dk_132 2 1 (dk_at dksX6_triesAbout_6 3 rfl rfl)
theorem dX6_triesAbout_144 : decode cX6_triesAbout 144 = .ok (.goto (-142), 3) := dk_167 255 114 (dk_at dksX6_triesAbout_6 6 rfl rfl)
theorem dX6_triesAbout_147 : decode cX6_triesAbout 147 = .ok (.return_, 1) := dk_177 (dk_at dksX6_triesAbout_6 9 rfl rfl)
abbrev cX6_putsIn : ByteArray := prog_17_method_73_code
def yX6_putsIn : MethodName := ⟨RX6, "putsIn", "(III)V"⟩
def dkwX6_putsIn_3 : List UInt8 := [177]
abbrev dktX6_putsIn_3 : List UInt8 := dkwX6_putsIn_3 ++ []
def dkwX6_putsIn_2 : List UInt8 := [28, 160, 0, 7, 29, 167, 0, 12, 42, 27, 21, 4, 4, 100, 182, 1, 6, 79, 132, 4, 1, 167, 255, 202]
abbrev dktX6_putsIn_2 : List UInt8 := dkwX6_putsIn_2 ++ dktX6_putsIn_3
def dkwX6_putsIn_1 : List UInt8 := [42, 180, 0, 26, 21, 4, 21, 4, 28, 162, 0, 13, 42, 27, 21, 4, 182, 1, 6, 167, 0, 22, 21, 4]
abbrev dktX6_putsIn_1 : List UInt8 := dkwX6_putsIn_1 ++ dktX6_putsIn_2
def dkwX6_putsIn_0 : List UInt8 := [42, 42, 180, 0, 7, 27, 46, 4, 96, 181, 0, 136, 3, 54, 4, 21, 4, 42, 180, 0, 136, 162, 0, 51]
abbrev dktX6_putsIn_0 : List UInt8 := dkwX6_putsIn_0 ++ dktX6_putsIn_1
theorem dksX6_putsIn_0 : cX6_putsIn.data.toList.drop 0 = dktX6_putsIn_0 := by decide +kernel
theorem dksX6_putsIn_1 : cX6_putsIn.data.toList.drop 24 = dktX6_putsIn_1 := dk_seg dksX6_putsIn_0 24 rfl rfl
theorem dksX6_putsIn_2 : cX6_putsIn.data.toList.drop 48 = dktX6_putsIn_2 := dk_seg dksX6_putsIn_1 24 rfl rfl
theorem dksX6_putsIn_3 : cX6_putsIn.data.toList.drop 72 = dktX6_putsIn_3 := dk_seg dksX6_putsIn_2 24 rfl rfl
theorem dX6_putsIn_0 : decode cX6_putsIn 0 = .ok (.aload_n 0, 1) := dk_42 (dk_at dksX6_putsIn_0 0 rfl rfl)
theorem dX6_putsIn_1 : decode cX6_putsIn 1 = .ok (.aload_n 0, 1) := dk_42 (dk_at dksX6_putsIn_0 1 rfl rfl)
theorem dX6_putsIn_2 : decode cX6_putsIn 2 = .ok (.getfield 7, 3) := dk_180 0 7 (dk_at dksX6_putsIn_0 2 rfl rfl)
theorem dX6_putsIn_5 : decode cX6_putsIn 5 = .ok (.iload_n 1, 1) := dk_27 (dk_at dksX6_putsIn_0 5 rfl rfl)
theorem dX6_putsIn_6 : decode cX6_putsIn 6 = .ok (.iaload, 1) := dk_46 (dk_at dksX6_putsIn_0 6 rfl rfl)
theorem dX6_putsIn_7 : decode cX6_putsIn 7 = .ok (.iconst 1, 1) := dk_4 (dk_at dksX6_putsIn_0 7 rfl rfl)
theorem dX6_putsIn_8 : decode cX6_putsIn 8 = .ok (.iadd, 1) := dk_96 (dk_at dksX6_putsIn_0 8 rfl rfl)
theorem dX6_putsIn_9 : decode cX6_putsIn 9 = .ok (.putfield 136, 3) := dk_181 0 136 (dk_at dksX6_putsIn_0 9 rfl rfl)
theorem dX6_putsIn_12 : decode cX6_putsIn 12 = .ok (.iconst 0, 1) := dk_3 (dk_at dksX6_putsIn_0 12 rfl rfl)
theorem dX6_putsIn_13 : decode cX6_putsIn 13 = .ok (.istore 4, 2) := dk_54 4 (dk_at dksX6_putsIn_0 13 rfl rfl)
theorem dX6_putsIn_15 : decode cX6_putsIn 15 = .ok (.iload 4, 2) := dk_21 4 (dk_at dksX6_putsIn_0 15 rfl rfl)
theorem dX6_putsIn_17 : decode cX6_putsIn 17 = .ok (.aload_n 0, 1) := dk_42 (dk_at dksX6_putsIn_0 17 rfl rfl)
theorem dX6_putsIn_18 : decode cX6_putsIn 18 = .ok (.getfield 136, 3) := dk_180 0 136 (dk_at dksX6_putsIn_0 18 rfl rfl)
theorem dX6_putsIn_21 : decode cX6_putsIn 21 = .ok (.if_icmp .ge 51, 3) := dk_162 0 51 (dk_at dksX6_putsIn_0 21 rfl rfl)
theorem dX6_putsIn_24 : decode cX6_putsIn 24 = .ok (.aload_n 0, 1) := dk_42 (dk_at dksX6_putsIn_1 0 rfl rfl)
theorem dX6_putsIn_25 : decode cX6_putsIn 25 = .ok (.getfield 26, 3) := dk_180 0 26 (dk_at dksX6_putsIn_1 1 rfl rfl)
theorem dX6_putsIn_28 : decode cX6_putsIn 28 = .ok (.iload 4, 2) := dk_21 4 (dk_at dksX6_putsIn_1 4 rfl rfl)
theorem dX6_putsIn_30 : decode cX6_putsIn 30 = .ok (.iload 4, 2) := dk_21 4 (dk_at dksX6_putsIn_1 6 rfl rfl)
theorem dX6_putsIn_32 : decode cX6_putsIn 32 = .ok (.iload_n 2, 1) := dk_28 (dk_at dksX6_putsIn_1 8 rfl rfl)
theorem dX6_putsIn_33 : decode cX6_putsIn 33 = .ok (.if_icmp .ge 13, 3) := dk_162 0 13 (dk_at dksX6_putsIn_1 9 rfl rfl)
theorem dX6_putsIn_36 : decode cX6_putsIn 36 = .ok (.aload_n 0, 1) := dk_42 (dk_at dksX6_putsIn_1 12 rfl rfl)
theorem dX6_putsIn_37 : decode cX6_putsIn 37 = .ok (.iload_n 1, 1) := dk_27 (dk_at dksX6_putsIn_1 13 rfl rfl)
theorem dX6_putsIn_38 : decode cX6_putsIn 38 = .ok (.iload 4, 2) := dk_21 4 (dk_at dksX6_putsIn_1 14 rfl rfl)
theorem dX6_putsIn_40 : decode cX6_putsIn 40 = .ok (.invokevirtual 262, 3) := dk_182 1 6 (dk_at dksX6_putsIn_1 16 rfl rfl)
theorem dX6_putsIn_43 : decode cX6_putsIn 43 = .ok (.goto 22, 3) := dk_167 0 22 (dk_at dksX6_putsIn_1 19 rfl rfl)
theorem dX6_putsIn_46 : decode cX6_putsIn 46 = .ok (.iload 4, 2) := dk_21 4 (dk_at dksX6_putsIn_1 22 rfl rfl)
theorem dX6_putsIn_48 : decode cX6_putsIn 48 = .ok (.iload_n 2, 1) := dk_28 (dk_at dksX6_putsIn_2 0 rfl rfl)
theorem dX6_putsIn_49 : decode cX6_putsIn 49 = .ok (.if_icmp .ne 7, 3) := dk_160 0 7 (dk_at dksX6_putsIn_2 1 rfl rfl)
theorem dX6_putsIn_52 : decode cX6_putsIn 52 = .ok (.iload_n 3, 1) := dk_29 (dk_at dksX6_putsIn_2 4 rfl rfl)
theorem dX6_putsIn_53 : decode cX6_putsIn 53 = .ok (.goto 12, 3) := dk_167 0 12 (dk_at dksX6_putsIn_2 5 rfl rfl)
theorem dX6_putsIn_56 : decode cX6_putsIn 56 = .ok (.aload_n 0, 1) := dk_42 (dk_at dksX6_putsIn_2 8 rfl rfl)
theorem dX6_putsIn_57 : decode cX6_putsIn 57 = .ok (.iload_n 1, 1) := dk_27 (dk_at dksX6_putsIn_2 9 rfl rfl)
theorem dX6_putsIn_58 : decode cX6_putsIn 58 = .ok (.iload 4, 2) := dk_21 4 (dk_at dksX6_putsIn_2 10 rfl rfl)
theorem dX6_putsIn_60 : decode cX6_putsIn 60 = .ok (.iconst 1, 1) := dk_4 (dk_at dksX6_putsIn_2 12 rfl rfl)
theorem dX6_putsIn_61 : decode cX6_putsIn 61 = .ok (.isub, 1) := dk_100 (dk_at dksX6_putsIn_2 13 rfl rfl)
theorem dX6_putsIn_62 : decode cX6_putsIn 62 = .ok (.invokevirtual 262, 3) := dk_182 1 6 (dk_at dksX6_putsIn_2 14 rfl rfl)
theorem dX6_putsIn_65 : decode cX6_putsIn 65 = .ok (.iastore, 1) := dk_79 (dk_at dksX6_putsIn_2 17 rfl rfl)
theorem dX6_putsIn_66 : decode cX6_putsIn 66 = .ok (.iinc 4 1, 3) := dk_132 4 1 (dk_at dksX6_putsIn_2 18 rfl rfl)
theorem dX6_putsIn_69 : decode cX6_putsIn 69 = .ok (.goto (-54), 3) := dk_167 255 202 (dk_at dksX6_putsIn_2 21 rfl rfl)
theorem dX6_putsIn_72 : decode cX6_putsIn 72 = .ok (.return_, 1) := dk_177 (dk_at dksX6_putsIn_3 0 rfl rfl)
abbrev cX6_triesNew : ByteArray := prog_17_method_71_code
def yX6_triesNew : MethodName := ⟨RX6, "triesNew", "()V"⟩
def dkwX6_triesNew_9 : List UInt8 := [167, 255, 230, 177]
abbrev dktX6_triesNew_9 : List UInt8 := dkwX6_triesNew_9 ++ []
def dkwX6_triesNew_8 : List UInt8 := [180, 0, 136, 162, 0, 23, 42, 180, 0, 91, 21, 5, 42, 180, 0, 26, 21, 5, 46, 79, 132, 5, 1]
abbrev dktX6_triesNew_8 : List UInt8 := dkwX6_triesNew_8 ++ dktX6_triesNew_9
def dkwX6_triesNew_7 : List UInt8 := [181, 1, 89, 42, 29, 181, 1, 92, 42, 42, 180, 0, 136, 181, 1, 83, 3, 54, 5, 21, 5, 42]
abbrev dktX6_triesNew_7 : List UInt8 := dkwX6_triesNew_7 ++ dktX6_triesNew_8
def dkwX6_triesNew_6 : List UInt8 := [161, 0, 18, 29, 42, 180, 1, 92, 160, 0, 11, 42, 182, 1, 95, 154, 0, 4, 177, 42, 21, 4]
abbrev dktX6_triesNew_6 : List UInt8 := dkwX6_triesNew_6 ++ dktX6_triesNew_7
def dkwX6_triesNew_5 : List UInt8 := [21, 4, 42, 180, 1, 89, 161, 0, 35, 21, 4, 42, 180, 1, 89, 160, 0, 27, 29, 42, 180, 1, 92]
abbrev dktX6_triesNew_5 : List UInt8 := dkwX6_triesNew_5 ++ dktX6_triesNew_6
def dkwX6_triesNew_4 : List UInt8 := [180, 0, 130, 162, 0, 21, 21, 4, 31, 21, 5, 123, 10, 127, 136, 96, 54, 4, 132, 5, 1, 167, 255, 232]
abbrev dktX6_triesNew_4 : List UInt8 := dkwX6_triesNew_4 ++ dktX6_triesNew_5
def dkwX6_triesNew_3 : List UInt8 := [180, 0, 94, 21, 4, 46, 121, 129, 64, 132, 4, 1, 167, 255, 207, 3, 54, 4, 3, 54, 5, 21, 5, 42]
abbrev dktX6_triesNew_3 : List UInt8 := dkwX6_triesNew_3 ++ dktX6_triesNew_4
def dkwX6_triesNew_2 : List UInt8 := [153, 0, 31, 42, 21, 4, 182, 1, 86, 154, 0, 6, 167, 0, 19, 29, 4, 96, 62, 31, 10, 42]
abbrev dktX6_triesNew_2 : List UInt8 := dkwX6_triesNew_2 ++ dktX6_triesNew_3
def dkwX6_triesNew_1 : List UInt8 := [177, 9, 64, 3, 62, 3, 54, 4, 21, 4, 42, 180, 0, 130, 162, 0, 46, 42, 21, 4, 182, 1, 26]
abbrev dktX6_triesNew_1 : List UInt8 := dkwX6_triesNew_1 ++ dktX6_triesNew_2
def dkwX6_triesNew_0 : List UInt8 := [42, 180, 0, 136, 4, 161, 0, 19, 42, 180, 0, 136, 16, 8, 163, 0, 10, 42, 182, 0, 150, 153, 0, 4]
abbrev dktX6_triesNew_0 : List UInt8 := dkwX6_triesNew_0 ++ dktX6_triesNew_1
theorem dksX6_triesNew_0 : cX6_triesNew.data.toList.drop 0 = dktX6_triesNew_0 := by decide +kernel
theorem dksX6_triesNew_1 : cX6_triesNew.data.toList.drop 24 = dktX6_triesNew_1 := dk_seg dksX6_triesNew_0 24 rfl rfl
theorem dksX6_triesNew_2 : cX6_triesNew.data.toList.drop 47 = dktX6_triesNew_2 := dk_seg dksX6_triesNew_1 23 rfl rfl
theorem dksX6_triesNew_3 : cX6_triesNew.data.toList.drop 69 = dktX6_triesNew_3 := dk_seg dksX6_triesNew_2 22 rfl rfl
theorem dksX6_triesNew_4 : cX6_triesNew.data.toList.drop 93 = dktX6_triesNew_4 := dk_seg dksX6_triesNew_3 24 rfl rfl
theorem dksX6_triesNew_5 : cX6_triesNew.data.toList.drop 117 = dktX6_triesNew_5 := dk_seg dksX6_triesNew_4 24 rfl rfl
theorem dksX6_triesNew_6 : cX6_triesNew.data.toList.drop 140 = dktX6_triesNew_6 := dk_seg dksX6_triesNew_5 23 rfl rfl
theorem dksX6_triesNew_7 : cX6_triesNew.data.toList.drop 162 = dktX6_triesNew_7 := dk_seg dksX6_triesNew_6 22 rfl rfl
theorem dksX6_triesNew_8 : cX6_triesNew.data.toList.drop 184 = dktX6_triesNew_8 := dk_seg dksX6_triesNew_7 22 rfl rfl
theorem dksX6_triesNew_9 : cX6_triesNew.data.toList.drop 207 = dktX6_triesNew_9 := dk_seg dksX6_triesNew_8 23 rfl rfl
theorem dX6_triesNew_0 : decode cX6_triesNew 0 = .ok (.aload_n 0, 1) := dk_42 (dk_at dksX6_triesNew_0 0 rfl rfl)
theorem dX6_triesNew_1 : decode cX6_triesNew 1 = .ok (.getfield 136, 3) := dk_180 0 136 (dk_at dksX6_triesNew_0 1 rfl rfl)
theorem dX6_triesNew_4 : decode cX6_triesNew 4 = .ok (.iconst 1, 1) := dk_4 (dk_at dksX6_triesNew_0 4 rfl rfl)
theorem dX6_triesNew_5 : decode cX6_triesNew 5 = .ok (.if_icmp .lt 19, 3) := dk_161 0 19 (dk_at dksX6_triesNew_0 5 rfl rfl)
theorem dX6_triesNew_8 : decode cX6_triesNew 8 = .ok (.aload_n 0, 1) := dk_42 (dk_at dksX6_triesNew_0 8 rfl rfl)
theorem dX6_triesNew_9 : decode cX6_triesNew 9 = .ok (.getfield 136, 3) := dk_180 0 136 (dk_at dksX6_triesNew_0 9 rfl rfl)
theorem dX6_triesNew_12 : decode cX6_triesNew 12 = .ok (.bipush 8, 2) := dk_16 8 (dk_at dksX6_triesNew_0 12 rfl rfl)
theorem dX6_triesNew_14 : decode cX6_triesNew 14 = .ok (.if_icmp .gt 10, 3) := dk_163 0 10 (dk_at dksX6_triesNew_0 14 rfl rfl)
theorem dX6_triesNew_17 : decode cX6_triesNew 17 = .ok (.aload_n 0, 1) := dk_42 (dk_at dksX6_triesNew_0 17 rfl rfl)
theorem dX6_triesNew_18 : decode cX6_triesNew 18 = .ok (.invokevirtual 150, 3) := dk_182 0 150 (dk_at dksX6_triesNew_0 18 rfl rfl)
theorem dX6_triesNew_21 : decode cX6_triesNew 21 = .ok (.ifCond .eq 4, 3) := dk_153 0 4 (dk_at dksX6_triesNew_0 21 rfl rfl)
theorem dX6_triesNew_24 : decode cX6_triesNew 24 = .ok (.return_, 1) := dk_177 (dk_at dksX6_triesNew_1 0 rfl rfl)
theorem dX6_triesNew_25 : decode cX6_triesNew 25 = .ok (.lconst 0, 1) := dk_9 (dk_at dksX6_triesNew_1 1 rfl rfl)
theorem dX6_triesNew_26 : decode cX6_triesNew 26 = .ok (.lstore_n 1, 1) := dk_64 (dk_at dksX6_triesNew_1 2 rfl rfl)
theorem dX6_triesNew_27 : decode cX6_triesNew 27 = .ok (.iconst 0, 1) := dk_3 (dk_at dksX6_triesNew_1 3 rfl rfl)
theorem dX6_triesNew_28 : decode cX6_triesNew 28 = .ok (.istore_n 3, 1) := dk_62 (dk_at dksX6_triesNew_1 4 rfl rfl)
theorem dX6_triesNew_29 : decode cX6_triesNew 29 = .ok (.iconst 0, 1) := dk_3 (dk_at dksX6_triesNew_1 5 rfl rfl)
theorem dX6_triesNew_30 : decode cX6_triesNew 30 = .ok (.istore 4, 2) := dk_54 4 (dk_at dksX6_triesNew_1 6 rfl rfl)
theorem dX6_triesNew_32 : decode cX6_triesNew 32 = .ok (.iload 4, 2) := dk_21 4 (dk_at dksX6_triesNew_1 8 rfl rfl)
theorem dX6_triesNew_34 : decode cX6_triesNew 34 = .ok (.aload_n 0, 1) := dk_42 (dk_at dksX6_triesNew_1 10 rfl rfl)
theorem dX6_triesNew_35 : decode cX6_triesNew 35 = .ok (.getfield 130, 3) := dk_180 0 130 (dk_at dksX6_triesNew_1 11 rfl rfl)
theorem dX6_triesNew_38 : decode cX6_triesNew 38 = .ok (.if_icmp .ge 46, 3) := dk_162 0 46 (dk_at dksX6_triesNew_1 14 rfl rfl)
theorem dX6_triesNew_41 : decode cX6_triesNew 41 = .ok (.aload_n 0, 1) := dk_42 (dk_at dksX6_triesNew_1 17 rfl rfl)
theorem dX6_triesNew_42 : decode cX6_triesNew 42 = .ok (.iload 4, 2) := dk_21 4 (dk_at dksX6_triesNew_1 18 rfl rfl)
theorem dX6_triesNew_44 : decode cX6_triesNew 44 = .ok (.invokevirtual 282, 3) := dk_182 1 26 (dk_at dksX6_triesNew_1 20 rfl rfl)
theorem dX6_triesNew_47 : decode cX6_triesNew 47 = .ok (.ifCond .eq 31, 3) := dk_153 0 31 (dk_at dksX6_triesNew_2 0 rfl rfl)
theorem dX6_triesNew_50 : decode cX6_triesNew 50 = .ok (.aload_n 0, 1) := dk_42 (dk_at dksX6_triesNew_2 3 rfl rfl)
theorem dX6_triesNew_51 : decode cX6_triesNew 51 = .ok (.iload 4, 2) := dk_21 4 (dk_at dksX6_triesNew_2 4 rfl rfl)
theorem dX6_triesNew_53 : decode cX6_triesNew 53 = .ok (.invokevirtual 342, 3) := dk_182 1 86 (dk_at dksX6_triesNew_2 6 rfl rfl)
theorem dX6_triesNew_56 : decode cX6_triesNew 56 = .ok (.ifCond .ne 6, 3) := dk_154 0 6 (dk_at dksX6_triesNew_2 9 rfl rfl)
theorem dX6_triesNew_59 : decode cX6_triesNew 59 = .ok (.goto 19, 3) := dk_167 0 19 (dk_at dksX6_triesNew_2 12 rfl rfl)
theorem dX6_triesNew_62 : decode cX6_triesNew 62 = .ok (.iload_n 3, 1) := dk_29 (dk_at dksX6_triesNew_2 15 rfl rfl)
theorem dX6_triesNew_63 : decode cX6_triesNew 63 = .ok (.iconst 1, 1) := dk_4 (dk_at dksX6_triesNew_2 16 rfl rfl)
theorem dX6_triesNew_64 : decode cX6_triesNew 64 = .ok (.iadd, 1) := dk_96 (dk_at dksX6_triesNew_2 17 rfl rfl)
theorem dX6_triesNew_65 : decode cX6_triesNew 65 = .ok (.istore_n 3, 1) := dk_62 (dk_at dksX6_triesNew_2 18 rfl rfl)
theorem dX6_triesNew_66 : decode cX6_triesNew 66 = .ok (.lload_n 1, 1) := dk_31 (dk_at dksX6_triesNew_2 19 rfl rfl)
theorem dX6_triesNew_67 : decode cX6_triesNew 67 = .ok (.lconst 1, 1) := dk_10 (dk_at dksX6_triesNew_2 20 rfl rfl)
theorem dX6_triesNew_68 : decode cX6_triesNew 68 = .ok (.aload_n 0, 1) := dk_42 (dk_at dksX6_triesNew_2 21 rfl rfl)
theorem dX6_triesNew_69 : decode cX6_triesNew 69 = .ok (.getfield 94, 3) := dk_180 0 94 (dk_at dksX6_triesNew_3 0 rfl rfl)
theorem dX6_triesNew_72 : decode cX6_triesNew 72 = .ok (.iload 4, 2) := dk_21 4 (dk_at dksX6_triesNew_3 3 rfl rfl)
theorem dX6_triesNew_74 : decode cX6_triesNew 74 = .ok (.iaload, 1) := dk_46 (dk_at dksX6_triesNew_3 5 rfl rfl)
theorem dX6_triesNew_75 : decode cX6_triesNew 75 = .ok (.lshl, 1) := dk_121 (dk_at dksX6_triesNew_3 6 rfl rfl)
theorem dX6_triesNew_76 : decode cX6_triesNew 76 = .ok (.lor, 1) := dk_129 (dk_at dksX6_triesNew_3 7 rfl rfl)
theorem dX6_triesNew_77 : decode cX6_triesNew 77 = .ok (.lstore_n 1, 1) := dk_64 (dk_at dksX6_triesNew_3 8 rfl rfl)
theorem dX6_triesNew_78 : decode cX6_triesNew 78 = .ok (.iinc 4 1, 3) := dk_132 4 1 (dk_at dksX6_triesNew_3 9 rfl rfl)
theorem dX6_triesNew_81 : decode cX6_triesNew 81 = .ok (.goto (-49), 3) := dk_167 255 207 (dk_at dksX6_triesNew_3 12 rfl rfl)
theorem dX6_triesNew_84 : decode cX6_triesNew 84 = .ok (.iconst 0, 1) := dk_3 (dk_at dksX6_triesNew_3 15 rfl rfl)
theorem dX6_triesNew_85 : decode cX6_triesNew 85 = .ok (.istore 4, 2) := dk_54 4 (dk_at dksX6_triesNew_3 16 rfl rfl)
theorem dX6_triesNew_87 : decode cX6_triesNew 87 = .ok (.iconst 0, 1) := dk_3 (dk_at dksX6_triesNew_3 18 rfl rfl)
theorem dX6_triesNew_88 : decode cX6_triesNew 88 = .ok (.istore 5, 2) := dk_54 5 (dk_at dksX6_triesNew_3 19 rfl rfl)
theorem dX6_triesNew_90 : decode cX6_triesNew 90 = .ok (.iload 5, 2) := dk_21 5 (dk_at dksX6_triesNew_3 21 rfl rfl)
theorem dX6_triesNew_92 : decode cX6_triesNew 92 = .ok (.aload_n 0, 1) := dk_42 (dk_at dksX6_triesNew_3 23 rfl rfl)
theorem dX6_triesNew_93 : decode cX6_triesNew 93 = .ok (.getfield 130, 3) := dk_180 0 130 (dk_at dksX6_triesNew_4 0 rfl rfl)
theorem dX6_triesNew_96 : decode cX6_triesNew 96 = .ok (.if_icmp .ge 21, 3) := dk_162 0 21 (dk_at dksX6_triesNew_4 3 rfl rfl)
theorem dX6_triesNew_99 : decode cX6_triesNew 99 = .ok (.iload 4, 2) := dk_21 4 (dk_at dksX6_triesNew_4 6 rfl rfl)
theorem dX6_triesNew_101 : decode cX6_triesNew 101 = .ok (.lload_n 1, 1) := dk_31 (dk_at dksX6_triesNew_4 8 rfl rfl)
theorem dX6_triesNew_102 : decode cX6_triesNew 102 = .ok (.iload 5, 2) := dk_21 5 (dk_at dksX6_triesNew_4 9 rfl rfl)
theorem dX6_triesNew_104 : decode cX6_triesNew 104 = .ok (.lshr, 1) := dk_123 (dk_at dksX6_triesNew_4 11 rfl rfl)
theorem dX6_triesNew_105 : decode cX6_triesNew 105 = .ok (.lconst 1, 1) := dk_10 (dk_at dksX6_triesNew_4 12 rfl rfl)
theorem dX6_triesNew_106 : decode cX6_triesNew 106 = .ok (.land, 1) := dk_127 (dk_at dksX6_triesNew_4 13 rfl rfl)
theorem dX6_triesNew_107 : decode cX6_triesNew 107 = .ok (.l2i, 1) := dk_136 (dk_at dksX6_triesNew_4 14 rfl rfl)
theorem dX6_triesNew_108 : decode cX6_triesNew 108 = .ok (.iadd, 1) := dk_96 (dk_at dksX6_triesNew_4 15 rfl rfl)
theorem dX6_triesNew_109 : decode cX6_triesNew 109 = .ok (.istore 4, 2) := dk_54 4 (dk_at dksX6_triesNew_4 16 rfl rfl)
theorem dX6_triesNew_111 : decode cX6_triesNew 111 = .ok (.iinc 5 1, 3) := dk_132 5 1 (dk_at dksX6_triesNew_4 18 rfl rfl)
theorem dX6_triesNew_114 : decode cX6_triesNew 114 = .ok (.goto (-24), 3) := dk_167 255 232 (dk_at dksX6_triesNew_4 21 rfl rfl)
theorem dX6_triesNew_117 : decode cX6_triesNew 117 = .ok (.iload 4, 2) := dk_21 4 (dk_at dksX6_triesNew_5 0 rfl rfl)
theorem dX6_triesNew_119 : decode cX6_triesNew 119 = .ok (.aload_n 0, 1) := dk_42 (dk_at dksX6_triesNew_5 2 rfl rfl)
theorem dX6_triesNew_120 : decode cX6_triesNew 120 = .ok (.getfield 345, 3) := dk_180 1 89 (dk_at dksX6_triesNew_5 3 rfl rfl)
theorem dX6_triesNew_123 : decode cX6_triesNew 123 = .ok (.if_icmp .lt 35, 3) := dk_161 0 35 (dk_at dksX6_triesNew_5 6 rfl rfl)
theorem dX6_triesNew_126 : decode cX6_triesNew 126 = .ok (.iload 4, 2) := dk_21 4 (dk_at dksX6_triesNew_5 9 rfl rfl)
theorem dX6_triesNew_128 : decode cX6_triesNew 128 = .ok (.aload_n 0, 1) := dk_42 (dk_at dksX6_triesNew_5 11 rfl rfl)
theorem dX6_triesNew_129 : decode cX6_triesNew 129 = .ok (.getfield 345, 3) := dk_180 1 89 (dk_at dksX6_triesNew_5 12 rfl rfl)
theorem dX6_triesNew_132 : decode cX6_triesNew 132 = .ok (.if_icmp .ne 27, 3) := dk_160 0 27 (dk_at dksX6_triesNew_5 15 rfl rfl)
theorem dX6_triesNew_135 : decode cX6_triesNew 135 = .ok (.iload_n 3, 1) := dk_29 (dk_at dksX6_triesNew_5 18 rfl rfl)
theorem dX6_triesNew_136 : decode cX6_triesNew 136 = .ok (.aload_n 0, 1) := dk_42 (dk_at dksX6_triesNew_5 19 rfl rfl)
theorem dX6_triesNew_137 : decode cX6_triesNew 137 = .ok (.getfield 348, 3) := dk_180 1 92 (dk_at dksX6_triesNew_5 20 rfl rfl)
theorem dX6_triesNew_140 : decode cX6_triesNew 140 = .ok (.if_icmp .lt 18, 3) := dk_161 0 18 (dk_at dksX6_triesNew_6 0 rfl rfl)
theorem dX6_triesNew_143 : decode cX6_triesNew 143 = .ok (.iload_n 3, 1) := dk_29 (dk_at dksX6_triesNew_6 3 rfl rfl)
theorem dX6_triesNew_144 : decode cX6_triesNew 144 = .ok (.aload_n 0, 1) := dk_42 (dk_at dksX6_triesNew_6 4 rfl rfl)
theorem dX6_triesNew_145 : decode cX6_triesNew 145 = .ok (.getfield 348, 3) := dk_180 1 92 (dk_at dksX6_triesNew_6 5 rfl rfl)
theorem dX6_triesNew_148 : decode cX6_triesNew 148 = .ok (.if_icmp .ne 11, 3) := dk_160 0 11 (dk_at dksX6_triesNew_6 8 rfl rfl)
theorem dX6_triesNew_151 : decode cX6_triesNew 151 = .ok (.aload_n 0, 1) := dk_42 (dk_at dksX6_triesNew_6 11 rfl rfl)
theorem dX6_triesNew_152 : decode cX6_triesNew 152 = .ok (.invokevirtual 351, 3) := dk_182 1 95 (dk_at dksX6_triesNew_6 12 rfl rfl)
theorem dX6_triesNew_155 : decode cX6_triesNew 155 = .ok (.ifCond .ne 4, 3) := dk_154 0 4 (dk_at dksX6_triesNew_6 15 rfl rfl)
theorem dX6_triesNew_158 : decode cX6_triesNew 158 = .ok (.return_, 1) := dk_177 (dk_at dksX6_triesNew_6 18 rfl rfl)
theorem dX6_triesNew_159 : decode cX6_triesNew 159 = .ok (.aload_n 0, 1) := dk_42 (dk_at dksX6_triesNew_6 19 rfl rfl)
theorem dX6_triesNew_160 : decode cX6_triesNew 160 = .ok (.iload 4, 2) := dk_21 4 (dk_at dksX6_triesNew_6 20 rfl rfl)
theorem dX6_triesNew_162 : decode cX6_triesNew 162 = .ok (.putfield 345, 3) := dk_181 1 89 (dk_at dksX6_triesNew_7 0 rfl rfl)
theorem dX6_triesNew_165 : decode cX6_triesNew 165 = .ok (.aload_n 0, 1) := dk_42 (dk_at dksX6_triesNew_7 3 rfl rfl)
theorem dX6_triesNew_166 : decode cX6_triesNew 166 = .ok (.iload_n 3, 1) := dk_29 (dk_at dksX6_triesNew_7 4 rfl rfl)
theorem dX6_triesNew_167 : decode cX6_triesNew 167 = .ok (.putfield 348, 3) := dk_181 1 92 (dk_at dksX6_triesNew_7 5 rfl rfl)
theorem dX6_triesNew_170 : decode cX6_triesNew 170 = .ok (.aload_n 0, 1) := dk_42 (dk_at dksX6_triesNew_7 8 rfl rfl)
theorem dX6_triesNew_171 : decode cX6_triesNew 171 = .ok (.aload_n 0, 1) := dk_42 (dk_at dksX6_triesNew_7 9 rfl rfl)
theorem dX6_triesNew_172 : decode cX6_triesNew 172 = .ok (.getfield 136, 3) := dk_180 0 136 (dk_at dksX6_triesNew_7 10 rfl rfl)
theorem dX6_triesNew_175 : decode cX6_triesNew 175 = .ok (.putfield 339, 3) := dk_181 1 83 (dk_at dksX6_triesNew_7 13 rfl rfl)
theorem dX6_triesNew_178 : decode cX6_triesNew 178 = .ok (.iconst 0, 1) := dk_3 (dk_at dksX6_triesNew_7 16 rfl rfl)
theorem dX6_triesNew_179 : decode cX6_triesNew 179 = .ok (.istore 5, 2) := dk_54 5 (dk_at dksX6_triesNew_7 17 rfl rfl)
theorem dX6_triesNew_181 : decode cX6_triesNew 181 = .ok (.iload 5, 2) := dk_21 5 (dk_at dksX6_triesNew_7 19 rfl rfl)
theorem dX6_triesNew_183 : decode cX6_triesNew 183 = .ok (.aload_n 0, 1) := dk_42 (dk_at dksX6_triesNew_7 21 rfl rfl)
theorem dX6_triesNew_184 : decode cX6_triesNew 184 = .ok (.getfield 136, 3) := dk_180 0 136 (dk_at dksX6_triesNew_8 0 rfl rfl)
theorem dX6_triesNew_187 : decode cX6_triesNew 187 = .ok (.if_icmp .ge 23, 3) := dk_162 0 23 (dk_at dksX6_triesNew_8 3 rfl rfl)
theorem dX6_triesNew_190 : decode cX6_triesNew 190 = .ok (.aload_n 0, 1) := dk_42 (dk_at dksX6_triesNew_8 6 rfl rfl)
theorem dX6_triesNew_191 : decode cX6_triesNew 191 = .ok (.getfield 91, 3) := dk_180 0 91 (dk_at dksX6_triesNew_8 7 rfl rfl)
theorem dX6_triesNew_194 : decode cX6_triesNew 194 = .ok (.iload 5, 2) := dk_21 5 (dk_at dksX6_triesNew_8 10 rfl rfl)
theorem dX6_triesNew_196 : decode cX6_triesNew 196 = .ok (.aload_n 0, 1) := dk_42 (dk_at dksX6_triesNew_8 12 rfl rfl)
theorem dX6_triesNew_197 : decode cX6_triesNew 197 = .ok (.getfield 26, 3) := dk_180 0 26 (dk_at dksX6_triesNew_8 13 rfl rfl)
theorem dX6_triesNew_200 : decode cX6_triesNew 200 = .ok (.iload 5, 2) := dk_21 5 (dk_at dksX6_triesNew_8 16 rfl rfl)
theorem dX6_triesNew_202 : decode cX6_triesNew 202 = .ok (.iaload, 1) := dk_46 (dk_at dksX6_triesNew_8 18 rfl rfl)
theorem dX6_triesNew_203 : decode cX6_triesNew 203 = .ok (.iastore, 1) := dk_79 (dk_at dksX6_triesNew_8 19 rfl rfl)
theorem dX6_triesNew_204 : decode cX6_triesNew 204 = .ok (.iinc 5 1, 3) := dk_132 5 1 (dk_at dksX6_triesNew_8 20 rfl rfl)
theorem dX6_triesNew_207 : decode cX6_triesNew 207 = .ok (.goto (-26), 3) := dk_167 255 230 (dk_at dksX6_triesNew_9 0 rfl rfl)
theorem dX6_triesNew_210 : decode cX6_triesNew 210 = .ok (.return_, 1) := dk_177 (dk_at dksX6_triesNew_9 3 rfl rfl)
abbrev cX6_isNear : ByteArray := prog_17_method_67_code
def yX6_isNear : MethodName := ⟨RX6, "isNear", "(I)Z"⟩
def dkwX6_isNear_3 : List UInt8 := [167, 0, 4, 3, 182, 1, 79, 153, 0, 5, 4, 172, 132, 4, 1, 167, 255, 225, 3, 172]
abbrev dktX6_isNear_3 : List UInt8 := dkwX6_isNear_3 ++ []
def dkwX6_isNear_2 : List UInt8 := [42, 180, 0, 136, 62, 3, 54, 4, 21, 4, 29, 162, 0, 31, 42, 27, 21, 4, 28, 4, 160, 0, 7, 4]
abbrev dktX6_isNear_2 : List UInt8 := dkwX6_isNear_2 ++ dktX6_isNear_3
def dkwX6_isNear_1 : List UInt8 := [159, 0, 10, 28, 2, 159, 0, 5, 3, 172, 28, 4, 160, 0, 12, 42, 180, 0, 7, 27, 46, 167, 0, 7]
abbrev dktX6_isNear_1 : List UInt8 := dkwX6_isNear_1 ++ dktX6_isNear_2
def dkwX6_isNear_0 : List UInt8 := [42, 180, 0, 7, 27, 46, 42, 180, 0, 136, 100, 61, 28, 154, 0, 9, 42, 27, 182, 1, 76, 172, 28, 4]
abbrev dktX6_isNear_0 : List UInt8 := dkwX6_isNear_0 ++ dktX6_isNear_1
theorem dksX6_isNear_0 : cX6_isNear.data.toList.drop 0 = dktX6_isNear_0 := by decide +kernel
theorem dksX6_isNear_1 : cX6_isNear.data.toList.drop 24 = dktX6_isNear_1 := dk_seg dksX6_isNear_0 24 rfl rfl
theorem dksX6_isNear_2 : cX6_isNear.data.toList.drop 48 = dktX6_isNear_2 := dk_seg dksX6_isNear_1 24 rfl rfl
theorem dksX6_isNear_3 : cX6_isNear.data.toList.drop 72 = dktX6_isNear_3 := dk_seg dksX6_isNear_2 24 rfl rfl
theorem dX6_isNear_0 : decode cX6_isNear 0 = .ok (.aload_n 0, 1) := dk_42 (dk_at dksX6_isNear_0 0 rfl rfl)
theorem dX6_isNear_1 : decode cX6_isNear 1 = .ok (.getfield 7, 3) := dk_180 0 7 (dk_at dksX6_isNear_0 1 rfl rfl)
theorem dX6_isNear_4 : decode cX6_isNear 4 = .ok (.iload_n 1, 1) := dk_27 (dk_at dksX6_isNear_0 4 rfl rfl)
theorem dX6_isNear_5 : decode cX6_isNear 5 = .ok (.iaload, 1) := dk_46 (dk_at dksX6_isNear_0 5 rfl rfl)
theorem dX6_isNear_6 : decode cX6_isNear 6 = .ok (.aload_n 0, 1) := dk_42 (dk_at dksX6_isNear_0 6 rfl rfl)
theorem dX6_isNear_7 : decode cX6_isNear 7 = .ok (.getfield 136, 3) := dk_180 0 136 (dk_at dksX6_isNear_0 7 rfl rfl)
theorem dX6_isNear_10 : decode cX6_isNear 10 = .ok (.isub, 1) := dk_100 (dk_at dksX6_isNear_0 10 rfl rfl)
theorem dX6_isNear_11 : decode cX6_isNear 11 = .ok (.istore_n 2, 1) := dk_61 (dk_at dksX6_isNear_0 11 rfl rfl)
theorem dX6_isNear_12 : decode cX6_isNear 12 = .ok (.iload_n 2, 1) := dk_28 (dk_at dksX6_isNear_0 12 rfl rfl)
theorem dX6_isNear_13 : decode cX6_isNear 13 = .ok (.ifCond .ne 9, 3) := dk_154 0 9 (dk_at dksX6_isNear_0 13 rfl rfl)
theorem dX6_isNear_16 : decode cX6_isNear 16 = .ok (.aload_n 0, 1) := dk_42 (dk_at dksX6_isNear_0 16 rfl rfl)
theorem dX6_isNear_17 : decode cX6_isNear 17 = .ok (.iload_n 1, 1) := dk_27 (dk_at dksX6_isNear_0 17 rfl rfl)
theorem dX6_isNear_18 : decode cX6_isNear 18 = .ok (.invokevirtual 332, 3) := dk_182 1 76 (dk_at dksX6_isNear_0 18 rfl rfl)
theorem dX6_isNear_21 : decode cX6_isNear 21 = .ok (.ireturn, 1) := dk_172 (dk_at dksX6_isNear_0 21 rfl rfl)
theorem dX6_isNear_22 : decode cX6_isNear 22 = .ok (.iload_n 2, 1) := dk_28 (dk_at dksX6_isNear_0 22 rfl rfl)
theorem dX6_isNear_23 : decode cX6_isNear 23 = .ok (.iconst 1, 1) := dk_4 (dk_at dksX6_isNear_0 23 rfl rfl)
theorem dX6_isNear_24 : decode cX6_isNear 24 = .ok (.if_icmp .eq 10, 3) := dk_159 0 10 (dk_at dksX6_isNear_1 0 rfl rfl)
theorem dX6_isNear_27 : decode cX6_isNear 27 = .ok (.iload_n 2, 1) := dk_28 (dk_at dksX6_isNear_1 3 rfl rfl)
theorem dX6_isNear_28 : decode cX6_isNear 28 = .ok (.iconst (-1), 1) := dk_2 (dk_at dksX6_isNear_1 4 rfl rfl)
theorem dX6_isNear_29 : decode cX6_isNear 29 = .ok (.if_icmp .eq 5, 3) := dk_159 0 5 (dk_at dksX6_isNear_1 5 rfl rfl)
theorem dX6_isNear_32 : decode cX6_isNear 32 = .ok (.iconst 0, 1) := dk_3 (dk_at dksX6_isNear_1 8 rfl rfl)
theorem dX6_isNear_33 : decode cX6_isNear 33 = .ok (.ireturn, 1) := dk_172 (dk_at dksX6_isNear_1 9 rfl rfl)
theorem dX6_isNear_34 : decode cX6_isNear 34 = .ok (.iload_n 2, 1) := dk_28 (dk_at dksX6_isNear_1 10 rfl rfl)
theorem dX6_isNear_35 : decode cX6_isNear 35 = .ok (.iconst 1, 1) := dk_4 (dk_at dksX6_isNear_1 11 rfl rfl)
theorem dX6_isNear_36 : decode cX6_isNear 36 = .ok (.if_icmp .ne 12, 3) := dk_160 0 12 (dk_at dksX6_isNear_1 12 rfl rfl)
theorem dX6_isNear_39 : decode cX6_isNear 39 = .ok (.aload_n 0, 1) := dk_42 (dk_at dksX6_isNear_1 15 rfl rfl)
theorem dX6_isNear_40 : decode cX6_isNear 40 = .ok (.getfield 7, 3) := dk_180 0 7 (dk_at dksX6_isNear_1 16 rfl rfl)
theorem dX6_isNear_43 : decode cX6_isNear 43 = .ok (.iload_n 1, 1) := dk_27 (dk_at dksX6_isNear_1 19 rfl rfl)
theorem dX6_isNear_44 : decode cX6_isNear 44 = .ok (.iaload, 1) := dk_46 (dk_at dksX6_isNear_1 20 rfl rfl)
theorem dX6_isNear_45 : decode cX6_isNear 45 = .ok (.goto 7, 3) := dk_167 0 7 (dk_at dksX6_isNear_1 21 rfl rfl)
theorem dX6_isNear_48 : decode cX6_isNear 48 = .ok (.aload_n 0, 1) := dk_42 (dk_at dksX6_isNear_2 0 rfl rfl)
theorem dX6_isNear_49 : decode cX6_isNear 49 = .ok (.getfield 136, 3) := dk_180 0 136 (dk_at dksX6_isNear_2 1 rfl rfl)
theorem dX6_isNear_52 : decode cX6_isNear 52 = .ok (.istore_n 3, 1) := dk_62 (dk_at dksX6_isNear_2 4 rfl rfl)
theorem dX6_isNear_53 : decode cX6_isNear 53 = .ok (.iconst 0, 1) := dk_3 (dk_at dksX6_isNear_2 5 rfl rfl)
theorem dX6_isNear_54 : decode cX6_isNear 54 = .ok (.istore 4, 2) := dk_54 4 (dk_at dksX6_isNear_2 6 rfl rfl)
theorem dX6_isNear_56 : decode cX6_isNear 56 = .ok (.iload 4, 2) := dk_21 4 (dk_at dksX6_isNear_2 8 rfl rfl)
theorem dX6_isNear_58 : decode cX6_isNear 58 = .ok (.iload_n 3, 1) := dk_29 (dk_at dksX6_isNear_2 10 rfl rfl)
theorem dX6_isNear_59 : decode cX6_isNear 59 = .ok (.if_icmp .ge 31, 3) := dk_162 0 31 (dk_at dksX6_isNear_2 11 rfl rfl)
theorem dX6_isNear_62 : decode cX6_isNear 62 = .ok (.aload_n 0, 1) := dk_42 (dk_at dksX6_isNear_2 14 rfl rfl)
theorem dX6_isNear_63 : decode cX6_isNear 63 = .ok (.iload_n 1, 1) := dk_27 (dk_at dksX6_isNear_2 15 rfl rfl)
theorem dX6_isNear_64 : decode cX6_isNear 64 = .ok (.iload 4, 2) := dk_21 4 (dk_at dksX6_isNear_2 16 rfl rfl)
theorem dX6_isNear_66 : decode cX6_isNear 66 = .ok (.iload_n 2, 1) := dk_28 (dk_at dksX6_isNear_2 18 rfl rfl)
theorem dX6_isNear_67 : decode cX6_isNear 67 = .ok (.iconst 1, 1) := dk_4 (dk_at dksX6_isNear_2 19 rfl rfl)
theorem dX6_isNear_68 : decode cX6_isNear 68 = .ok (.if_icmp .ne 7, 3) := dk_160 0 7 (dk_at dksX6_isNear_2 20 rfl rfl)
theorem dX6_isNear_71 : decode cX6_isNear 71 = .ok (.iconst 1, 1) := dk_4 (dk_at dksX6_isNear_2 23 rfl rfl)
theorem dX6_isNear_72 : decode cX6_isNear 72 = .ok (.goto 4, 3) := dk_167 0 4 (dk_at dksX6_isNear_3 0 rfl rfl)
theorem dX6_isNear_75 : decode cX6_isNear 75 = .ok (.iconst 0, 1) := dk_3 (dk_at dksX6_isNear_3 3 rfl rfl)
theorem dX6_isNear_76 : decode cX6_isNear 76 = .ok (.invokevirtual 335, 3) := dk_182 1 79 (dk_at dksX6_isNear_3 4 rfl rfl)
theorem dX6_isNear_79 : decode cX6_isNear 79 = .ok (.ifCond .eq 5, 3) := dk_153 0 5 (dk_at dksX6_isNear_3 7 rfl rfl)
theorem dX6_isNear_82 : decode cX6_isNear 82 = .ok (.iconst 1, 1) := dk_4 (dk_at dksX6_isNear_3 10 rfl rfl)
theorem dX6_isNear_83 : decode cX6_isNear 83 = .ok (.ireturn, 1) := dk_172 (dk_at dksX6_isNear_3 11 rfl rfl)
theorem dX6_isNear_84 : decode cX6_isNear 84 = .ok (.iinc 4 1, 3) := dk_132 4 1 (dk_at dksX6_isNear_3 12 rfl rfl)
theorem dX6_isNear_87 : decode cX6_isNear 87 = .ok (.goto (-31), 3) := dk_167 255 225 (dk_at dksX6_isNear_3 15 rfl rfl)
theorem dX6_isNear_90 : decode cX6_isNear 90 = .ok (.iconst 0, 1) := dk_3 (dk_at dksX6_isNear_3 18 rfl rfl)
theorem dX6_isNear_91 : decode cX6_isNear 91 = .ok (.ireturn, 1) := dk_172 (dk_at dksX6_isNear_3 19 rfl rfl)
abbrev cX6_isNearAlike : ByteArray := prog_17_method_69_code
def yX6_isNearAlike : MethodName := ⟨RX6, "isNearAlike", "(I)Z"⟩
def dkwX6_isNearAlike_5 : List UInt8 := [4, 167, 0, 4, 3, 172]
abbrev dktX6_isNearAlike_5 : List UInt8 := dkwX6_isNearAlike_5 ++ []
def dkwX6_isNearAlike_4 : List UInt8 := [21, 4, 182, 1, 6, 160, 0, 23, 42, 180, 0, 26, 21, 4, 46, 42, 27, 29, 182, 1, 6, 160, 0, 7]
abbrev dktX6_isNearAlike_4 : List UInt8 := dkwX6_isNearAlike_4 ++ dktX6_isNearAlike_5
def dkwX6_isNearAlike_3 : List UInt8 := [159, 0, 48, 28, 5, 160, 0, 47, 21, 4, 29, 4, 96, 160, 0, 39, 42, 180, 0, 26, 29, 46, 42, 27]
abbrev dktX6_isNearAlike_3 : List UInt8 := dkwX6_isNearAlike_3 ++ dktX6_isNearAlike_4
def dkwX6_isNearAlike_2 : List UInt8 := [160, 0, 8, 21, 5, 167, 0, 4, 29, 62, 21, 5, 54, 4, 132, 5, 1, 167, 255, 204, 28, 4]
abbrev dktX6_isNearAlike_2 : List UInt8 := dkwX6_isNearAlike_2 ++ dktX6_isNearAlike_3
def dkwX6_isNearAlike_1 : List UInt8 := [21, 5, 46, 42, 27, 21, 5, 182, 1, 6, 160, 0, 6, 167, 0, 23, 28, 4, 96, 61, 29, 2]
abbrev dktX6_isNearAlike_1 : List UInt8 := dkwX6_isNearAlike_1 ++ dktX6_isNearAlike_2
def dkwX6_isNearAlike_0 : List UInt8 := [3, 61, 2, 62, 2, 54, 4, 3, 54, 5, 21, 5, 42, 180, 0, 136, 162, 0, 49, 42, 180, 0, 26]
abbrev dktX6_isNearAlike_0 : List UInt8 := dkwX6_isNearAlike_0 ++ dktX6_isNearAlike_1
theorem dksX6_isNearAlike_0 : cX6_isNearAlike.data.toList.drop 0 = dktX6_isNearAlike_0 := by decide +kernel
theorem dksX6_isNearAlike_1 : cX6_isNearAlike.data.toList.drop 23 = dktX6_isNearAlike_1 := dk_seg dksX6_isNearAlike_0 23 rfl rfl
theorem dksX6_isNearAlike_2 : cX6_isNearAlike.data.toList.drop 45 = dktX6_isNearAlike_2 := dk_seg dksX6_isNearAlike_1 22 rfl rfl
theorem dksX6_isNearAlike_3 : cX6_isNearAlike.data.toList.drop 67 = dktX6_isNearAlike_3 := dk_seg dksX6_isNearAlike_2 22 rfl rfl
theorem dksX6_isNearAlike_4 : cX6_isNearAlike.data.toList.drop 91 = dktX6_isNearAlike_4 := dk_seg dksX6_isNearAlike_3 24 rfl rfl
theorem dksX6_isNearAlike_5 : cX6_isNearAlike.data.toList.drop 115 = dktX6_isNearAlike_5 := dk_seg dksX6_isNearAlike_4 24 rfl rfl
theorem dX6_isNearAlike_0 : decode cX6_isNearAlike 0 = .ok (.iconst 0, 1) := dk_3 (dk_at dksX6_isNearAlike_0 0 rfl rfl)
theorem dX6_isNearAlike_1 : decode cX6_isNearAlike 1 = .ok (.istore_n 2, 1) := dk_61 (dk_at dksX6_isNearAlike_0 1 rfl rfl)
theorem dX6_isNearAlike_2 : decode cX6_isNearAlike 2 = .ok (.iconst (-1), 1) := dk_2 (dk_at dksX6_isNearAlike_0 2 rfl rfl)
theorem dX6_isNearAlike_3 : decode cX6_isNearAlike 3 = .ok (.istore_n 3, 1) := dk_62 (dk_at dksX6_isNearAlike_0 3 rfl rfl)
theorem dX6_isNearAlike_4 : decode cX6_isNearAlike 4 = .ok (.iconst (-1), 1) := dk_2 (dk_at dksX6_isNearAlike_0 4 rfl rfl)
theorem dX6_isNearAlike_5 : decode cX6_isNearAlike 5 = .ok (.istore 4, 2) := dk_54 4 (dk_at dksX6_isNearAlike_0 5 rfl rfl)
theorem dX6_isNearAlike_7 : decode cX6_isNearAlike 7 = .ok (.iconst 0, 1) := dk_3 (dk_at dksX6_isNearAlike_0 7 rfl rfl)
theorem dX6_isNearAlike_8 : decode cX6_isNearAlike 8 = .ok (.istore 5, 2) := dk_54 5 (dk_at dksX6_isNearAlike_0 8 rfl rfl)
theorem dX6_isNearAlike_10 : decode cX6_isNearAlike 10 = .ok (.iload 5, 2) := dk_21 5 (dk_at dksX6_isNearAlike_0 10 rfl rfl)
theorem dX6_isNearAlike_12 : decode cX6_isNearAlike 12 = .ok (.aload_n 0, 1) := dk_42 (dk_at dksX6_isNearAlike_0 12 rfl rfl)
theorem dX6_isNearAlike_13 : decode cX6_isNearAlike 13 = .ok (.getfield 136, 3) := dk_180 0 136 (dk_at dksX6_isNearAlike_0 13 rfl rfl)
theorem dX6_isNearAlike_16 : decode cX6_isNearAlike 16 = .ok (.if_icmp .ge 49, 3) := dk_162 0 49 (dk_at dksX6_isNearAlike_0 16 rfl rfl)
theorem dX6_isNearAlike_19 : decode cX6_isNearAlike 19 = .ok (.aload_n 0, 1) := dk_42 (dk_at dksX6_isNearAlike_0 19 rfl rfl)
theorem dX6_isNearAlike_20 : decode cX6_isNearAlike 20 = .ok (.getfield 26, 3) := dk_180 0 26 (dk_at dksX6_isNearAlike_0 20 rfl rfl)
theorem dX6_isNearAlike_23 : decode cX6_isNearAlike 23 = .ok (.iload 5, 2) := dk_21 5 (dk_at dksX6_isNearAlike_1 0 rfl rfl)
theorem dX6_isNearAlike_25 : decode cX6_isNearAlike 25 = .ok (.iaload, 1) := dk_46 (dk_at dksX6_isNearAlike_1 2 rfl rfl)
theorem dX6_isNearAlike_26 : decode cX6_isNearAlike 26 = .ok (.aload_n 0, 1) := dk_42 (dk_at dksX6_isNearAlike_1 3 rfl rfl)
theorem dX6_isNearAlike_27 : decode cX6_isNearAlike 27 = .ok (.iload_n 1, 1) := dk_27 (dk_at dksX6_isNearAlike_1 4 rfl rfl)
theorem dX6_isNearAlike_28 : decode cX6_isNearAlike 28 = .ok (.iload 5, 2) := dk_21 5 (dk_at dksX6_isNearAlike_1 5 rfl rfl)
theorem dX6_isNearAlike_30 : decode cX6_isNearAlike 30 = .ok (.invokevirtual 262, 3) := dk_182 1 6 (dk_at dksX6_isNearAlike_1 7 rfl rfl)
theorem dX6_isNearAlike_33 : decode cX6_isNearAlike 33 = .ok (.if_icmp .ne 6, 3) := dk_160 0 6 (dk_at dksX6_isNearAlike_1 10 rfl rfl)
theorem dX6_isNearAlike_36 : decode cX6_isNearAlike 36 = .ok (.goto 23, 3) := dk_167 0 23 (dk_at dksX6_isNearAlike_1 13 rfl rfl)
theorem dX6_isNearAlike_39 : decode cX6_isNearAlike 39 = .ok (.iload_n 2, 1) := dk_28 (dk_at dksX6_isNearAlike_1 16 rfl rfl)
theorem dX6_isNearAlike_40 : decode cX6_isNearAlike 40 = .ok (.iconst 1, 1) := dk_4 (dk_at dksX6_isNearAlike_1 17 rfl rfl)
theorem dX6_isNearAlike_41 : decode cX6_isNearAlike 41 = .ok (.iadd, 1) := dk_96 (dk_at dksX6_isNearAlike_1 18 rfl rfl)
theorem dX6_isNearAlike_42 : decode cX6_isNearAlike 42 = .ok (.istore_n 2, 1) := dk_61 (dk_at dksX6_isNearAlike_1 19 rfl rfl)
theorem dX6_isNearAlike_43 : decode cX6_isNearAlike 43 = .ok (.iload_n 3, 1) := dk_29 (dk_at dksX6_isNearAlike_1 20 rfl rfl)
theorem dX6_isNearAlike_44 : decode cX6_isNearAlike 44 = .ok (.iconst (-1), 1) := dk_2 (dk_at dksX6_isNearAlike_1 21 rfl rfl)
theorem dX6_isNearAlike_45 : decode cX6_isNearAlike 45 = .ok (.if_icmp .ne 8, 3) := dk_160 0 8 (dk_at dksX6_isNearAlike_2 0 rfl rfl)
theorem dX6_isNearAlike_48 : decode cX6_isNearAlike 48 = .ok (.iload 5, 2) := dk_21 5 (dk_at dksX6_isNearAlike_2 3 rfl rfl)
theorem dX6_isNearAlike_50 : decode cX6_isNearAlike 50 = .ok (.goto 4, 3) := dk_167 0 4 (dk_at dksX6_isNearAlike_2 5 rfl rfl)
theorem dX6_isNearAlike_53 : decode cX6_isNearAlike 53 = .ok (.iload_n 3, 1) := dk_29 (dk_at dksX6_isNearAlike_2 8 rfl rfl)
theorem dX6_isNearAlike_54 : decode cX6_isNearAlike 54 = .ok (.istore_n 3, 1) := dk_62 (dk_at dksX6_isNearAlike_2 9 rfl rfl)
theorem dX6_isNearAlike_55 : decode cX6_isNearAlike 55 = .ok (.iload 5, 2) := dk_21 5 (dk_at dksX6_isNearAlike_2 10 rfl rfl)
theorem dX6_isNearAlike_57 : decode cX6_isNearAlike 57 = .ok (.istore 4, 2) := dk_54 4 (dk_at dksX6_isNearAlike_2 12 rfl rfl)
theorem dX6_isNearAlike_59 : decode cX6_isNearAlike 59 = .ok (.iinc 5 1, 3) := dk_132 5 1 (dk_at dksX6_isNearAlike_2 14 rfl rfl)
theorem dX6_isNearAlike_62 : decode cX6_isNearAlike 62 = .ok (.goto (-52), 3) := dk_167 255 204 (dk_at dksX6_isNearAlike_2 17 rfl rfl)
theorem dX6_isNearAlike_65 : decode cX6_isNearAlike 65 = .ok (.iload_n 2, 1) := dk_28 (dk_at dksX6_isNearAlike_2 20 rfl rfl)
theorem dX6_isNearAlike_66 : decode cX6_isNearAlike 66 = .ok (.iconst 1, 1) := dk_4 (dk_at dksX6_isNearAlike_2 21 rfl rfl)
theorem dX6_isNearAlike_67 : decode cX6_isNearAlike 67 = .ok (.if_icmp .eq 48, 3) := dk_159 0 48 (dk_at dksX6_isNearAlike_3 0 rfl rfl)
theorem dX6_isNearAlike_70 : decode cX6_isNearAlike 70 = .ok (.iload_n 2, 1) := dk_28 (dk_at dksX6_isNearAlike_3 3 rfl rfl)
theorem dX6_isNearAlike_71 : decode cX6_isNearAlike 71 = .ok (.iconst 2, 1) := dk_5 (dk_at dksX6_isNearAlike_3 4 rfl rfl)
theorem dX6_isNearAlike_72 : decode cX6_isNearAlike 72 = .ok (.if_icmp .ne 47, 3) := dk_160 0 47 (dk_at dksX6_isNearAlike_3 5 rfl rfl)
theorem dX6_isNearAlike_75 : decode cX6_isNearAlike 75 = .ok (.iload 4, 2) := dk_21 4 (dk_at dksX6_isNearAlike_3 8 rfl rfl)
theorem dX6_isNearAlike_77 : decode cX6_isNearAlike 77 = .ok (.iload_n 3, 1) := dk_29 (dk_at dksX6_isNearAlike_3 10 rfl rfl)
theorem dX6_isNearAlike_78 : decode cX6_isNearAlike 78 = .ok (.iconst 1, 1) := dk_4 (dk_at dksX6_isNearAlike_3 11 rfl rfl)
theorem dX6_isNearAlike_79 : decode cX6_isNearAlike 79 = .ok (.iadd, 1) := dk_96 (dk_at dksX6_isNearAlike_3 12 rfl rfl)
theorem dX6_isNearAlike_80 : decode cX6_isNearAlike 80 = .ok (.if_icmp .ne 39, 3) := dk_160 0 39 (dk_at dksX6_isNearAlike_3 13 rfl rfl)
theorem dX6_isNearAlike_83 : decode cX6_isNearAlike 83 = .ok (.aload_n 0, 1) := dk_42 (dk_at dksX6_isNearAlike_3 16 rfl rfl)
theorem dX6_isNearAlike_84 : decode cX6_isNearAlike 84 = .ok (.getfield 26, 3) := dk_180 0 26 (dk_at dksX6_isNearAlike_3 17 rfl rfl)
theorem dX6_isNearAlike_87 : decode cX6_isNearAlike 87 = .ok (.iload_n 3, 1) := dk_29 (dk_at dksX6_isNearAlike_3 20 rfl rfl)
theorem dX6_isNearAlike_88 : decode cX6_isNearAlike 88 = .ok (.iaload, 1) := dk_46 (dk_at dksX6_isNearAlike_3 21 rfl rfl)
theorem dX6_isNearAlike_89 : decode cX6_isNearAlike 89 = .ok (.aload_n 0, 1) := dk_42 (dk_at dksX6_isNearAlike_3 22 rfl rfl)
theorem dX6_isNearAlike_90 : decode cX6_isNearAlike 90 = .ok (.iload_n 1, 1) := dk_27 (dk_at dksX6_isNearAlike_3 23 rfl rfl)
theorem dX6_isNearAlike_91 : decode cX6_isNearAlike 91 = .ok (.iload 4, 2) := dk_21 4 (dk_at dksX6_isNearAlike_4 0 rfl rfl)
theorem dX6_isNearAlike_93 : decode cX6_isNearAlike 93 = .ok (.invokevirtual 262, 3) := dk_182 1 6 (dk_at dksX6_isNearAlike_4 2 rfl rfl)
theorem dX6_isNearAlike_96 : decode cX6_isNearAlike 96 = .ok (.if_icmp .ne 23, 3) := dk_160 0 23 (dk_at dksX6_isNearAlike_4 5 rfl rfl)
theorem dX6_isNearAlike_99 : decode cX6_isNearAlike 99 = .ok (.aload_n 0, 1) := dk_42 (dk_at dksX6_isNearAlike_4 8 rfl rfl)
theorem dX6_isNearAlike_100 : decode cX6_isNearAlike 100 = .ok (.getfield 26, 3) := dk_180 0 26 (dk_at dksX6_isNearAlike_4 9 rfl rfl)
theorem dX6_isNearAlike_103 : decode cX6_isNearAlike 103 = .ok (.iload 4, 2) := dk_21 4 (dk_at dksX6_isNearAlike_4 12 rfl rfl)
theorem dX6_isNearAlike_105 : decode cX6_isNearAlike 105 = .ok (.iaload, 1) := dk_46 (dk_at dksX6_isNearAlike_4 14 rfl rfl)
theorem dX6_isNearAlike_106 : decode cX6_isNearAlike 106 = .ok (.aload_n 0, 1) := dk_42 (dk_at dksX6_isNearAlike_4 15 rfl rfl)
theorem dX6_isNearAlike_107 : decode cX6_isNearAlike 107 = .ok (.iload_n 1, 1) := dk_27 (dk_at dksX6_isNearAlike_4 16 rfl rfl)
theorem dX6_isNearAlike_108 : decode cX6_isNearAlike 108 = .ok (.iload_n 3, 1) := dk_29 (dk_at dksX6_isNearAlike_4 17 rfl rfl)
theorem dX6_isNearAlike_109 : decode cX6_isNearAlike 109 = .ok (.invokevirtual 262, 3) := dk_182 1 6 (dk_at dksX6_isNearAlike_4 18 rfl rfl)
theorem dX6_isNearAlike_112 : decode cX6_isNearAlike 112 = .ok (.if_icmp .ne 7, 3) := dk_160 0 7 (dk_at dksX6_isNearAlike_4 21 rfl rfl)
theorem dX6_isNearAlike_115 : decode cX6_isNearAlike 115 = .ok (.iconst 1, 1) := dk_4 (dk_at dksX6_isNearAlike_5 0 rfl rfl)
theorem dX6_isNearAlike_116 : decode cX6_isNearAlike 116 = .ok (.goto 4, 3) := dk_167 0 4 (dk_at dksX6_isNearAlike_5 1 rfl rfl)
theorem dX6_isNearAlike_119 : decode cX6_isNearAlike 119 = .ok (.iconst 0, 1) := dk_3 (dk_at dksX6_isNearAlike_5 4 rfl rfl)
theorem dX6_isNearAlike_120 : decode cX6_isNearAlike 120 = .ok (.ireturn, 1) := dk_172 (dk_at dksX6_isNearAlike_5 5 rfl rfl)
abbrev cX6_isRowWithout : ByteArray := prog_17_method_68_code
def yX6_isRowWithout : MethodName := ⟨RX6, "isRowWithout", "(IIZ)Z"⟩
def dkwX6_isRowWithout_4 : List UInt8 := [4, 172]
abbrev dktX6_isRowWithout_4 : List UInt8 := dkwX6_isRowWithout_4 ++ []
def dkwX6_isRowWithout_3 : List UInt8 := [180, 0, 26, 21, 6, 46, 42, 27, 21, 5, 182, 1, 6, 159, 0, 5, 3, 172, 132, 5, 1, 167, 255, 186]
abbrev dktX6_isRowWithout_3 : List UInt8 := dkwX6_isRowWithout_3 ++ dktX6_isRowWithout_4
def dkwX6_isRowWithout_2 : List UInt8 := [153, 0, 23, 42, 180, 0, 26, 21, 5, 46, 42, 27, 21, 6, 182, 1, 6, 159, 0, 25, 167, 0, 20, 42]
abbrev dktX6_isRowWithout_2 : List UInt8 := dkwX6_isRowWithout_2 ++ dktX6_isRowWithout_3
def dkwX6_isRowWithout_1 : List UInt8 := [21, 4, 162, 0, 69, 21, 5, 28, 162, 0, 8, 21, 5, 167, 0, 7, 21, 5, 4, 96, 54, 6, 29]
abbrev dktX6_isRowWithout_1 : List UInt8 := dkwX6_isRowWithout_1 ++ dktX6_isRowWithout_2
def dkwX6_isRowWithout_0 : List UInt8 := [29, 153, 0, 10, 42, 180, 0, 136, 167, 0, 9, 42, 180, 0, 7, 27, 46, 54, 4, 3, 54, 5, 21, 5]
abbrev dktX6_isRowWithout_0 : List UInt8 := dkwX6_isRowWithout_0 ++ dktX6_isRowWithout_1
theorem dksX6_isRowWithout_0 : cX6_isRowWithout.data.toList.drop 0 = dktX6_isRowWithout_0 := by decide +kernel
theorem dksX6_isRowWithout_1 : cX6_isRowWithout.data.toList.drop 24 = dktX6_isRowWithout_1 := dk_seg dksX6_isRowWithout_0 24 rfl rfl
theorem dksX6_isRowWithout_2 : cX6_isRowWithout.data.toList.drop 47 = dktX6_isRowWithout_2 := dk_seg dksX6_isRowWithout_1 23 rfl rfl
theorem dksX6_isRowWithout_3 : cX6_isRowWithout.data.toList.drop 71 = dktX6_isRowWithout_3 := dk_seg dksX6_isRowWithout_2 24 rfl rfl
theorem dksX6_isRowWithout_4 : cX6_isRowWithout.data.toList.drop 95 = dktX6_isRowWithout_4 := dk_seg dksX6_isRowWithout_3 24 rfl rfl
theorem dX6_isRowWithout_0 : decode cX6_isRowWithout 0 = .ok (.iload_n 3, 1) := dk_29 (dk_at dksX6_isRowWithout_0 0 rfl rfl)
theorem dX6_isRowWithout_1 : decode cX6_isRowWithout 1 = .ok (.ifCond .eq 10, 3) := dk_153 0 10 (dk_at dksX6_isRowWithout_0 1 rfl rfl)
theorem dX6_isRowWithout_4 : decode cX6_isRowWithout 4 = .ok (.aload_n 0, 1) := dk_42 (dk_at dksX6_isRowWithout_0 4 rfl rfl)
theorem dX6_isRowWithout_5 : decode cX6_isRowWithout 5 = .ok (.getfield 136, 3) := dk_180 0 136 (dk_at dksX6_isRowWithout_0 5 rfl rfl)
theorem dX6_isRowWithout_8 : decode cX6_isRowWithout 8 = .ok (.goto 9, 3) := dk_167 0 9 (dk_at dksX6_isRowWithout_0 8 rfl rfl)
theorem dX6_isRowWithout_11 : decode cX6_isRowWithout 11 = .ok (.aload_n 0, 1) := dk_42 (dk_at dksX6_isRowWithout_0 11 rfl rfl)
theorem dX6_isRowWithout_12 : decode cX6_isRowWithout 12 = .ok (.getfield 7, 3) := dk_180 0 7 (dk_at dksX6_isRowWithout_0 12 rfl rfl)
theorem dX6_isRowWithout_15 : decode cX6_isRowWithout 15 = .ok (.iload_n 1, 1) := dk_27 (dk_at dksX6_isRowWithout_0 15 rfl rfl)
theorem dX6_isRowWithout_16 : decode cX6_isRowWithout 16 = .ok (.iaload, 1) := dk_46 (dk_at dksX6_isRowWithout_0 16 rfl rfl)
theorem dX6_isRowWithout_17 : decode cX6_isRowWithout 17 = .ok (.istore 4, 2) := dk_54 4 (dk_at dksX6_isRowWithout_0 17 rfl rfl)
theorem dX6_isRowWithout_19 : decode cX6_isRowWithout 19 = .ok (.iconst 0, 1) := dk_3 (dk_at dksX6_isRowWithout_0 19 rfl rfl)
theorem dX6_isRowWithout_20 : decode cX6_isRowWithout 20 = .ok (.istore 5, 2) := dk_54 5 (dk_at dksX6_isRowWithout_0 20 rfl rfl)
theorem dX6_isRowWithout_22 : decode cX6_isRowWithout 22 = .ok (.iload 5, 2) := dk_21 5 (dk_at dksX6_isRowWithout_0 22 rfl rfl)
theorem dX6_isRowWithout_24 : decode cX6_isRowWithout 24 = .ok (.iload 4, 2) := dk_21 4 (dk_at dksX6_isRowWithout_1 0 rfl rfl)
theorem dX6_isRowWithout_26 : decode cX6_isRowWithout 26 = .ok (.if_icmp .ge 69, 3) := dk_162 0 69 (dk_at dksX6_isRowWithout_1 2 rfl rfl)
theorem dX6_isRowWithout_29 : decode cX6_isRowWithout 29 = .ok (.iload 5, 2) := dk_21 5 (dk_at dksX6_isRowWithout_1 5 rfl rfl)
theorem dX6_isRowWithout_31 : decode cX6_isRowWithout 31 = .ok (.iload_n 2, 1) := dk_28 (dk_at dksX6_isRowWithout_1 7 rfl rfl)
theorem dX6_isRowWithout_32 : decode cX6_isRowWithout 32 = .ok (.if_icmp .ge 8, 3) := dk_162 0 8 (dk_at dksX6_isRowWithout_1 8 rfl rfl)
theorem dX6_isRowWithout_35 : decode cX6_isRowWithout 35 = .ok (.iload 5, 2) := dk_21 5 (dk_at dksX6_isRowWithout_1 11 rfl rfl)
theorem dX6_isRowWithout_37 : decode cX6_isRowWithout 37 = .ok (.goto 7, 3) := dk_167 0 7 (dk_at dksX6_isRowWithout_1 13 rfl rfl)
theorem dX6_isRowWithout_40 : decode cX6_isRowWithout 40 = .ok (.iload 5, 2) := dk_21 5 (dk_at dksX6_isRowWithout_1 16 rfl rfl)
theorem dX6_isRowWithout_42 : decode cX6_isRowWithout 42 = .ok (.iconst 1, 1) := dk_4 (dk_at dksX6_isRowWithout_1 18 rfl rfl)
theorem dX6_isRowWithout_43 : decode cX6_isRowWithout 43 = .ok (.iadd, 1) := dk_96 (dk_at dksX6_isRowWithout_1 19 rfl rfl)
theorem dX6_isRowWithout_44 : decode cX6_isRowWithout 44 = .ok (.istore 6, 2) := dk_54 6 (dk_at dksX6_isRowWithout_1 20 rfl rfl)
theorem dX6_isRowWithout_46 : decode cX6_isRowWithout 46 = .ok (.iload_n 3, 1) := dk_29 (dk_at dksX6_isRowWithout_1 22 rfl rfl)
theorem dX6_isRowWithout_47 : decode cX6_isRowWithout 47 = .ok (.ifCond .eq 23, 3) := dk_153 0 23 (dk_at dksX6_isRowWithout_2 0 rfl rfl)
theorem dX6_isRowWithout_50 : decode cX6_isRowWithout 50 = .ok (.aload_n 0, 1) := dk_42 (dk_at dksX6_isRowWithout_2 3 rfl rfl)
theorem dX6_isRowWithout_51 : decode cX6_isRowWithout 51 = .ok (.getfield 26, 3) := dk_180 0 26 (dk_at dksX6_isRowWithout_2 4 rfl rfl)
theorem dX6_isRowWithout_54 : decode cX6_isRowWithout 54 = .ok (.iload 5, 2) := dk_21 5 (dk_at dksX6_isRowWithout_2 7 rfl rfl)
theorem dX6_isRowWithout_56 : decode cX6_isRowWithout 56 = .ok (.iaload, 1) := dk_46 (dk_at dksX6_isRowWithout_2 9 rfl rfl)
theorem dX6_isRowWithout_57 : decode cX6_isRowWithout 57 = .ok (.aload_n 0, 1) := dk_42 (dk_at dksX6_isRowWithout_2 10 rfl rfl)
theorem dX6_isRowWithout_58 : decode cX6_isRowWithout 58 = .ok (.iload_n 1, 1) := dk_27 (dk_at dksX6_isRowWithout_2 11 rfl rfl)
theorem dX6_isRowWithout_59 : decode cX6_isRowWithout 59 = .ok (.iload 6, 2) := dk_21 6 (dk_at dksX6_isRowWithout_2 12 rfl rfl)
theorem dX6_isRowWithout_61 : decode cX6_isRowWithout 61 = .ok (.invokevirtual 262, 3) := dk_182 1 6 (dk_at dksX6_isRowWithout_2 14 rfl rfl)
theorem dX6_isRowWithout_64 : decode cX6_isRowWithout 64 = .ok (.if_icmp .eq 25, 3) := dk_159 0 25 (dk_at dksX6_isRowWithout_2 17 rfl rfl)
theorem dX6_isRowWithout_67 : decode cX6_isRowWithout 67 = .ok (.goto 20, 3) := dk_167 0 20 (dk_at dksX6_isRowWithout_2 20 rfl rfl)
theorem dX6_isRowWithout_70 : decode cX6_isRowWithout 70 = .ok (.aload_n 0, 1) := dk_42 (dk_at dksX6_isRowWithout_2 23 rfl rfl)
theorem dX6_isRowWithout_71 : decode cX6_isRowWithout 71 = .ok (.getfield 26, 3) := dk_180 0 26 (dk_at dksX6_isRowWithout_3 0 rfl rfl)
theorem dX6_isRowWithout_74 : decode cX6_isRowWithout 74 = .ok (.iload 6, 2) := dk_21 6 (dk_at dksX6_isRowWithout_3 3 rfl rfl)
theorem dX6_isRowWithout_76 : decode cX6_isRowWithout 76 = .ok (.iaload, 1) := dk_46 (dk_at dksX6_isRowWithout_3 5 rfl rfl)
theorem dX6_isRowWithout_77 : decode cX6_isRowWithout 77 = .ok (.aload_n 0, 1) := dk_42 (dk_at dksX6_isRowWithout_3 6 rfl rfl)
theorem dX6_isRowWithout_78 : decode cX6_isRowWithout 78 = .ok (.iload_n 1, 1) := dk_27 (dk_at dksX6_isRowWithout_3 7 rfl rfl)
theorem dX6_isRowWithout_79 : decode cX6_isRowWithout 79 = .ok (.iload 5, 2) := dk_21 5 (dk_at dksX6_isRowWithout_3 8 rfl rfl)
theorem dX6_isRowWithout_81 : decode cX6_isRowWithout 81 = .ok (.invokevirtual 262, 3) := dk_182 1 6 (dk_at dksX6_isRowWithout_3 10 rfl rfl)
theorem dX6_isRowWithout_84 : decode cX6_isRowWithout 84 = .ok (.if_icmp .eq 5, 3) := dk_159 0 5 (dk_at dksX6_isRowWithout_3 13 rfl rfl)
theorem dX6_isRowWithout_87 : decode cX6_isRowWithout 87 = .ok (.iconst 0, 1) := dk_3 (dk_at dksX6_isRowWithout_3 16 rfl rfl)
theorem dX6_isRowWithout_88 : decode cX6_isRowWithout 88 = .ok (.ireturn, 1) := dk_172 (dk_at dksX6_isRowWithout_3 17 rfl rfl)
theorem dX6_isRowWithout_89 : decode cX6_isRowWithout 89 = .ok (.iinc 5 1, 3) := dk_132 5 1 (dk_at dksX6_isRowWithout_3 18 rfl rfl)
theorem dX6_isRowWithout_92 : decode cX6_isRowWithout 92 = .ok (.goto (-70), 3) := dk_167 255 186 (dk_at dksX6_isRowWithout_3 21 rfl rfl)
theorem dX6_isRowWithout_95 : decode cX6_isRowWithout 95 = .ok (.iconst 1, 1) := dk_4 (dk_at dksX6_isRowWithout_4 0 rfl rfl)
theorem dX6_isRowWithout_96 : decode cX6_isRowWithout 96 = .ok (.ireturn, 1) := dk_172 (dk_at dksX6_isRowWithout_4 1 rfl rfl)
abbrev cX6_isAheadOfNew : ByteArray := prog_17_method_70_code
def yX6_isAheadOfNew : MethodName := ⟨RX6, "isAheadOfNew", "()Z"⟩
def dkwX6_isAheadOfNew_3 : List UInt8 := [167, 0, 4, 3, 172, 132, 1, 1, 167, 255, 209, 3, 172]
abbrev dktX6_isAheadOfNew_3 : List UInt8 := dkwX6_isAheadOfNew_3 ++ []
def dkwX6_isAheadOfNew_2 : List UInt8 := [180, 0, 91, 27, 46, 159, 0, 24, 42, 180, 0, 26, 27, 46, 42, 180, 0, 91, 27, 46, 162, 0, 7, 4]
abbrev dktX6_isAheadOfNew_2 : List UInt8 := dkwX6_isAheadOfNew_2 ++ dktX6_isAheadOfNew_3
def dkwX6_isAheadOfNew_1 : List UInt8 := [167, 0, 4, 3, 172, 3, 60, 27, 42, 180, 0, 136, 162, 0, 45, 42, 180, 0, 26, 27, 46, 42]
abbrev dktX6_isAheadOfNew_1 : List UInt8 := dkwX6_isAheadOfNew_1 ++ dktX6_isAheadOfNew_2
def dkwX6_isAheadOfNew_0 : List UInt8 := [42, 180, 0, 136, 42, 180, 1, 83, 159, 0, 20, 42, 180, 0, 136, 42, 180, 1, 83, 162, 0, 7, 4]
abbrev dktX6_isAheadOfNew_0 : List UInt8 := dkwX6_isAheadOfNew_0 ++ dktX6_isAheadOfNew_1
theorem dksX6_isAheadOfNew_0 : cX6_isAheadOfNew.data.toList.drop 0 = dktX6_isAheadOfNew_0 := by decide +kernel
theorem dksX6_isAheadOfNew_1 : cX6_isAheadOfNew.data.toList.drop 23 = dktX6_isAheadOfNew_1 := dk_seg dksX6_isAheadOfNew_0 23 rfl rfl
theorem dksX6_isAheadOfNew_2 : cX6_isAheadOfNew.data.toList.drop 45 = dktX6_isAheadOfNew_2 := dk_seg dksX6_isAheadOfNew_1 22 rfl rfl
theorem dksX6_isAheadOfNew_3 : cX6_isAheadOfNew.data.toList.drop 69 = dktX6_isAheadOfNew_3 := dk_seg dksX6_isAheadOfNew_2 24 rfl rfl
theorem dX6_isAheadOfNew_0 : decode cX6_isAheadOfNew 0 = .ok (.aload_n 0, 1) := dk_42 (dk_at dksX6_isAheadOfNew_0 0 rfl rfl)
theorem dX6_isAheadOfNew_1 : decode cX6_isAheadOfNew 1 = .ok (.getfield 136, 3) := dk_180 0 136 (dk_at dksX6_isAheadOfNew_0 1 rfl rfl)
theorem dX6_isAheadOfNew_4 : decode cX6_isAheadOfNew 4 = .ok (.aload_n 0, 1) := dk_42 (dk_at dksX6_isAheadOfNew_0 4 rfl rfl)
theorem dX6_isAheadOfNew_5 : decode cX6_isAheadOfNew 5 = .ok (.getfield 339, 3) := dk_180 1 83 (dk_at dksX6_isAheadOfNew_0 5 rfl rfl)
theorem dX6_isAheadOfNew_8 : decode cX6_isAheadOfNew 8 = .ok (.if_icmp .eq 20, 3) := dk_159 0 20 (dk_at dksX6_isAheadOfNew_0 8 rfl rfl)
theorem dX6_isAheadOfNew_11 : decode cX6_isAheadOfNew 11 = .ok (.aload_n 0, 1) := dk_42 (dk_at dksX6_isAheadOfNew_0 11 rfl rfl)
theorem dX6_isAheadOfNew_12 : decode cX6_isAheadOfNew 12 = .ok (.getfield 136, 3) := dk_180 0 136 (dk_at dksX6_isAheadOfNew_0 12 rfl rfl)
theorem dX6_isAheadOfNew_15 : decode cX6_isAheadOfNew 15 = .ok (.aload_n 0, 1) := dk_42 (dk_at dksX6_isAheadOfNew_0 15 rfl rfl)
theorem dX6_isAheadOfNew_16 : decode cX6_isAheadOfNew 16 = .ok (.getfield 339, 3) := dk_180 1 83 (dk_at dksX6_isAheadOfNew_0 16 rfl rfl)
theorem dX6_isAheadOfNew_19 : decode cX6_isAheadOfNew 19 = .ok (.if_icmp .ge 7, 3) := dk_162 0 7 (dk_at dksX6_isAheadOfNew_0 19 rfl rfl)
theorem dX6_isAheadOfNew_22 : decode cX6_isAheadOfNew 22 = .ok (.iconst 1, 1) := dk_4 (dk_at dksX6_isAheadOfNew_0 22 rfl rfl)
theorem dX6_isAheadOfNew_23 : decode cX6_isAheadOfNew 23 = .ok (.goto 4, 3) := dk_167 0 4 (dk_at dksX6_isAheadOfNew_1 0 rfl rfl)
theorem dX6_isAheadOfNew_26 : decode cX6_isAheadOfNew 26 = .ok (.iconst 0, 1) := dk_3 (dk_at dksX6_isAheadOfNew_1 3 rfl rfl)
theorem dX6_isAheadOfNew_27 : decode cX6_isAheadOfNew 27 = .ok (.ireturn, 1) := dk_172 (dk_at dksX6_isAheadOfNew_1 4 rfl rfl)
theorem dX6_isAheadOfNew_28 : decode cX6_isAheadOfNew 28 = .ok (.iconst 0, 1) := dk_3 (dk_at dksX6_isAheadOfNew_1 5 rfl rfl)
theorem dX6_isAheadOfNew_29 : decode cX6_isAheadOfNew 29 = .ok (.istore_n 1, 1) := dk_60 (dk_at dksX6_isAheadOfNew_1 6 rfl rfl)
theorem dX6_isAheadOfNew_30 : decode cX6_isAheadOfNew 30 = .ok (.iload_n 1, 1) := dk_27 (dk_at dksX6_isAheadOfNew_1 7 rfl rfl)
theorem dX6_isAheadOfNew_31 : decode cX6_isAheadOfNew 31 = .ok (.aload_n 0, 1) := dk_42 (dk_at dksX6_isAheadOfNew_1 8 rfl rfl)
theorem dX6_isAheadOfNew_32 : decode cX6_isAheadOfNew 32 = .ok (.getfield 136, 3) := dk_180 0 136 (dk_at dksX6_isAheadOfNew_1 9 rfl rfl)
theorem dX6_isAheadOfNew_35 : decode cX6_isAheadOfNew 35 = .ok (.if_icmp .ge 45, 3) := dk_162 0 45 (dk_at dksX6_isAheadOfNew_1 12 rfl rfl)
theorem dX6_isAheadOfNew_38 : decode cX6_isAheadOfNew 38 = .ok (.aload_n 0, 1) := dk_42 (dk_at dksX6_isAheadOfNew_1 15 rfl rfl)
theorem dX6_isAheadOfNew_39 : decode cX6_isAheadOfNew 39 = .ok (.getfield 26, 3) := dk_180 0 26 (dk_at dksX6_isAheadOfNew_1 16 rfl rfl)
theorem dX6_isAheadOfNew_42 : decode cX6_isAheadOfNew 42 = .ok (.iload_n 1, 1) := dk_27 (dk_at dksX6_isAheadOfNew_1 19 rfl rfl)
theorem dX6_isAheadOfNew_43 : decode cX6_isAheadOfNew 43 = .ok (.iaload, 1) := dk_46 (dk_at dksX6_isAheadOfNew_1 20 rfl rfl)
theorem dX6_isAheadOfNew_44 : decode cX6_isAheadOfNew 44 = .ok (.aload_n 0, 1) := dk_42 (dk_at dksX6_isAheadOfNew_1 21 rfl rfl)
theorem dX6_isAheadOfNew_45 : decode cX6_isAheadOfNew 45 = .ok (.getfield 91, 3) := dk_180 0 91 (dk_at dksX6_isAheadOfNew_2 0 rfl rfl)
theorem dX6_isAheadOfNew_48 : decode cX6_isAheadOfNew 48 = .ok (.iload_n 1, 1) := dk_27 (dk_at dksX6_isAheadOfNew_2 3 rfl rfl)
theorem dX6_isAheadOfNew_49 : decode cX6_isAheadOfNew 49 = .ok (.iaload, 1) := dk_46 (dk_at dksX6_isAheadOfNew_2 4 rfl rfl)
theorem dX6_isAheadOfNew_50 : decode cX6_isAheadOfNew 50 = .ok (.if_icmp .eq 24, 3) := dk_159 0 24 (dk_at dksX6_isAheadOfNew_2 5 rfl rfl)
theorem dX6_isAheadOfNew_53 : decode cX6_isAheadOfNew 53 = .ok (.aload_n 0, 1) := dk_42 (dk_at dksX6_isAheadOfNew_2 8 rfl rfl)
theorem dX6_isAheadOfNew_54 : decode cX6_isAheadOfNew 54 = .ok (.getfield 26, 3) := dk_180 0 26 (dk_at dksX6_isAheadOfNew_2 9 rfl rfl)
theorem dX6_isAheadOfNew_57 : decode cX6_isAheadOfNew 57 = .ok (.iload_n 1, 1) := dk_27 (dk_at dksX6_isAheadOfNew_2 12 rfl rfl)
theorem dX6_isAheadOfNew_58 : decode cX6_isAheadOfNew 58 = .ok (.iaload, 1) := dk_46 (dk_at dksX6_isAheadOfNew_2 13 rfl rfl)
theorem dX6_isAheadOfNew_59 : decode cX6_isAheadOfNew 59 = .ok (.aload_n 0, 1) := dk_42 (dk_at dksX6_isAheadOfNew_2 14 rfl rfl)
theorem dX6_isAheadOfNew_60 : decode cX6_isAheadOfNew 60 = .ok (.getfield 91, 3) := dk_180 0 91 (dk_at dksX6_isAheadOfNew_2 15 rfl rfl)
theorem dX6_isAheadOfNew_63 : decode cX6_isAheadOfNew 63 = .ok (.iload_n 1, 1) := dk_27 (dk_at dksX6_isAheadOfNew_2 18 rfl rfl)
theorem dX6_isAheadOfNew_64 : decode cX6_isAheadOfNew 64 = .ok (.iaload, 1) := dk_46 (dk_at dksX6_isAheadOfNew_2 19 rfl rfl)
theorem dX6_isAheadOfNew_65 : decode cX6_isAheadOfNew 65 = .ok (.if_icmp .ge 7, 3) := dk_162 0 7 (dk_at dksX6_isAheadOfNew_2 20 rfl rfl)
theorem dX6_isAheadOfNew_68 : decode cX6_isAheadOfNew 68 = .ok (.iconst 1, 1) := dk_4 (dk_at dksX6_isAheadOfNew_2 23 rfl rfl)
theorem dX6_isAheadOfNew_69 : decode cX6_isAheadOfNew 69 = .ok (.goto 4, 3) := dk_167 0 4 (dk_at dksX6_isAheadOfNew_3 0 rfl rfl)
theorem dX6_isAheadOfNew_72 : decode cX6_isAheadOfNew 72 = .ok (.iconst 0, 1) := dk_3 (dk_at dksX6_isAheadOfNew_3 3 rfl rfl)
theorem dX6_isAheadOfNew_73 : decode cX6_isAheadOfNew 73 = .ok (.ireturn, 1) := dk_172 (dk_at dksX6_isAheadOfNew_3 4 rfl rfl)
theorem dX6_isAheadOfNew_74 : decode cX6_isAheadOfNew 74 = .ok (.iinc 1 1, 3) := dk_132 1 1 (dk_at dksX6_isAheadOfNew_3 5 rfl rfl)
theorem dX6_isAheadOfNew_77 : decode cX6_isAheadOfNew 77 = .ok (.goto (-47), 3) := dk_167 255 209 (dk_at dksX6_isAheadOfNew_3 8 rfl rfl)
theorem dX6_isAheadOfNew_80 : decode cX6_isAheadOfNew 80 = .ok (.iconst 0, 1) := dk_3 (dk_at dksX6_isAheadOfNew_3 11 rfl rfl)
theorem dX6_isAheadOfNew_81 : decode cX6_isAheadOfNew 81 = .ok (.ireturn, 1) := dk_172 (dk_at dksX6_isAheadOfNew_3 12 rfl rfl)
abbrev cX6_laysRow : ByteArray := prog_17_method_72_code
def yX6_laysRow : MethodName := ⟨RX6, "laysRow", "(I)V"⟩
def dkwX6_laysRow_1 : List UInt8 := [28, 42, 27, 28, 182, 1, 6, 79, 132, 2, 1, 167, 255, 233, 177]
abbrev dktX6_laysRow_1 : List UInt8 := dkwX6_laysRow_1 ++ []
def dkwX6_laysRow_0 : List UInt8 := [42, 42, 180, 0, 7, 27, 46, 181, 0, 136, 3, 61, 28, 42, 180, 0, 136, 162, 0, 21, 42, 180, 0, 26]
abbrev dktX6_laysRow_0 : List UInt8 := dkwX6_laysRow_0 ++ dktX6_laysRow_1
theorem dksX6_laysRow_0 : cX6_laysRow.data.toList.drop 0 = dktX6_laysRow_0 := by decide +kernel
theorem dksX6_laysRow_1 : cX6_laysRow.data.toList.drop 24 = dktX6_laysRow_1 := dk_seg dksX6_laysRow_0 24 rfl rfl
theorem dX6_laysRow_0 : decode cX6_laysRow 0 = .ok (.aload_n 0, 1) := dk_42 (dk_at dksX6_laysRow_0 0 rfl rfl)
theorem dX6_laysRow_1 : decode cX6_laysRow 1 = .ok (.aload_n 0, 1) := dk_42 (dk_at dksX6_laysRow_0 1 rfl rfl)
theorem dX6_laysRow_2 : decode cX6_laysRow 2 = .ok (.getfield 7, 3) := dk_180 0 7 (dk_at dksX6_laysRow_0 2 rfl rfl)
theorem dX6_laysRow_5 : decode cX6_laysRow 5 = .ok (.iload_n 1, 1) := dk_27 (dk_at dksX6_laysRow_0 5 rfl rfl)
theorem dX6_laysRow_6 : decode cX6_laysRow 6 = .ok (.iaload, 1) := dk_46 (dk_at dksX6_laysRow_0 6 rfl rfl)
theorem dX6_laysRow_7 : decode cX6_laysRow 7 = .ok (.putfield 136, 3) := dk_181 0 136 (dk_at dksX6_laysRow_0 7 rfl rfl)
theorem dX6_laysRow_10 : decode cX6_laysRow 10 = .ok (.iconst 0, 1) := dk_3 (dk_at dksX6_laysRow_0 10 rfl rfl)
theorem dX6_laysRow_11 : decode cX6_laysRow 11 = .ok (.istore_n 2, 1) := dk_61 (dk_at dksX6_laysRow_0 11 rfl rfl)
theorem dX6_laysRow_12 : decode cX6_laysRow 12 = .ok (.iload_n 2, 1) := dk_28 (dk_at dksX6_laysRow_0 12 rfl rfl)
theorem dX6_laysRow_13 : decode cX6_laysRow 13 = .ok (.aload_n 0, 1) := dk_42 (dk_at dksX6_laysRow_0 13 rfl rfl)
theorem dX6_laysRow_14 : decode cX6_laysRow 14 = .ok (.getfield 136, 3) := dk_180 0 136 (dk_at dksX6_laysRow_0 14 rfl rfl)
theorem dX6_laysRow_17 : decode cX6_laysRow 17 = .ok (.if_icmp .ge 21, 3) := dk_162 0 21 (dk_at dksX6_laysRow_0 17 rfl rfl)
theorem dX6_laysRow_20 : decode cX6_laysRow 20 = .ok (.aload_n 0, 1) := dk_42 (dk_at dksX6_laysRow_0 20 rfl rfl)
theorem dX6_laysRow_21 : decode cX6_laysRow 21 = .ok (.getfield 26, 3) := dk_180 0 26 (dk_at dksX6_laysRow_0 21 rfl rfl)
theorem dX6_laysRow_24 : decode cX6_laysRow 24 = .ok (.iload_n 2, 1) := dk_28 (dk_at dksX6_laysRow_1 0 rfl rfl)
theorem dX6_laysRow_25 : decode cX6_laysRow 25 = .ok (.aload_n 0, 1) := dk_42 (dk_at dksX6_laysRow_1 1 rfl rfl)
theorem dX6_laysRow_26 : decode cX6_laysRow 26 = .ok (.iload_n 1, 1) := dk_27 (dk_at dksX6_laysRow_1 2 rfl rfl)
theorem dX6_laysRow_27 : decode cX6_laysRow 27 = .ok (.iload_n 2, 1) := dk_28 (dk_at dksX6_laysRow_1 3 rfl rfl)
theorem dX6_laysRow_28 : decode cX6_laysRow 28 = .ok (.invokevirtual 262, 3) := dk_182 1 6 (dk_at dksX6_laysRow_1 4 rfl rfl)
theorem dX6_laysRow_31 : decode cX6_laysRow 31 = .ok (.iastore, 1) := dk_79 (dk_at dksX6_laysRow_1 7 rfl rfl)
theorem dX6_laysRow_32 : decode cX6_laysRow 32 = .ok (.iinc 2 1, 3) := dk_132 2 1 (dk_at dksX6_laysRow_1 8 rfl rfl)
theorem dX6_laysRow_35 : decode cX6_laysRow 35 = .ok (.goto (-23), 3) := dk_167 255 233 (dk_at dksX6_laysRow_1 11 rfl rfl)
theorem dX6_laysRow_38 : decode cX6_laysRow 38 = .ok (.return_, 1) := dk_177 (dk_at dksX6_laysRow_1 14 rfl rfl)
abbrev cX6_leavesOut : ByteArray := prog_17_method_74_code
def yX6_leavesOut : MethodName := ⟨RX6, "leavesOut", "(II)V"⟩
def dkwX6_leavesOut_2 : List UInt8 := [132, 3, 1, 167, 255, 222, 177]
abbrev dktX6_leavesOut_2 : List UInt8 := dkwX6_leavesOut_2 ++ []
def dkwX6_leavesOut_1 : List UInt8 := [180, 0, 26, 29, 42, 27, 29, 28, 162, 0, 7, 29, 167, 0, 6, 29, 4, 96, 182, 1, 6, 79]
abbrev dktX6_leavesOut_1 : List UInt8 := dkwX6_leavesOut_1 ++ dktX6_leavesOut_2
def dkwX6_leavesOut_0 : List UInt8 := [42, 42, 180, 0, 7, 27, 46, 4, 100, 181, 0, 136, 3, 62, 29, 42, 180, 0, 136, 162, 0, 32, 42]
abbrev dktX6_leavesOut_0 : List UInt8 := dkwX6_leavesOut_0 ++ dktX6_leavesOut_1
theorem dksX6_leavesOut_0 : cX6_leavesOut.data.toList.drop 0 = dktX6_leavesOut_0 := by decide +kernel
theorem dksX6_leavesOut_1 : cX6_leavesOut.data.toList.drop 23 = dktX6_leavesOut_1 := dk_seg dksX6_leavesOut_0 23 rfl rfl
theorem dksX6_leavesOut_2 : cX6_leavesOut.data.toList.drop 45 = dktX6_leavesOut_2 := dk_seg dksX6_leavesOut_1 22 rfl rfl
theorem dX6_leavesOut_0 : decode cX6_leavesOut 0 = .ok (.aload_n 0, 1) := dk_42 (dk_at dksX6_leavesOut_0 0 rfl rfl)
theorem dX6_leavesOut_1 : decode cX6_leavesOut 1 = .ok (.aload_n 0, 1) := dk_42 (dk_at dksX6_leavesOut_0 1 rfl rfl)
theorem dX6_leavesOut_2 : decode cX6_leavesOut 2 = .ok (.getfield 7, 3) := dk_180 0 7 (dk_at dksX6_leavesOut_0 2 rfl rfl)
theorem dX6_leavesOut_5 : decode cX6_leavesOut 5 = .ok (.iload_n 1, 1) := dk_27 (dk_at dksX6_leavesOut_0 5 rfl rfl)
theorem dX6_leavesOut_6 : decode cX6_leavesOut 6 = .ok (.iaload, 1) := dk_46 (dk_at dksX6_leavesOut_0 6 rfl rfl)
theorem dX6_leavesOut_7 : decode cX6_leavesOut 7 = .ok (.iconst 1, 1) := dk_4 (dk_at dksX6_leavesOut_0 7 rfl rfl)
theorem dX6_leavesOut_8 : decode cX6_leavesOut 8 = .ok (.isub, 1) := dk_100 (dk_at dksX6_leavesOut_0 8 rfl rfl)
theorem dX6_leavesOut_9 : decode cX6_leavesOut 9 = .ok (.putfield 136, 3) := dk_181 0 136 (dk_at dksX6_leavesOut_0 9 rfl rfl)
theorem dX6_leavesOut_12 : decode cX6_leavesOut 12 = .ok (.iconst 0, 1) := dk_3 (dk_at dksX6_leavesOut_0 12 rfl rfl)
theorem dX6_leavesOut_13 : decode cX6_leavesOut 13 = .ok (.istore_n 3, 1) := dk_62 (dk_at dksX6_leavesOut_0 13 rfl rfl)
theorem dX6_leavesOut_14 : decode cX6_leavesOut 14 = .ok (.iload_n 3, 1) := dk_29 (dk_at dksX6_leavesOut_0 14 rfl rfl)
theorem dX6_leavesOut_15 : decode cX6_leavesOut 15 = .ok (.aload_n 0, 1) := dk_42 (dk_at dksX6_leavesOut_0 15 rfl rfl)
theorem dX6_leavesOut_16 : decode cX6_leavesOut 16 = .ok (.getfield 136, 3) := dk_180 0 136 (dk_at dksX6_leavesOut_0 16 rfl rfl)
theorem dX6_leavesOut_19 : decode cX6_leavesOut 19 = .ok (.if_icmp .ge 32, 3) := dk_162 0 32 (dk_at dksX6_leavesOut_0 19 rfl rfl)
theorem dX6_leavesOut_22 : decode cX6_leavesOut 22 = .ok (.aload_n 0, 1) := dk_42 (dk_at dksX6_leavesOut_0 22 rfl rfl)
theorem dX6_leavesOut_23 : decode cX6_leavesOut 23 = .ok (.getfield 26, 3) := dk_180 0 26 (dk_at dksX6_leavesOut_1 0 rfl rfl)
theorem dX6_leavesOut_26 : decode cX6_leavesOut 26 = .ok (.iload_n 3, 1) := dk_29 (dk_at dksX6_leavesOut_1 3 rfl rfl)
theorem dX6_leavesOut_27 : decode cX6_leavesOut 27 = .ok (.aload_n 0, 1) := dk_42 (dk_at dksX6_leavesOut_1 4 rfl rfl)
theorem dX6_leavesOut_28 : decode cX6_leavesOut 28 = .ok (.iload_n 1, 1) := dk_27 (dk_at dksX6_leavesOut_1 5 rfl rfl)
theorem dX6_leavesOut_29 : decode cX6_leavesOut 29 = .ok (.iload_n 3, 1) := dk_29 (dk_at dksX6_leavesOut_1 6 rfl rfl)
theorem dX6_leavesOut_30 : decode cX6_leavesOut 30 = .ok (.iload_n 2, 1) := dk_28 (dk_at dksX6_leavesOut_1 7 rfl rfl)
theorem dX6_leavesOut_31 : decode cX6_leavesOut 31 = .ok (.if_icmp .ge 7, 3) := dk_162 0 7 (dk_at dksX6_leavesOut_1 8 rfl rfl)
theorem dX6_leavesOut_34 : decode cX6_leavesOut 34 = .ok (.iload_n 3, 1) := dk_29 (dk_at dksX6_leavesOut_1 11 rfl rfl)
theorem dX6_leavesOut_35 : decode cX6_leavesOut 35 = .ok (.goto 6, 3) := dk_167 0 6 (dk_at dksX6_leavesOut_1 12 rfl rfl)
theorem dX6_leavesOut_38 : decode cX6_leavesOut 38 = .ok (.iload_n 3, 1) := dk_29 (dk_at dksX6_leavesOut_1 15 rfl rfl)
theorem dX6_leavesOut_39 : decode cX6_leavesOut 39 = .ok (.iconst 1, 1) := dk_4 (dk_at dksX6_leavesOut_1 16 rfl rfl)
theorem dX6_leavesOut_40 : decode cX6_leavesOut 40 = .ok (.iadd, 1) := dk_96 (dk_at dksX6_leavesOut_1 17 rfl rfl)
theorem dX6_leavesOut_41 : decode cX6_leavesOut 41 = .ok (.invokevirtual 262, 3) := dk_182 1 6 (dk_at dksX6_leavesOut_1 18 rfl rfl)
theorem dX6_leavesOut_44 : decode cX6_leavesOut 44 = .ok (.iastore, 1) := dk_79 (dk_at dksX6_leavesOut_1 21 rfl rfl)
theorem dX6_leavesOut_45 : decode cX6_leavesOut 45 = .ok (.iinc 3 1, 3) := dk_132 3 1 (dk_at dksX6_leavesOut_2 0 rfl rfl)
theorem dX6_leavesOut_48 : decode cX6_leavesOut 48 = .ok (.goto (-34), 3) := dk_167 255 222 (dk_at dksX6_leavesOut_2 3 rfl rfl)
theorem dX6_leavesOut_51 : decode cX6_leavesOut 51 = .ok (.return_, 1) := dk_177 (dk_at dksX6_leavesOut_2 6 rfl rfl)
abbrev cX6_walks : ByteArray := prog_17_method_77_code
def yX6_walks : MethodName := ⟨RX6, "walks", "(III)J"⟩
def dkwX6_walks_9 : List UInt8 := [167, 255, 138, 42, 180, 0, 97, 28, 47, 173]
abbrev dktX6_walks_9 : List UInt8 := dkwX6_walks_9 ++ []
def dkwX6_walks_8 : List UInt8 := [180, 0, 97, 21, 5, 42, 180, 0, 100, 21, 5, 47, 80, 132, 5, 1, 167, 255, 230, 132, 4, 1]
abbrev dktX6_walks_8 : List UInt8 := dkwX6_walks_8 ++ dktX6_walks_9
def dkwX6_walks_7 : List UInt8 := [167, 255, 211, 132, 5, 1, 167, 255, 185, 3, 54, 5, 21, 5, 42, 180, 0, 130, 162, 0, 23, 42]
abbrev dktX6_walks_7 : List UInt8 := dkwX6_walks_7 ++ dktX6_walks_8
def dkwX6_walks_6 : List UInt8 := [180, 0, 100, 21, 5, 42, 180, 0, 100, 21, 5, 47, 42, 180, 0, 97, 21, 6, 47, 97, 80, 132, 6, 1]
abbrev dktX6_walks_6 : List UInt8 := dkwX6_walks_6 ++ dktX6_walks_7
def dkwX6_walks_5 : List UInt8 := [54, 6, 21, 6, 42, 180, 0, 130, 162, 0, 42, 42, 21, 6, 21, 5, 182, 1, 38, 153, 0, 25, 42]
abbrev dktX6_walks_5 : List UInt8 := dkwX6_walks_5 ++ dktX6_walks_6
def dkwX6_walks_4 : List UInt8 := [162, 0, 118, 3, 54, 5, 21, 5, 42, 180, 0, 130, 162, 0, 68, 42, 180, 0, 100, 21, 5, 9, 80, 3]
abbrev dktX6_walks_4 : List UInt8 := dkwX6_walks_4 ++ dktX6_walks_5
def dkwX6_walks_3 : List UInt8 := [21, 4, 27, 160, 0, 7, 10, 167, 0, 4, 9, 80, 132, 4, 1, 167, 255, 226, 3, 54, 4, 21, 4, 29]
abbrev dktX6_walks_3 : List UInt8 := dkwX6_walks_3 ++ dktX6_walks_4
def dkwX6_walks_2 : List UInt8 := [173, 42, 182, 1, 35, 3, 54, 4, 21, 4, 42, 180, 0, 130, 162, 0, 27, 42, 180, 0, 97, 21, 4]
abbrev dktX6_walks_2 : List UInt8 := dkwX6_walks_2 ++ dktX6_walks_3
def dkwX6_walks_1 : List UInt8 := [154, 0, 7, 20, 1, 56, 173, 42, 27, 182, 1, 26, 153, 0, 11, 42, 28, 182, 1, 26, 154, 0, 5, 9]
abbrev dktX6_walks_1 : List UInt8 := dkwX6_walks_1 ++ dktX6_walks_2
def dkwX6_walks_0 : List UInt8 := [42, 27, 182, 0, 154, 153, 0, 21, 42, 28, 182, 0, 154, 153, 0, 13, 29, 3, 16, 10, 184, 0, 139]
abbrev dktX6_walks_0 : List UInt8 := dkwX6_walks_0 ++ dktX6_walks_1
theorem dksX6_walks_0 : cX6_walks.data.toList.drop 0 = dktX6_walks_0 := by decide +kernel
theorem dksX6_walks_1 : cX6_walks.data.toList.drop 23 = dktX6_walks_1 := dk_seg dksX6_walks_0 23 rfl rfl
theorem dksX6_walks_2 : cX6_walks.data.toList.drop 47 = dktX6_walks_2 := dk_seg dksX6_walks_1 24 rfl rfl
theorem dksX6_walks_3 : cX6_walks.data.toList.drop 70 = dktX6_walks_3 := dk_seg dksX6_walks_2 23 rfl rfl
theorem dksX6_walks_4 : cX6_walks.data.toList.drop 94 = dktX6_walks_4 := dk_seg dksX6_walks_3 24 rfl rfl
theorem dksX6_walks_5 : cX6_walks.data.toList.drop 118 = dktX6_walks_5 := dk_seg dksX6_walks_4 24 rfl rfl
theorem dksX6_walks_6 : cX6_walks.data.toList.drop 141 = dktX6_walks_6 := dk_seg dksX6_walks_5 23 rfl rfl
theorem dksX6_walks_7 : cX6_walks.data.toList.drop 165 = dktX6_walks_7 := dk_seg dksX6_walks_6 24 rfl rfl
theorem dksX6_walks_8 : cX6_walks.data.toList.drop 187 = dktX6_walks_8 := dk_seg dksX6_walks_7 22 rfl rfl
theorem dksX6_walks_9 : cX6_walks.data.toList.drop 209 = dktX6_walks_9 := dk_seg dksX6_walks_8 22 rfl rfl
theorem dX6_walks_0 : decode cX6_walks 0 = .ok (.aload_n 0, 1) := dk_42 (dk_at dksX6_walks_0 0 rfl rfl)
theorem dX6_walks_1 : decode cX6_walks 1 = .ok (.iload_n 1, 1) := dk_27 (dk_at dksX6_walks_0 1 rfl rfl)
theorem dX6_walks_2 : decode cX6_walks 2 = .ok (.invokevirtual 154, 3) := dk_182 0 154 (dk_at dksX6_walks_0 2 rfl rfl)
theorem dX6_walks_5 : decode cX6_walks 5 = .ok (.ifCond .eq 21, 3) := dk_153 0 21 (dk_at dksX6_walks_0 5 rfl rfl)
theorem dX6_walks_8 : decode cX6_walks 8 = .ok (.aload_n 0, 1) := dk_42 (dk_at dksX6_walks_0 8 rfl rfl)
theorem dX6_walks_9 : decode cX6_walks 9 = .ok (.iload_n 2, 1) := dk_28 (dk_at dksX6_walks_0 9 rfl rfl)
theorem dX6_walks_10 : decode cX6_walks 10 = .ok (.invokevirtual 154, 3) := dk_182 0 154 (dk_at dksX6_walks_0 10 rfl rfl)
theorem dX6_walks_13 : decode cX6_walks 13 = .ok (.ifCond .eq 13, 3) := dk_153 0 13 (dk_at dksX6_walks_0 13 rfl rfl)
theorem dX6_walks_16 : decode cX6_walks 16 = .ok (.iload_n 3, 1) := dk_29 (dk_at dksX6_walks_0 16 rfl rfl)
theorem dX6_walks_17 : decode cX6_walks 17 = .ok (.iconst 0, 1) := dk_3 (dk_at dksX6_walks_0 17 rfl rfl)
theorem dX6_walks_18 : decode cX6_walks 18 = .ok (.bipush 10, 2) := dk_16 10 (dk_at dksX6_walks_0 18 rfl rfl)
theorem dX6_walks_20 : decode cX6_walks 20 = .ok (.invokestatic 139, 3) := dk_184 0 139 (dk_at dksX6_walks_0 20 rfl rfl)
theorem dX6_walks_23 : decode cX6_walks 23 = .ok (.ifCond .ne 7, 3) := dk_154 0 7 (dk_at dksX6_walks_1 0 rfl rfl)
theorem dX6_walks_26 : decode cX6_walks 26 = .ok (.ldc2_w 312, 3) := dk_20 1 56 (dk_at dksX6_walks_1 3 rfl rfl)
theorem dX6_walks_29 : decode cX6_walks 29 = .ok (.lreturn, 1) := dk_173 (dk_at dksX6_walks_1 6 rfl rfl)
theorem dX6_walks_30 : decode cX6_walks 30 = .ok (.aload_n 0, 1) := dk_42 (dk_at dksX6_walks_1 7 rfl rfl)
theorem dX6_walks_31 : decode cX6_walks 31 = .ok (.iload_n 1, 1) := dk_27 (dk_at dksX6_walks_1 8 rfl rfl)
theorem dX6_walks_32 : decode cX6_walks 32 = .ok (.invokevirtual 282, 3) := dk_182 1 26 (dk_at dksX6_walks_1 9 rfl rfl)
theorem dX6_walks_35 : decode cX6_walks 35 = .ok (.ifCond .eq 11, 3) := dk_153 0 11 (dk_at dksX6_walks_1 12 rfl rfl)
theorem dX6_walks_38 : decode cX6_walks 38 = .ok (.aload_n 0, 1) := dk_42 (dk_at dksX6_walks_1 15 rfl rfl)
theorem dX6_walks_39 : decode cX6_walks 39 = .ok (.iload_n 2, 1) := dk_28 (dk_at dksX6_walks_1 16 rfl rfl)
theorem dX6_walks_40 : decode cX6_walks 40 = .ok (.invokevirtual 282, 3) := dk_182 1 26 (dk_at dksX6_walks_1 17 rfl rfl)
theorem dX6_walks_43 : decode cX6_walks 43 = .ok (.ifCond .ne 5, 3) := dk_154 0 5 (dk_at dksX6_walks_1 20 rfl rfl)
theorem dX6_walks_46 : decode cX6_walks 46 = .ok (.lconst 0, 1) := dk_9 (dk_at dksX6_walks_1 23 rfl rfl)
theorem dX6_walks_47 : decode cX6_walks 47 = .ok (.lreturn, 1) := dk_173 (dk_at dksX6_walks_2 0 rfl rfl)
theorem dX6_walks_48 : decode cX6_walks 48 = .ok (.aload_n 0, 1) := dk_42 (dk_at dksX6_walks_2 1 rfl rfl)
theorem dX6_walks_49 : decode cX6_walks 49 = .ok (.invokevirtual 291, 3) := dk_182 1 35 (dk_at dksX6_walks_2 2 rfl rfl)
theorem dX6_walks_52 : decode cX6_walks 52 = .ok (.iconst 0, 1) := dk_3 (dk_at dksX6_walks_2 5 rfl rfl)
theorem dX6_walks_53 : decode cX6_walks 53 = .ok (.istore 4, 2) := dk_54 4 (dk_at dksX6_walks_2 6 rfl rfl)
theorem dX6_walks_55 : decode cX6_walks 55 = .ok (.iload 4, 2) := dk_21 4 (dk_at dksX6_walks_2 8 rfl rfl)
theorem dX6_walks_57 : decode cX6_walks 57 = .ok (.aload_n 0, 1) := dk_42 (dk_at dksX6_walks_2 10 rfl rfl)
theorem dX6_walks_58 : decode cX6_walks 58 = .ok (.getfield 130, 3) := dk_180 0 130 (dk_at dksX6_walks_2 11 rfl rfl)
theorem dX6_walks_61 : decode cX6_walks 61 = .ok (.if_icmp .ge 27, 3) := dk_162 0 27 (dk_at dksX6_walks_2 14 rfl rfl)
theorem dX6_walks_64 : decode cX6_walks 64 = .ok (.aload_n 0, 1) := dk_42 (dk_at dksX6_walks_2 17 rfl rfl)
theorem dX6_walks_65 : decode cX6_walks 65 = .ok (.getfield 97, 3) := dk_180 0 97 (dk_at dksX6_walks_2 18 rfl rfl)
theorem dX6_walks_68 : decode cX6_walks 68 = .ok (.iload 4, 2) := dk_21 4 (dk_at dksX6_walks_2 21 rfl rfl)
theorem dX6_walks_70 : decode cX6_walks 70 = .ok (.iload 4, 2) := dk_21 4 (dk_at dksX6_walks_3 0 rfl rfl)
theorem dX6_walks_72 : decode cX6_walks 72 = .ok (.iload_n 1, 1) := dk_27 (dk_at dksX6_walks_3 2 rfl rfl)
theorem dX6_walks_73 : decode cX6_walks 73 = .ok (.if_icmp .ne 7, 3) := dk_160 0 7 (dk_at dksX6_walks_3 3 rfl rfl)
theorem dX6_walks_76 : decode cX6_walks 76 = .ok (.lconst 1, 1) := dk_10 (dk_at dksX6_walks_3 6 rfl rfl)
theorem dX6_walks_77 : decode cX6_walks 77 = .ok (.goto 4, 3) := dk_167 0 4 (dk_at dksX6_walks_3 7 rfl rfl)
theorem dX6_walks_80 : decode cX6_walks 80 = .ok (.lconst 0, 1) := dk_9 (dk_at dksX6_walks_3 10 rfl rfl)
theorem dX6_walks_81 : decode cX6_walks 81 = .ok (.lastore, 1) := dk_80 (dk_at dksX6_walks_3 11 rfl rfl)
theorem dX6_walks_82 : decode cX6_walks 82 = .ok (.iinc 4 1, 3) := dk_132 4 1 (dk_at dksX6_walks_3 12 rfl rfl)
theorem dX6_walks_85 : decode cX6_walks 85 = .ok (.goto (-30), 3) := dk_167 255 226 (dk_at dksX6_walks_3 15 rfl rfl)
theorem dX6_walks_88 : decode cX6_walks 88 = .ok (.iconst 0, 1) := dk_3 (dk_at dksX6_walks_3 18 rfl rfl)
theorem dX6_walks_89 : decode cX6_walks 89 = .ok (.istore 4, 2) := dk_54 4 (dk_at dksX6_walks_3 19 rfl rfl)
theorem dX6_walks_91 : decode cX6_walks 91 = .ok (.iload 4, 2) := dk_21 4 (dk_at dksX6_walks_3 21 rfl rfl)
theorem dX6_walks_93 : decode cX6_walks 93 = .ok (.iload_n 3, 1) := dk_29 (dk_at dksX6_walks_3 23 rfl rfl)
theorem dX6_walks_94 : decode cX6_walks 94 = .ok (.if_icmp .ge 118, 3) := dk_162 0 118 (dk_at dksX6_walks_4 0 rfl rfl)
theorem dX6_walks_97 : decode cX6_walks 97 = .ok (.iconst 0, 1) := dk_3 (dk_at dksX6_walks_4 3 rfl rfl)
theorem dX6_walks_98 : decode cX6_walks 98 = .ok (.istore 5, 2) := dk_54 5 (dk_at dksX6_walks_4 4 rfl rfl)
theorem dX6_walks_100 : decode cX6_walks 100 = .ok (.iload 5, 2) := dk_21 5 (dk_at dksX6_walks_4 6 rfl rfl)
theorem dX6_walks_102 : decode cX6_walks 102 = .ok (.aload_n 0, 1) := dk_42 (dk_at dksX6_walks_4 8 rfl rfl)
theorem dX6_walks_103 : decode cX6_walks 103 = .ok (.getfield 130, 3) := dk_180 0 130 (dk_at dksX6_walks_4 9 rfl rfl)
theorem dX6_walks_106 : decode cX6_walks 106 = .ok (.if_icmp .ge 68, 3) := dk_162 0 68 (dk_at dksX6_walks_4 12 rfl rfl)
theorem dX6_walks_109 : decode cX6_walks 109 = .ok (.aload_n 0, 1) := dk_42 (dk_at dksX6_walks_4 15 rfl rfl)
theorem dX6_walks_110 : decode cX6_walks 110 = .ok (.getfield 100, 3) := dk_180 0 100 (dk_at dksX6_walks_4 16 rfl rfl)
theorem dX6_walks_113 : decode cX6_walks 113 = .ok (.iload 5, 2) := dk_21 5 (dk_at dksX6_walks_4 19 rfl rfl)
theorem dX6_walks_115 : decode cX6_walks 115 = .ok (.lconst 0, 1) := dk_9 (dk_at dksX6_walks_4 21 rfl rfl)
theorem dX6_walks_116 : decode cX6_walks 116 = .ok (.lastore, 1) := dk_80 (dk_at dksX6_walks_4 22 rfl rfl)
theorem dX6_walks_117 : decode cX6_walks 117 = .ok (.iconst 0, 1) := dk_3 (dk_at dksX6_walks_4 23 rfl rfl)
theorem dX6_walks_118 : decode cX6_walks 118 = .ok (.istore 6, 2) := dk_54 6 (dk_at dksX6_walks_5 0 rfl rfl)
theorem dX6_walks_120 : decode cX6_walks 120 = .ok (.iload 6, 2) := dk_21 6 (dk_at dksX6_walks_5 2 rfl rfl)
theorem dX6_walks_122 : decode cX6_walks 122 = .ok (.aload_n 0, 1) := dk_42 (dk_at dksX6_walks_5 4 rfl rfl)
theorem dX6_walks_123 : decode cX6_walks 123 = .ok (.getfield 130, 3) := dk_180 0 130 (dk_at dksX6_walks_5 5 rfl rfl)
theorem dX6_walks_126 : decode cX6_walks 126 = .ok (.if_icmp .ge 42, 3) := dk_162 0 42 (dk_at dksX6_walks_5 8 rfl rfl)
theorem dX6_walks_129 : decode cX6_walks 129 = .ok (.aload_n 0, 1) := dk_42 (dk_at dksX6_walks_5 11 rfl rfl)
theorem dX6_walks_130 : decode cX6_walks 130 = .ok (.iload 6, 2) := dk_21 6 (dk_at dksX6_walks_5 12 rfl rfl)
theorem dX6_walks_132 : decode cX6_walks 132 = .ok (.iload 5, 2) := dk_21 5 (dk_at dksX6_walks_5 14 rfl rfl)
theorem dX6_walks_134 : decode cX6_walks 134 = .ok (.invokevirtual 294, 3) := dk_182 1 38 (dk_at dksX6_walks_5 16 rfl rfl)
theorem dX6_walks_137 : decode cX6_walks 137 = .ok (.ifCond .eq 25, 3) := dk_153 0 25 (dk_at dksX6_walks_5 19 rfl rfl)
theorem dX6_walks_140 : decode cX6_walks 140 = .ok (.aload_n 0, 1) := dk_42 (dk_at dksX6_walks_5 22 rfl rfl)
theorem dX6_walks_141 : decode cX6_walks 141 = .ok (.getfield 100, 3) := dk_180 0 100 (dk_at dksX6_walks_6 0 rfl rfl)
theorem dX6_walks_144 : decode cX6_walks 144 = .ok (.iload 5, 2) := dk_21 5 (dk_at dksX6_walks_6 3 rfl rfl)
theorem dX6_walks_146 : decode cX6_walks 146 = .ok (.aload_n 0, 1) := dk_42 (dk_at dksX6_walks_6 5 rfl rfl)
theorem dX6_walks_147 : decode cX6_walks 147 = .ok (.getfield 100, 3) := dk_180 0 100 (dk_at dksX6_walks_6 6 rfl rfl)
theorem dX6_walks_150 : decode cX6_walks 150 = .ok (.iload 5, 2) := dk_21 5 (dk_at dksX6_walks_6 9 rfl rfl)
theorem dX6_walks_152 : decode cX6_walks 152 = .ok (.laload, 1) := dk_47 (dk_at dksX6_walks_6 11 rfl rfl)
theorem dX6_walks_153 : decode cX6_walks 153 = .ok (.aload_n 0, 1) := dk_42 (dk_at dksX6_walks_6 12 rfl rfl)
theorem dX6_walks_154 : decode cX6_walks 154 = .ok (.getfield 97, 3) := dk_180 0 97 (dk_at dksX6_walks_6 13 rfl rfl)
theorem dX6_walks_157 : decode cX6_walks 157 = .ok (.iload 6, 2) := dk_21 6 (dk_at dksX6_walks_6 16 rfl rfl)
theorem dX6_walks_159 : decode cX6_walks 159 = .ok (.laload, 1) := dk_47 (dk_at dksX6_walks_6 18 rfl rfl)
theorem dX6_walks_160 : decode cX6_walks 160 = .ok (.ladd, 1) := dk_97 (dk_at dksX6_walks_6 19 rfl rfl)
theorem dX6_walks_161 : decode cX6_walks 161 = .ok (.lastore, 1) := dk_80 (dk_at dksX6_walks_6 20 rfl rfl)
theorem dX6_walks_162 : decode cX6_walks 162 = .ok (.iinc 6 1, 3) := dk_132 6 1 (dk_at dksX6_walks_6 21 rfl rfl)
theorem dX6_walks_165 : decode cX6_walks 165 = .ok (.goto (-45), 3) := dk_167 255 211 (dk_at dksX6_walks_7 0 rfl rfl)
theorem dX6_walks_168 : decode cX6_walks 168 = .ok (.iinc 5 1, 3) := dk_132 5 1 (dk_at dksX6_walks_7 3 rfl rfl)
theorem dX6_walks_171 : decode cX6_walks 171 = .ok (.goto (-71), 3) := dk_167 255 185 (dk_at dksX6_walks_7 6 rfl rfl)
theorem dX6_walks_174 : decode cX6_walks 174 = .ok (.iconst 0, 1) := dk_3 (dk_at dksX6_walks_7 9 rfl rfl)
theorem dX6_walks_175 : decode cX6_walks 175 = .ok (.istore 5, 2) := dk_54 5 (dk_at dksX6_walks_7 10 rfl rfl)
theorem dX6_walks_177 : decode cX6_walks 177 = .ok (.iload 5, 2) := dk_21 5 (dk_at dksX6_walks_7 12 rfl rfl)
theorem dX6_walks_179 : decode cX6_walks 179 = .ok (.aload_n 0, 1) := dk_42 (dk_at dksX6_walks_7 14 rfl rfl)
theorem dX6_walks_180 : decode cX6_walks 180 = .ok (.getfield 130, 3) := dk_180 0 130 (dk_at dksX6_walks_7 15 rfl rfl)
theorem dX6_walks_183 : decode cX6_walks 183 = .ok (.if_icmp .ge 23, 3) := dk_162 0 23 (dk_at dksX6_walks_7 18 rfl rfl)
theorem dX6_walks_186 : decode cX6_walks 186 = .ok (.aload_n 0, 1) := dk_42 (dk_at dksX6_walks_7 21 rfl rfl)
theorem dX6_walks_187 : decode cX6_walks 187 = .ok (.getfield 97, 3) := dk_180 0 97 (dk_at dksX6_walks_8 0 rfl rfl)
theorem dX6_walks_190 : decode cX6_walks 190 = .ok (.iload 5, 2) := dk_21 5 (dk_at dksX6_walks_8 3 rfl rfl)
theorem dX6_walks_192 : decode cX6_walks 192 = .ok (.aload_n 0, 1) := dk_42 (dk_at dksX6_walks_8 5 rfl rfl)
theorem dX6_walks_193 : decode cX6_walks 193 = .ok (.getfield 100, 3) := dk_180 0 100 (dk_at dksX6_walks_8 6 rfl rfl)
theorem dX6_walks_196 : decode cX6_walks 196 = .ok (.iload 5, 2) := dk_21 5 (dk_at dksX6_walks_8 9 rfl rfl)
theorem dX6_walks_198 : decode cX6_walks 198 = .ok (.laload, 1) := dk_47 (dk_at dksX6_walks_8 11 rfl rfl)
theorem dX6_walks_199 : decode cX6_walks 199 = .ok (.lastore, 1) := dk_80 (dk_at dksX6_walks_8 12 rfl rfl)
theorem dX6_walks_200 : decode cX6_walks 200 = .ok (.iinc 5 1, 3) := dk_132 5 1 (dk_at dksX6_walks_8 13 rfl rfl)
theorem dX6_walks_203 : decode cX6_walks 203 = .ok (.goto (-26), 3) := dk_167 255 230 (dk_at dksX6_walks_8 16 rfl rfl)
theorem dX6_walks_206 : decode cX6_walks 206 = .ok (.iinc 4 1, 3) := dk_132 4 1 (dk_at dksX6_walks_8 19 rfl rfl)
theorem dX6_walks_209 : decode cX6_walks 209 = .ok (.goto (-118), 3) := dk_167 255 138 (dk_at dksX6_walks_9 0 rfl rfl)
theorem dX6_walks_212 : decode cX6_walks 212 = .ok (.aload_n 0, 1) := dk_42 (dk_at dksX6_walks_9 3 rfl rfl)
theorem dX6_walks_213 : decode cX6_walks 213 = .ok (.getfield 97, 3) := dk_180 0 97 (dk_at dksX6_walks_9 4 rfl rfl)
theorem dX6_walks_216 : decode cX6_walks 216 = .ok (.iload_n 2, 1) := dk_28 (dk_at dksX6_walks_9 7 rfl rfl)
theorem dX6_walks_217 : decode cX6_walks 217 = .ok (.laload, 1) := dk_47 (dk_at dksX6_walks_9 8 rfl rfl)
theorem dX6_walks_218 : decode cX6_walks 218 = .ok (.lreturn, 1) := dk_173 (dk_at dksX6_walks_9 9 rfl rfl)
abbrev cX6_row : ByteArray := prog_17_method_83_code
def yX6_row : MethodName := ⟨RX6, "row", "(II)I"⟩
def dkwX6_row_8 : List UInt8 := [21, 7, 46, 172, 21, 4, 4, 21, 7, 120, 128, 54, 4, 21, 7, 54, 5, 132, 6, 1, 167, 255, 144]
abbrev dktX6_row_8 : List UInt8 := dkwX6_row_8 ++ []
def dkwX6_row_7 : List UInt8 := [162, 0, 7, 21, 8, 54, 7, 132, 8, 1, 167, 255, 183, 21, 6, 28, 160, 0, 11, 42, 180, 0, 103]
abbrev dktX6_row_7 : List UInt8 := dkwX6_row_7 ++ dktX6_row_8
def dkwX6_row_6 : List UInt8 := [154, 0, 30, 21, 7, 2, 159, 0, 20, 42, 180, 0, 103, 21, 8, 46, 42, 180, 0, 103, 21, 7, 46]
abbrev dktX6_row_6 : List UInt8 := dkwX6_row_6 ++ dktX6_row_7
def dkwX6_row_5 : List UInt8 := [180, 0, 107, 16, 13, 21, 4, 104, 21, 5, 96, 46, 160, 0, 40, 21, 4, 21, 8, 122, 4, 126]
abbrev dktX6_row_5 : List UInt8 := dkwX6_row_5 ++ dktX6_row_6
def dkwX6_row_4 : List UInt8 := [54, 7, 3, 54, 8, 21, 8, 27, 162, 0, 73, 42, 27, 21, 4, 21, 5, 21, 8, 182, 1, 117, 42]
abbrev dktX6_row_4 : List UInt8 := dkwX6_row_4 ++ dktX6_row_5
def dkwX6_row_3 : List UInt8 := [161, 0, 6, 16, 254, 172, 28, 2, 160, 0, 5, 29, 172, 3, 54, 4, 27, 54, 5, 3, 54, 6, 2]
abbrev dktX6_row_3 : List UInt8 := dkwX6_row_3 ++ dktX6_row_4
def dkwX6_row_2 : List UInt8 := [16, 253, 172, 42, 182, 1, 35, 42, 27, 182, 1, 127, 42, 180, 0, 107, 27, 46, 62, 29, 18, 129]
abbrev dktX6_row_2 : List UInt8 := dkwX6_row_2 ++ dktX6_row_3
def dkwX6_row_1 : List UInt8 := [180, 0, 133, 164, 0, 5, 2, 172, 42, 27, 182, 1, 121, 153, 0, 11, 42, 27, 182, 1, 124, 154, 0, 6]
abbrev dktX6_row_1 : List UInt8 := dkwX6_row_1 ++ dktX6_row_2
def dkwX6_row_0 : List UInt8 := [27, 5, 16, 10, 184, 0, 139, 153, 0, 22, 28, 2, 27, 4, 100, 184, 0, 139, 153, 0, 11, 27, 42]
abbrev dktX6_row_0 : List UInt8 := dkwX6_row_0 ++ dktX6_row_1
theorem dksX6_row_0 : cX6_row.data.toList.drop 0 = dktX6_row_0 := by decide +kernel
theorem dksX6_row_1 : cX6_row.data.toList.drop 23 = dktX6_row_1 := dk_seg dksX6_row_0 23 rfl rfl
theorem dksX6_row_2 : cX6_row.data.toList.drop 47 = dktX6_row_2 := dk_seg dksX6_row_1 24 rfl rfl
theorem dksX6_row_3 : cX6_row.data.toList.drop 69 = dktX6_row_3 := dk_seg dksX6_row_2 22 rfl rfl
theorem dksX6_row_4 : cX6_row.data.toList.drop 92 = dktX6_row_4 := dk_seg dksX6_row_3 23 rfl rfl
theorem dksX6_row_5 : cX6_row.data.toList.drop 115 = dktX6_row_5 := dk_seg dksX6_row_4 23 rfl rfl
theorem dksX6_row_6 : cX6_row.data.toList.drop 137 = dktX6_row_6 := dk_seg dksX6_row_5 22 rfl rfl
theorem dksX6_row_7 : cX6_row.data.toList.drop 160 = dktX6_row_7 := dk_seg dksX6_row_6 23 rfl rfl
theorem dksX6_row_8 : cX6_row.data.toList.drop 183 = dktX6_row_8 := dk_seg dksX6_row_7 23 rfl rfl
theorem dX6_row_0 : decode cX6_row 0 = .ok (.iload_n 1, 1) := dk_27 (dk_at dksX6_row_0 0 rfl rfl)
theorem dX6_row_1 : decode cX6_row 1 = .ok (.iconst 2, 1) := dk_5 (dk_at dksX6_row_0 1 rfl rfl)
theorem dX6_row_2 : decode cX6_row 2 = .ok (.bipush 10, 2) := dk_16 10 (dk_at dksX6_row_0 2 rfl rfl)
theorem dX6_row_4 : decode cX6_row 4 = .ok (.invokestatic 139, 3) := dk_184 0 139 (dk_at dksX6_row_0 4 rfl rfl)
theorem dX6_row_7 : decode cX6_row 7 = .ok (.ifCond .eq 22, 3) := dk_153 0 22 (dk_at dksX6_row_0 7 rfl rfl)
theorem dX6_row_10 : decode cX6_row 10 = .ok (.iload_n 2, 1) := dk_28 (dk_at dksX6_row_0 10 rfl rfl)
theorem dX6_row_11 : decode cX6_row 11 = .ok (.iconst (-1), 1) := dk_2 (dk_at dksX6_row_0 11 rfl rfl)
theorem dX6_row_12 : decode cX6_row 12 = .ok (.iload_n 1, 1) := dk_27 (dk_at dksX6_row_0 12 rfl rfl)
theorem dX6_row_13 : decode cX6_row 13 = .ok (.iconst 1, 1) := dk_4 (dk_at dksX6_row_0 13 rfl rfl)
theorem dX6_row_14 : decode cX6_row 14 = .ok (.isub, 1) := dk_100 (dk_at dksX6_row_0 14 rfl rfl)
theorem dX6_row_15 : decode cX6_row 15 = .ok (.invokestatic 139, 3) := dk_184 0 139 (dk_at dksX6_row_0 15 rfl rfl)
theorem dX6_row_18 : decode cX6_row 18 = .ok (.ifCond .eq 11, 3) := dk_153 0 11 (dk_at dksX6_row_0 18 rfl rfl)
theorem dX6_row_21 : decode cX6_row 21 = .ok (.iload_n 1, 1) := dk_27 (dk_at dksX6_row_0 21 rfl rfl)
theorem dX6_row_22 : decode cX6_row 22 = .ok (.aload_n 0, 1) := dk_42 (dk_at dksX6_row_0 22 rfl rfl)
theorem dX6_row_23 : decode cX6_row 23 = .ok (.getfield 133, 3) := dk_180 0 133 (dk_at dksX6_row_1 0 rfl rfl)
theorem dX6_row_26 : decode cX6_row 26 = .ok (.if_icmp .le 5, 3) := dk_164 0 5 (dk_at dksX6_row_1 3 rfl rfl)
theorem dX6_row_29 : decode cX6_row 29 = .ok (.iconst (-1), 1) := dk_2 (dk_at dksX6_row_1 6 rfl rfl)
theorem dX6_row_30 : decode cX6_row 30 = .ok (.ireturn, 1) := dk_172 (dk_at dksX6_row_1 7 rfl rfl)
theorem dX6_row_31 : decode cX6_row 31 = .ok (.aload_n 0, 1) := dk_42 (dk_at dksX6_row_1 8 rfl rfl)
theorem dX6_row_32 : decode cX6_row 32 = .ok (.iload_n 1, 1) := dk_27 (dk_at dksX6_row_1 9 rfl rfl)
theorem dX6_row_33 : decode cX6_row 33 = .ok (.invokevirtual 377, 3) := dk_182 1 121 (dk_at dksX6_row_1 10 rfl rfl)
theorem dX6_row_36 : decode cX6_row 36 = .ok (.ifCond .eq 11, 3) := dk_153 0 11 (dk_at dksX6_row_1 13 rfl rfl)
theorem dX6_row_39 : decode cX6_row 39 = .ok (.aload_n 0, 1) := dk_42 (dk_at dksX6_row_1 16 rfl rfl)
theorem dX6_row_40 : decode cX6_row 40 = .ok (.iload_n 1, 1) := dk_27 (dk_at dksX6_row_1 17 rfl rfl)
theorem dX6_row_41 : decode cX6_row 41 = .ok (.invokevirtual 380, 3) := dk_182 1 124 (dk_at dksX6_row_1 18 rfl rfl)
theorem dX6_row_44 : decode cX6_row 44 = .ok (.ifCond .ne 6, 3) := dk_154 0 6 (dk_at dksX6_row_1 21 rfl rfl)
theorem dX6_row_47 : decode cX6_row 47 = .ok (.bipush (-3), 2) := dk_16 253 (dk_at dksX6_row_2 0 rfl rfl)
theorem dX6_row_49 : decode cX6_row 49 = .ok (.ireturn, 1) := dk_172 (dk_at dksX6_row_2 2 rfl rfl)
theorem dX6_row_50 : decode cX6_row 50 = .ok (.aload_n 0, 1) := dk_42 (dk_at dksX6_row_2 3 rfl rfl)
theorem dX6_row_51 : decode cX6_row 51 = .ok (.invokevirtual 291, 3) := dk_182 1 35 (dk_at dksX6_row_2 4 rfl rfl)
theorem dX6_row_54 : decode cX6_row 54 = .ok (.aload_n 0, 1) := dk_42 (dk_at dksX6_row_2 7 rfl rfl)
theorem dX6_row_55 : decode cX6_row 55 = .ok (.iload_n 1, 1) := dk_27 (dk_at dksX6_row_2 8 rfl rfl)
theorem dX6_row_56 : decode cX6_row 56 = .ok (.invokevirtual 383, 3) := dk_182 1 127 (dk_at dksX6_row_2 9 rfl rfl)
theorem dX6_row_59 : decode cX6_row 59 = .ok (.aload_n 0, 1) := dk_42 (dk_at dksX6_row_2 12 rfl rfl)
theorem dX6_row_60 : decode cX6_row 60 = .ok (.getfield 107, 3) := dk_180 0 107 (dk_at dksX6_row_2 13 rfl rfl)
theorem dX6_row_63 : decode cX6_row 63 = .ok (.iload_n 1, 1) := dk_27 (dk_at dksX6_row_2 16 rfl rfl)
theorem dX6_row_64 : decode cX6_row 64 = .ok (.iaload, 1) := dk_46 (dk_at dksX6_row_2 17 rfl rfl)
theorem dX6_row_65 : decode cX6_row 65 = .ok (.istore_n 3, 1) := dk_62 (dk_at dksX6_row_2 18 rfl rfl)
theorem dX6_row_66 : decode cX6_row 66 = .ok (.iload_n 3, 1) := dk_29 (dk_at dksX6_row_2 19 rfl rfl)
theorem dX6_row_67 : decode cX6_row 67 = .ok (.ldc 129, 2) := dk_18 129 (dk_at dksX6_row_2 20 rfl rfl)
theorem dX6_row_69 : decode cX6_row 69 = .ok (.if_icmp .lt 6, 3) := dk_161 0 6 (dk_at dksX6_row_3 0 rfl rfl)
theorem dX6_row_72 : decode cX6_row 72 = .ok (.bipush (-2), 2) := dk_16 254 (dk_at dksX6_row_3 3 rfl rfl)
theorem dX6_row_74 : decode cX6_row 74 = .ok (.ireturn, 1) := dk_172 (dk_at dksX6_row_3 5 rfl rfl)
theorem dX6_row_75 : decode cX6_row 75 = .ok (.iload_n 2, 1) := dk_28 (dk_at dksX6_row_3 6 rfl rfl)
theorem dX6_row_76 : decode cX6_row 76 = .ok (.iconst (-1), 1) := dk_2 (dk_at dksX6_row_3 7 rfl rfl)
theorem dX6_row_77 : decode cX6_row 77 = .ok (.if_icmp .ne 5, 3) := dk_160 0 5 (dk_at dksX6_row_3 8 rfl rfl)
theorem dX6_row_80 : decode cX6_row 80 = .ok (.iload_n 3, 1) := dk_29 (dk_at dksX6_row_3 11 rfl rfl)
theorem dX6_row_81 : decode cX6_row 81 = .ok (.ireturn, 1) := dk_172 (dk_at dksX6_row_3 12 rfl rfl)
theorem dX6_row_82 : decode cX6_row 82 = .ok (.iconst 0, 1) := dk_3 (dk_at dksX6_row_3 13 rfl rfl)
theorem dX6_row_83 : decode cX6_row 83 = .ok (.istore 4, 2) := dk_54 4 (dk_at dksX6_row_3 14 rfl rfl)
theorem dX6_row_85 : decode cX6_row 85 = .ok (.iload_n 1, 1) := dk_27 (dk_at dksX6_row_3 16 rfl rfl)
theorem dX6_row_86 : decode cX6_row 86 = .ok (.istore 5, 2) := dk_54 5 (dk_at dksX6_row_3 17 rfl rfl)
theorem dX6_row_88 : decode cX6_row 88 = .ok (.iconst 0, 1) := dk_3 (dk_at dksX6_row_3 19 rfl rfl)
theorem dX6_row_89 : decode cX6_row 89 = .ok (.istore 6, 2) := dk_54 6 (dk_at dksX6_row_3 20 rfl rfl)
theorem dX6_row_91 : decode cX6_row 91 = .ok (.iconst (-1), 1) := dk_2 (dk_at dksX6_row_3 22 rfl rfl)
theorem dX6_row_92 : decode cX6_row 92 = .ok (.istore 7, 2) := dk_54 7 (dk_at dksX6_row_4 0 rfl rfl)
theorem dX6_row_94 : decode cX6_row 94 = .ok (.iconst 0, 1) := dk_3 (dk_at dksX6_row_4 2 rfl rfl)
theorem dX6_row_95 : decode cX6_row 95 = .ok (.istore 8, 2) := dk_54 8 (dk_at dksX6_row_4 3 rfl rfl)
theorem dX6_row_97 : decode cX6_row 97 = .ok (.iload 8, 2) := dk_21 8 (dk_at dksX6_row_4 5 rfl rfl)
theorem dX6_row_99 : decode cX6_row 99 = .ok (.iload_n 1, 1) := dk_27 (dk_at dksX6_row_4 7 rfl rfl)
theorem dX6_row_100 : decode cX6_row 100 = .ok (.if_icmp .ge 73, 3) := dk_162 0 73 (dk_at dksX6_row_4 8 rfl rfl)
theorem dX6_row_103 : decode cX6_row 103 = .ok (.aload_n 0, 1) := dk_42 (dk_at dksX6_row_4 11 rfl rfl)
theorem dX6_row_104 : decode cX6_row 104 = .ok (.iload_n 1, 1) := dk_27 (dk_at dksX6_row_4 12 rfl rfl)
theorem dX6_row_105 : decode cX6_row 105 = .ok (.iload 4, 2) := dk_21 4 (dk_at dksX6_row_4 13 rfl rfl)
theorem dX6_row_107 : decode cX6_row 107 = .ok (.iload 5, 2) := dk_21 5 (dk_at dksX6_row_4 15 rfl rfl)
theorem dX6_row_109 : decode cX6_row 109 = .ok (.iload 8, 2) := dk_21 8 (dk_at dksX6_row_4 17 rfl rfl)
theorem dX6_row_111 : decode cX6_row 111 = .ok (.invokevirtual 373, 3) := dk_182 1 117 (dk_at dksX6_row_4 19 rfl rfl)
theorem dX6_row_114 : decode cX6_row 114 = .ok (.aload_n 0, 1) := dk_42 (dk_at dksX6_row_4 22 rfl rfl)
theorem dX6_row_115 : decode cX6_row 115 = .ok (.getfield 107, 3) := dk_180 0 107 (dk_at dksX6_row_5 0 rfl rfl)
theorem dX6_row_118 : decode cX6_row 118 = .ok (.bipush 13, 2) := dk_16 13 (dk_at dksX6_row_5 3 rfl rfl)
theorem dX6_row_120 : decode cX6_row 120 = .ok (.iload 4, 2) := dk_21 4 (dk_at dksX6_row_5 5 rfl rfl)
theorem dX6_row_122 : decode cX6_row 122 = .ok (.imul, 1) := dk_104 (dk_at dksX6_row_5 7 rfl rfl)
theorem dX6_row_123 : decode cX6_row 123 = .ok (.iload 5, 2) := dk_21 5 (dk_at dksX6_row_5 8 rfl rfl)
theorem dX6_row_125 : decode cX6_row 125 = .ok (.iadd, 1) := dk_96 (dk_at dksX6_row_5 10 rfl rfl)
theorem dX6_row_126 : decode cX6_row 126 = .ok (.iaload, 1) := dk_46 (dk_at dksX6_row_5 11 rfl rfl)
theorem dX6_row_127 : decode cX6_row 127 = .ok (.if_icmp .ne 40, 3) := dk_160 0 40 (dk_at dksX6_row_5 12 rfl rfl)
theorem dX6_row_130 : decode cX6_row 130 = .ok (.iload 4, 2) := dk_21 4 (dk_at dksX6_row_5 15 rfl rfl)
theorem dX6_row_132 : decode cX6_row 132 = .ok (.iload 8, 2) := dk_21 8 (dk_at dksX6_row_5 17 rfl rfl)
theorem dX6_row_134 : decode cX6_row 134 = .ok (.ishr, 1) := dk_122 (dk_at dksX6_row_5 19 rfl rfl)
theorem dX6_row_135 : decode cX6_row 135 = .ok (.iconst 1, 1) := dk_4 (dk_at dksX6_row_5 20 rfl rfl)
theorem dX6_row_136 : decode cX6_row 136 = .ok (.iand, 1) := dk_126 (dk_at dksX6_row_5 21 rfl rfl)
theorem dX6_row_137 : decode cX6_row 137 = .ok (.ifCond .ne 30, 3) := dk_154 0 30 (dk_at dksX6_row_6 0 rfl rfl)
theorem dX6_row_140 : decode cX6_row 140 = .ok (.iload 7, 2) := dk_21 7 (dk_at dksX6_row_6 3 rfl rfl)
theorem dX6_row_142 : decode cX6_row 142 = .ok (.iconst (-1), 1) := dk_2 (dk_at dksX6_row_6 5 rfl rfl)
theorem dX6_row_143 : decode cX6_row 143 = .ok (.if_icmp .eq 20, 3) := dk_159 0 20 (dk_at dksX6_row_6 6 rfl rfl)
theorem dX6_row_146 : decode cX6_row 146 = .ok (.aload_n 0, 1) := dk_42 (dk_at dksX6_row_6 9 rfl rfl)
theorem dX6_row_147 : decode cX6_row 147 = .ok (.getfield 103, 3) := dk_180 0 103 (dk_at dksX6_row_6 10 rfl rfl)
theorem dX6_row_150 : decode cX6_row 150 = .ok (.iload 8, 2) := dk_21 8 (dk_at dksX6_row_6 13 rfl rfl)
theorem dX6_row_152 : decode cX6_row 152 = .ok (.iaload, 1) := dk_46 (dk_at dksX6_row_6 15 rfl rfl)
theorem dX6_row_153 : decode cX6_row 153 = .ok (.aload_n 0, 1) := dk_42 (dk_at dksX6_row_6 16 rfl rfl)
theorem dX6_row_154 : decode cX6_row 154 = .ok (.getfield 103, 3) := dk_180 0 103 (dk_at dksX6_row_6 17 rfl rfl)
theorem dX6_row_157 : decode cX6_row 157 = .ok (.iload 7, 2) := dk_21 7 (dk_at dksX6_row_6 20 rfl rfl)
theorem dX6_row_159 : decode cX6_row 159 = .ok (.iaload, 1) := dk_46 (dk_at dksX6_row_6 22 rfl rfl)
theorem dX6_row_160 : decode cX6_row 160 = .ok (.if_icmp .ge 7, 3) := dk_162 0 7 (dk_at dksX6_row_7 0 rfl rfl)
theorem dX6_row_163 : decode cX6_row 163 = .ok (.iload 8, 2) := dk_21 8 (dk_at dksX6_row_7 3 rfl rfl)
theorem dX6_row_165 : decode cX6_row 165 = .ok (.istore 7, 2) := dk_54 7 (dk_at dksX6_row_7 5 rfl rfl)
theorem dX6_row_167 : decode cX6_row 167 = .ok (.iinc 8 1, 3) := dk_132 8 1 (dk_at dksX6_row_7 7 rfl rfl)
theorem dX6_row_170 : decode cX6_row 170 = .ok (.goto (-73), 3) := dk_167 255 183 (dk_at dksX6_row_7 10 rfl rfl)
theorem dX6_row_173 : decode cX6_row 173 = .ok (.iload 6, 2) := dk_21 6 (dk_at dksX6_row_7 13 rfl rfl)
theorem dX6_row_175 : decode cX6_row 175 = .ok (.iload_n 2, 1) := dk_28 (dk_at dksX6_row_7 15 rfl rfl)
theorem dX6_row_176 : decode cX6_row 176 = .ok (.if_icmp .ne 11, 3) := dk_160 0 11 (dk_at dksX6_row_7 16 rfl rfl)
theorem dX6_row_179 : decode cX6_row 179 = .ok (.aload_n 0, 1) := dk_42 (dk_at dksX6_row_7 19 rfl rfl)
theorem dX6_row_180 : decode cX6_row 180 = .ok (.getfield 103, 3) := dk_180 0 103 (dk_at dksX6_row_7 20 rfl rfl)
theorem dX6_row_183 : decode cX6_row 183 = .ok (.iload 7, 2) := dk_21 7 (dk_at dksX6_row_8 0 rfl rfl)
theorem dX6_row_185 : decode cX6_row 185 = .ok (.iaload, 1) := dk_46 (dk_at dksX6_row_8 2 rfl rfl)
theorem dX6_row_186 : decode cX6_row 186 = .ok (.ireturn, 1) := dk_172 (dk_at dksX6_row_8 3 rfl rfl)
theorem dX6_row_187 : decode cX6_row 187 = .ok (.iload 4, 2) := dk_21 4 (dk_at dksX6_row_8 4 rfl rfl)
theorem dX6_row_189 : decode cX6_row 189 = .ok (.iconst 1, 1) := dk_4 (dk_at dksX6_row_8 6 rfl rfl)
theorem dX6_row_190 : decode cX6_row 190 = .ok (.iload 7, 2) := dk_21 7 (dk_at dksX6_row_8 7 rfl rfl)
theorem dX6_row_192 : decode cX6_row 192 = .ok (.ishl, 1) := dk_120 (dk_at dksX6_row_8 9 rfl rfl)
theorem dX6_row_193 : decode cX6_row 193 = .ok (.ior, 1) := dk_128 (dk_at dksX6_row_8 10 rfl rfl)
theorem dX6_row_194 : decode cX6_row 194 = .ok (.istore 4, 2) := dk_54 4 (dk_at dksX6_row_8 11 rfl rfl)
theorem dX6_row_196 : decode cX6_row 196 = .ok (.iload 7, 2) := dk_21 7 (dk_at dksX6_row_8 13 rfl rfl)
theorem dX6_row_198 : decode cX6_row 198 = .ok (.istore 5, 2) := dk_54 5 (dk_at dksX6_row_8 15 rfl rfl)
theorem dX6_row_200 : decode cX6_row 200 = .ok (.iinc 6 1, 3) := dk_132 6 1 (dk_at dksX6_row_8 17 rfl rfl)
theorem dX6_row_203 : decode cX6_row 203 = .ok (.goto (-112), 3) := dk_167 255 144 (dk_at dksX6_row_8 20 rfl rfl)
abbrev cX6_takesWords : ByteArray := prog_17_method_78_code
def yX6_takesWords : MethodName := ⟨RX6, "takesWords", "(I)Z"⟩
def dkwX6_takesWords_3 : List UInt8 := [132, 2, 1, 167, 255, 191, 4, 172]
abbrev dktX6_takesWords_3 : List UInt8 := dkwX6_takesWords_3 ++ []
def dkwX6_takesWords_2 : List UInt8 := [180, 0, 103, 29, 46, 42, 180, 0, 103, 28, 46, 160, 0, 5, 3, 172, 132, 3, 1, 167, 255, 231]
abbrev dktX6_takesWords_2 : List UInt8 := dkwX6_takesWords_2 ++ dktX6_takesWords_3
def dkwX6_takesWords_1 : List UInt8 := [42, 42, 180, 0, 103, 28, 46, 182, 0, 154, 154, 0, 5, 3, 172, 3, 62, 29, 28, 162, 0, 26, 42]
abbrev dktX6_takesWords_1 : List UInt8 := dkwX6_takesWords_1 ++ dktX6_takesWords_2
def dkwX6_takesWords_0 : List UInt8 := [42, 3, 181, 0, 133, 3, 61, 28, 27, 162, 0, 66, 42, 180, 0, 103, 28, 42, 180, 0, 29, 28, 51, 79]
abbrev dktX6_takesWords_0 : List UInt8 := dkwX6_takesWords_0 ++ dktX6_takesWords_1
theorem dksX6_takesWords_0 : cX6_takesWords.data.toList.drop 0 = dktX6_takesWords_0 := by decide +kernel
theorem dksX6_takesWords_1 : cX6_takesWords.data.toList.drop 24 = dktX6_takesWords_1 := dk_seg dksX6_takesWords_0 24 rfl rfl
theorem dksX6_takesWords_2 : cX6_takesWords.data.toList.drop 47 = dktX6_takesWords_2 := dk_seg dksX6_takesWords_1 23 rfl rfl
theorem dksX6_takesWords_3 : cX6_takesWords.data.toList.drop 69 = dktX6_takesWords_3 := dk_seg dksX6_takesWords_2 22 rfl rfl
theorem dX6_takesWords_0 : decode cX6_takesWords 0 = .ok (.aload_n 0, 1) := dk_42 (dk_at dksX6_takesWords_0 0 rfl rfl)
theorem dX6_takesWords_1 : decode cX6_takesWords 1 = .ok (.iconst 0, 1) := dk_3 (dk_at dksX6_takesWords_0 1 rfl rfl)
theorem dX6_takesWords_2 : decode cX6_takesWords 2 = .ok (.putfield 133, 3) := dk_181 0 133 (dk_at dksX6_takesWords_0 2 rfl rfl)
theorem dX6_takesWords_5 : decode cX6_takesWords 5 = .ok (.iconst 0, 1) := dk_3 (dk_at dksX6_takesWords_0 5 rfl rfl)
theorem dX6_takesWords_6 : decode cX6_takesWords 6 = .ok (.istore_n 2, 1) := dk_61 (dk_at dksX6_takesWords_0 6 rfl rfl)
theorem dX6_takesWords_7 : decode cX6_takesWords 7 = .ok (.iload_n 2, 1) := dk_28 (dk_at dksX6_takesWords_0 7 rfl rfl)
theorem dX6_takesWords_8 : decode cX6_takesWords 8 = .ok (.iload_n 1, 1) := dk_27 (dk_at dksX6_takesWords_0 8 rfl rfl)
theorem dX6_takesWords_9 : decode cX6_takesWords 9 = .ok (.if_icmp .ge 66, 3) := dk_162 0 66 (dk_at dksX6_takesWords_0 9 rfl rfl)
theorem dX6_takesWords_12 : decode cX6_takesWords 12 = .ok (.aload_n 0, 1) := dk_42 (dk_at dksX6_takesWords_0 12 rfl rfl)
theorem dX6_takesWords_13 : decode cX6_takesWords 13 = .ok (.getfield 103, 3) := dk_180 0 103 (dk_at dksX6_takesWords_0 13 rfl rfl)
theorem dX6_takesWords_16 : decode cX6_takesWords 16 = .ok (.iload_n 2, 1) := dk_28 (dk_at dksX6_takesWords_0 16 rfl rfl)
theorem dX6_takesWords_17 : decode cX6_takesWords 17 = .ok (.aload_n 0, 1) := dk_42 (dk_at dksX6_takesWords_0 17 rfl rfl)
theorem dX6_takesWords_18 : decode cX6_takesWords 18 = .ok (.getfield 29, 3) := dk_180 0 29 (dk_at dksX6_takesWords_0 18 rfl rfl)
theorem dX6_takesWords_21 : decode cX6_takesWords 21 = .ok (.iload_n 2, 1) := dk_28 (dk_at dksX6_takesWords_0 21 rfl rfl)
theorem dX6_takesWords_22 : decode cX6_takesWords 22 = .ok (.baload, 1) := dk_51 (dk_at dksX6_takesWords_0 22 rfl rfl)
theorem dX6_takesWords_23 : decode cX6_takesWords 23 = .ok (.iastore, 1) := dk_79 (dk_at dksX6_takesWords_0 23 rfl rfl)
theorem dX6_takesWords_24 : decode cX6_takesWords 24 = .ok (.aload_n 0, 1) := dk_42 (dk_at dksX6_takesWords_1 0 rfl rfl)
theorem dX6_takesWords_25 : decode cX6_takesWords 25 = .ok (.aload_n 0, 1) := dk_42 (dk_at dksX6_takesWords_1 1 rfl rfl)
theorem dX6_takesWords_26 : decode cX6_takesWords 26 = .ok (.getfield 103, 3) := dk_180 0 103 (dk_at dksX6_takesWords_1 2 rfl rfl)
theorem dX6_takesWords_29 : decode cX6_takesWords 29 = .ok (.iload_n 2, 1) := dk_28 (dk_at dksX6_takesWords_1 5 rfl rfl)
theorem dX6_takesWords_30 : decode cX6_takesWords 30 = .ok (.iaload, 1) := dk_46 (dk_at dksX6_takesWords_1 6 rfl rfl)
theorem dX6_takesWords_31 : decode cX6_takesWords 31 = .ok (.invokevirtual 154, 3) := dk_182 0 154 (dk_at dksX6_takesWords_1 7 rfl rfl)
theorem dX6_takesWords_34 : decode cX6_takesWords 34 = .ok (.ifCond .ne 5, 3) := dk_154 0 5 (dk_at dksX6_takesWords_1 10 rfl rfl)
theorem dX6_takesWords_37 : decode cX6_takesWords 37 = .ok (.iconst 0, 1) := dk_3 (dk_at dksX6_takesWords_1 13 rfl rfl)
theorem dX6_takesWords_38 : decode cX6_takesWords 38 = .ok (.ireturn, 1) := dk_172 (dk_at dksX6_takesWords_1 14 rfl rfl)
theorem dX6_takesWords_39 : decode cX6_takesWords 39 = .ok (.iconst 0, 1) := dk_3 (dk_at dksX6_takesWords_1 15 rfl rfl)
theorem dX6_takesWords_40 : decode cX6_takesWords 40 = .ok (.istore_n 3, 1) := dk_62 (dk_at dksX6_takesWords_1 16 rfl rfl)
theorem dX6_takesWords_41 : decode cX6_takesWords 41 = .ok (.iload_n 3, 1) := dk_29 (dk_at dksX6_takesWords_1 17 rfl rfl)
theorem dX6_takesWords_42 : decode cX6_takesWords 42 = .ok (.iload_n 2, 1) := dk_28 (dk_at dksX6_takesWords_1 18 rfl rfl)
theorem dX6_takesWords_43 : decode cX6_takesWords 43 = .ok (.if_icmp .ge 26, 3) := dk_162 0 26 (dk_at dksX6_takesWords_1 19 rfl rfl)
theorem dX6_takesWords_46 : decode cX6_takesWords 46 = .ok (.aload_n 0, 1) := dk_42 (dk_at dksX6_takesWords_1 22 rfl rfl)
theorem dX6_takesWords_47 : decode cX6_takesWords 47 = .ok (.getfield 103, 3) := dk_180 0 103 (dk_at dksX6_takesWords_2 0 rfl rfl)
theorem dX6_takesWords_50 : decode cX6_takesWords 50 = .ok (.iload_n 3, 1) := dk_29 (dk_at dksX6_takesWords_2 3 rfl rfl)
theorem dX6_takesWords_51 : decode cX6_takesWords 51 = .ok (.iaload, 1) := dk_46 (dk_at dksX6_takesWords_2 4 rfl rfl)
theorem dX6_takesWords_52 : decode cX6_takesWords 52 = .ok (.aload_n 0, 1) := dk_42 (dk_at dksX6_takesWords_2 5 rfl rfl)
theorem dX6_takesWords_53 : decode cX6_takesWords 53 = .ok (.getfield 103, 3) := dk_180 0 103 (dk_at dksX6_takesWords_2 6 rfl rfl)
theorem dX6_takesWords_56 : decode cX6_takesWords 56 = .ok (.iload_n 2, 1) := dk_28 (dk_at dksX6_takesWords_2 9 rfl rfl)
theorem dX6_takesWords_57 : decode cX6_takesWords 57 = .ok (.iaload, 1) := dk_46 (dk_at dksX6_takesWords_2 10 rfl rfl)
theorem dX6_takesWords_58 : decode cX6_takesWords 58 = .ok (.if_icmp .ne 5, 3) := dk_160 0 5 (dk_at dksX6_takesWords_2 11 rfl rfl)
theorem dX6_takesWords_61 : decode cX6_takesWords 61 = .ok (.iconst 0, 1) := dk_3 (dk_at dksX6_takesWords_2 14 rfl rfl)
theorem dX6_takesWords_62 : decode cX6_takesWords 62 = .ok (.ireturn, 1) := dk_172 (dk_at dksX6_takesWords_2 15 rfl rfl)
theorem dX6_takesWords_63 : decode cX6_takesWords 63 = .ok (.iinc 3 1, 3) := dk_132 3 1 (dk_at dksX6_takesWords_2 16 rfl rfl)
theorem dX6_takesWords_66 : decode cX6_takesWords 66 = .ok (.goto (-25), 3) := dk_167 255 231 (dk_at dksX6_takesWords_2 19 rfl rfl)
theorem dX6_takesWords_69 : decode cX6_takesWords 69 = .ok (.iinc 2 1, 3) := dk_132 2 1 (dk_at dksX6_takesWords_3 0 rfl rfl)
theorem dX6_takesWords_72 : decode cX6_takesWords 72 = .ok (.goto (-65), 3) := dk_167 255 191 (dk_at dksX6_takesWords_3 3 rfl rfl)
theorem dX6_takesWords_75 : decode cX6_takesWords 75 = .ok (.iconst 1, 1) := dk_4 (dk_at dksX6_takesWords_3 6 rfl rfl)
theorem dX6_takesWords_76 : decode cX6_takesWords 76 = .ok (.ireturn, 1) := dk_172 (dk_at dksX6_takesWords_3 7 rfl rfl)
abbrev cX6_areUsed : ByteArray := prog_17_method_79_code
def yX6_areUsed : MethodName := ⟨RX6, "areUsed", "(I)Z"⟩
def dkwX6_areUsed_1 : List UInt8 := [132, 2, 1, 167, 255, 233, 4, 172]
abbrev dktX6_areUsed_1 : List UInt8 := dkwX6_areUsed_1 ++ []
def dkwX6_areUsed_0 : List UInt8 := [3, 61, 28, 27, 162, 0, 24, 42, 42, 180, 0, 103, 28, 46, 182, 1, 26, 154, 0, 5, 3, 172]
abbrev dktX6_areUsed_0 : List UInt8 := dkwX6_areUsed_0 ++ dktX6_areUsed_1
theorem dksX6_areUsed_0 : cX6_areUsed.data.toList.drop 0 = dktX6_areUsed_0 := by decide +kernel
theorem dksX6_areUsed_1 : cX6_areUsed.data.toList.drop 22 = dktX6_areUsed_1 := dk_seg dksX6_areUsed_0 22 rfl rfl
theorem dX6_areUsed_0 : decode cX6_areUsed 0 = .ok (.iconst 0, 1) := dk_3 (dk_at dksX6_areUsed_0 0 rfl rfl)
theorem dX6_areUsed_1 : decode cX6_areUsed 1 = .ok (.istore_n 2, 1) := dk_61 (dk_at dksX6_areUsed_0 1 rfl rfl)
theorem dX6_areUsed_2 : decode cX6_areUsed 2 = .ok (.iload_n 2, 1) := dk_28 (dk_at dksX6_areUsed_0 2 rfl rfl)
theorem dX6_areUsed_3 : decode cX6_areUsed 3 = .ok (.iload_n 1, 1) := dk_27 (dk_at dksX6_areUsed_0 3 rfl rfl)
theorem dX6_areUsed_4 : decode cX6_areUsed 4 = .ok (.if_icmp .ge 24, 3) := dk_162 0 24 (dk_at dksX6_areUsed_0 4 rfl rfl)
theorem dX6_areUsed_7 : decode cX6_areUsed 7 = .ok (.aload_n 0, 1) := dk_42 (dk_at dksX6_areUsed_0 7 rfl rfl)
theorem dX6_areUsed_8 : decode cX6_areUsed 8 = .ok (.aload_n 0, 1) := dk_42 (dk_at dksX6_areUsed_0 8 rfl rfl)
theorem dX6_areUsed_9 : decode cX6_areUsed 9 = .ok (.getfield 103, 3) := dk_180 0 103 (dk_at dksX6_areUsed_0 9 rfl rfl)
theorem dX6_areUsed_12 : decode cX6_areUsed 12 = .ok (.iload_n 2, 1) := dk_28 (dk_at dksX6_areUsed_0 12 rfl rfl)
theorem dX6_areUsed_13 : decode cX6_areUsed 13 = .ok (.iaload, 1) := dk_46 (dk_at dksX6_areUsed_0 13 rfl rfl)
theorem dX6_areUsed_14 : decode cX6_areUsed 14 = .ok (.invokevirtual 282, 3) := dk_182 1 26 (dk_at dksX6_areUsed_0 14 rfl rfl)
theorem dX6_areUsed_17 : decode cX6_areUsed 17 = .ok (.ifCond .ne 5, 3) := dk_154 0 5 (dk_at dksX6_areUsed_0 17 rfl rfl)
theorem dX6_areUsed_20 : decode cX6_areUsed 20 = .ok (.iconst 0, 1) := dk_3 (dk_at dksX6_areUsed_0 20 rfl rfl)
theorem dX6_areUsed_21 : decode cX6_areUsed 21 = .ok (.ireturn, 1) := dk_172 (dk_at dksX6_areUsed_0 21 rfl rfl)
theorem dX6_areUsed_22 : decode cX6_areUsed 22 = .ok (.iinc 2 1, 3) := dk_132 2 1 (dk_at dksX6_areUsed_1 0 rfl rfl)
theorem dX6_areUsed_25 : decode cX6_areUsed 25 = .ok (.goto (-23), 3) := dk_167 255 233 (dk_at dksX6_areUsed_1 3 rfl rfl)
theorem dX6_areUsed_28 : decode cX6_areUsed 28 = .ok (.iconst 1, 1) := dk_4 (dk_at dksX6_areUsed_1 6 rfl rfl)
theorem dX6_areUsed_29 : decode cX6_areUsed 29 = .ok (.ireturn, 1) := dk_172 (dk_at dksX6_areUsed_1 7 rfl rfl)
abbrev cX6_laysRest : ByteArray := prog_17_method_82_code
def yX6_laysRest : MethodName := ⟨RX6, "laysRest", "(I)V"⟩
def dkwX6_laysRest_3 : List UInt8 := [16, 13, 29, 104, 21, 4, 96, 21, 5, 79, 132, 4, 1, 167, 255, 188, 132, 3, 255, 167, 255, 175, 177]
abbrev dktX6_laysRest_3 : List UInt8 := dkwX6_laysRest_3 ++ []
def dkwX6_laysRest_2 : List UInt8 := [29, 21, 4, 21, 6, 182, 1, 117, 184, 1, 47, 54, 5, 132, 6, 1, 167, 255, 230, 42, 180, 0, 107]
abbrev dktX6_laysRest_2 : List UInt8 := dkwX6_laysRest_2 ++ dktX6_laysRest_3
def dkwX6_laysRest_1 : List UInt8 := [160, 0, 7, 3, 167, 0, 5, 18, 129, 54, 5, 3, 54, 6, 21, 6, 27, 162, 0, 26, 21, 5, 42, 27]
abbrev dktX6_laysRest_1 : List UInt8 := dkwX6_laysRest_1 ++ dktX6_laysRest_2
def dkwX6_laysRest_0 : List UInt8 := [4, 27, 120, 4, 100, 61, 28, 62, 29, 155, 0, 83, 3, 54, 4, 21, 4, 27, 163, 0, 68, 29, 28]
abbrev dktX6_laysRest_0 : List UInt8 := dkwX6_laysRest_0 ++ dktX6_laysRest_1
theorem dksX6_laysRest_0 : cX6_laysRest.data.toList.drop 0 = dktX6_laysRest_0 := by decide +kernel
theorem dksX6_laysRest_1 : cX6_laysRest.data.toList.drop 23 = dktX6_laysRest_1 := dk_seg dksX6_laysRest_0 23 rfl rfl
theorem dksX6_laysRest_2 : cX6_laysRest.data.toList.drop 47 = dktX6_laysRest_2 := dk_seg dksX6_laysRest_1 24 rfl rfl
theorem dksX6_laysRest_3 : cX6_laysRest.data.toList.drop 70 = dktX6_laysRest_3 := dk_seg dksX6_laysRest_2 23 rfl rfl
theorem dX6_laysRest_0 : decode cX6_laysRest 0 = .ok (.iconst 1, 1) := dk_4 (dk_at dksX6_laysRest_0 0 rfl rfl)
theorem dX6_laysRest_1 : decode cX6_laysRest 1 = .ok (.iload_n 1, 1) := dk_27 (dk_at dksX6_laysRest_0 1 rfl rfl)
theorem dX6_laysRest_2 : decode cX6_laysRest 2 = .ok (.ishl, 1) := dk_120 (dk_at dksX6_laysRest_0 2 rfl rfl)
theorem dX6_laysRest_3 : decode cX6_laysRest 3 = .ok (.iconst 1, 1) := dk_4 (dk_at dksX6_laysRest_0 3 rfl rfl)
theorem dX6_laysRest_4 : decode cX6_laysRest 4 = .ok (.isub, 1) := dk_100 (dk_at dksX6_laysRest_0 4 rfl rfl)
theorem dX6_laysRest_5 : decode cX6_laysRest 5 = .ok (.istore_n 2, 1) := dk_61 (dk_at dksX6_laysRest_0 5 rfl rfl)
theorem dX6_laysRest_6 : decode cX6_laysRest 6 = .ok (.iload_n 2, 1) := dk_28 (dk_at dksX6_laysRest_0 6 rfl rfl)
theorem dX6_laysRest_7 : decode cX6_laysRest 7 = .ok (.istore_n 3, 1) := dk_62 (dk_at dksX6_laysRest_0 7 rfl rfl)
theorem dX6_laysRest_8 : decode cX6_laysRest 8 = .ok (.iload_n 3, 1) := dk_29 (dk_at dksX6_laysRest_0 8 rfl rfl)
theorem dX6_laysRest_9 : decode cX6_laysRest 9 = .ok (.ifCond .lt 83, 3) := dk_155 0 83 (dk_at dksX6_laysRest_0 9 rfl rfl)
theorem dX6_laysRest_12 : decode cX6_laysRest 12 = .ok (.iconst 0, 1) := dk_3 (dk_at dksX6_laysRest_0 12 rfl rfl)
theorem dX6_laysRest_13 : decode cX6_laysRest 13 = .ok (.istore 4, 2) := dk_54 4 (dk_at dksX6_laysRest_0 13 rfl rfl)
theorem dX6_laysRest_15 : decode cX6_laysRest 15 = .ok (.iload 4, 2) := dk_21 4 (dk_at dksX6_laysRest_0 15 rfl rfl)
theorem dX6_laysRest_17 : decode cX6_laysRest 17 = .ok (.iload_n 1, 1) := dk_27 (dk_at dksX6_laysRest_0 17 rfl rfl)
theorem dX6_laysRest_18 : decode cX6_laysRest 18 = .ok (.if_icmp .gt 68, 3) := dk_163 0 68 (dk_at dksX6_laysRest_0 18 rfl rfl)
theorem dX6_laysRest_21 : decode cX6_laysRest 21 = .ok (.iload_n 3, 1) := dk_29 (dk_at dksX6_laysRest_0 21 rfl rfl)
theorem dX6_laysRest_22 : decode cX6_laysRest 22 = .ok (.iload_n 2, 1) := dk_28 (dk_at dksX6_laysRest_0 22 rfl rfl)
theorem dX6_laysRest_23 : decode cX6_laysRest 23 = .ok (.if_icmp .ne 7, 3) := dk_160 0 7 (dk_at dksX6_laysRest_1 0 rfl rfl)
theorem dX6_laysRest_26 : decode cX6_laysRest 26 = .ok (.iconst 0, 1) := dk_3 (dk_at dksX6_laysRest_1 3 rfl rfl)
theorem dX6_laysRest_27 : decode cX6_laysRest 27 = .ok (.goto 5, 3) := dk_167 0 5 (dk_at dksX6_laysRest_1 4 rfl rfl)
theorem dX6_laysRest_30 : decode cX6_laysRest 30 = .ok (.ldc 129, 2) := dk_18 129 (dk_at dksX6_laysRest_1 7 rfl rfl)
theorem dX6_laysRest_32 : decode cX6_laysRest 32 = .ok (.istore 5, 2) := dk_54 5 (dk_at dksX6_laysRest_1 9 rfl rfl)
theorem dX6_laysRest_34 : decode cX6_laysRest 34 = .ok (.iconst 0, 1) := dk_3 (dk_at dksX6_laysRest_1 11 rfl rfl)
theorem dX6_laysRest_35 : decode cX6_laysRest 35 = .ok (.istore 6, 2) := dk_54 6 (dk_at dksX6_laysRest_1 12 rfl rfl)
theorem dX6_laysRest_37 : decode cX6_laysRest 37 = .ok (.iload 6, 2) := dk_21 6 (dk_at dksX6_laysRest_1 14 rfl rfl)
theorem dX6_laysRest_39 : decode cX6_laysRest 39 = .ok (.iload_n 1, 1) := dk_27 (dk_at dksX6_laysRest_1 16 rfl rfl)
theorem dX6_laysRest_40 : decode cX6_laysRest 40 = .ok (.if_icmp .ge 26, 3) := dk_162 0 26 (dk_at dksX6_laysRest_1 17 rfl rfl)
theorem dX6_laysRest_43 : decode cX6_laysRest 43 = .ok (.iload 5, 2) := dk_21 5 (dk_at dksX6_laysRest_1 20 rfl rfl)
theorem dX6_laysRest_45 : decode cX6_laysRest 45 = .ok (.aload_n 0, 1) := dk_42 (dk_at dksX6_laysRest_1 22 rfl rfl)
theorem dX6_laysRest_46 : decode cX6_laysRest 46 = .ok (.iload_n 1, 1) := dk_27 (dk_at dksX6_laysRest_1 23 rfl rfl)
theorem dX6_laysRest_47 : decode cX6_laysRest 47 = .ok (.iload_n 3, 1) := dk_29 (dk_at dksX6_laysRest_2 0 rfl rfl)
theorem dX6_laysRest_48 : decode cX6_laysRest 48 = .ok (.iload 4, 2) := dk_21 4 (dk_at dksX6_laysRest_2 1 rfl rfl)
theorem dX6_laysRest_50 : decode cX6_laysRest 50 = .ok (.iload 6, 2) := dk_21 6 (dk_at dksX6_laysRest_2 3 rfl rfl)
theorem dX6_laysRest_52 : decode cX6_laysRest 52 = .ok (.invokevirtual 373, 3) := dk_182 1 117 (dk_at dksX6_laysRest_2 5 rfl rfl)
theorem dX6_laysRest_55 : decode cX6_laysRest 55 = .ok (.invokestatic 303, 3) := dk_184 1 47 (dk_at dksX6_laysRest_2 8 rfl rfl)
theorem dX6_laysRest_58 : decode cX6_laysRest 58 = .ok (.istore 5, 2) := dk_54 5 (dk_at dksX6_laysRest_2 11 rfl rfl)
theorem dX6_laysRest_60 : decode cX6_laysRest 60 = .ok (.iinc 6 1, 3) := dk_132 6 1 (dk_at dksX6_laysRest_2 13 rfl rfl)
theorem dX6_laysRest_63 : decode cX6_laysRest 63 = .ok (.goto (-26), 3) := dk_167 255 230 (dk_at dksX6_laysRest_2 16 rfl rfl)
theorem dX6_laysRest_66 : decode cX6_laysRest 66 = .ok (.aload_n 0, 1) := dk_42 (dk_at dksX6_laysRest_2 19 rfl rfl)
theorem dX6_laysRest_67 : decode cX6_laysRest 67 = .ok (.getfield 107, 3) := dk_180 0 107 (dk_at dksX6_laysRest_2 20 rfl rfl)
theorem dX6_laysRest_70 : decode cX6_laysRest 70 = .ok (.bipush 13, 2) := dk_16 13 (dk_at dksX6_laysRest_3 0 rfl rfl)
theorem dX6_laysRest_72 : decode cX6_laysRest 72 = .ok (.iload_n 3, 1) := dk_29 (dk_at dksX6_laysRest_3 2 rfl rfl)
theorem dX6_laysRest_73 : decode cX6_laysRest 73 = .ok (.imul, 1) := dk_104 (dk_at dksX6_laysRest_3 3 rfl rfl)
theorem dX6_laysRest_74 : decode cX6_laysRest 74 = .ok (.iload 4, 2) := dk_21 4 (dk_at dksX6_laysRest_3 4 rfl rfl)
theorem dX6_laysRest_76 : decode cX6_laysRest 76 = .ok (.iadd, 1) := dk_96 (dk_at dksX6_laysRest_3 6 rfl rfl)
theorem dX6_laysRest_77 : decode cX6_laysRest 77 = .ok (.iload 5, 2) := dk_21 5 (dk_at dksX6_laysRest_3 7 rfl rfl)
theorem dX6_laysRest_79 : decode cX6_laysRest 79 = .ok (.iastore, 1) := dk_79 (dk_at dksX6_laysRest_3 9 rfl rfl)
theorem dX6_laysRest_80 : decode cX6_laysRest 80 = .ok (.iinc 4 1, 3) := dk_132 4 1 (dk_at dksX6_laysRest_3 10 rfl rfl)
theorem dX6_laysRest_83 : decode cX6_laysRest 83 = .ok (.goto (-68), 3) := dk_167 255 188 (dk_at dksX6_laysRest_3 13 rfl rfl)
theorem dX6_laysRest_86 : decode cX6_laysRest 86 = .ok (.iinc 3 (-1), 3) := dk_132 3 255 (dk_at dksX6_laysRest_3 16 rfl rfl)
theorem dX6_laysRest_89 : decode cX6_laysRest 89 = .ok (.goto (-81), 3) := dk_167 255 175 (dk_at dksX6_laysRest_3 19 rfl rfl)
theorem dX6_laysRest_92 : decode cX6_laysRest 92 = .ok (.return_, 1) := dk_177 (dk_at dksX6_laysRest_3 22 rfl rfl)
abbrev cX6_rowBy : ByteArray := prog_17_method_81_code
def yX6_rowBy : MethodName := ⟨RX6, "rowBy", "(IIII)I"⟩
def dkwX6_rowBy_2 : List UInt8 := [184, 1, 44, 172]
abbrev dktX6_rowBy_2 : List UInt8 := dkwX6_rowBy_2 ++ []
def dkwX6_rowBy_1 : List UInt8 := [21, 4, 182, 1, 114, 42, 180, 0, 107, 16, 13, 28, 4, 21, 4, 120, 128, 104, 21, 4, 96, 46]
abbrev dktX6_rowBy_1 : List UInt8 := dkwX6_rowBy_1 ++ dktX6_rowBy_2
def dkwX6_rowBy_0 : List UInt8 := [28, 21, 4, 122, 4, 126, 4, 160, 0, 6, 18, 129, 172, 29, 27, 160, 0, 7, 3, 167, 0, 10, 42, 29]
abbrev dktX6_rowBy_0 : List UInt8 := dkwX6_rowBy_0 ++ dktX6_rowBy_1
theorem dksX6_rowBy_0 : cX6_rowBy.data.toList.drop 0 = dktX6_rowBy_0 := by decide +kernel
theorem dksX6_rowBy_1 : cX6_rowBy.data.toList.drop 24 = dktX6_rowBy_1 := dk_seg dksX6_rowBy_0 24 rfl rfl
theorem dksX6_rowBy_2 : cX6_rowBy.data.toList.drop 46 = dktX6_rowBy_2 := dk_seg dksX6_rowBy_1 22 rfl rfl
theorem dX6_rowBy_0 : decode cX6_rowBy 0 = .ok (.iload_n 2, 1) := dk_28 (dk_at dksX6_rowBy_0 0 rfl rfl)
theorem dX6_rowBy_1 : decode cX6_rowBy 1 = .ok (.iload 4, 2) := dk_21 4 (dk_at dksX6_rowBy_0 1 rfl rfl)
theorem dX6_rowBy_3 : decode cX6_rowBy 3 = .ok (.ishr, 1) := dk_122 (dk_at dksX6_rowBy_0 3 rfl rfl)
theorem dX6_rowBy_4 : decode cX6_rowBy 4 = .ok (.iconst 1, 1) := dk_4 (dk_at dksX6_rowBy_0 4 rfl rfl)
theorem dX6_rowBy_5 : decode cX6_rowBy 5 = .ok (.iand, 1) := dk_126 (dk_at dksX6_rowBy_0 5 rfl rfl)
theorem dX6_rowBy_6 : decode cX6_rowBy 6 = .ok (.iconst 1, 1) := dk_4 (dk_at dksX6_rowBy_0 6 rfl rfl)
theorem dX6_rowBy_7 : decode cX6_rowBy 7 = .ok (.if_icmp .ne 6, 3) := dk_160 0 6 (dk_at dksX6_rowBy_0 7 rfl rfl)
theorem dX6_rowBy_10 : decode cX6_rowBy 10 = .ok (.ldc 129, 2) := dk_18 129 (dk_at dksX6_rowBy_0 10 rfl rfl)
theorem dX6_rowBy_12 : decode cX6_rowBy 12 = .ok (.ireturn, 1) := dk_172 (dk_at dksX6_rowBy_0 12 rfl rfl)
theorem dX6_rowBy_13 : decode cX6_rowBy 13 = .ok (.iload_n 3, 1) := dk_29 (dk_at dksX6_rowBy_0 13 rfl rfl)
theorem dX6_rowBy_14 : decode cX6_rowBy 14 = .ok (.iload_n 1, 1) := dk_27 (dk_at dksX6_rowBy_0 14 rfl rfl)
theorem dX6_rowBy_15 : decode cX6_rowBy 15 = .ok (.if_icmp .ne 7, 3) := dk_160 0 7 (dk_at dksX6_rowBy_0 15 rfl rfl)
theorem dX6_rowBy_18 : decode cX6_rowBy 18 = .ok (.iconst 0, 1) := dk_3 (dk_at dksX6_rowBy_0 18 rfl rfl)
theorem dX6_rowBy_19 : decode cX6_rowBy 19 = .ok (.goto 10, 3) := dk_167 0 10 (dk_at dksX6_rowBy_0 19 rfl rfl)
theorem dX6_rowBy_22 : decode cX6_rowBy 22 = .ok (.aload_n 0, 1) := dk_42 (dk_at dksX6_rowBy_0 22 rfl rfl)
theorem dX6_rowBy_23 : decode cX6_rowBy 23 = .ok (.iload_n 3, 1) := dk_29 (dk_at dksX6_rowBy_0 23 rfl rfl)
theorem dX6_rowBy_24 : decode cX6_rowBy 24 = .ok (.iload 4, 2) := dk_21 4 (dk_at dksX6_rowBy_1 0 rfl rfl)
theorem dX6_rowBy_26 : decode cX6_rowBy 26 = .ok (.invokevirtual 370, 3) := dk_182 1 114 (dk_at dksX6_rowBy_1 2 rfl rfl)
theorem dX6_rowBy_29 : decode cX6_rowBy 29 = .ok (.aload_n 0, 1) := dk_42 (dk_at dksX6_rowBy_1 5 rfl rfl)
theorem dX6_rowBy_30 : decode cX6_rowBy 30 = .ok (.getfield 107, 3) := dk_180 0 107 (dk_at dksX6_rowBy_1 6 rfl rfl)
theorem dX6_rowBy_33 : decode cX6_rowBy 33 = .ok (.bipush 13, 2) := dk_16 13 (dk_at dksX6_rowBy_1 9 rfl rfl)
theorem dX6_rowBy_35 : decode cX6_rowBy 35 = .ok (.iload_n 2, 1) := dk_28 (dk_at dksX6_rowBy_1 11 rfl rfl)
theorem dX6_rowBy_36 : decode cX6_rowBy 36 = .ok (.iconst 1, 1) := dk_4 (dk_at dksX6_rowBy_1 12 rfl rfl)
theorem dX6_rowBy_37 : decode cX6_rowBy 37 = .ok (.iload 4, 2) := dk_21 4 (dk_at dksX6_rowBy_1 13 rfl rfl)
theorem dX6_rowBy_39 : decode cX6_rowBy 39 = .ok (.ishl, 1) := dk_120 (dk_at dksX6_rowBy_1 15 rfl rfl)
theorem dX6_rowBy_40 : decode cX6_rowBy 40 = .ok (.ior, 1) := dk_128 (dk_at dksX6_rowBy_1 16 rfl rfl)
theorem dX6_rowBy_41 : decode cX6_rowBy 41 = .ok (.imul, 1) := dk_104 (dk_at dksX6_rowBy_1 17 rfl rfl)
theorem dX6_rowBy_42 : decode cX6_rowBy 42 = .ok (.iload 4, 2) := dk_21 4 (dk_at dksX6_rowBy_1 18 rfl rfl)
theorem dX6_rowBy_44 : decode cX6_rowBy 44 = .ok (.iadd, 1) := dk_96 (dk_at dksX6_rowBy_1 20 rfl rfl)
theorem dX6_rowBy_45 : decode cX6_rowBy 45 = .ok (.iaload, 1) := dk_46 (dk_at dksX6_rowBy_1 21 rfl rfl)
theorem dX6_rowBy_46 : decode cX6_rowBy 46 = .ok (.invokestatic 300, 3) := dk_184 1 44 (dk_at dksX6_rowBy_2 0 rfl rfl)
theorem dX6_rowBy_49 : decode cX6_rowBy 49 = .ok (.ireturn, 1) := dk_172 (dk_at dksX6_rowBy_2 3 rfl rfl)
abbrev cX6_stepTold : ByteArray := prog_17_method_80_code
def yX6_stepTold : MethodName := ⟨RX6, "stepTold", "(II)I"⟩
def dkwX6_stepTold_0 : List UInt8 := [42, 180, 0, 72, 16, 40, 42, 180, 0, 103, 27, 46, 104, 42, 180, 0, 103, 28, 46, 96, 46, 172]
abbrev dktX6_stepTold_0 : List UInt8 := dkwX6_stepTold_0 ++ []
theorem dksX6_stepTold_0 : cX6_stepTold.data.toList.drop 0 = dktX6_stepTold_0 := by decide +kernel
theorem dX6_stepTold_0 : decode cX6_stepTold 0 = .ok (.aload_n 0, 1) := dk_42 (dk_at dksX6_stepTold_0 0 rfl rfl)
theorem dX6_stepTold_1 : decode cX6_stepTold 1 = .ok (.getfield 72, 3) := dk_180 0 72 (dk_at dksX6_stepTold_0 1 rfl rfl)
theorem dX6_stepTold_4 : decode cX6_stepTold 4 = .ok (.bipush 40, 2) := dk_16 40 (dk_at dksX6_stepTold_0 4 rfl rfl)
theorem dX6_stepTold_6 : decode cX6_stepTold 6 = .ok (.aload_n 0, 1) := dk_42 (dk_at dksX6_stepTold_0 6 rfl rfl)
theorem dX6_stepTold_7 : decode cX6_stepTold 7 = .ok (.getfield 103, 3) := dk_180 0 103 (dk_at dksX6_stepTold_0 7 rfl rfl)
theorem dX6_stepTold_10 : decode cX6_stepTold 10 = .ok (.iload_n 1, 1) := dk_27 (dk_at dksX6_stepTold_0 10 rfl rfl)
theorem dX6_stepTold_11 : decode cX6_stepTold 11 = .ok (.iaload, 1) := dk_46 (dk_at dksX6_stepTold_0 11 rfl rfl)
theorem dX6_stepTold_12 : decode cX6_stepTold 12 = .ok (.imul, 1) := dk_104 (dk_at dksX6_stepTold_0 12 rfl rfl)
theorem dX6_stepTold_13 : decode cX6_stepTold 13 = .ok (.aload_n 0, 1) := dk_42 (dk_at dksX6_stepTold_0 13 rfl rfl)
theorem dX6_stepTold_14 : decode cX6_stepTold 14 = .ok (.getfield 103, 3) := dk_180 0 103 (dk_at dksX6_stepTold_0 14 rfl rfl)
theorem dX6_stepTold_17 : decode cX6_stepTold 17 = .ok (.iload_n 2, 1) := dk_28 (dk_at dksX6_stepTold_0 17 rfl rfl)
theorem dX6_stepTold_18 : decode cX6_stepTold 18 = .ok (.iaload, 1) := dk_46 (dk_at dksX6_stepTold_0 18 rfl rfl)
theorem dX6_stepTold_19 : decode cX6_stepTold 19 = .ok (.iadd, 1) := dk_96 (dk_at dksX6_stepTold_0 19 rfl rfl)
theorem dX6_stepTold_20 : decode cX6_stepTold 20 = .ok (.iaload, 1) := dk_46 (dk_at dksX6_stepTold_0 20 rfl rfl)
theorem dX6_stepTold_21 : decode cX6_stepTold 21 = .ok (.ireturn, 1) := dk_172 (dk_at dksX6_stepTold_0 21 rfl rfl)
abbrev cX6_game : ByteArray := prog_17_method_85_code
def yX6_game : MethodName := ⟨RX6, "game", "(II)I"⟩
def dkwX6_game_8 : List UInt8 := [46, 29, 162, 0, 11, 42, 180, 0, 103, 21, 4, 46, 62, 132, 4, 1, 167, 255, 190, 29, 172]
abbrev dktX6_game_8 : List UInt8 := dkwX6_game_8 ++ []
def dkwX6_game_7 : List UInt8 := [21, 4, 120, 128, 104, 21, 4, 96, 46, 154, 0, 28, 29, 16, 254, 159, 0, 14, 42, 180, 0, 103, 21, 4]
abbrev dktX6_game_7 : List UInt8 := dkwX6_game_7 ++ dktX6_game_8
def dkwX6_game_6 : List UInt8 := [162, 0, 66, 42, 3, 21, 4, 182, 1, 114, 18, 129, 162, 0, 48, 42, 180, 0, 107, 16, 13, 4, 4]
abbrev dktX6_game_6 : List UInt8 := dkwX6_game_6 ++ dktX6_game_7
def dkwX6_game_5 : List UInt8 := [167, 255, 196, 28, 154, 0, 11, 42, 180, 0, 107, 16, 13, 46, 172, 16, 254, 62, 4, 54, 4, 21, 4, 27]
abbrev dktX6_game_5 : List UInt8 := dkwX6_game_5 ++ dktX6_game_6
def dkwX6_game_4 : List UInt8 := [21, 4, 182, 1, 130, 153, 0, 7, 4, 167, 0, 4, 3, 79, 132, 4, 1, 167, 255, 209, 132, 3, 255]
abbrev dktX6_game_4 : List UInt8 := dkwX6_game_4 ++ dktX6_game_5
def dkwX6_game_3 : List UInt8 := [21, 4, 122, 4, 126, 4, 160, 0, 31, 42, 180, 0, 107, 16, 13, 29, 104, 21, 4, 96, 42, 27, 29]
abbrev dktX6_game_3 : List UInt8 := dkwX6_game_3 ++ dktX6_game_4
def dkwX6_game_2 : List UInt8 := [42, 182, 1, 35, 4, 27, 120, 4, 100, 62, 29, 158, 0, 62, 3, 54, 4, 21, 4, 27, 162, 0, 47, 29]
abbrev dktX6_game_2 : List UInt8 := dkwX6_game_2 ++ dktX6_game_3
def dkwX6_game_1 : List UInt8 := [164, 0, 5, 2, 172, 42, 27, 182, 1, 121, 153, 0, 11, 42, 27, 182, 1, 124, 154, 0, 6, 16, 253, 172]
abbrev dktX6_game_1 : List UInt8 := dkwX6_game_1 ++ dktX6_game_2
def dkwX6_game_0 : List UInt8 := [27, 5, 16, 12, 184, 0, 139, 153, 0, 20, 28, 3, 4, 184, 0, 139, 153, 0, 11, 27, 42, 180, 0, 133]
abbrev dktX6_game_0 : List UInt8 := dkwX6_game_0 ++ dktX6_game_1
theorem dksX6_game_0 : cX6_game.data.toList.drop 0 = dktX6_game_0 := by decide +kernel
theorem dksX6_game_1 : cX6_game.data.toList.drop 24 = dktX6_game_1 := dk_seg dksX6_game_0 24 rfl rfl
theorem dksX6_game_2 : cX6_game.data.toList.drop 48 = dktX6_game_2 := dk_seg dksX6_game_1 24 rfl rfl
theorem dksX6_game_3 : cX6_game.data.toList.drop 72 = dktX6_game_3 := dk_seg dksX6_game_2 24 rfl rfl
theorem dksX6_game_4 : cX6_game.data.toList.drop 95 = dktX6_game_4 := dk_seg dksX6_game_3 23 rfl rfl
theorem dksX6_game_5 : cX6_game.data.toList.drop 118 = dktX6_game_5 := dk_seg dksX6_game_4 23 rfl rfl
theorem dksX6_game_6 : cX6_game.data.toList.drop 142 = dktX6_game_6 := dk_seg dksX6_game_5 24 rfl rfl
theorem dksX6_game_7 : cX6_game.data.toList.drop 165 = dktX6_game_7 := dk_seg dksX6_game_6 23 rfl rfl
theorem dksX6_game_8 : cX6_game.data.toList.drop 189 = dktX6_game_8 := dk_seg dksX6_game_7 24 rfl rfl
theorem dX6_game_0 : decode cX6_game 0 = .ok (.iload_n 1, 1) := dk_27 (dk_at dksX6_game_0 0 rfl rfl)
theorem dX6_game_1 : decode cX6_game 1 = .ok (.iconst 2, 1) := dk_5 (dk_at dksX6_game_0 1 rfl rfl)
theorem dX6_game_2 : decode cX6_game 2 = .ok (.bipush 12, 2) := dk_16 12 (dk_at dksX6_game_0 2 rfl rfl)
theorem dX6_game_4 : decode cX6_game 4 = .ok (.invokestatic 139, 3) := dk_184 0 139 (dk_at dksX6_game_0 4 rfl rfl)
theorem dX6_game_7 : decode cX6_game 7 = .ok (.ifCond .eq 20, 3) := dk_153 0 20 (dk_at dksX6_game_0 7 rfl rfl)
theorem dX6_game_10 : decode cX6_game 10 = .ok (.iload_n 2, 1) := dk_28 (dk_at dksX6_game_0 10 rfl rfl)
theorem dX6_game_11 : decode cX6_game 11 = .ok (.iconst 0, 1) := dk_3 (dk_at dksX6_game_0 11 rfl rfl)
theorem dX6_game_12 : decode cX6_game 12 = .ok (.iconst 1, 1) := dk_4 (dk_at dksX6_game_0 12 rfl rfl)
theorem dX6_game_13 : decode cX6_game 13 = .ok (.invokestatic 139, 3) := dk_184 0 139 (dk_at dksX6_game_0 13 rfl rfl)
theorem dX6_game_16 : decode cX6_game 16 = .ok (.ifCond .eq 11, 3) := dk_153 0 11 (dk_at dksX6_game_0 16 rfl rfl)
theorem dX6_game_19 : decode cX6_game 19 = .ok (.iload_n 1, 1) := dk_27 (dk_at dksX6_game_0 19 rfl rfl)
theorem dX6_game_20 : decode cX6_game 20 = .ok (.aload_n 0, 1) := dk_42 (dk_at dksX6_game_0 20 rfl rfl)
theorem dX6_game_21 : decode cX6_game 21 = .ok (.getfield 133, 3) := dk_180 0 133 (dk_at dksX6_game_0 21 rfl rfl)
theorem dX6_game_24 : decode cX6_game 24 = .ok (.if_icmp .le 5, 3) := dk_164 0 5 (dk_at dksX6_game_1 0 rfl rfl)
theorem dX6_game_27 : decode cX6_game 27 = .ok (.iconst (-1), 1) := dk_2 (dk_at dksX6_game_1 3 rfl rfl)
theorem dX6_game_28 : decode cX6_game 28 = .ok (.ireturn, 1) := dk_172 (dk_at dksX6_game_1 4 rfl rfl)
theorem dX6_game_29 : decode cX6_game 29 = .ok (.aload_n 0, 1) := dk_42 (dk_at dksX6_game_1 5 rfl rfl)
theorem dX6_game_30 : decode cX6_game 30 = .ok (.iload_n 1, 1) := dk_27 (dk_at dksX6_game_1 6 rfl rfl)
theorem dX6_game_31 : decode cX6_game 31 = .ok (.invokevirtual 377, 3) := dk_182 1 121 (dk_at dksX6_game_1 7 rfl rfl)
theorem dX6_game_34 : decode cX6_game 34 = .ok (.ifCond .eq 11, 3) := dk_153 0 11 (dk_at dksX6_game_1 10 rfl rfl)
theorem dX6_game_37 : decode cX6_game 37 = .ok (.aload_n 0, 1) := dk_42 (dk_at dksX6_game_1 13 rfl rfl)
theorem dX6_game_38 : decode cX6_game 38 = .ok (.iload_n 1, 1) := dk_27 (dk_at dksX6_game_1 14 rfl rfl)
theorem dX6_game_39 : decode cX6_game 39 = .ok (.invokevirtual 380, 3) := dk_182 1 124 (dk_at dksX6_game_1 15 rfl rfl)
theorem dX6_game_42 : decode cX6_game 42 = .ok (.ifCond .ne 6, 3) := dk_154 0 6 (dk_at dksX6_game_1 18 rfl rfl)
theorem dX6_game_45 : decode cX6_game 45 = .ok (.bipush (-3), 2) := dk_16 253 (dk_at dksX6_game_1 21 rfl rfl)
theorem dX6_game_47 : decode cX6_game 47 = .ok (.ireturn, 1) := dk_172 (dk_at dksX6_game_1 23 rfl rfl)
theorem dX6_game_48 : decode cX6_game 48 = .ok (.aload_n 0, 1) := dk_42 (dk_at dksX6_game_2 0 rfl rfl)
theorem dX6_game_49 : decode cX6_game 49 = .ok (.invokevirtual 291, 3) := dk_182 1 35 (dk_at dksX6_game_2 1 rfl rfl)
theorem dX6_game_52 : decode cX6_game 52 = .ok (.iconst 1, 1) := dk_4 (dk_at dksX6_game_2 4 rfl rfl)
theorem dX6_game_53 : decode cX6_game 53 = .ok (.iload_n 1, 1) := dk_27 (dk_at dksX6_game_2 5 rfl rfl)
theorem dX6_game_54 : decode cX6_game 54 = .ok (.ishl, 1) := dk_120 (dk_at dksX6_game_2 6 rfl rfl)
theorem dX6_game_55 : decode cX6_game 55 = .ok (.iconst 1, 1) := dk_4 (dk_at dksX6_game_2 7 rfl rfl)
theorem dX6_game_56 : decode cX6_game 56 = .ok (.isub, 1) := dk_100 (dk_at dksX6_game_2 8 rfl rfl)
theorem dX6_game_57 : decode cX6_game 57 = .ok (.istore_n 3, 1) := dk_62 (dk_at dksX6_game_2 9 rfl rfl)
theorem dX6_game_58 : decode cX6_game 58 = .ok (.iload_n 3, 1) := dk_29 (dk_at dksX6_game_2 10 rfl rfl)
theorem dX6_game_59 : decode cX6_game 59 = .ok (.ifCond .le 62, 3) := dk_158 0 62 (dk_at dksX6_game_2 11 rfl rfl)
theorem dX6_game_62 : decode cX6_game 62 = .ok (.iconst 0, 1) := dk_3 (dk_at dksX6_game_2 14 rfl rfl)
theorem dX6_game_63 : decode cX6_game 63 = .ok (.istore 4, 2) := dk_54 4 (dk_at dksX6_game_2 15 rfl rfl)
theorem dX6_game_65 : decode cX6_game 65 = .ok (.iload 4, 2) := dk_21 4 (dk_at dksX6_game_2 17 rfl rfl)
theorem dX6_game_67 : decode cX6_game 67 = .ok (.iload_n 1, 1) := dk_27 (dk_at dksX6_game_2 19 rfl rfl)
theorem dX6_game_68 : decode cX6_game 68 = .ok (.if_icmp .ge 47, 3) := dk_162 0 47 (dk_at dksX6_game_2 20 rfl rfl)
theorem dX6_game_71 : decode cX6_game 71 = .ok (.iload_n 3, 1) := dk_29 (dk_at dksX6_game_2 23 rfl rfl)
theorem dX6_game_72 : decode cX6_game 72 = .ok (.iload 4, 2) := dk_21 4 (dk_at dksX6_game_3 0 rfl rfl)
theorem dX6_game_74 : decode cX6_game 74 = .ok (.ishr, 1) := dk_122 (dk_at dksX6_game_3 2 rfl rfl)
theorem dX6_game_75 : decode cX6_game 75 = .ok (.iconst 1, 1) := dk_4 (dk_at dksX6_game_3 3 rfl rfl)
theorem dX6_game_76 : decode cX6_game 76 = .ok (.iand, 1) := dk_126 (dk_at dksX6_game_3 4 rfl rfl)
theorem dX6_game_77 : decode cX6_game 77 = .ok (.iconst 1, 1) := dk_4 (dk_at dksX6_game_3 5 rfl rfl)
theorem dX6_game_78 : decode cX6_game 78 = .ok (.if_icmp .ne 31, 3) := dk_160 0 31 (dk_at dksX6_game_3 6 rfl rfl)
theorem dX6_game_81 : decode cX6_game 81 = .ok (.aload_n 0, 1) := dk_42 (dk_at dksX6_game_3 9 rfl rfl)
theorem dX6_game_82 : decode cX6_game 82 = .ok (.getfield 107, 3) := dk_180 0 107 (dk_at dksX6_game_3 10 rfl rfl)
theorem dX6_game_85 : decode cX6_game 85 = .ok (.bipush 13, 2) := dk_16 13 (dk_at dksX6_game_3 13 rfl rfl)
theorem dX6_game_87 : decode cX6_game 87 = .ok (.iload_n 3, 1) := dk_29 (dk_at dksX6_game_3 15 rfl rfl)
theorem dX6_game_88 : decode cX6_game 88 = .ok (.imul, 1) := dk_104 (dk_at dksX6_game_3 16 rfl rfl)
theorem dX6_game_89 : decode cX6_game 89 = .ok (.iload 4, 2) := dk_21 4 (dk_at dksX6_game_3 17 rfl rfl)
theorem dX6_game_91 : decode cX6_game 91 = .ok (.iadd, 1) := dk_96 (dk_at dksX6_game_3 19 rfl rfl)
theorem dX6_game_92 : decode cX6_game 92 = .ok (.aload_n 0, 1) := dk_42 (dk_at dksX6_game_3 20 rfl rfl)
theorem dX6_game_93 : decode cX6_game 93 = .ok (.iload_n 1, 1) := dk_27 (dk_at dksX6_game_3 21 rfl rfl)
theorem dX6_game_94 : decode cX6_game 94 = .ok (.iload_n 3, 1) := dk_29 (dk_at dksX6_game_3 22 rfl rfl)
theorem dX6_game_95 : decode cX6_game 95 = .ok (.iload 4, 2) := dk_21 4 (dk_at dksX6_game_4 0 rfl rfl)
theorem dX6_game_97 : decode cX6_game 97 = .ok (.invokevirtual 386, 3) := dk_182 1 130 (dk_at dksX6_game_4 2 rfl rfl)
theorem dX6_game_100 : decode cX6_game 100 = .ok (.ifCond .eq 7, 3) := dk_153 0 7 (dk_at dksX6_game_4 5 rfl rfl)
theorem dX6_game_103 : decode cX6_game 103 = .ok (.iconst 1, 1) := dk_4 (dk_at dksX6_game_4 8 rfl rfl)
theorem dX6_game_104 : decode cX6_game 104 = .ok (.goto 4, 3) := dk_167 0 4 (dk_at dksX6_game_4 9 rfl rfl)
theorem dX6_game_107 : decode cX6_game 107 = .ok (.iconst 0, 1) := dk_3 (dk_at dksX6_game_4 12 rfl rfl)
theorem dX6_game_108 : decode cX6_game 108 = .ok (.iastore, 1) := dk_79 (dk_at dksX6_game_4 13 rfl rfl)
theorem dX6_game_109 : decode cX6_game 109 = .ok (.iinc 4 1, 3) := dk_132 4 1 (dk_at dksX6_game_4 14 rfl rfl)
theorem dX6_game_112 : decode cX6_game 112 = .ok (.goto (-47), 3) := dk_167 255 209 (dk_at dksX6_game_4 17 rfl rfl)
theorem dX6_game_115 : decode cX6_game 115 = .ok (.iinc 3 (-1), 3) := dk_132 3 255 (dk_at dksX6_game_4 20 rfl rfl)
theorem dX6_game_118 : decode cX6_game 118 = .ok (.goto (-60), 3) := dk_167 255 196 (dk_at dksX6_game_5 0 rfl rfl)
theorem dX6_game_121 : decode cX6_game 121 = .ok (.iload_n 2, 1) := dk_28 (dk_at dksX6_game_5 3 rfl rfl)
theorem dX6_game_122 : decode cX6_game 122 = .ok (.ifCond .ne 11, 3) := dk_154 0 11 (dk_at dksX6_game_5 4 rfl rfl)
theorem dX6_game_125 : decode cX6_game 125 = .ok (.aload_n 0, 1) := dk_42 (dk_at dksX6_game_5 7 rfl rfl)
theorem dX6_game_126 : decode cX6_game 126 = .ok (.getfield 107, 3) := dk_180 0 107 (dk_at dksX6_game_5 8 rfl rfl)
theorem dX6_game_129 : decode cX6_game 129 = .ok (.bipush 13, 2) := dk_16 13 (dk_at dksX6_game_5 11 rfl rfl)
theorem dX6_game_131 : decode cX6_game 131 = .ok (.iaload, 1) := dk_46 (dk_at dksX6_game_5 13 rfl rfl)
theorem dX6_game_132 : decode cX6_game 132 = .ok (.ireturn, 1) := dk_172 (dk_at dksX6_game_5 14 rfl rfl)
theorem dX6_game_133 : decode cX6_game 133 = .ok (.bipush (-2), 2) := dk_16 254 (dk_at dksX6_game_5 15 rfl rfl)
theorem dX6_game_135 : decode cX6_game 135 = .ok (.istore_n 3, 1) := dk_62 (dk_at dksX6_game_5 17 rfl rfl)
theorem dX6_game_136 : decode cX6_game 136 = .ok (.iconst 1, 1) := dk_4 (dk_at dksX6_game_5 18 rfl rfl)
theorem dX6_game_137 : decode cX6_game 137 = .ok (.istore 4, 2) := dk_54 4 (dk_at dksX6_game_5 19 rfl rfl)
theorem dX6_game_139 : decode cX6_game 139 = .ok (.iload 4, 2) := dk_21 4 (dk_at dksX6_game_5 21 rfl rfl)
theorem dX6_game_141 : decode cX6_game 141 = .ok (.iload_n 1, 1) := dk_27 (dk_at dksX6_game_5 23 rfl rfl)
theorem dX6_game_142 : decode cX6_game 142 = .ok (.if_icmp .ge 66, 3) := dk_162 0 66 (dk_at dksX6_game_6 0 rfl rfl)
theorem dX6_game_145 : decode cX6_game 145 = .ok (.aload_n 0, 1) := dk_42 (dk_at dksX6_game_6 3 rfl rfl)
theorem dX6_game_146 : decode cX6_game 146 = .ok (.iconst 0, 1) := dk_3 (dk_at dksX6_game_6 4 rfl rfl)
theorem dX6_game_147 : decode cX6_game 147 = .ok (.iload 4, 2) := dk_21 4 (dk_at dksX6_game_6 5 rfl rfl)
theorem dX6_game_149 : decode cX6_game 149 = .ok (.invokevirtual 370, 3) := dk_182 1 114 (dk_at dksX6_game_6 7 rfl rfl)
theorem dX6_game_152 : decode cX6_game 152 = .ok (.ldc 129, 2) := dk_18 129 (dk_at dksX6_game_6 10 rfl rfl)
theorem dX6_game_154 : decode cX6_game 154 = .ok (.if_icmp .ge 48, 3) := dk_162 0 48 (dk_at dksX6_game_6 12 rfl rfl)
theorem dX6_game_157 : decode cX6_game 157 = .ok (.aload_n 0, 1) := dk_42 (dk_at dksX6_game_6 15 rfl rfl)
theorem dX6_game_158 : decode cX6_game 158 = .ok (.getfield 107, 3) := dk_180 0 107 (dk_at dksX6_game_6 16 rfl rfl)
theorem dX6_game_161 : decode cX6_game 161 = .ok (.bipush 13, 2) := dk_16 13 (dk_at dksX6_game_6 19 rfl rfl)
theorem dX6_game_163 : decode cX6_game 163 = .ok (.iconst 1, 1) := dk_4 (dk_at dksX6_game_6 21 rfl rfl)
theorem dX6_game_164 : decode cX6_game 164 = .ok (.iconst 1, 1) := dk_4 (dk_at dksX6_game_6 22 rfl rfl)
theorem dX6_game_165 : decode cX6_game 165 = .ok (.iload 4, 2) := dk_21 4 (dk_at dksX6_game_7 0 rfl rfl)
theorem dX6_game_167 : decode cX6_game 167 = .ok (.ishl, 1) := dk_120 (dk_at dksX6_game_7 2 rfl rfl)
theorem dX6_game_168 : decode cX6_game 168 = .ok (.ior, 1) := dk_128 (dk_at dksX6_game_7 3 rfl rfl)
theorem dX6_game_169 : decode cX6_game 169 = .ok (.imul, 1) := dk_104 (dk_at dksX6_game_7 4 rfl rfl)
theorem dX6_game_170 : decode cX6_game 170 = .ok (.iload 4, 2) := dk_21 4 (dk_at dksX6_game_7 5 rfl rfl)
theorem dX6_game_172 : decode cX6_game 172 = .ok (.iadd, 1) := dk_96 (dk_at dksX6_game_7 7 rfl rfl)
theorem dX6_game_173 : decode cX6_game 173 = .ok (.iaload, 1) := dk_46 (dk_at dksX6_game_7 8 rfl rfl)
theorem dX6_game_174 : decode cX6_game 174 = .ok (.ifCond .ne 28, 3) := dk_154 0 28 (dk_at dksX6_game_7 9 rfl rfl)
theorem dX6_game_177 : decode cX6_game 177 = .ok (.iload_n 3, 1) := dk_29 (dk_at dksX6_game_7 12 rfl rfl)
theorem dX6_game_178 : decode cX6_game 178 = .ok (.bipush (-2), 2) := dk_16 254 (dk_at dksX6_game_7 13 rfl rfl)
theorem dX6_game_180 : decode cX6_game 180 = .ok (.if_icmp .eq 14, 3) := dk_159 0 14 (dk_at dksX6_game_7 15 rfl rfl)
theorem dX6_game_183 : decode cX6_game 183 = .ok (.aload_n 0, 1) := dk_42 (dk_at dksX6_game_7 18 rfl rfl)
theorem dX6_game_184 : decode cX6_game 184 = .ok (.getfield 103, 3) := dk_180 0 103 (dk_at dksX6_game_7 19 rfl rfl)
theorem dX6_game_187 : decode cX6_game 187 = .ok (.iload 4, 2) := dk_21 4 (dk_at dksX6_game_7 22 rfl rfl)
theorem dX6_game_189 : decode cX6_game 189 = .ok (.iaload, 1) := dk_46 (dk_at dksX6_game_8 0 rfl rfl)
theorem dX6_game_190 : decode cX6_game 190 = .ok (.iload_n 3, 1) := dk_29 (dk_at dksX6_game_8 1 rfl rfl)
theorem dX6_game_191 : decode cX6_game 191 = .ok (.if_icmp .ge 11, 3) := dk_162 0 11 (dk_at dksX6_game_8 2 rfl rfl)
theorem dX6_game_194 : decode cX6_game 194 = .ok (.aload_n 0, 1) := dk_42 (dk_at dksX6_game_8 5 rfl rfl)
theorem dX6_game_195 : decode cX6_game 195 = .ok (.getfield 103, 3) := dk_180 0 103 (dk_at dksX6_game_8 6 rfl rfl)
theorem dX6_game_198 : decode cX6_game 198 = .ok (.iload 4, 2) := dk_21 4 (dk_at dksX6_game_8 9 rfl rfl)
theorem dX6_game_200 : decode cX6_game 200 = .ok (.iaload, 1) := dk_46 (dk_at dksX6_game_8 11 rfl rfl)
theorem dX6_game_201 : decode cX6_game 201 = .ok (.istore_n 3, 1) := dk_62 (dk_at dksX6_game_8 12 rfl rfl)
theorem dX6_game_202 : decode cX6_game 202 = .ok (.iinc 4 1, 3) := dk_132 4 1 (dk_at dksX6_game_8 13 rfl rfl)
theorem dX6_game_205 : decode cX6_game 205 = .ok (.goto (-66), 3) := dk_167 255 190 (dk_at dksX6_game_8 16 rfl rfl)
theorem dX6_game_208 : decode cX6_game 208 = .ok (.iload_n 3, 1) := dk_29 (dk_at dksX6_game_8 19 rfl rfl)
theorem dX6_game_209 : decode cX6_game 209 = .ok (.ireturn, 1) := dk_172 (dk_at dksX6_game_8 20 rfl rfl)
abbrev cX6_wins : ByteArray := prog_17_method_84_code
def yX6_wins : MethodName := ⟨RX6, "wins", "(III)Z"⟩
def dkwX6_wins_2 : List UInt8 := [46, 154, 0, 5, 4, 172, 132, 4, 1, 167, 255, 204, 3, 172]
abbrev dktX6_wins_2 : List UInt8 := dkwX6_wins_2 ++ []
def dkwX6_wins_1 : List UInt8 := [182, 1, 114, 18, 129, 162, 0, 25, 42, 180, 0, 107, 16, 13, 28, 4, 21, 4, 120, 128, 104, 21, 4, 96]
abbrev dktX6_wins_1 : List UInt8 := dkwX6_wins_1 ++ dktX6_wins_2
def dkwX6_wins_0 : List UInt8 := [3, 54, 4, 21, 4, 27, 162, 0, 52, 28, 21, 4, 122, 4, 126, 154, 0, 37, 42, 29, 21, 4]
abbrev dktX6_wins_0 : List UInt8 := dkwX6_wins_0 ++ dktX6_wins_1
theorem dksX6_wins_0 : cX6_wins.data.toList.drop 0 = dktX6_wins_0 := by decide +kernel
theorem dksX6_wins_1 : cX6_wins.data.toList.drop 22 = dktX6_wins_1 := dk_seg dksX6_wins_0 22 rfl rfl
theorem dksX6_wins_2 : cX6_wins.data.toList.drop 46 = dktX6_wins_2 := dk_seg dksX6_wins_1 24 rfl rfl
theorem dX6_wins_0 : decode cX6_wins 0 = .ok (.iconst 0, 1) := dk_3 (dk_at dksX6_wins_0 0 rfl rfl)
theorem dX6_wins_1 : decode cX6_wins 1 = .ok (.istore 4, 2) := dk_54 4 (dk_at dksX6_wins_0 1 rfl rfl)
theorem dX6_wins_3 : decode cX6_wins 3 = .ok (.iload 4, 2) := dk_21 4 (dk_at dksX6_wins_0 3 rfl rfl)
theorem dX6_wins_5 : decode cX6_wins 5 = .ok (.iload_n 1, 1) := dk_27 (dk_at dksX6_wins_0 5 rfl rfl)
theorem dX6_wins_6 : decode cX6_wins 6 = .ok (.if_icmp .ge 52, 3) := dk_162 0 52 (dk_at dksX6_wins_0 6 rfl rfl)
theorem dX6_wins_9 : decode cX6_wins 9 = .ok (.iload_n 2, 1) := dk_28 (dk_at dksX6_wins_0 9 rfl rfl)
theorem dX6_wins_10 : decode cX6_wins 10 = .ok (.iload 4, 2) := dk_21 4 (dk_at dksX6_wins_0 10 rfl rfl)
theorem dX6_wins_12 : decode cX6_wins 12 = .ok (.ishr, 1) := dk_122 (dk_at dksX6_wins_0 12 rfl rfl)
theorem dX6_wins_13 : decode cX6_wins 13 = .ok (.iconst 1, 1) := dk_4 (dk_at dksX6_wins_0 13 rfl rfl)
theorem dX6_wins_14 : decode cX6_wins 14 = .ok (.iand, 1) := dk_126 (dk_at dksX6_wins_0 14 rfl rfl)
theorem dX6_wins_15 : decode cX6_wins 15 = .ok (.ifCond .ne 37, 3) := dk_154 0 37 (dk_at dksX6_wins_0 15 rfl rfl)
theorem dX6_wins_18 : decode cX6_wins 18 = .ok (.aload_n 0, 1) := dk_42 (dk_at dksX6_wins_0 18 rfl rfl)
theorem dX6_wins_19 : decode cX6_wins 19 = .ok (.iload_n 3, 1) := dk_29 (dk_at dksX6_wins_0 19 rfl rfl)
theorem dX6_wins_20 : decode cX6_wins 20 = .ok (.iload 4, 2) := dk_21 4 (dk_at dksX6_wins_0 20 rfl rfl)
theorem dX6_wins_22 : decode cX6_wins 22 = .ok (.invokevirtual 370, 3) := dk_182 1 114 (dk_at dksX6_wins_1 0 rfl rfl)
theorem dX6_wins_25 : decode cX6_wins 25 = .ok (.ldc 129, 2) := dk_18 129 (dk_at dksX6_wins_1 3 rfl rfl)
theorem dX6_wins_27 : decode cX6_wins 27 = .ok (.if_icmp .ge 25, 3) := dk_162 0 25 (dk_at dksX6_wins_1 5 rfl rfl)
theorem dX6_wins_30 : decode cX6_wins 30 = .ok (.aload_n 0, 1) := dk_42 (dk_at dksX6_wins_1 8 rfl rfl)
theorem dX6_wins_31 : decode cX6_wins 31 = .ok (.getfield 107, 3) := dk_180 0 107 (dk_at dksX6_wins_1 9 rfl rfl)
theorem dX6_wins_34 : decode cX6_wins 34 = .ok (.bipush 13, 2) := dk_16 13 (dk_at dksX6_wins_1 12 rfl rfl)
theorem dX6_wins_36 : decode cX6_wins 36 = .ok (.iload_n 2, 1) := dk_28 (dk_at dksX6_wins_1 14 rfl rfl)
theorem dX6_wins_37 : decode cX6_wins 37 = .ok (.iconst 1, 1) := dk_4 (dk_at dksX6_wins_1 15 rfl rfl)
theorem dX6_wins_38 : decode cX6_wins 38 = .ok (.iload 4, 2) := dk_21 4 (dk_at dksX6_wins_1 16 rfl rfl)
theorem dX6_wins_40 : decode cX6_wins 40 = .ok (.ishl, 1) := dk_120 (dk_at dksX6_wins_1 18 rfl rfl)
theorem dX6_wins_41 : decode cX6_wins 41 = .ok (.ior, 1) := dk_128 (dk_at dksX6_wins_1 19 rfl rfl)
theorem dX6_wins_42 : decode cX6_wins 42 = .ok (.imul, 1) := dk_104 (dk_at dksX6_wins_1 20 rfl rfl)
theorem dX6_wins_43 : decode cX6_wins 43 = .ok (.iload 4, 2) := dk_21 4 (dk_at dksX6_wins_1 21 rfl rfl)
theorem dX6_wins_45 : decode cX6_wins 45 = .ok (.iadd, 1) := dk_96 (dk_at dksX6_wins_1 23 rfl rfl)
theorem dX6_wins_46 : decode cX6_wins 46 = .ok (.iaload, 1) := dk_46 (dk_at dksX6_wins_2 0 rfl rfl)
theorem dX6_wins_47 : decode cX6_wins 47 = .ok (.ifCond .ne 5, 3) := dk_154 0 5 (dk_at dksX6_wins_2 1 rfl rfl)
theorem dX6_wins_50 : decode cX6_wins 50 = .ok (.iconst 1, 1) := dk_4 (dk_at dksX6_wins_2 4 rfl rfl)
theorem dX6_wins_51 : decode cX6_wins 51 = .ok (.ireturn, 1) := dk_172 (dk_at dksX6_wins_2 5 rfl rfl)
theorem dX6_wins_52 : decode cX6_wins 52 = .ok (.iinc 4 1, 3) := dk_132 4 1 (dk_at dksX6_wins_2 6 rfl rfl)
theorem dX6_wins_55 : decode cX6_wins 55 = .ok (.goto (-52), 3) := dk_167 255 204 (dk_at dksX6_wins_2 9 rfl rfl)
theorem dX6_wins_58 : decode cX6_wins 58 = .ok (.iconst 0, 1) := dk_3 (dk_at dksX6_wins_2 12 rfl rfl)
theorem dX6_wins_59 : decode cX6_wins 59 = .ok (.ireturn, 1) := dk_172 (dk_at dksX6_wins_2 13 rfl rfl)
abbrev cX6_farBy : ByteArray := prog_17_method_88_code
def yX6_farBy : MethodName := ⟨RX6, "farBy", "(II)I"⟩
def dkwX6_farBy_1 : List UInt8 := [167, 0, 4, 2, 172]
abbrev dktX6_farBy_1 : List UInt8 := dkwX6_farBy_1 ++ []
def dkwX6_farBy_0 : List UInt8 := [42, 27, 182, 0, 154, 153, 0, 20, 42, 28, 182, 0, 154, 153, 0, 12, 42, 27, 28, 182, 1, 136]
abbrev dktX6_farBy_0 : List UInt8 := dkwX6_farBy_0 ++ dktX6_farBy_1
theorem dksX6_farBy_0 : cX6_farBy.data.toList.drop 0 = dktX6_farBy_0 := by decide +kernel
theorem dksX6_farBy_1 : cX6_farBy.data.toList.drop 22 = dktX6_farBy_1 := dk_seg dksX6_farBy_0 22 rfl rfl
theorem dX6_farBy_0 : decode cX6_farBy 0 = .ok (.aload_n 0, 1) := dk_42 (dk_at dksX6_farBy_0 0 rfl rfl)
theorem dX6_farBy_1 : decode cX6_farBy 1 = .ok (.iload_n 1, 1) := dk_27 (dk_at dksX6_farBy_0 1 rfl rfl)
theorem dX6_farBy_2 : decode cX6_farBy 2 = .ok (.invokevirtual 154, 3) := dk_182 0 154 (dk_at dksX6_farBy_0 2 rfl rfl)
theorem dX6_farBy_5 : decode cX6_farBy 5 = .ok (.ifCond .eq 20, 3) := dk_153 0 20 (dk_at dksX6_farBy_0 5 rfl rfl)
theorem dX6_farBy_8 : decode cX6_farBy 8 = .ok (.aload_n 0, 1) := dk_42 (dk_at dksX6_farBy_0 8 rfl rfl)
theorem dX6_farBy_9 : decode cX6_farBy 9 = .ok (.iload_n 2, 1) := dk_28 (dk_at dksX6_farBy_0 9 rfl rfl)
theorem dX6_farBy_10 : decode cX6_farBy 10 = .ok (.invokevirtual 154, 3) := dk_182 0 154 (dk_at dksX6_farBy_0 10 rfl rfl)
theorem dX6_farBy_13 : decode cX6_farBy 13 = .ok (.ifCond .eq 12, 3) := dk_153 0 12 (dk_at dksX6_farBy_0 13 rfl rfl)
theorem dX6_farBy_16 : decode cX6_farBy 16 = .ok (.aload_n 0, 1) := dk_42 (dk_at dksX6_farBy_0 16 rfl rfl)
theorem dX6_farBy_17 : decode cX6_farBy 17 = .ok (.iload_n 1, 1) := dk_27 (dk_at dksX6_farBy_0 17 rfl rfl)
theorem dX6_farBy_18 : decode cX6_farBy 18 = .ok (.iload_n 2, 1) := dk_28 (dk_at dksX6_farBy_0 18 rfl rfl)
theorem dX6_farBy_19 : decode cX6_farBy 19 = .ok (.invokevirtual 392, 3) := dk_182 1 136 (dk_at dksX6_farBy_0 19 rfl rfl)
theorem dX6_farBy_22 : decode cX6_farBy 22 = .ok (.goto 4, 3) := dk_167 0 4 (dk_at dksX6_farBy_1 0 rfl rfl)
theorem dX6_farBy_25 : decode cX6_farBy 25 = .ok (.iconst (-1), 1) := dk_2 (dk_at dksX6_farBy_1 3 rfl rfl)
theorem dX6_farBy_26 : decode cX6_farBy 26 = .ok (.ireturn, 1) := dk_172 (dk_at dksX6_farBy_1 4 rfl rfl)
abbrev cX6_farBetween : ByteArray := prog_17_method_87_code
def yX6_farBetween : MethodName := ⟨RX6, "farBetween", "(II)I"⟩
def dkwX6_farBetween_0 : List UInt8 := [42, 27, 182, 1, 105, 42, 28, 182, 1, 133, 172]
abbrev dktX6_farBetween_0 : List UInt8 := dkwX6_farBetween_0 ++ []
theorem dksX6_farBetween_0 : cX6_farBetween.data.toList.drop 0 = dktX6_farBetween_0 := by decide +kernel
theorem dX6_farBetween_0 : decode cX6_farBetween 0 = .ok (.aload_n 0, 1) := dk_42 (dk_at dksX6_farBetween_0 0 rfl rfl)
theorem dX6_farBetween_1 : decode cX6_farBetween 1 = .ok (.iload_n 1, 1) := dk_27 (dk_at dksX6_farBetween_0 1 rfl rfl)
theorem dX6_farBetween_2 : decode cX6_farBetween 2 = .ok (.invokevirtual 361, 3) := dk_182 1 105 (dk_at dksX6_farBetween_0 2 rfl rfl)
theorem dX6_farBetween_5 : decode cX6_farBetween 5 = .ok (.aload_n 0, 1) := dk_42 (dk_at dksX6_farBetween_0 5 rfl rfl)
theorem dX6_farBetween_6 : decode cX6_farBetween 6 = .ok (.iload_n 2, 1) := dk_28 (dk_at dksX6_farBetween_0 6 rfl rfl)
theorem dX6_farBetween_7 : decode cX6_farBetween 7 = .ok (.invokevirtual 389, 3) := dk_182 1 133 (dk_at dksX6_farBetween_0 7 rfl rfl)
theorem dX6_farBetween_10 : decode cX6_farBetween 10 = .ok (.ireturn, 1) := dk_172 (dk_at dksX6_farBetween_0 10 rfl rfl)
abbrev cX6_farFromRow : ByteArray := prog_17_method_86_code
def yX6_farFromRow : MethodName := ⟨RX6, "farFromRow", "(I)I"⟩
def dkwX6_farFromRow_7 : List UInt8 := [180, 0, 7, 27, 46, 96, 46, 172]
abbrev dktX6_farFromRow_7 : List UInt8 := dkwX6_farFromRow_7 ++ []
def dkwX6_farFromRow_6 : List UInt8 := [132, 3, 1, 167, 255, 126, 132, 2, 1, 167, 255, 110, 42, 180, 0, 110, 16, 9, 42, 180, 0, 136, 104, 42]
abbrev dktX6_farFromRow_6 : List UInt8 := dkwX6_farFromRow_6 ++ dktX6_farFromRow_7
def dkwX6_farFromRow_5 : List UInt8 := [46, 184, 1, 47, 96, 184, 1, 47, 54, 4, 42, 180, 0, 110, 16, 9, 28, 104, 29, 96, 21, 4, 79]
abbrev dktX6_farFromRow_5 : List UInt8 := dkwX6_farFromRow_5 ++ dktX6_farFromRow_6
def dkwX6_farFromRow_4 : List UInt8 := [180, 0, 110, 16, 9, 28, 4, 100, 104, 29, 96, 46, 42, 180, 0, 110, 16, 9, 28, 104, 29, 96, 4, 100]
abbrev dktX6_farFromRow_4 : List UInt8 := dkwX6_farFromRow_4 ++ dktX6_farFromRow_5
def dkwX6_farFromRow_3 : List UInt8 := [160, 0, 7, 3, 167, 0, 4, 4, 96, 54, 4, 28, 158, 0, 45, 29, 158, 0, 41, 21, 4, 4, 42]
abbrev dktX6_farFromRow_3 : List UInt8 := dkwX6_farFromRow_3 ++ dktX6_farFromRow_4
def dkwX6_farFromRow_2 : List UInt8 := [104, 29, 96, 4, 100, 46, 42, 180, 0, 26, 28, 4, 100, 46, 42, 27, 29, 4, 100, 182, 1, 6]
abbrev dktX6_farFromRow_2 : List UInt8 := dkwX6_farFromRow_2 ++ dktX6_farFromRow_3
def dkwX6_farFromRow_1 : List UInt8 := [154, 0, 7, 29, 167, 0, 51, 29, 154, 0, 7, 28, 167, 0, 43, 42, 180, 0, 110, 16, 9, 28, 4, 100]
abbrev dktX6_farFromRow_1 : List UInt8 := dkwX6_farFromRow_1 ++ dktX6_farFromRow_2
def dkwX6_farFromRow_0 : List UInt8 := [3, 61, 28, 42, 180, 0, 136, 163, 0, 144, 3, 62, 29, 42, 180, 0, 7, 27, 46, 163, 0, 126, 28]
abbrev dktX6_farFromRow_0 : List UInt8 := dkwX6_farFromRow_0 ++ dktX6_farFromRow_1
theorem dksX6_farFromRow_0 : cX6_farFromRow.data.toList.drop 0 = dktX6_farFromRow_0 := by decide +kernel
theorem dksX6_farFromRow_1 : cX6_farFromRow.data.toList.drop 23 = dktX6_farFromRow_1 := dk_seg dksX6_farFromRow_0 23 rfl rfl
theorem dksX6_farFromRow_2 : cX6_farFromRow.data.toList.drop 47 = dktX6_farFromRow_2 := dk_seg dksX6_farFromRow_1 24 rfl rfl
theorem dksX6_farFromRow_3 : cX6_farFromRow.data.toList.drop 69 = dktX6_farFromRow_3 := dk_seg dksX6_farFromRow_2 22 rfl rfl
theorem dksX6_farFromRow_4 : cX6_farFromRow.data.toList.drop 92 = dktX6_farFromRow_4 := dk_seg dksX6_farFromRow_3 23 rfl rfl
theorem dksX6_farFromRow_5 : cX6_farFromRow.data.toList.drop 116 = dktX6_farFromRow_5 := dk_seg dksX6_farFromRow_4 24 rfl rfl
theorem dksX6_farFromRow_6 : cX6_farFromRow.data.toList.drop 139 = dktX6_farFromRow_6 := dk_seg dksX6_farFromRow_5 23 rfl rfl
theorem dksX6_farFromRow_7 : cX6_farFromRow.data.toList.drop 163 = dktX6_farFromRow_7 := dk_seg dksX6_farFromRow_6 24 rfl rfl
theorem dX6_farFromRow_0 : decode cX6_farFromRow 0 = .ok (.iconst 0, 1) := dk_3 (dk_at dksX6_farFromRow_0 0 rfl rfl)
theorem dX6_farFromRow_1 : decode cX6_farFromRow 1 = .ok (.istore_n 2, 1) := dk_61 (dk_at dksX6_farFromRow_0 1 rfl rfl)
theorem dX6_farFromRow_2 : decode cX6_farFromRow 2 = .ok (.iload_n 2, 1) := dk_28 (dk_at dksX6_farFromRow_0 2 rfl rfl)
theorem dX6_farFromRow_3 : decode cX6_farFromRow 3 = .ok (.aload_n 0, 1) := dk_42 (dk_at dksX6_farFromRow_0 3 rfl rfl)
theorem dX6_farFromRow_4 : decode cX6_farFromRow 4 = .ok (.getfield 136, 3) := dk_180 0 136 (dk_at dksX6_farFromRow_0 4 rfl rfl)
theorem dX6_farFromRow_7 : decode cX6_farFromRow 7 = .ok (.if_icmp .gt 144, 3) := dk_163 0 144 (dk_at dksX6_farFromRow_0 7 rfl rfl)
theorem dX6_farFromRow_10 : decode cX6_farFromRow 10 = .ok (.iconst 0, 1) := dk_3 (dk_at dksX6_farFromRow_0 10 rfl rfl)
theorem dX6_farFromRow_11 : decode cX6_farFromRow 11 = .ok (.istore_n 3, 1) := dk_62 (dk_at dksX6_farFromRow_0 11 rfl rfl)
theorem dX6_farFromRow_12 : decode cX6_farFromRow 12 = .ok (.iload_n 3, 1) := dk_29 (dk_at dksX6_farFromRow_0 12 rfl rfl)
theorem dX6_farFromRow_13 : decode cX6_farFromRow 13 = .ok (.aload_n 0, 1) := dk_42 (dk_at dksX6_farFromRow_0 13 rfl rfl)
theorem dX6_farFromRow_14 : decode cX6_farFromRow 14 = .ok (.getfield 7, 3) := dk_180 0 7 (dk_at dksX6_farFromRow_0 14 rfl rfl)
theorem dX6_farFromRow_17 : decode cX6_farFromRow 17 = .ok (.iload_n 1, 1) := dk_27 (dk_at dksX6_farFromRow_0 17 rfl rfl)
theorem dX6_farFromRow_18 : decode cX6_farFromRow 18 = .ok (.iaload, 1) := dk_46 (dk_at dksX6_farFromRow_0 18 rfl rfl)
theorem dX6_farFromRow_19 : decode cX6_farFromRow 19 = .ok (.if_icmp .gt 126, 3) := dk_163 0 126 (dk_at dksX6_farFromRow_0 19 rfl rfl)
theorem dX6_farFromRow_22 : decode cX6_farFromRow 22 = .ok (.iload_n 2, 1) := dk_28 (dk_at dksX6_farFromRow_0 22 rfl rfl)
theorem dX6_farFromRow_23 : decode cX6_farFromRow 23 = .ok (.ifCond .ne 7, 3) := dk_154 0 7 (dk_at dksX6_farFromRow_1 0 rfl rfl)
theorem dX6_farFromRow_26 : decode cX6_farFromRow 26 = .ok (.iload_n 3, 1) := dk_29 (dk_at dksX6_farFromRow_1 3 rfl rfl)
theorem dX6_farFromRow_27 : decode cX6_farFromRow 27 = .ok (.goto 51, 3) := dk_167 0 51 (dk_at dksX6_farFromRow_1 4 rfl rfl)
theorem dX6_farFromRow_30 : decode cX6_farFromRow 30 = .ok (.iload_n 3, 1) := dk_29 (dk_at dksX6_farFromRow_1 7 rfl rfl)
theorem dX6_farFromRow_31 : decode cX6_farFromRow 31 = .ok (.ifCond .ne 7, 3) := dk_154 0 7 (dk_at dksX6_farFromRow_1 8 rfl rfl)
theorem dX6_farFromRow_34 : decode cX6_farFromRow 34 = .ok (.iload_n 2, 1) := dk_28 (dk_at dksX6_farFromRow_1 11 rfl rfl)
theorem dX6_farFromRow_35 : decode cX6_farFromRow 35 = .ok (.goto 43, 3) := dk_167 0 43 (dk_at dksX6_farFromRow_1 12 rfl rfl)
theorem dX6_farFromRow_38 : decode cX6_farFromRow 38 = .ok (.aload_n 0, 1) := dk_42 (dk_at dksX6_farFromRow_1 15 rfl rfl)
theorem dX6_farFromRow_39 : decode cX6_farFromRow 39 = .ok (.getfield 110, 3) := dk_180 0 110 (dk_at dksX6_farFromRow_1 16 rfl rfl)
theorem dX6_farFromRow_42 : decode cX6_farFromRow 42 = .ok (.bipush 9, 2) := dk_16 9 (dk_at dksX6_farFromRow_1 19 rfl rfl)
theorem dX6_farFromRow_44 : decode cX6_farFromRow 44 = .ok (.iload_n 2, 1) := dk_28 (dk_at dksX6_farFromRow_1 21 rfl rfl)
theorem dX6_farFromRow_45 : decode cX6_farFromRow 45 = .ok (.iconst 1, 1) := dk_4 (dk_at dksX6_farFromRow_1 22 rfl rfl)
theorem dX6_farFromRow_46 : decode cX6_farFromRow 46 = .ok (.isub, 1) := dk_100 (dk_at dksX6_farFromRow_1 23 rfl rfl)
theorem dX6_farFromRow_47 : decode cX6_farFromRow 47 = .ok (.imul, 1) := dk_104 (dk_at dksX6_farFromRow_2 0 rfl rfl)
theorem dX6_farFromRow_48 : decode cX6_farFromRow 48 = .ok (.iload_n 3, 1) := dk_29 (dk_at dksX6_farFromRow_2 1 rfl rfl)
theorem dX6_farFromRow_49 : decode cX6_farFromRow 49 = .ok (.iadd, 1) := dk_96 (dk_at dksX6_farFromRow_2 2 rfl rfl)
theorem dX6_farFromRow_50 : decode cX6_farFromRow 50 = .ok (.iconst 1, 1) := dk_4 (dk_at dksX6_farFromRow_2 3 rfl rfl)
theorem dX6_farFromRow_51 : decode cX6_farFromRow 51 = .ok (.isub, 1) := dk_100 (dk_at dksX6_farFromRow_2 4 rfl rfl)
theorem dX6_farFromRow_52 : decode cX6_farFromRow 52 = .ok (.iaload, 1) := dk_46 (dk_at dksX6_farFromRow_2 5 rfl rfl)
theorem dX6_farFromRow_53 : decode cX6_farFromRow 53 = .ok (.aload_n 0, 1) := dk_42 (dk_at dksX6_farFromRow_2 6 rfl rfl)
theorem dX6_farFromRow_54 : decode cX6_farFromRow 54 = .ok (.getfield 26, 3) := dk_180 0 26 (dk_at dksX6_farFromRow_2 7 rfl rfl)
theorem dX6_farFromRow_57 : decode cX6_farFromRow 57 = .ok (.iload_n 2, 1) := dk_28 (dk_at dksX6_farFromRow_2 10 rfl rfl)
theorem dX6_farFromRow_58 : decode cX6_farFromRow 58 = .ok (.iconst 1, 1) := dk_4 (dk_at dksX6_farFromRow_2 11 rfl rfl)
theorem dX6_farFromRow_59 : decode cX6_farFromRow 59 = .ok (.isub, 1) := dk_100 (dk_at dksX6_farFromRow_2 12 rfl rfl)
theorem dX6_farFromRow_60 : decode cX6_farFromRow 60 = .ok (.iaload, 1) := dk_46 (dk_at dksX6_farFromRow_2 13 rfl rfl)
theorem dX6_farFromRow_61 : decode cX6_farFromRow 61 = .ok (.aload_n 0, 1) := dk_42 (dk_at dksX6_farFromRow_2 14 rfl rfl)
theorem dX6_farFromRow_62 : decode cX6_farFromRow 62 = .ok (.iload_n 1, 1) := dk_27 (dk_at dksX6_farFromRow_2 15 rfl rfl)
theorem dX6_farFromRow_63 : decode cX6_farFromRow 63 = .ok (.iload_n 3, 1) := dk_29 (dk_at dksX6_farFromRow_2 16 rfl rfl)
theorem dX6_farFromRow_64 : decode cX6_farFromRow 64 = .ok (.iconst 1, 1) := dk_4 (dk_at dksX6_farFromRow_2 17 rfl rfl)
theorem dX6_farFromRow_65 : decode cX6_farFromRow 65 = .ok (.isub, 1) := dk_100 (dk_at dksX6_farFromRow_2 18 rfl rfl)
theorem dX6_farFromRow_66 : decode cX6_farFromRow 66 = .ok (.invokevirtual 262, 3) := dk_182 1 6 (dk_at dksX6_farFromRow_2 19 rfl rfl)
theorem dX6_farFromRow_69 : decode cX6_farFromRow 69 = .ok (.if_icmp .ne 7, 3) := dk_160 0 7 (dk_at dksX6_farFromRow_3 0 rfl rfl)
theorem dX6_farFromRow_72 : decode cX6_farFromRow 72 = .ok (.iconst 0, 1) := dk_3 (dk_at dksX6_farFromRow_3 3 rfl rfl)
theorem dX6_farFromRow_73 : decode cX6_farFromRow 73 = .ok (.goto 4, 3) := dk_167 0 4 (dk_at dksX6_farFromRow_3 4 rfl rfl)
theorem dX6_farFromRow_76 : decode cX6_farFromRow 76 = .ok (.iconst 1, 1) := dk_4 (dk_at dksX6_farFromRow_3 7 rfl rfl)
theorem dX6_farFromRow_77 : decode cX6_farFromRow 77 = .ok (.iadd, 1) := dk_96 (dk_at dksX6_farFromRow_3 8 rfl rfl)
theorem dX6_farFromRow_78 : decode cX6_farFromRow 78 = .ok (.istore 4, 2) := dk_54 4 (dk_at dksX6_farFromRow_3 9 rfl rfl)
theorem dX6_farFromRow_80 : decode cX6_farFromRow 80 = .ok (.iload_n 2, 1) := dk_28 (dk_at dksX6_farFromRow_3 11 rfl rfl)
theorem dX6_farFromRow_81 : decode cX6_farFromRow 81 = .ok (.ifCond .le 45, 3) := dk_158 0 45 (dk_at dksX6_farFromRow_3 12 rfl rfl)
theorem dX6_farFromRow_84 : decode cX6_farFromRow 84 = .ok (.iload_n 3, 1) := dk_29 (dk_at dksX6_farFromRow_3 15 rfl rfl)
theorem dX6_farFromRow_85 : decode cX6_farFromRow 85 = .ok (.ifCond .le 41, 3) := dk_158 0 41 (dk_at dksX6_farFromRow_3 16 rfl rfl)
theorem dX6_farFromRow_88 : decode cX6_farFromRow 88 = .ok (.iload 4, 2) := dk_21 4 (dk_at dksX6_farFromRow_3 19 rfl rfl)
theorem dX6_farFromRow_90 : decode cX6_farFromRow 90 = .ok (.iconst 1, 1) := dk_4 (dk_at dksX6_farFromRow_3 21 rfl rfl)
theorem dX6_farFromRow_91 : decode cX6_farFromRow 91 = .ok (.aload_n 0, 1) := dk_42 (dk_at dksX6_farFromRow_3 22 rfl rfl)
theorem dX6_farFromRow_92 : decode cX6_farFromRow 92 = .ok (.getfield 110, 3) := dk_180 0 110 (dk_at dksX6_farFromRow_4 0 rfl rfl)
theorem dX6_farFromRow_95 : decode cX6_farFromRow 95 = .ok (.bipush 9, 2) := dk_16 9 (dk_at dksX6_farFromRow_4 3 rfl rfl)
theorem dX6_farFromRow_97 : decode cX6_farFromRow 97 = .ok (.iload_n 2, 1) := dk_28 (dk_at dksX6_farFromRow_4 5 rfl rfl)
theorem dX6_farFromRow_98 : decode cX6_farFromRow 98 = .ok (.iconst 1, 1) := dk_4 (dk_at dksX6_farFromRow_4 6 rfl rfl)
theorem dX6_farFromRow_99 : decode cX6_farFromRow 99 = .ok (.isub, 1) := dk_100 (dk_at dksX6_farFromRow_4 7 rfl rfl)
theorem dX6_farFromRow_100 : decode cX6_farFromRow 100 = .ok (.imul, 1) := dk_104 (dk_at dksX6_farFromRow_4 8 rfl rfl)
theorem dX6_farFromRow_101 : decode cX6_farFromRow 101 = .ok (.iload_n 3, 1) := dk_29 (dk_at dksX6_farFromRow_4 9 rfl rfl)
theorem dX6_farFromRow_102 : decode cX6_farFromRow 102 = .ok (.iadd, 1) := dk_96 (dk_at dksX6_farFromRow_4 10 rfl rfl)
theorem dX6_farFromRow_103 : decode cX6_farFromRow 103 = .ok (.iaload, 1) := dk_46 (dk_at dksX6_farFromRow_4 11 rfl rfl)
theorem dX6_farFromRow_104 : decode cX6_farFromRow 104 = .ok (.aload_n 0, 1) := dk_42 (dk_at dksX6_farFromRow_4 12 rfl rfl)
theorem dX6_farFromRow_105 : decode cX6_farFromRow 105 = .ok (.getfield 110, 3) := dk_180 0 110 (dk_at dksX6_farFromRow_4 13 rfl rfl)
theorem dX6_farFromRow_108 : decode cX6_farFromRow 108 = .ok (.bipush 9, 2) := dk_16 9 (dk_at dksX6_farFromRow_4 16 rfl rfl)
theorem dX6_farFromRow_110 : decode cX6_farFromRow 110 = .ok (.iload_n 2, 1) := dk_28 (dk_at dksX6_farFromRow_4 18 rfl rfl)
theorem dX6_farFromRow_111 : decode cX6_farFromRow 111 = .ok (.imul, 1) := dk_104 (dk_at dksX6_farFromRow_4 19 rfl rfl)
theorem dX6_farFromRow_112 : decode cX6_farFromRow 112 = .ok (.iload_n 3, 1) := dk_29 (dk_at dksX6_farFromRow_4 20 rfl rfl)
theorem dX6_farFromRow_113 : decode cX6_farFromRow 113 = .ok (.iadd, 1) := dk_96 (dk_at dksX6_farFromRow_4 21 rfl rfl)
theorem dX6_farFromRow_114 : decode cX6_farFromRow 114 = .ok (.iconst 1, 1) := dk_4 (dk_at dksX6_farFromRow_4 22 rfl rfl)
theorem dX6_farFromRow_115 : decode cX6_farFromRow 115 = .ok (.isub, 1) := dk_100 (dk_at dksX6_farFromRow_4 23 rfl rfl)
theorem dX6_farFromRow_116 : decode cX6_farFromRow 116 = .ok (.iaload, 1) := dk_46 (dk_at dksX6_farFromRow_5 0 rfl rfl)
theorem dX6_farFromRow_117 : decode cX6_farFromRow 117 = .ok (.invokestatic 303, 3) := dk_184 1 47 (dk_at dksX6_farFromRow_5 1 rfl rfl)
theorem dX6_farFromRow_120 : decode cX6_farFromRow 120 = .ok (.iadd, 1) := dk_96 (dk_at dksX6_farFromRow_5 4 rfl rfl)
theorem dX6_farFromRow_121 : decode cX6_farFromRow 121 = .ok (.invokestatic 303, 3) := dk_184 1 47 (dk_at dksX6_farFromRow_5 5 rfl rfl)
theorem dX6_farFromRow_124 : decode cX6_farFromRow 124 = .ok (.istore 4, 2) := dk_54 4 (dk_at dksX6_farFromRow_5 8 rfl rfl)
theorem dX6_farFromRow_126 : decode cX6_farFromRow 126 = .ok (.aload_n 0, 1) := dk_42 (dk_at dksX6_farFromRow_5 10 rfl rfl)
theorem dX6_farFromRow_127 : decode cX6_farFromRow 127 = .ok (.getfield 110, 3) := dk_180 0 110 (dk_at dksX6_farFromRow_5 11 rfl rfl)
theorem dX6_farFromRow_130 : decode cX6_farFromRow 130 = .ok (.bipush 9, 2) := dk_16 9 (dk_at dksX6_farFromRow_5 14 rfl rfl)
theorem dX6_farFromRow_132 : decode cX6_farFromRow 132 = .ok (.iload_n 2, 1) := dk_28 (dk_at dksX6_farFromRow_5 16 rfl rfl)
theorem dX6_farFromRow_133 : decode cX6_farFromRow 133 = .ok (.imul, 1) := dk_104 (dk_at dksX6_farFromRow_5 17 rfl rfl)
theorem dX6_farFromRow_134 : decode cX6_farFromRow 134 = .ok (.iload_n 3, 1) := dk_29 (dk_at dksX6_farFromRow_5 18 rfl rfl)
theorem dX6_farFromRow_135 : decode cX6_farFromRow 135 = .ok (.iadd, 1) := dk_96 (dk_at dksX6_farFromRow_5 19 rfl rfl)
theorem dX6_farFromRow_136 : decode cX6_farFromRow 136 = .ok (.iload 4, 2) := dk_21 4 (dk_at dksX6_farFromRow_5 20 rfl rfl)
theorem dX6_farFromRow_138 : decode cX6_farFromRow 138 = .ok (.iastore, 1) := dk_79 (dk_at dksX6_farFromRow_5 22 rfl rfl)
theorem dX6_farFromRow_139 : decode cX6_farFromRow 139 = .ok (.iinc 3 1, 3) := dk_132 3 1 (dk_at dksX6_farFromRow_6 0 rfl rfl)
theorem dX6_farFromRow_142 : decode cX6_farFromRow 142 = .ok (.goto (-130), 3) := dk_167 255 126 (dk_at dksX6_farFromRow_6 3 rfl rfl)
theorem dX6_farFromRow_145 : decode cX6_farFromRow 145 = .ok (.iinc 2 1, 3) := dk_132 2 1 (dk_at dksX6_farFromRow_6 6 rfl rfl)
theorem dX6_farFromRow_148 : decode cX6_farFromRow 148 = .ok (.goto (-146), 3) := dk_167 255 110 (dk_at dksX6_farFromRow_6 9 rfl rfl)
theorem dX6_farFromRow_151 : decode cX6_farFromRow 151 = .ok (.aload_n 0, 1) := dk_42 (dk_at dksX6_farFromRow_6 12 rfl rfl)
theorem dX6_farFromRow_152 : decode cX6_farFromRow 152 = .ok (.getfield 110, 3) := dk_180 0 110 (dk_at dksX6_farFromRow_6 13 rfl rfl)
theorem dX6_farFromRow_155 : decode cX6_farFromRow 155 = .ok (.bipush 9, 2) := dk_16 9 (dk_at dksX6_farFromRow_6 16 rfl rfl)
theorem dX6_farFromRow_157 : decode cX6_farFromRow 157 = .ok (.aload_n 0, 1) := dk_42 (dk_at dksX6_farFromRow_6 18 rfl rfl)
theorem dX6_farFromRow_158 : decode cX6_farFromRow 158 = .ok (.getfield 136, 3) := dk_180 0 136 (dk_at dksX6_farFromRow_6 19 rfl rfl)
theorem dX6_farFromRow_161 : decode cX6_farFromRow 161 = .ok (.imul, 1) := dk_104 (dk_at dksX6_farFromRow_6 22 rfl rfl)
theorem dX6_farFromRow_162 : decode cX6_farFromRow 162 = .ok (.aload_n 0, 1) := dk_42 (dk_at dksX6_farFromRow_6 23 rfl rfl)
theorem dX6_farFromRow_163 : decode cX6_farFromRow 163 = .ok (.getfield 7, 3) := dk_180 0 7 (dk_at dksX6_farFromRow_7 0 rfl rfl)
theorem dX6_farFromRow_166 : decode cX6_farFromRow 166 = .ok (.iload_n 1, 1) := dk_27 (dk_at dksX6_farFromRow_7 3 rfl rfl)
theorem dX6_farFromRow_167 : decode cX6_farFromRow 167 = .ok (.iaload, 1) := dk_46 (dk_at dksX6_farFromRow_7 4 rfl rfl)
theorem dX6_farFromRow_168 : decode cX6_farFromRow 168 = .ok (.iadd, 1) := dk_96 (dk_at dksX6_farFromRow_7 5 rfl rfl)
theorem dX6_farFromRow_169 : decode cX6_farFromRow 169 = .ok (.iaload, 1) := dk_46 (dk_at dksX6_farFromRow_7 6 rfl rfl)
theorem dX6_farFromRow_170 : decode cX6_farFromRow 170 = .ok (.ireturn, 1) := dk_172 (dk_at dksX6_farFromRow_7 7 rfl rfl)
abbrev cX6_near : ByteArray := prog_17_method_89_code
def yX6_near : MethodName := ⟨RX6, "near", "(II)I"⟩
def dkwX6_near_7 : List UInt8 := [21, 5, 172]
abbrev dktX6_near_7 : List UInt8 := dkwX6_near_7 ++ []
def dkwX6_near_6 : List UInt8 := [160, 0, 6, 16, 254, 172, 28, 154, 0, 7, 29, 167, 0, 15, 28, 4, 160, 0, 8, 21, 4, 167, 0, 5]
abbrev dktX6_near_6 : List UInt8 := dkwX6_near_6 ++ dktX6_near_7
def dkwX6_near_5 : List UInt8 := [167, 0, 5, 21, 4, 54, 4, 29, 21, 7, 184, 1, 47, 62, 132, 6, 1, 167, 255, 175, 21, 4, 2]
abbrev dktX6_near_5 : List UInt8 := dkwX6_near_5 ++ dktX6_near_6
def dkwX6_near_4 : List UInt8 := [160, 0, 10, 21, 5, 4, 96, 167, 0, 5, 21, 5, 54, 5, 21, 7, 29, 162, 0, 8, 21, 6]
abbrev dktX6_near_4 : List UInt8 := dkwX6_near_4 ++ dktX6_near_5
def dkwX6_near_3 : List UInt8 := [167, 0, 60, 42, 21, 6, 182, 1, 133, 54, 7, 21, 7, 29, 162, 0, 7, 4, 167, 0, 18, 21, 7, 29]
abbrev dktX6_near_3 : List UInt8 := dkwX6_near_3 ++ dktX6_near_4
def dkwX6_near_2 : List UInt8 := [54, 5, 3, 54, 6, 21, 6, 42, 180, 0, 130, 162, 0, 78, 42, 21, 6, 182, 1, 26, 154, 0, 6]
abbrev dktX6_near_2 : List UInt8 := dkwX6_near_2 ++ dktX6_near_3
def dkwX6_near_1 : List UInt8 := [164, 0, 5, 2, 172, 42, 27, 182, 0, 147, 154, 0, 6, 16, 254, 172, 18, 129, 62, 2, 54, 4, 3]
abbrev dktX6_near_1 : List UInt8 := dkwX6_near_1 ++ dktX6_near_2
def dkwX6_near_0 : List UInt8 := [27, 4, 16, 12, 184, 0, 139, 153, 0, 20, 28, 3, 5, 184, 0, 139, 153, 0, 11, 27, 42, 180, 0, 133]
abbrev dktX6_near_0 : List UInt8 := dkwX6_near_0 ++ dktX6_near_1
theorem dksX6_near_0 : cX6_near.data.toList.drop 0 = dktX6_near_0 := by decide +kernel
theorem dksX6_near_1 : cX6_near.data.toList.drop 24 = dktX6_near_1 := dk_seg dksX6_near_0 24 rfl rfl
theorem dksX6_near_2 : cX6_near.data.toList.drop 47 = dktX6_near_2 := dk_seg dksX6_near_1 23 rfl rfl
theorem dksX6_near_3 : cX6_near.data.toList.drop 70 = dktX6_near_3 := dk_seg dksX6_near_2 23 rfl rfl
theorem dksX6_near_4 : cX6_near.data.toList.drop 94 = dktX6_near_4 := dk_seg dksX6_near_3 24 rfl rfl
theorem dksX6_near_5 : cX6_near.data.toList.drop 116 = dktX6_near_5 := dk_seg dksX6_near_4 22 rfl rfl
theorem dksX6_near_6 : cX6_near.data.toList.drop 139 = dktX6_near_6 := dk_seg dksX6_near_5 23 rfl rfl
theorem dksX6_near_7 : cX6_near.data.toList.drop 163 = dktX6_near_7 := dk_seg dksX6_near_6 24 rfl rfl
theorem dX6_near_0 : decode cX6_near 0 = .ok (.iload_n 1, 1) := dk_27 (dk_at dksX6_near_0 0 rfl rfl)
theorem dX6_near_1 : decode cX6_near 1 = .ok (.iconst 1, 1) := dk_4 (dk_at dksX6_near_0 1 rfl rfl)
theorem dX6_near_2 : decode cX6_near 2 = .ok (.bipush 12, 2) := dk_16 12 (dk_at dksX6_near_0 2 rfl rfl)
theorem dX6_near_4 : decode cX6_near 4 = .ok (.invokestatic 139, 3) := dk_184 0 139 (dk_at dksX6_near_0 4 rfl rfl)
theorem dX6_near_7 : decode cX6_near 7 = .ok (.ifCond .eq 20, 3) := dk_153 0 20 (dk_at dksX6_near_0 7 rfl rfl)
theorem dX6_near_10 : decode cX6_near 10 = .ok (.iload_n 2, 1) := dk_28 (dk_at dksX6_near_0 10 rfl rfl)
theorem dX6_near_11 : decode cX6_near 11 = .ok (.iconst 0, 1) := dk_3 (dk_at dksX6_near_0 11 rfl rfl)
theorem dX6_near_12 : decode cX6_near 12 = .ok (.iconst 2, 1) := dk_5 (dk_at dksX6_near_0 12 rfl rfl)
theorem dX6_near_13 : decode cX6_near 13 = .ok (.invokestatic 139, 3) := dk_184 0 139 (dk_at dksX6_near_0 13 rfl rfl)
theorem dX6_near_16 : decode cX6_near 16 = .ok (.ifCond .eq 11, 3) := dk_153 0 11 (dk_at dksX6_near_0 16 rfl rfl)
theorem dX6_near_19 : decode cX6_near 19 = .ok (.iload_n 1, 1) := dk_27 (dk_at dksX6_near_0 19 rfl rfl)
theorem dX6_near_20 : decode cX6_near 20 = .ok (.aload_n 0, 1) := dk_42 (dk_at dksX6_near_0 20 rfl rfl)
theorem dX6_near_21 : decode cX6_near 21 = .ok (.getfield 133, 3) := dk_180 0 133 (dk_at dksX6_near_0 21 rfl rfl)
theorem dX6_near_24 : decode cX6_near 24 = .ok (.if_icmp .le 5, 3) := dk_164 0 5 (dk_at dksX6_near_1 0 rfl rfl)
theorem dX6_near_27 : decode cX6_near 27 = .ok (.iconst (-1), 1) := dk_2 (dk_at dksX6_near_1 3 rfl rfl)
theorem dX6_near_28 : decode cX6_near 28 = .ok (.ireturn, 1) := dk_172 (dk_at dksX6_near_1 4 rfl rfl)
theorem dX6_near_29 : decode cX6_near 29 = .ok (.aload_n 0, 1) := dk_42 (dk_at dksX6_near_1 5 rfl rfl)
theorem dX6_near_30 : decode cX6_near 30 = .ok (.iload_n 1, 1) := dk_27 (dk_at dksX6_near_1 6 rfl rfl)
theorem dX6_near_31 : decode cX6_near 31 = .ok (.invokevirtual 147, 3) := dk_182 0 147 (dk_at dksX6_near_1 7 rfl rfl)
theorem dX6_near_34 : decode cX6_near 34 = .ok (.ifCond .ne 6, 3) := dk_154 0 6 (dk_at dksX6_near_1 10 rfl rfl)
theorem dX6_near_37 : decode cX6_near 37 = .ok (.bipush (-2), 2) := dk_16 254 (dk_at dksX6_near_1 13 rfl rfl)
theorem dX6_near_39 : decode cX6_near 39 = .ok (.ireturn, 1) := dk_172 (dk_at dksX6_near_1 15 rfl rfl)
theorem dX6_near_40 : decode cX6_near 40 = .ok (.ldc 129, 2) := dk_18 129 (dk_at dksX6_near_1 16 rfl rfl)
theorem dX6_near_42 : decode cX6_near 42 = .ok (.istore_n 3, 1) := dk_62 (dk_at dksX6_near_1 18 rfl rfl)
theorem dX6_near_43 : decode cX6_near 43 = .ok (.iconst (-1), 1) := dk_2 (dk_at dksX6_near_1 19 rfl rfl)
theorem dX6_near_44 : decode cX6_near 44 = .ok (.istore 4, 2) := dk_54 4 (dk_at dksX6_near_1 20 rfl rfl)
theorem dX6_near_46 : decode cX6_near 46 = .ok (.iconst 0, 1) := dk_3 (dk_at dksX6_near_1 22 rfl rfl)
theorem dX6_near_47 : decode cX6_near 47 = .ok (.istore 5, 2) := dk_54 5 (dk_at dksX6_near_2 0 rfl rfl)
theorem dX6_near_49 : decode cX6_near 49 = .ok (.iconst 0, 1) := dk_3 (dk_at dksX6_near_2 2 rfl rfl)
theorem dX6_near_50 : decode cX6_near 50 = .ok (.istore 6, 2) := dk_54 6 (dk_at dksX6_near_2 3 rfl rfl)
theorem dX6_near_52 : decode cX6_near 52 = .ok (.iload 6, 2) := dk_21 6 (dk_at dksX6_near_2 5 rfl rfl)
theorem dX6_near_54 : decode cX6_near 54 = .ok (.aload_n 0, 1) := dk_42 (dk_at dksX6_near_2 7 rfl rfl)
theorem dX6_near_55 : decode cX6_near 55 = .ok (.getfield 130, 3) := dk_180 0 130 (dk_at dksX6_near_2 8 rfl rfl)
theorem dX6_near_58 : decode cX6_near 58 = .ok (.if_icmp .ge 78, 3) := dk_162 0 78 (dk_at dksX6_near_2 11 rfl rfl)
theorem dX6_near_61 : decode cX6_near 61 = .ok (.aload_n 0, 1) := dk_42 (dk_at dksX6_near_2 14 rfl rfl)
theorem dX6_near_62 : decode cX6_near 62 = .ok (.iload 6, 2) := dk_21 6 (dk_at dksX6_near_2 15 rfl rfl)
theorem dX6_near_64 : decode cX6_near 64 = .ok (.invokevirtual 282, 3) := dk_182 1 26 (dk_at dksX6_near_2 17 rfl rfl)
theorem dX6_near_67 : decode cX6_near 67 = .ok (.ifCond .ne 6, 3) := dk_154 0 6 (dk_at dksX6_near_2 20 rfl rfl)
theorem dX6_near_70 : decode cX6_near 70 = .ok (.goto 60, 3) := dk_167 0 60 (dk_at dksX6_near_3 0 rfl rfl)
theorem dX6_near_73 : decode cX6_near 73 = .ok (.aload_n 0, 1) := dk_42 (dk_at dksX6_near_3 3 rfl rfl)
theorem dX6_near_74 : decode cX6_near 74 = .ok (.iload 6, 2) := dk_21 6 (dk_at dksX6_near_3 4 rfl rfl)
theorem dX6_near_76 : decode cX6_near 76 = .ok (.invokevirtual 389, 3) := dk_182 1 133 (dk_at dksX6_near_3 6 rfl rfl)
theorem dX6_near_79 : decode cX6_near 79 = .ok (.istore 7, 2) := dk_54 7 (dk_at dksX6_near_3 9 rfl rfl)
theorem dX6_near_81 : decode cX6_near 81 = .ok (.iload 7, 2) := dk_21 7 (dk_at dksX6_near_3 11 rfl rfl)
theorem dX6_near_83 : decode cX6_near 83 = .ok (.iload_n 3, 1) := dk_29 (dk_at dksX6_near_3 13 rfl rfl)
theorem dX6_near_84 : decode cX6_near 84 = .ok (.if_icmp .ge 7, 3) := dk_162 0 7 (dk_at dksX6_near_3 14 rfl rfl)
theorem dX6_near_87 : decode cX6_near 87 = .ok (.iconst 1, 1) := dk_4 (dk_at dksX6_near_3 17 rfl rfl)
theorem dX6_near_88 : decode cX6_near 88 = .ok (.goto 18, 3) := dk_167 0 18 (dk_at dksX6_near_3 18 rfl rfl)
theorem dX6_near_91 : decode cX6_near 91 = .ok (.iload 7, 2) := dk_21 7 (dk_at dksX6_near_3 21 rfl rfl)
theorem dX6_near_93 : decode cX6_near 93 = .ok (.iload_n 3, 1) := dk_29 (dk_at dksX6_near_3 23 rfl rfl)
theorem dX6_near_94 : decode cX6_near 94 = .ok (.if_icmp .ne 10, 3) := dk_160 0 10 (dk_at dksX6_near_4 0 rfl rfl)
theorem dX6_near_97 : decode cX6_near 97 = .ok (.iload 5, 2) := dk_21 5 (dk_at dksX6_near_4 3 rfl rfl)
theorem dX6_near_99 : decode cX6_near 99 = .ok (.iconst 1, 1) := dk_4 (dk_at dksX6_near_4 5 rfl rfl)
theorem dX6_near_100 : decode cX6_near 100 = .ok (.iadd, 1) := dk_96 (dk_at dksX6_near_4 6 rfl rfl)
theorem dX6_near_101 : decode cX6_near 101 = .ok (.goto 5, 3) := dk_167 0 5 (dk_at dksX6_near_4 7 rfl rfl)
theorem dX6_near_104 : decode cX6_near 104 = .ok (.iload 5, 2) := dk_21 5 (dk_at dksX6_near_4 10 rfl rfl)
theorem dX6_near_106 : decode cX6_near 106 = .ok (.istore 5, 2) := dk_54 5 (dk_at dksX6_near_4 12 rfl rfl)
theorem dX6_near_108 : decode cX6_near 108 = .ok (.iload 7, 2) := dk_21 7 (dk_at dksX6_near_4 14 rfl rfl)
theorem dX6_near_110 : decode cX6_near 110 = .ok (.iload_n 3, 1) := dk_29 (dk_at dksX6_near_4 16 rfl rfl)
theorem dX6_near_111 : decode cX6_near 111 = .ok (.if_icmp .ge 8, 3) := dk_162 0 8 (dk_at dksX6_near_4 17 rfl rfl)
theorem dX6_near_114 : decode cX6_near 114 = .ok (.iload 6, 2) := dk_21 6 (dk_at dksX6_near_4 20 rfl rfl)
theorem dX6_near_116 : decode cX6_near 116 = .ok (.goto 5, 3) := dk_167 0 5 (dk_at dksX6_near_5 0 rfl rfl)
theorem dX6_near_119 : decode cX6_near 119 = .ok (.iload 4, 2) := dk_21 4 (dk_at dksX6_near_5 3 rfl rfl)
theorem dX6_near_121 : decode cX6_near 121 = .ok (.istore 4, 2) := dk_54 4 (dk_at dksX6_near_5 5 rfl rfl)
theorem dX6_near_123 : decode cX6_near 123 = .ok (.iload_n 3, 1) := dk_29 (dk_at dksX6_near_5 7 rfl rfl)
theorem dX6_near_124 : decode cX6_near 124 = .ok (.iload 7, 2) := dk_21 7 (dk_at dksX6_near_5 8 rfl rfl)
theorem dX6_near_126 : decode cX6_near 126 = .ok (.invokestatic 303, 3) := dk_184 1 47 (dk_at dksX6_near_5 10 rfl rfl)
theorem dX6_near_129 : decode cX6_near 129 = .ok (.istore_n 3, 1) := dk_62 (dk_at dksX6_near_5 13 rfl rfl)
theorem dX6_near_130 : decode cX6_near 130 = .ok (.iinc 6 1, 3) := dk_132 6 1 (dk_at dksX6_near_5 14 rfl rfl)
theorem dX6_near_133 : decode cX6_near 133 = .ok (.goto (-81), 3) := dk_167 255 175 (dk_at dksX6_near_5 17 rfl rfl)
theorem dX6_near_136 : decode cX6_near 136 = .ok (.iload 4, 2) := dk_21 4 (dk_at dksX6_near_5 20 rfl rfl)
theorem dX6_near_138 : decode cX6_near 138 = .ok (.iconst (-1), 1) := dk_2 (dk_at dksX6_near_5 22 rfl rfl)
theorem dX6_near_139 : decode cX6_near 139 = .ok (.if_icmp .ne 6, 3) := dk_160 0 6 (dk_at dksX6_near_6 0 rfl rfl)
theorem dX6_near_142 : decode cX6_near 142 = .ok (.bipush (-2), 2) := dk_16 254 (dk_at dksX6_near_6 3 rfl rfl)
theorem dX6_near_144 : decode cX6_near 144 = .ok (.ireturn, 1) := dk_172 (dk_at dksX6_near_6 5 rfl rfl)
theorem dX6_near_145 : decode cX6_near 145 = .ok (.iload_n 2, 1) := dk_28 (dk_at dksX6_near_6 6 rfl rfl)
theorem dX6_near_146 : decode cX6_near 146 = .ok (.ifCond .ne 7, 3) := dk_154 0 7 (dk_at dksX6_near_6 7 rfl rfl)
theorem dX6_near_149 : decode cX6_near 149 = .ok (.iload_n 3, 1) := dk_29 (dk_at dksX6_near_6 10 rfl rfl)
theorem dX6_near_150 : decode cX6_near 150 = .ok (.goto 15, 3) := dk_167 0 15 (dk_at dksX6_near_6 11 rfl rfl)
theorem dX6_near_153 : decode cX6_near 153 = .ok (.iload_n 2, 1) := dk_28 (dk_at dksX6_near_6 14 rfl rfl)
theorem dX6_near_154 : decode cX6_near 154 = .ok (.iconst 1, 1) := dk_4 (dk_at dksX6_near_6 15 rfl rfl)
theorem dX6_near_155 : decode cX6_near 155 = .ok (.if_icmp .ne 8, 3) := dk_160 0 8 (dk_at dksX6_near_6 16 rfl rfl)
theorem dX6_near_158 : decode cX6_near 158 = .ok (.iload 4, 2) := dk_21 4 (dk_at dksX6_near_6 19 rfl rfl)
theorem dX6_near_160 : decode cX6_near 160 = .ok (.goto 5, 3) := dk_167 0 5 (dk_at dksX6_near_6 21 rfl rfl)
theorem dX6_near_163 : decode cX6_near 163 = .ok (.iload 5, 2) := dk_21 5 (dk_at dksX6_near_7 0 rfl rfl)
theorem dX6_near_165 : decode cX6_near 165 = .ok (.ireturn, 1) := dk_172 (dk_at dksX6_near_7 2 rfl rfl)
abbrev cX6_clear : ByteArray := prog_17_method_90_code
def yX6_clear : MethodName := ⟨RX6, "clear", "(III)I"⟩
def dkwX6_clear_8 : List UInt8 := [21, 4, 184, 1, 139, 167, 0, 5, 21, 4, 172]
abbrev dktX6_clear_8 : List UInt8 := dkwX6_clear_8 ++ []
def dkwX6_clear_7 : List UInt8 := [42, 21, 5, 27, 182, 1, 142, 153, 0, 7, 21, 5, 54, 4, 132, 5, 1, 167, 255, 218, 29, 154, 0, 11]
abbrev dktX6_clear_7 : List UInt8 := dkwX6_clear_7 ++ dktX6_clear_8
def dkwX6_clear_6 : List UInt8 := [4, 54, 5, 21, 5, 4, 27, 120, 162, 0, 36, 21, 5, 184, 1, 139, 21, 4, 184, 1, 139, 164, 0, 17]
abbrev dktX6_clear_6 : List UInt8 := dkwX6_clear_6 ++ dktX6_clear_7
def dkwX6_clear_5 : List UInt8 := [21, 4, 46, 4, 21, 5, 120, 128, 79, 132, 5, 1, 167, 255, 199, 132, 4, 1, 167, 255, 176, 3, 54, 4]
abbrev dktX6_clear_5 : List UInt8 := dkwX6_clear_5 ++ dktX6_clear_6
def dkwX6_clear_4 : List UInt8 := [180, 0, 103, 21, 5, 46, 182, 1, 136, 28, 162, 0, 22, 42, 180, 0, 113, 21, 4, 42, 180, 0, 113]
abbrev dktX6_clear_4 : List UInt8 := dkwX6_clear_4 ++ dktX6_clear_5
def dkwX6_clear_3 : List UInt8 := [21, 5, 27, 162, 0, 57, 21, 5, 21, 4, 159, 0, 44, 42, 42, 180, 0, 103, 21, 4, 46, 42]
abbrev dktX6_clear_3 : List UInt8 := dkwX6_clear_3 ++ dktX6_clear_4
def dkwX6_clear_2 : List UInt8 := [16, 253, 172, 3, 54, 4, 21, 4, 27, 162, 0, 80, 42, 180, 0, 113, 21, 4, 3, 79, 3, 54, 5]
abbrev dktX6_clear_2 : List UInt8 := dkwX6_clear_2 ++ dktX6_clear_3
def dkwX6_clear_1 : List UInt8 := [184, 0, 139, 153, 0, 11, 27, 42, 180, 0, 133, 164, 0, 5, 2, 172, 42, 27, 182, 1, 121, 154, 0, 6]
abbrev dktX6_clear_1 : List UInt8 := dkwX6_clear_1 ++ dktX6_clear_2
def dkwX6_clear_0 : List UInt8 := [27, 4, 16, 14, 184, 0, 139, 153, 0, 30, 28, 4, 16, 9, 184, 0, 139, 153, 0, 20, 29, 3, 4]
abbrev dktX6_clear_0 : List UInt8 := dkwX6_clear_0 ++ dktX6_clear_1
theorem dksX6_clear_0 : cX6_clear.data.toList.drop 0 = dktX6_clear_0 := by decide +kernel
theorem dksX6_clear_1 : cX6_clear.data.toList.drop 23 = dktX6_clear_1 := dk_seg dksX6_clear_0 23 rfl rfl
theorem dksX6_clear_2 : cX6_clear.data.toList.drop 47 = dktX6_clear_2 := dk_seg dksX6_clear_1 24 rfl rfl
theorem dksX6_clear_3 : cX6_clear.data.toList.drop 70 = dktX6_clear_3 := dk_seg dksX6_clear_2 23 rfl rfl
theorem dksX6_clear_4 : cX6_clear.data.toList.drop 92 = dktX6_clear_4 := dk_seg dksX6_clear_3 22 rfl rfl
theorem dksX6_clear_5 : cX6_clear.data.toList.drop 115 = dktX6_clear_5 := dk_seg dksX6_clear_4 23 rfl rfl
theorem dksX6_clear_6 : cX6_clear.data.toList.drop 139 = dktX6_clear_6 := dk_seg dksX6_clear_5 24 rfl rfl
theorem dksX6_clear_7 : cX6_clear.data.toList.drop 163 = dktX6_clear_7 := dk_seg dksX6_clear_6 24 rfl rfl
theorem dksX6_clear_8 : cX6_clear.data.toList.drop 187 = dktX6_clear_8 := dk_seg dksX6_clear_7 24 rfl rfl
theorem dX6_clear_0 : decode cX6_clear 0 = .ok (.iload_n 1, 1) := dk_27 (dk_at dksX6_clear_0 0 rfl rfl)
theorem dX6_clear_1 : decode cX6_clear 1 = .ok (.iconst 1, 1) := dk_4 (dk_at dksX6_clear_0 1 rfl rfl)
theorem dX6_clear_2 : decode cX6_clear 2 = .ok (.bipush 14, 2) := dk_16 14 (dk_at dksX6_clear_0 2 rfl rfl)
theorem dX6_clear_4 : decode cX6_clear 4 = .ok (.invokestatic 139, 3) := dk_184 0 139 (dk_at dksX6_clear_0 4 rfl rfl)
theorem dX6_clear_7 : decode cX6_clear 7 = .ok (.ifCond .eq 30, 3) := dk_153 0 30 (dk_at dksX6_clear_0 7 rfl rfl)
theorem dX6_clear_10 : decode cX6_clear 10 = .ok (.iload_n 2, 1) := dk_28 (dk_at dksX6_clear_0 10 rfl rfl)
theorem dX6_clear_11 : decode cX6_clear 11 = .ok (.iconst 1, 1) := dk_4 (dk_at dksX6_clear_0 11 rfl rfl)
theorem dX6_clear_12 : decode cX6_clear 12 = .ok (.bipush 9, 2) := dk_16 9 (dk_at dksX6_clear_0 12 rfl rfl)
theorem dX6_clear_14 : decode cX6_clear 14 = .ok (.invokestatic 139, 3) := dk_184 0 139 (dk_at dksX6_clear_0 14 rfl rfl)
theorem dX6_clear_17 : decode cX6_clear 17 = .ok (.ifCond .eq 20, 3) := dk_153 0 20 (dk_at dksX6_clear_0 17 rfl rfl)
theorem dX6_clear_20 : decode cX6_clear 20 = .ok (.iload_n 3, 1) := dk_29 (dk_at dksX6_clear_0 20 rfl rfl)
theorem dX6_clear_21 : decode cX6_clear 21 = .ok (.iconst 0, 1) := dk_3 (dk_at dksX6_clear_0 21 rfl rfl)
theorem dX6_clear_22 : decode cX6_clear 22 = .ok (.iconst 1, 1) := dk_4 (dk_at dksX6_clear_0 22 rfl rfl)
theorem dX6_clear_23 : decode cX6_clear 23 = .ok (.invokestatic 139, 3) := dk_184 0 139 (dk_at dksX6_clear_1 0 rfl rfl)
theorem dX6_clear_26 : decode cX6_clear 26 = .ok (.ifCond .eq 11, 3) := dk_153 0 11 (dk_at dksX6_clear_1 3 rfl rfl)
theorem dX6_clear_29 : decode cX6_clear 29 = .ok (.iload_n 1, 1) := dk_27 (dk_at dksX6_clear_1 6 rfl rfl)
theorem dX6_clear_30 : decode cX6_clear 30 = .ok (.aload_n 0, 1) := dk_42 (dk_at dksX6_clear_1 7 rfl rfl)
theorem dX6_clear_31 : decode cX6_clear 31 = .ok (.getfield 133, 3) := dk_180 0 133 (dk_at dksX6_clear_1 8 rfl rfl)
theorem dX6_clear_34 : decode cX6_clear 34 = .ok (.if_icmp .le 5, 3) := dk_164 0 5 (dk_at dksX6_clear_1 11 rfl rfl)
theorem dX6_clear_37 : decode cX6_clear 37 = .ok (.iconst (-1), 1) := dk_2 (dk_at dksX6_clear_1 14 rfl rfl)
theorem dX6_clear_38 : decode cX6_clear 38 = .ok (.ireturn, 1) := dk_172 (dk_at dksX6_clear_1 15 rfl rfl)
theorem dX6_clear_39 : decode cX6_clear 39 = .ok (.aload_n 0, 1) := dk_42 (dk_at dksX6_clear_1 16 rfl rfl)
theorem dX6_clear_40 : decode cX6_clear 40 = .ok (.iload_n 1, 1) := dk_27 (dk_at dksX6_clear_1 17 rfl rfl)
theorem dX6_clear_41 : decode cX6_clear 41 = .ok (.invokevirtual 377, 3) := dk_182 1 121 (dk_at dksX6_clear_1 18 rfl rfl)
theorem dX6_clear_44 : decode cX6_clear 44 = .ok (.ifCond .ne 6, 3) := dk_154 0 6 (dk_at dksX6_clear_1 21 rfl rfl)
theorem dX6_clear_47 : decode cX6_clear 47 = .ok (.bipush (-3), 2) := dk_16 253 (dk_at dksX6_clear_2 0 rfl rfl)
theorem dX6_clear_49 : decode cX6_clear 49 = .ok (.ireturn, 1) := dk_172 (dk_at dksX6_clear_2 2 rfl rfl)
theorem dX6_clear_50 : decode cX6_clear 50 = .ok (.iconst 0, 1) := dk_3 (dk_at dksX6_clear_2 3 rfl rfl)
theorem dX6_clear_51 : decode cX6_clear 51 = .ok (.istore 4, 2) := dk_54 4 (dk_at dksX6_clear_2 4 rfl rfl)
theorem dX6_clear_53 : decode cX6_clear 53 = .ok (.iload 4, 2) := dk_21 4 (dk_at dksX6_clear_2 6 rfl rfl)
theorem dX6_clear_55 : decode cX6_clear 55 = .ok (.iload_n 1, 1) := dk_27 (dk_at dksX6_clear_2 8 rfl rfl)
theorem dX6_clear_56 : decode cX6_clear 56 = .ok (.if_icmp .ge 80, 3) := dk_162 0 80 (dk_at dksX6_clear_2 9 rfl rfl)
theorem dX6_clear_59 : decode cX6_clear 59 = .ok (.aload_n 0, 1) := dk_42 (dk_at dksX6_clear_2 12 rfl rfl)
theorem dX6_clear_60 : decode cX6_clear 60 = .ok (.getfield 113, 3) := dk_180 0 113 (dk_at dksX6_clear_2 13 rfl rfl)
theorem dX6_clear_63 : decode cX6_clear 63 = .ok (.iload 4, 2) := dk_21 4 (dk_at dksX6_clear_2 16 rfl rfl)
theorem dX6_clear_65 : decode cX6_clear 65 = .ok (.iconst 0, 1) := dk_3 (dk_at dksX6_clear_2 18 rfl rfl)
theorem dX6_clear_66 : decode cX6_clear 66 = .ok (.iastore, 1) := dk_79 (dk_at dksX6_clear_2 19 rfl rfl)
theorem dX6_clear_67 : decode cX6_clear 67 = .ok (.iconst 0, 1) := dk_3 (dk_at dksX6_clear_2 20 rfl rfl)
theorem dX6_clear_68 : decode cX6_clear 68 = .ok (.istore 5, 2) := dk_54 5 (dk_at dksX6_clear_2 21 rfl rfl)
theorem dX6_clear_70 : decode cX6_clear 70 = .ok (.iload 5, 2) := dk_21 5 (dk_at dksX6_clear_3 0 rfl rfl)
theorem dX6_clear_72 : decode cX6_clear 72 = .ok (.iload_n 1, 1) := dk_27 (dk_at dksX6_clear_3 2 rfl rfl)
theorem dX6_clear_73 : decode cX6_clear 73 = .ok (.if_icmp .ge 57, 3) := dk_162 0 57 (dk_at dksX6_clear_3 3 rfl rfl)
theorem dX6_clear_76 : decode cX6_clear 76 = .ok (.iload 5, 2) := dk_21 5 (dk_at dksX6_clear_3 6 rfl rfl)
theorem dX6_clear_78 : decode cX6_clear 78 = .ok (.iload 4, 2) := dk_21 4 (dk_at dksX6_clear_3 8 rfl rfl)
theorem dX6_clear_80 : decode cX6_clear 80 = .ok (.if_icmp .eq 44, 3) := dk_159 0 44 (dk_at dksX6_clear_3 10 rfl rfl)
theorem dX6_clear_83 : decode cX6_clear 83 = .ok (.aload_n 0, 1) := dk_42 (dk_at dksX6_clear_3 13 rfl rfl)
theorem dX6_clear_84 : decode cX6_clear 84 = .ok (.aload_n 0, 1) := dk_42 (dk_at dksX6_clear_3 14 rfl rfl)
theorem dX6_clear_85 : decode cX6_clear 85 = .ok (.getfield 103, 3) := dk_180 0 103 (dk_at dksX6_clear_3 15 rfl rfl)
theorem dX6_clear_88 : decode cX6_clear 88 = .ok (.iload 4, 2) := dk_21 4 (dk_at dksX6_clear_3 18 rfl rfl)
theorem dX6_clear_90 : decode cX6_clear 90 = .ok (.iaload, 1) := dk_46 (dk_at dksX6_clear_3 20 rfl rfl)
theorem dX6_clear_91 : decode cX6_clear 91 = .ok (.aload_n 0, 1) := dk_42 (dk_at dksX6_clear_3 21 rfl rfl)
theorem dX6_clear_92 : decode cX6_clear 92 = .ok (.getfield 103, 3) := dk_180 0 103 (dk_at dksX6_clear_4 0 rfl rfl)
theorem dX6_clear_95 : decode cX6_clear 95 = .ok (.iload 5, 2) := dk_21 5 (dk_at dksX6_clear_4 3 rfl rfl)
theorem dX6_clear_97 : decode cX6_clear 97 = .ok (.iaload, 1) := dk_46 (dk_at dksX6_clear_4 5 rfl rfl)
theorem dX6_clear_98 : decode cX6_clear 98 = .ok (.invokevirtual 392, 3) := dk_182 1 136 (dk_at dksX6_clear_4 6 rfl rfl)
theorem dX6_clear_101 : decode cX6_clear 101 = .ok (.iload_n 2, 1) := dk_28 (dk_at dksX6_clear_4 9 rfl rfl)
theorem dX6_clear_102 : decode cX6_clear 102 = .ok (.if_icmp .ge 22, 3) := dk_162 0 22 (dk_at dksX6_clear_4 10 rfl rfl)
theorem dX6_clear_105 : decode cX6_clear 105 = .ok (.aload_n 0, 1) := dk_42 (dk_at dksX6_clear_4 13 rfl rfl)
theorem dX6_clear_106 : decode cX6_clear 106 = .ok (.getfield 113, 3) := dk_180 0 113 (dk_at dksX6_clear_4 14 rfl rfl)
theorem dX6_clear_109 : decode cX6_clear 109 = .ok (.iload 4, 2) := dk_21 4 (dk_at dksX6_clear_4 17 rfl rfl)
theorem dX6_clear_111 : decode cX6_clear 111 = .ok (.aload_n 0, 1) := dk_42 (dk_at dksX6_clear_4 19 rfl rfl)
theorem dX6_clear_112 : decode cX6_clear 112 = .ok (.getfield 113, 3) := dk_180 0 113 (dk_at dksX6_clear_4 20 rfl rfl)
theorem dX6_clear_115 : decode cX6_clear 115 = .ok (.iload 4, 2) := dk_21 4 (dk_at dksX6_clear_5 0 rfl rfl)
theorem dX6_clear_117 : decode cX6_clear 117 = .ok (.iaload, 1) := dk_46 (dk_at dksX6_clear_5 2 rfl rfl)
theorem dX6_clear_118 : decode cX6_clear 118 = .ok (.iconst 1, 1) := dk_4 (dk_at dksX6_clear_5 3 rfl rfl)
theorem dX6_clear_119 : decode cX6_clear 119 = .ok (.iload 5, 2) := dk_21 5 (dk_at dksX6_clear_5 4 rfl rfl)
theorem dX6_clear_121 : decode cX6_clear 121 = .ok (.ishl, 1) := dk_120 (dk_at dksX6_clear_5 6 rfl rfl)
theorem dX6_clear_122 : decode cX6_clear 122 = .ok (.ior, 1) := dk_128 (dk_at dksX6_clear_5 7 rfl rfl)
theorem dX6_clear_123 : decode cX6_clear 123 = .ok (.iastore, 1) := dk_79 (dk_at dksX6_clear_5 8 rfl rfl)
theorem dX6_clear_124 : decode cX6_clear 124 = .ok (.iinc 5 1, 3) := dk_132 5 1 (dk_at dksX6_clear_5 9 rfl rfl)
theorem dX6_clear_127 : decode cX6_clear 127 = .ok (.goto (-57), 3) := dk_167 255 199 (dk_at dksX6_clear_5 12 rfl rfl)
theorem dX6_clear_130 : decode cX6_clear 130 = .ok (.iinc 4 1, 3) := dk_132 4 1 (dk_at dksX6_clear_5 15 rfl rfl)
theorem dX6_clear_133 : decode cX6_clear 133 = .ok (.goto (-80), 3) := dk_167 255 176 (dk_at dksX6_clear_5 18 rfl rfl)
theorem dX6_clear_136 : decode cX6_clear 136 = .ok (.iconst 0, 1) := dk_3 (dk_at dksX6_clear_5 21 rfl rfl)
theorem dX6_clear_137 : decode cX6_clear 137 = .ok (.istore 4, 2) := dk_54 4 (dk_at dksX6_clear_5 22 rfl rfl)
theorem dX6_clear_139 : decode cX6_clear 139 = .ok (.iconst 1, 1) := dk_4 (dk_at dksX6_clear_6 0 rfl rfl)
theorem dX6_clear_140 : decode cX6_clear 140 = .ok (.istore 5, 2) := dk_54 5 (dk_at dksX6_clear_6 1 rfl rfl)
theorem dX6_clear_142 : decode cX6_clear 142 = .ok (.iload 5, 2) := dk_21 5 (dk_at dksX6_clear_6 3 rfl rfl)
theorem dX6_clear_144 : decode cX6_clear 144 = .ok (.iconst 1, 1) := dk_4 (dk_at dksX6_clear_6 5 rfl rfl)
theorem dX6_clear_145 : decode cX6_clear 145 = .ok (.iload_n 1, 1) := dk_27 (dk_at dksX6_clear_6 6 rfl rfl)
theorem dX6_clear_146 : decode cX6_clear 146 = .ok (.ishl, 1) := dk_120 (dk_at dksX6_clear_6 7 rfl rfl)
theorem dX6_clear_147 : decode cX6_clear 147 = .ok (.if_icmp .ge 36, 3) := dk_162 0 36 (dk_at dksX6_clear_6 8 rfl rfl)
theorem dX6_clear_150 : decode cX6_clear 150 = .ok (.iload 5, 2) := dk_21 5 (dk_at dksX6_clear_6 11 rfl rfl)
theorem dX6_clear_152 : decode cX6_clear 152 = .ok (.invokestatic 395, 3) := dk_184 1 139 (dk_at dksX6_clear_6 13 rfl rfl)
theorem dX6_clear_155 : decode cX6_clear 155 = .ok (.iload 4, 2) := dk_21 4 (dk_at dksX6_clear_6 16 rfl rfl)
theorem dX6_clear_157 : decode cX6_clear 157 = .ok (.invokestatic 395, 3) := dk_184 1 139 (dk_at dksX6_clear_6 18 rfl rfl)
theorem dX6_clear_160 : decode cX6_clear 160 = .ok (.if_icmp .le 17, 3) := dk_164 0 17 (dk_at dksX6_clear_6 21 rfl rfl)
theorem dX6_clear_163 : decode cX6_clear 163 = .ok (.aload_n 0, 1) := dk_42 (dk_at dksX6_clear_7 0 rfl rfl)
theorem dX6_clear_164 : decode cX6_clear 164 = .ok (.iload 5, 2) := dk_21 5 (dk_at dksX6_clear_7 1 rfl rfl)
theorem dX6_clear_166 : decode cX6_clear 166 = .ok (.iload_n 1, 1) := dk_27 (dk_at dksX6_clear_7 3 rfl rfl)
theorem dX6_clear_167 : decode cX6_clear 167 = .ok (.invokevirtual 398, 3) := dk_182 1 142 (dk_at dksX6_clear_7 4 rfl rfl)
theorem dX6_clear_170 : decode cX6_clear 170 = .ok (.ifCond .eq 7, 3) := dk_153 0 7 (dk_at dksX6_clear_7 7 rfl rfl)
theorem dX6_clear_173 : decode cX6_clear 173 = .ok (.iload 5, 2) := dk_21 5 (dk_at dksX6_clear_7 10 rfl rfl)
theorem dX6_clear_175 : decode cX6_clear 175 = .ok (.istore 4, 2) := dk_54 4 (dk_at dksX6_clear_7 12 rfl rfl)
theorem dX6_clear_177 : decode cX6_clear 177 = .ok (.iinc 5 1, 3) := dk_132 5 1 (dk_at dksX6_clear_7 14 rfl rfl)
theorem dX6_clear_180 : decode cX6_clear 180 = .ok (.goto (-38), 3) := dk_167 255 218 (dk_at dksX6_clear_7 17 rfl rfl)
theorem dX6_clear_183 : decode cX6_clear 183 = .ok (.iload_n 3, 1) := dk_29 (dk_at dksX6_clear_7 20 rfl rfl)
theorem dX6_clear_184 : decode cX6_clear 184 = .ok (.ifCond .ne 11, 3) := dk_154 0 11 (dk_at dksX6_clear_7 21 rfl rfl)
theorem dX6_clear_187 : decode cX6_clear 187 = .ok (.iload 4, 2) := dk_21 4 (dk_at dksX6_clear_8 0 rfl rfl)
theorem dX6_clear_189 : decode cX6_clear 189 = .ok (.invokestatic 395, 3) := dk_184 1 139 (dk_at dksX6_clear_8 2 rfl rfl)
theorem dX6_clear_192 : decode cX6_clear 192 = .ok (.goto 5, 3) := dk_167 0 5 (dk_at dksX6_clear_8 5 rfl rfl)
theorem dX6_clear_195 : decode cX6_clear 195 = .ok (.iload 4, 2) := dk_21 4 (dk_at dksX6_clear_8 8 rfl rfl)
theorem dX6_clear_197 : decode cX6_clear 197 = .ok (.ireturn, 1) := dk_172 (dk_at dksX6_clear_8 10 rfl rfl)
abbrev cX6_bits : ByteArray := prog_17_method_5_code
def yX6_bits : MethodName := ⟨RX6, "bits", "(I)I"⟩
def dkwX6_bits_1 : List UInt8 := [27, 172]
abbrev dktX6_bits_1 : List UInt8 := dkwX6_bits_1 ++ []
def dkwX6_bits_0 : List UInt8 := [3, 60, 3, 61, 28, 16, 14, 162, 0, 17, 27, 26, 28, 122, 4, 126, 96, 60, 132, 2, 1, 167, 255, 239]
abbrev dktX6_bits_0 : List UInt8 := dkwX6_bits_0 ++ dktX6_bits_1
theorem dksX6_bits_0 : cX6_bits.data.toList.drop 0 = dktX6_bits_0 := by decide +kernel
theorem dksX6_bits_1 : cX6_bits.data.toList.drop 24 = dktX6_bits_1 := dk_seg dksX6_bits_0 24 rfl rfl
theorem dX6_bits_0 : decode cX6_bits 0 = .ok (.iconst 0, 1) := dk_3 (dk_at dksX6_bits_0 0 rfl rfl)
theorem dX6_bits_1 : decode cX6_bits 1 = .ok (.istore_n 1, 1) := dk_60 (dk_at dksX6_bits_0 1 rfl rfl)
theorem dX6_bits_2 : decode cX6_bits 2 = .ok (.iconst 0, 1) := dk_3 (dk_at dksX6_bits_0 2 rfl rfl)
theorem dX6_bits_3 : decode cX6_bits 3 = .ok (.istore_n 2, 1) := dk_61 (dk_at dksX6_bits_0 3 rfl rfl)
theorem dX6_bits_4 : decode cX6_bits 4 = .ok (.iload_n 2, 1) := dk_28 (dk_at dksX6_bits_0 4 rfl rfl)
theorem dX6_bits_5 : decode cX6_bits 5 = .ok (.bipush 14, 2) := dk_16 14 (dk_at dksX6_bits_0 5 rfl rfl)
theorem dX6_bits_7 : decode cX6_bits 7 = .ok (.if_icmp .ge 17, 3) := dk_162 0 17 (dk_at dksX6_bits_0 7 rfl rfl)
theorem dX6_bits_10 : decode cX6_bits 10 = .ok (.iload_n 1, 1) := dk_27 (dk_at dksX6_bits_0 10 rfl rfl)
theorem dX6_bits_11 : decode cX6_bits 11 = .ok (.iload_n 0, 1) := dk_26 (dk_at dksX6_bits_0 11 rfl rfl)
theorem dX6_bits_12 : decode cX6_bits 12 = .ok (.iload_n 2, 1) := dk_28 (dk_at dksX6_bits_0 12 rfl rfl)
theorem dX6_bits_13 : decode cX6_bits 13 = .ok (.ishr, 1) := dk_122 (dk_at dksX6_bits_0 13 rfl rfl)
theorem dX6_bits_14 : decode cX6_bits 14 = .ok (.iconst 1, 1) := dk_4 (dk_at dksX6_bits_0 14 rfl rfl)
theorem dX6_bits_15 : decode cX6_bits 15 = .ok (.iand, 1) := dk_126 (dk_at dksX6_bits_0 15 rfl rfl)
theorem dX6_bits_16 : decode cX6_bits 16 = .ok (.iadd, 1) := dk_96 (dk_at dksX6_bits_0 16 rfl rfl)
theorem dX6_bits_17 : decode cX6_bits 17 = .ok (.istore_n 1, 1) := dk_60 (dk_at dksX6_bits_0 17 rfl rfl)
theorem dX6_bits_18 : decode cX6_bits 18 = .ok (.iinc 2 1, 3) := dk_132 2 1 (dk_at dksX6_bits_0 18 rfl rfl)
theorem dX6_bits_21 : decode cX6_bits 21 = .ok (.goto (-17), 3) := dk_167 255 239 (dk_at dksX6_bits_0 21 rfl rfl)
theorem dX6_bits_24 : decode cX6_bits 24 = .ok (.iload_n 1, 1) := dk_27 (dk_at dksX6_bits_1 0 rfl rfl)
theorem dX6_bits_25 : decode cX6_bits 25 = .ok (.ireturn, 1) := dk_172 (dk_at dksX6_bits_1 1 rfl rfl)
abbrev cX6_isClear : ByteArray := prog_17_method_91_code
def yX6_isClear : MethodName := ⟨RX6, "isClear", "(II)Z"⟩
def dkwX6_isClear_1 : List UInt8 := [153, 0, 5, 3, 172, 132, 3, 1, 167, 255, 226, 4, 172]
abbrev dktX6_isClear_1 : List UInt8 := dkwX6_isClear_1 ++ []
def dkwX6_isClear_0 : List UInt8 := [3, 62, 29, 28, 162, 0, 31, 27, 29, 122, 4, 126, 4, 160, 0, 16, 27, 42, 180, 0, 113, 29, 46, 126]
abbrev dktX6_isClear_0 : List UInt8 := dkwX6_isClear_0 ++ dktX6_isClear_1
theorem dksX6_isClear_0 : cX6_isClear.data.toList.drop 0 = dktX6_isClear_0 := by decide +kernel
theorem dksX6_isClear_1 : cX6_isClear.data.toList.drop 24 = dktX6_isClear_1 := dk_seg dksX6_isClear_0 24 rfl rfl
theorem dX6_isClear_0 : decode cX6_isClear 0 = .ok (.iconst 0, 1) := dk_3 (dk_at dksX6_isClear_0 0 rfl rfl)
theorem dX6_isClear_1 : decode cX6_isClear 1 = .ok (.istore_n 3, 1) := dk_62 (dk_at dksX6_isClear_0 1 rfl rfl)
theorem dX6_isClear_2 : decode cX6_isClear 2 = .ok (.iload_n 3, 1) := dk_29 (dk_at dksX6_isClear_0 2 rfl rfl)
theorem dX6_isClear_3 : decode cX6_isClear 3 = .ok (.iload_n 2, 1) := dk_28 (dk_at dksX6_isClear_0 3 rfl rfl)
theorem dX6_isClear_4 : decode cX6_isClear 4 = .ok (.if_icmp .ge 31, 3) := dk_162 0 31 (dk_at dksX6_isClear_0 4 rfl rfl)
theorem dX6_isClear_7 : decode cX6_isClear 7 = .ok (.iload_n 1, 1) := dk_27 (dk_at dksX6_isClear_0 7 rfl rfl)
theorem dX6_isClear_8 : decode cX6_isClear 8 = .ok (.iload_n 3, 1) := dk_29 (dk_at dksX6_isClear_0 8 rfl rfl)
theorem dX6_isClear_9 : decode cX6_isClear 9 = .ok (.ishr, 1) := dk_122 (dk_at dksX6_isClear_0 9 rfl rfl)
theorem dX6_isClear_10 : decode cX6_isClear 10 = .ok (.iconst 1, 1) := dk_4 (dk_at dksX6_isClear_0 10 rfl rfl)
theorem dX6_isClear_11 : decode cX6_isClear 11 = .ok (.iand, 1) := dk_126 (dk_at dksX6_isClear_0 11 rfl rfl)
theorem dX6_isClear_12 : decode cX6_isClear 12 = .ok (.iconst 1, 1) := dk_4 (dk_at dksX6_isClear_0 12 rfl rfl)
theorem dX6_isClear_13 : decode cX6_isClear 13 = .ok (.if_icmp .ne 16, 3) := dk_160 0 16 (dk_at dksX6_isClear_0 13 rfl rfl)
theorem dX6_isClear_16 : decode cX6_isClear 16 = .ok (.iload_n 1, 1) := dk_27 (dk_at dksX6_isClear_0 16 rfl rfl)
theorem dX6_isClear_17 : decode cX6_isClear 17 = .ok (.aload_n 0, 1) := dk_42 (dk_at dksX6_isClear_0 17 rfl rfl)
theorem dX6_isClear_18 : decode cX6_isClear 18 = .ok (.getfield 113, 3) := dk_180 0 113 (dk_at dksX6_isClear_0 18 rfl rfl)
theorem dX6_isClear_21 : decode cX6_isClear 21 = .ok (.iload_n 3, 1) := dk_29 (dk_at dksX6_isClear_0 21 rfl rfl)
theorem dX6_isClear_22 : decode cX6_isClear 22 = .ok (.iaload, 1) := dk_46 (dk_at dksX6_isClear_0 22 rfl rfl)
theorem dX6_isClear_23 : decode cX6_isClear 23 = .ok (.iand, 1) := dk_126 (dk_at dksX6_isClear_0 23 rfl rfl)
theorem dX6_isClear_24 : decode cX6_isClear 24 = .ok (.ifCond .eq 5, 3) := dk_153 0 5 (dk_at dksX6_isClear_1 0 rfl rfl)
theorem dX6_isClear_27 : decode cX6_isClear 27 = .ok (.iconst 0, 1) := dk_3 (dk_at dksX6_isClear_1 3 rfl rfl)
theorem dX6_isClear_28 : decode cX6_isClear 28 = .ok (.ireturn, 1) := dk_172 (dk_at dksX6_isClear_1 4 rfl rfl)
theorem dX6_isClear_29 : decode cX6_isClear 29 = .ok (.iinc 3 1, 3) := dk_132 3 1 (dk_at dksX6_isClear_1 5 rfl rfl)
theorem dX6_isClear_32 : decode cX6_isClear 32 = .ok (.goto (-30), 3) := dk_167 255 226 (dk_at dksX6_isClear_1 8 rfl rfl)
theorem dX6_isClear_35 : decode cX6_isClear 35 = .ok (.iconst 1, 1) := dk_4 (dk_at dksX6_isClear_1 11 rfl rfl)
theorem dX6_isClear_36 : decode cX6_isClear 36 = .ok (.ireturn, 1) := dk_172 (dk_at dksX6_isClear_1 12 rfl rfl)
abbrev cX6_rubbed : ByteArray := prog_17_method_92_code
def yX6_rubbed : MethodName := ⟨RX6, "rubbed", "(I)J"⟩
def dkwX6_rubbed_5 : List UInt8 := [167, 255, 218, 32, 173]
abbrev dktX6_rubbed_5 : List UInt8 := dkwX6_rubbed_5 ++ []
def dkwX6_rubbed_4 : List UInt8 := [153, 0, 20, 42, 21, 4, 27, 182, 1, 145, 153, 0, 10, 32, 10, 21, 4, 121, 129, 65, 132, 4, 1]
abbrev dktX6_rubbed_4 : List UInt8 := dkwX6_rubbed_4 ++ dktX6_rubbed_5
def dkwX6_rubbed_3 : List UInt8 := [167, 255, 217, 9, 65, 3, 54, 4, 21, 4, 42, 180, 0, 130, 162, 0, 35, 42, 21, 4, 182, 1, 26]
abbrev dktX6_rubbed_3 : List UInt8 := dkwX6_rubbed_3 ++ dktX6_rubbed_4
def dkwX6_rubbed_2 : List UInt8 := [180, 0, 29, 28, 51, 16, 97, 16, 122, 184, 0, 139, 154, 0, 7, 20, 1, 68, 173, 132, 2, 1]
abbrev dktX6_rubbed_2 : List UInt8 := dkwX6_rubbed_2 ++ dktX6_rubbed_3
def dkwX6_rubbed_1 : List UInt8 := [181, 0, 133, 3, 61, 28, 27, 162, 0, 40, 42, 180, 0, 29, 28, 51, 16, 63, 159, 0, 23, 42]
abbrev dktX6_rubbed_1 : List UInt8 := dkwX6_rubbed_1 ++ dktX6_rubbed_2
def dkwX6_rubbed_0 : List UInt8 := [27, 4, 16, 8, 184, 0, 139, 153, 0, 11, 27, 42, 180, 0, 133, 164, 0, 7, 20, 1, 56, 173, 42, 3]
abbrev dktX6_rubbed_0 : List UInt8 := dkwX6_rubbed_0 ++ dktX6_rubbed_1
theorem dksX6_rubbed_0 : cX6_rubbed.data.toList.drop 0 = dktX6_rubbed_0 := by decide +kernel
theorem dksX6_rubbed_1 : cX6_rubbed.data.toList.drop 24 = dktX6_rubbed_1 := dk_seg dksX6_rubbed_0 24 rfl rfl
theorem dksX6_rubbed_2 : cX6_rubbed.data.toList.drop 46 = dktX6_rubbed_2 := dk_seg dksX6_rubbed_1 22 rfl rfl
theorem dksX6_rubbed_3 : cX6_rubbed.data.toList.drop 68 = dktX6_rubbed_3 := dk_seg dksX6_rubbed_2 22 rfl rfl
theorem dksX6_rubbed_4 : cX6_rubbed.data.toList.drop 91 = dktX6_rubbed_4 := dk_seg dksX6_rubbed_3 23 rfl rfl
theorem dksX6_rubbed_5 : cX6_rubbed.data.toList.drop 114 = dktX6_rubbed_5 := dk_seg dksX6_rubbed_4 23 rfl rfl
theorem dX6_rubbed_0 : decode cX6_rubbed 0 = .ok (.iload_n 1, 1) := dk_27 (dk_at dksX6_rubbed_0 0 rfl rfl)
theorem dX6_rubbed_1 : decode cX6_rubbed 1 = .ok (.iconst 1, 1) := dk_4 (dk_at dksX6_rubbed_0 1 rfl rfl)
theorem dX6_rubbed_2 : decode cX6_rubbed 2 = .ok (.bipush 8, 2) := dk_16 8 (dk_at dksX6_rubbed_0 2 rfl rfl)
theorem dX6_rubbed_4 : decode cX6_rubbed 4 = .ok (.invokestatic 139, 3) := dk_184 0 139 (dk_at dksX6_rubbed_0 4 rfl rfl)
theorem dX6_rubbed_7 : decode cX6_rubbed 7 = .ok (.ifCond .eq 11, 3) := dk_153 0 11 (dk_at dksX6_rubbed_0 7 rfl rfl)
theorem dX6_rubbed_10 : decode cX6_rubbed 10 = .ok (.iload_n 1, 1) := dk_27 (dk_at dksX6_rubbed_0 10 rfl rfl)
theorem dX6_rubbed_11 : decode cX6_rubbed 11 = .ok (.aload_n 0, 1) := dk_42 (dk_at dksX6_rubbed_0 11 rfl rfl)
theorem dX6_rubbed_12 : decode cX6_rubbed 12 = .ok (.getfield 133, 3) := dk_180 0 133 (dk_at dksX6_rubbed_0 12 rfl rfl)
theorem dX6_rubbed_15 : decode cX6_rubbed 15 = .ok (.if_icmp .le 7, 3) := dk_164 0 7 (dk_at dksX6_rubbed_0 15 rfl rfl)
theorem dX6_rubbed_18 : decode cX6_rubbed 18 = .ok (.ldc2_w 312, 3) := dk_20 1 56 (dk_at dksX6_rubbed_0 18 rfl rfl)
theorem dX6_rubbed_21 : decode cX6_rubbed 21 = .ok (.lreturn, 1) := dk_173 (dk_at dksX6_rubbed_0 21 rfl rfl)
theorem dX6_rubbed_22 : decode cX6_rubbed 22 = .ok (.aload_n 0, 1) := dk_42 (dk_at dksX6_rubbed_0 22 rfl rfl)
theorem dX6_rubbed_23 : decode cX6_rubbed 23 = .ok (.iconst 0, 1) := dk_3 (dk_at dksX6_rubbed_0 23 rfl rfl)
theorem dX6_rubbed_24 : decode cX6_rubbed 24 = .ok (.putfield 133, 3) := dk_181 0 133 (dk_at dksX6_rubbed_1 0 rfl rfl)
theorem dX6_rubbed_27 : decode cX6_rubbed 27 = .ok (.iconst 0, 1) := dk_3 (dk_at dksX6_rubbed_1 3 rfl rfl)
theorem dX6_rubbed_28 : decode cX6_rubbed 28 = .ok (.istore_n 2, 1) := dk_61 (dk_at dksX6_rubbed_1 4 rfl rfl)
theorem dX6_rubbed_29 : decode cX6_rubbed 29 = .ok (.iload_n 2, 1) := dk_28 (dk_at dksX6_rubbed_1 5 rfl rfl)
theorem dX6_rubbed_30 : decode cX6_rubbed 30 = .ok (.iload_n 1, 1) := dk_27 (dk_at dksX6_rubbed_1 6 rfl rfl)
theorem dX6_rubbed_31 : decode cX6_rubbed 31 = .ok (.if_icmp .ge 40, 3) := dk_162 0 40 (dk_at dksX6_rubbed_1 7 rfl rfl)
theorem dX6_rubbed_34 : decode cX6_rubbed 34 = .ok (.aload_n 0, 1) := dk_42 (dk_at dksX6_rubbed_1 10 rfl rfl)
theorem dX6_rubbed_35 : decode cX6_rubbed 35 = .ok (.getfield 29, 3) := dk_180 0 29 (dk_at dksX6_rubbed_1 11 rfl rfl)
theorem dX6_rubbed_38 : decode cX6_rubbed 38 = .ok (.iload_n 2, 1) := dk_28 (dk_at dksX6_rubbed_1 14 rfl rfl)
theorem dX6_rubbed_39 : decode cX6_rubbed 39 = .ok (.baload, 1) := dk_51 (dk_at dksX6_rubbed_1 15 rfl rfl)
theorem dX6_rubbed_40 : decode cX6_rubbed 40 = .ok (.bipush 63, 2) := dk_16 63 (dk_at dksX6_rubbed_1 16 rfl rfl)
theorem dX6_rubbed_42 : decode cX6_rubbed 42 = .ok (.if_icmp .eq 23, 3) := dk_159 0 23 (dk_at dksX6_rubbed_1 18 rfl rfl)
theorem dX6_rubbed_45 : decode cX6_rubbed 45 = .ok (.aload_n 0, 1) := dk_42 (dk_at dksX6_rubbed_1 21 rfl rfl)
theorem dX6_rubbed_46 : decode cX6_rubbed 46 = .ok (.getfield 29, 3) := dk_180 0 29 (dk_at dksX6_rubbed_2 0 rfl rfl)
theorem dX6_rubbed_49 : decode cX6_rubbed 49 = .ok (.iload_n 2, 1) := dk_28 (dk_at dksX6_rubbed_2 3 rfl rfl)
theorem dX6_rubbed_50 : decode cX6_rubbed 50 = .ok (.baload, 1) := dk_51 (dk_at dksX6_rubbed_2 4 rfl rfl)
theorem dX6_rubbed_51 : decode cX6_rubbed 51 = .ok (.bipush 97, 2) := dk_16 97 (dk_at dksX6_rubbed_2 5 rfl rfl)
theorem dX6_rubbed_53 : decode cX6_rubbed 53 = .ok (.bipush 122, 2) := dk_16 122 (dk_at dksX6_rubbed_2 7 rfl rfl)
theorem dX6_rubbed_55 : decode cX6_rubbed 55 = .ok (.invokestatic 139, 3) := dk_184 0 139 (dk_at dksX6_rubbed_2 9 rfl rfl)
theorem dX6_rubbed_58 : decode cX6_rubbed 58 = .ok (.ifCond .ne 7, 3) := dk_154 0 7 (dk_at dksX6_rubbed_2 12 rfl rfl)
theorem dX6_rubbed_61 : decode cX6_rubbed 61 = .ok (.ldc2_w 324, 3) := dk_20 1 68 (dk_at dksX6_rubbed_2 15 rfl rfl)
theorem dX6_rubbed_64 : decode cX6_rubbed 64 = .ok (.lreturn, 1) := dk_173 (dk_at dksX6_rubbed_2 18 rfl rfl)
theorem dX6_rubbed_65 : decode cX6_rubbed 65 = .ok (.iinc 2 1, 3) := dk_132 2 1 (dk_at dksX6_rubbed_2 19 rfl rfl)
theorem dX6_rubbed_68 : decode cX6_rubbed 68 = .ok (.goto (-39), 3) := dk_167 255 217 (dk_at dksX6_rubbed_3 0 rfl rfl)
theorem dX6_rubbed_71 : decode cX6_rubbed 71 = .ok (.lconst 0, 1) := dk_9 (dk_at dksX6_rubbed_3 3 rfl rfl)
theorem dX6_rubbed_72 : decode cX6_rubbed 72 = .ok (.lstore_n 2, 1) := dk_65 (dk_at dksX6_rubbed_3 4 rfl rfl)
theorem dX6_rubbed_73 : decode cX6_rubbed 73 = .ok (.iconst 0, 1) := dk_3 (dk_at dksX6_rubbed_3 5 rfl rfl)
theorem dX6_rubbed_74 : decode cX6_rubbed 74 = .ok (.istore 4, 2) := dk_54 4 (dk_at dksX6_rubbed_3 6 rfl rfl)
theorem dX6_rubbed_76 : decode cX6_rubbed 76 = .ok (.iload 4, 2) := dk_21 4 (dk_at dksX6_rubbed_3 8 rfl rfl)
theorem dX6_rubbed_78 : decode cX6_rubbed 78 = .ok (.aload_n 0, 1) := dk_42 (dk_at dksX6_rubbed_3 10 rfl rfl)
theorem dX6_rubbed_79 : decode cX6_rubbed 79 = .ok (.getfield 130, 3) := dk_180 0 130 (dk_at dksX6_rubbed_3 11 rfl rfl)
theorem dX6_rubbed_82 : decode cX6_rubbed 82 = .ok (.if_icmp .ge 35, 3) := dk_162 0 35 (dk_at dksX6_rubbed_3 14 rfl rfl)
theorem dX6_rubbed_85 : decode cX6_rubbed 85 = .ok (.aload_n 0, 1) := dk_42 (dk_at dksX6_rubbed_3 17 rfl rfl)
theorem dX6_rubbed_86 : decode cX6_rubbed 86 = .ok (.iload 4, 2) := dk_21 4 (dk_at dksX6_rubbed_3 18 rfl rfl)
theorem dX6_rubbed_88 : decode cX6_rubbed 88 = .ok (.invokevirtual 282, 3) := dk_182 1 26 (dk_at dksX6_rubbed_3 20 rfl rfl)
theorem dX6_rubbed_91 : decode cX6_rubbed 91 = .ok (.ifCond .eq 20, 3) := dk_153 0 20 (dk_at dksX6_rubbed_4 0 rfl rfl)
theorem dX6_rubbed_94 : decode cX6_rubbed 94 = .ok (.aload_n 0, 1) := dk_42 (dk_at dksX6_rubbed_4 3 rfl rfl)
theorem dX6_rubbed_95 : decode cX6_rubbed 95 = .ok (.iload 4, 2) := dk_21 4 (dk_at dksX6_rubbed_4 4 rfl rfl)
theorem dX6_rubbed_97 : decode cX6_rubbed 97 = .ok (.iload_n 1, 1) := dk_27 (dk_at dksX6_rubbed_4 6 rfl rfl)
theorem dX6_rubbed_98 : decode cX6_rubbed 98 = .ok (.invokevirtual 401, 3) := dk_182 1 145 (dk_at dksX6_rubbed_4 7 rfl rfl)
theorem dX6_rubbed_101 : decode cX6_rubbed 101 = .ok (.ifCond .eq 10, 3) := dk_153 0 10 (dk_at dksX6_rubbed_4 10 rfl rfl)
theorem dX6_rubbed_104 : decode cX6_rubbed 104 = .ok (.lload_n 2, 1) := dk_32 (dk_at dksX6_rubbed_4 13 rfl rfl)
theorem dX6_rubbed_105 : decode cX6_rubbed 105 = .ok (.lconst 1, 1) := dk_10 (dk_at dksX6_rubbed_4 14 rfl rfl)
theorem dX6_rubbed_106 : decode cX6_rubbed 106 = .ok (.iload 4, 2) := dk_21 4 (dk_at dksX6_rubbed_4 15 rfl rfl)
theorem dX6_rubbed_108 : decode cX6_rubbed 108 = .ok (.lshl, 1) := dk_121 (dk_at dksX6_rubbed_4 17 rfl rfl)
theorem dX6_rubbed_109 : decode cX6_rubbed 109 = .ok (.lor, 1) := dk_129 (dk_at dksX6_rubbed_4 18 rfl rfl)
theorem dX6_rubbed_110 : decode cX6_rubbed 110 = .ok (.lstore_n 2, 1) := dk_65 (dk_at dksX6_rubbed_4 19 rfl rfl)
theorem dX6_rubbed_111 : decode cX6_rubbed 111 = .ok (.iinc 4 1, 3) := dk_132 4 1 (dk_at dksX6_rubbed_4 20 rfl rfl)
theorem dX6_rubbed_114 : decode cX6_rubbed 114 = .ok (.goto (-38), 3) := dk_167 255 218 (dk_at dksX6_rubbed_5 0 rfl rfl)
theorem dX6_rubbed_117 : decode cX6_rubbed 117 = .ok (.lload_n 2, 1) := dk_32 (dk_at dksX6_rubbed_5 3 rfl rfl)
theorem dX6_rubbed_118 : decode cX6_rubbed 118 = .ok (.lreturn, 1) := dk_173 (dk_at dksX6_rubbed_5 4 rfl rfl)
abbrev cX6_isRubbed : ByteArray := prog_17_method_93_code
def yX6_isRubbed : MethodName := ⟨RX6, "isRubbed", "(II)Z"⟩
def dkwX6_isRubbed_2 : List UInt8 := [3, 172, 132, 3, 1, 167, 255, 217, 4, 172]
abbrev dktX6_isRubbed_2 : List UInt8 := dkwX6_isRubbed_2 ++ []
def dkwX6_isRubbed_1 : List UInt8 := [51, 16, 63, 159, 0, 23, 42, 180, 0, 29, 29, 51, 16, 97, 100, 42, 27, 29, 182, 1, 6, 159, 0, 5]
abbrev dktX6_isRubbed_1 : List UInt8 := dkwX6_isRubbed_1 ++ dktX6_isRubbed_2
def dkwX6_isRubbed_0 : List UInt8 := [42, 180, 0, 7, 27, 46, 28, 159, 0, 5, 3, 172, 3, 62, 29, 28, 162, 0, 40, 42, 180, 0, 29, 29]
abbrev dktX6_isRubbed_0 : List UInt8 := dkwX6_isRubbed_0 ++ dktX6_isRubbed_1
theorem dksX6_isRubbed_0 : cX6_isRubbed.data.toList.drop 0 = dktX6_isRubbed_0 := by decide +kernel
theorem dksX6_isRubbed_1 : cX6_isRubbed.data.toList.drop 24 = dktX6_isRubbed_1 := dk_seg dksX6_isRubbed_0 24 rfl rfl
theorem dksX6_isRubbed_2 : cX6_isRubbed.data.toList.drop 48 = dktX6_isRubbed_2 := dk_seg dksX6_isRubbed_1 24 rfl rfl
theorem dX6_isRubbed_0 : decode cX6_isRubbed 0 = .ok (.aload_n 0, 1) := dk_42 (dk_at dksX6_isRubbed_0 0 rfl rfl)
theorem dX6_isRubbed_1 : decode cX6_isRubbed 1 = .ok (.getfield 7, 3) := dk_180 0 7 (dk_at dksX6_isRubbed_0 1 rfl rfl)
theorem dX6_isRubbed_4 : decode cX6_isRubbed 4 = .ok (.iload_n 1, 1) := dk_27 (dk_at dksX6_isRubbed_0 4 rfl rfl)
theorem dX6_isRubbed_5 : decode cX6_isRubbed 5 = .ok (.iaload, 1) := dk_46 (dk_at dksX6_isRubbed_0 5 rfl rfl)
theorem dX6_isRubbed_6 : decode cX6_isRubbed 6 = .ok (.iload_n 2, 1) := dk_28 (dk_at dksX6_isRubbed_0 6 rfl rfl)
theorem dX6_isRubbed_7 : decode cX6_isRubbed 7 = .ok (.if_icmp .eq 5, 3) := dk_159 0 5 (dk_at dksX6_isRubbed_0 7 rfl rfl)
theorem dX6_isRubbed_10 : decode cX6_isRubbed 10 = .ok (.iconst 0, 1) := dk_3 (dk_at dksX6_isRubbed_0 10 rfl rfl)
theorem dX6_isRubbed_11 : decode cX6_isRubbed 11 = .ok (.ireturn, 1) := dk_172 (dk_at dksX6_isRubbed_0 11 rfl rfl)
theorem dX6_isRubbed_12 : decode cX6_isRubbed 12 = .ok (.iconst 0, 1) := dk_3 (dk_at dksX6_isRubbed_0 12 rfl rfl)
theorem dX6_isRubbed_13 : decode cX6_isRubbed 13 = .ok (.istore_n 3, 1) := dk_62 (dk_at dksX6_isRubbed_0 13 rfl rfl)
theorem dX6_isRubbed_14 : decode cX6_isRubbed 14 = .ok (.iload_n 3, 1) := dk_29 (dk_at dksX6_isRubbed_0 14 rfl rfl)
theorem dX6_isRubbed_15 : decode cX6_isRubbed 15 = .ok (.iload_n 2, 1) := dk_28 (dk_at dksX6_isRubbed_0 15 rfl rfl)
theorem dX6_isRubbed_16 : decode cX6_isRubbed 16 = .ok (.if_icmp .ge 40, 3) := dk_162 0 40 (dk_at dksX6_isRubbed_0 16 rfl rfl)
theorem dX6_isRubbed_19 : decode cX6_isRubbed 19 = .ok (.aload_n 0, 1) := dk_42 (dk_at dksX6_isRubbed_0 19 rfl rfl)
theorem dX6_isRubbed_20 : decode cX6_isRubbed 20 = .ok (.getfield 29, 3) := dk_180 0 29 (dk_at dksX6_isRubbed_0 20 rfl rfl)
theorem dX6_isRubbed_23 : decode cX6_isRubbed 23 = .ok (.iload_n 3, 1) := dk_29 (dk_at dksX6_isRubbed_0 23 rfl rfl)
theorem dX6_isRubbed_24 : decode cX6_isRubbed 24 = .ok (.baload, 1) := dk_51 (dk_at dksX6_isRubbed_1 0 rfl rfl)
theorem dX6_isRubbed_25 : decode cX6_isRubbed 25 = .ok (.bipush 63, 2) := dk_16 63 (dk_at dksX6_isRubbed_1 1 rfl rfl)
theorem dX6_isRubbed_27 : decode cX6_isRubbed 27 = .ok (.if_icmp .eq 23, 3) := dk_159 0 23 (dk_at dksX6_isRubbed_1 3 rfl rfl)
theorem dX6_isRubbed_30 : decode cX6_isRubbed 30 = .ok (.aload_n 0, 1) := dk_42 (dk_at dksX6_isRubbed_1 6 rfl rfl)
theorem dX6_isRubbed_31 : decode cX6_isRubbed 31 = .ok (.getfield 29, 3) := dk_180 0 29 (dk_at dksX6_isRubbed_1 7 rfl rfl)
theorem dX6_isRubbed_34 : decode cX6_isRubbed 34 = .ok (.iload_n 3, 1) := dk_29 (dk_at dksX6_isRubbed_1 10 rfl rfl)
theorem dX6_isRubbed_35 : decode cX6_isRubbed 35 = .ok (.baload, 1) := dk_51 (dk_at dksX6_isRubbed_1 11 rfl rfl)
theorem dX6_isRubbed_36 : decode cX6_isRubbed 36 = .ok (.bipush 97, 2) := dk_16 97 (dk_at dksX6_isRubbed_1 12 rfl rfl)
theorem dX6_isRubbed_38 : decode cX6_isRubbed 38 = .ok (.isub, 1) := dk_100 (dk_at dksX6_isRubbed_1 14 rfl rfl)
theorem dX6_isRubbed_39 : decode cX6_isRubbed 39 = .ok (.aload_n 0, 1) := dk_42 (dk_at dksX6_isRubbed_1 15 rfl rfl)
theorem dX6_isRubbed_40 : decode cX6_isRubbed 40 = .ok (.iload_n 1, 1) := dk_27 (dk_at dksX6_isRubbed_1 16 rfl rfl)
theorem dX6_isRubbed_41 : decode cX6_isRubbed 41 = .ok (.iload_n 3, 1) := dk_29 (dk_at dksX6_isRubbed_1 17 rfl rfl)
theorem dX6_isRubbed_42 : decode cX6_isRubbed 42 = .ok (.invokevirtual 262, 3) := dk_182 1 6 (dk_at dksX6_isRubbed_1 18 rfl rfl)
theorem dX6_isRubbed_45 : decode cX6_isRubbed 45 = .ok (.if_icmp .eq 5, 3) := dk_159 0 5 (dk_at dksX6_isRubbed_1 21 rfl rfl)
theorem dX6_isRubbed_48 : decode cX6_isRubbed 48 = .ok (.iconst 0, 1) := dk_3 (dk_at dksX6_isRubbed_2 0 rfl rfl)
theorem dX6_isRubbed_49 : decode cX6_isRubbed 49 = .ok (.ireturn, 1) := dk_172 (dk_at dksX6_isRubbed_2 1 rfl rfl)
theorem dX6_isRubbed_50 : decode cX6_isRubbed 50 = .ok (.iinc 3 1, 3) := dk_132 3 1 (dk_at dksX6_isRubbed_2 2 rfl rfl)
theorem dX6_isRubbed_53 : decode cX6_isRubbed 53 = .ok (.goto (-39), 3) := dk_167 255 217 (dk_at dksX6_isRubbed_2 5 rfl rfl)
theorem dX6_isRubbed_56 : decode cX6_isRubbed 56 = .ok (.iconst 1, 1) := dk_4 (dk_at dksX6_isRubbed_2 8 rfl rfl)
theorem dX6_isRubbed_57 : decode cX6_isRubbed 57 = .ok (.ireturn, 1) := dk_172 (dk_at dksX6_isRubbed_2 9 rfl rfl)
abbrev cX6_square : ByteArray := prog_17_method_98_code
def yX6_square : MethodName := ⟨RX6, "square", "(II)I"⟩
def dkwX6_square_2 : List UInt8 := [167, 0, 9, 42, 180, 0, 119, 28, 46, 172]
abbrev dktX6_square_2 : List UInt8 := dkwX6_square_2 ++ []
def dkwX6_square_1 : List UInt8 := [182, 1, 160, 28, 2, 160, 0, 10, 42, 180, 1, 154, 167, 0, 21, 42, 180, 1, 154, 154, 0, 8, 16, 254]
abbrev dktX6_square_1 : List UInt8 := dkwX6_square_1 ++ dktX6_square_2
def dkwX6_square_0 : List UInt8 := [27, 5, 7, 184, 0, 139, 153, 0, 14, 28, 2, 27, 4, 100, 184, 0, 139, 154, 0, 5, 2, 172, 42, 27]
abbrev dktX6_square_0 : List UInt8 := dkwX6_square_0 ++ dktX6_square_1
theorem dksX6_square_0 : cX6_square.data.toList.drop 0 = dktX6_square_0 := by decide +kernel
theorem dksX6_square_1 : cX6_square.data.toList.drop 24 = dktX6_square_1 := dk_seg dksX6_square_0 24 rfl rfl
theorem dksX6_square_2 : cX6_square.data.toList.drop 48 = dktX6_square_2 := dk_seg dksX6_square_1 24 rfl rfl
theorem dX6_square_0 : decode cX6_square 0 = .ok (.iload_n 1, 1) := dk_27 (dk_at dksX6_square_0 0 rfl rfl)
theorem dX6_square_1 : decode cX6_square 1 = .ok (.iconst 2, 1) := dk_5 (dk_at dksX6_square_0 1 rfl rfl)
theorem dX6_square_2 : decode cX6_square 2 = .ok (.iconst 4, 1) := dk_7 (dk_at dksX6_square_0 2 rfl rfl)
theorem dX6_square_3 : decode cX6_square 3 = .ok (.invokestatic 139, 3) := dk_184 0 139 (dk_at dksX6_square_0 3 rfl rfl)
theorem dX6_square_6 : decode cX6_square 6 = .ok (.ifCond .eq 14, 3) := dk_153 0 14 (dk_at dksX6_square_0 6 rfl rfl)
theorem dX6_square_9 : decode cX6_square 9 = .ok (.iload_n 2, 1) := dk_28 (dk_at dksX6_square_0 9 rfl rfl)
theorem dX6_square_10 : decode cX6_square 10 = .ok (.iconst (-1), 1) := dk_2 (dk_at dksX6_square_0 10 rfl rfl)
theorem dX6_square_11 : decode cX6_square 11 = .ok (.iload_n 1, 1) := dk_27 (dk_at dksX6_square_0 11 rfl rfl)
theorem dX6_square_12 : decode cX6_square 12 = .ok (.iconst 1, 1) := dk_4 (dk_at dksX6_square_0 12 rfl rfl)
theorem dX6_square_13 : decode cX6_square 13 = .ok (.isub, 1) := dk_100 (dk_at dksX6_square_0 13 rfl rfl)
theorem dX6_square_14 : decode cX6_square 14 = .ok (.invokestatic 139, 3) := dk_184 0 139 (dk_at dksX6_square_0 14 rfl rfl)
theorem dX6_square_17 : decode cX6_square 17 = .ok (.ifCond .ne 5, 3) := dk_154 0 5 (dk_at dksX6_square_0 17 rfl rfl)
theorem dX6_square_20 : decode cX6_square 20 = .ok (.iconst (-1), 1) := dk_2 (dk_at dksX6_square_0 20 rfl rfl)
theorem dX6_square_21 : decode cX6_square 21 = .ok (.ireturn, 1) := dk_172 (dk_at dksX6_square_0 21 rfl rfl)
theorem dX6_square_22 : decode cX6_square 22 = .ok (.aload_n 0, 1) := dk_42 (dk_at dksX6_square_0 22 rfl rfl)
theorem dX6_square_23 : decode cX6_square 23 = .ok (.iload_n 1, 1) := dk_27 (dk_at dksX6_square_0 23 rfl rfl)
theorem dX6_square_24 : decode cX6_square 24 = .ok (.invokevirtual 416, 3) := dk_182 1 160 (dk_at dksX6_square_1 0 rfl rfl)
theorem dX6_square_27 : decode cX6_square 27 = .ok (.iload_n 2, 1) := dk_28 (dk_at dksX6_square_1 3 rfl rfl)
theorem dX6_square_28 : decode cX6_square 28 = .ok (.iconst (-1), 1) := dk_2 (dk_at dksX6_square_1 4 rfl rfl)
theorem dX6_square_29 : decode cX6_square 29 = .ok (.if_icmp .ne 10, 3) := dk_160 0 10 (dk_at dksX6_square_1 5 rfl rfl)
theorem dX6_square_32 : decode cX6_square 32 = .ok (.aload_n 0, 1) := dk_42 (dk_at dksX6_square_1 8 rfl rfl)
theorem dX6_square_33 : decode cX6_square 33 = .ok (.getfield 410, 3) := dk_180 1 154 (dk_at dksX6_square_1 9 rfl rfl)
theorem dX6_square_36 : decode cX6_square 36 = .ok (.goto 21, 3) := dk_167 0 21 (dk_at dksX6_square_1 12 rfl rfl)
theorem dX6_square_39 : decode cX6_square 39 = .ok (.aload_n 0, 1) := dk_42 (dk_at dksX6_square_1 15 rfl rfl)
theorem dX6_square_40 : decode cX6_square 40 = .ok (.getfield 410, 3) := dk_180 1 154 (dk_at dksX6_square_1 16 rfl rfl)
theorem dX6_square_43 : decode cX6_square 43 = .ok (.ifCond .ne 8, 3) := dk_154 0 8 (dk_at dksX6_square_1 19 rfl rfl)
theorem dX6_square_46 : decode cX6_square 46 = .ok (.bipush (-2), 2) := dk_16 254 (dk_at dksX6_square_1 22 rfl rfl)
theorem dX6_square_48 : decode cX6_square 48 = .ok (.goto 9, 3) := dk_167 0 9 (dk_at dksX6_square_2 0 rfl rfl)
theorem dX6_square_51 : decode cX6_square 51 = .ok (.aload_n 0, 1) := dk_42 (dk_at dksX6_square_2 3 rfl rfl)
theorem dX6_square_52 : decode cX6_square 52 = .ok (.getfield 119, 3) := dk_180 0 119 (dk_at dksX6_square_2 4 rfl rfl)
theorem dX6_square_55 : decode cX6_square 55 = .ok (.iload_n 2, 1) := dk_28 (dk_at dksX6_square_2 7 rfl rfl)
theorem dX6_square_56 : decode cX6_square 56 = .ok (.iaload, 1) := dk_46 (dk_at dksX6_square_2 8 rfl rfl)
theorem dX6_square_57 : decode cX6_square 57 = .ok (.ireturn, 1) := dk_172 (dk_at dksX6_square_2 9 rfl rfl)
abbrev cX6_laysSquares : ByteArray := prog_17_method_97_code
def yX6_laysSquares : MethodName := ⟨RX6, "laysSquares", "(I)V"⟩
def dkwX6_laysSquares_6 : List UInt8 := [167, 255, 127, 177]
abbrev dktX6_laysSquares_6 : List UInt8 := dkwX6_laysSquares_6 ++ []
def dkwX6_laysSquares_5 : List UInt8 := [29, 42, 180, 0, 116, 29, 46, 79, 132, 3, 1, 167, 255, 229, 42, 42, 180, 1, 154, 4, 96, 181, 1, 154]
abbrev dktX6_laysSquares_5 : List UInt8 := dkwX6_laysSquares_5 ++ dktX6_laysSquares_6
def dkwX6_laysSquares_4 : List UInt8 := [28, 2, 79, 167, 255, 172, 3, 62, 29, 27, 162, 0, 28, 42, 180, 1, 154, 154, 0, 21, 42, 180, 0, 119]
abbrev dktX6_laysSquares_4 : List UInt8 := dkwX6_laysSquares_4 ++ dktX6_laysSquares_5
def dkwX6_laysSquares_3 : List UInt8 := [182, 1, 157, 154, 0, 6, 167, 255, 193, 28, 4, 96, 27, 162, 0, 17, 28, 4, 96, 61, 42, 180, 0, 116]
abbrev dktX6_laysSquares_3 : List UInt8 := dkwX6_laysSquares_3 ++ dktX6_laysSquares_4
def dkwX6_laysSquares_2 : List UInt8 := [61, 167, 255, 221, 42, 42, 180, 0, 116, 28, 46, 27, 182, 1, 148, 153, 255, 207, 42, 27, 28, 4, 96]
abbrev dktX6_laysSquares_2 : List UInt8 := dkwX6_laysSquares_2 ++ dktX6_laysSquares_3
def dkwX6_laysSquares_1 : List UInt8 := [180, 0, 116, 28, 46, 4, 96, 79, 42, 180, 0, 116, 28, 46, 42, 180, 0, 130, 161, 0, 10, 28, 4, 100]
abbrev dktX6_laysSquares_1 : List UInt8 := dkwX6_laysSquares_1 ++ dktX6_laysSquares_2
def dkwX6_laysSquares_0 : List UInt8 := [42, 3, 181, 1, 154, 3, 61, 42, 180, 0, 116, 3, 2, 79, 28, 155, 0, 131, 42, 180, 0, 116, 28, 42]
abbrev dktX6_laysSquares_0 : List UInt8 := dkwX6_laysSquares_0 ++ dktX6_laysSquares_1
theorem dksX6_laysSquares_0 : cX6_laysSquares.data.toList.drop 0 = dktX6_laysSquares_0 := by decide +kernel
theorem dksX6_laysSquares_1 : cX6_laysSquares.data.toList.drop 24 = dktX6_laysSquares_1 := dk_seg dksX6_laysSquares_0 24 rfl rfl
theorem dksX6_laysSquares_2 : cX6_laysSquares.data.toList.drop 48 = dktX6_laysSquares_2 := dk_seg dksX6_laysSquares_1 24 rfl rfl
theorem dksX6_laysSquares_3 : cX6_laysSquares.data.toList.drop 71 = dktX6_laysSquares_3 := dk_seg dksX6_laysSquares_2 23 rfl rfl
theorem dksX6_laysSquares_4 : cX6_laysSquares.data.toList.drop 95 = dktX6_laysSquares_4 := dk_seg dksX6_laysSquares_3 24 rfl rfl
theorem dksX6_laysSquares_5 : cX6_laysSquares.data.toList.drop 119 = dktX6_laysSquares_5 := dk_seg dksX6_laysSquares_4 24 rfl rfl
theorem dksX6_laysSquares_6 : cX6_laysSquares.data.toList.drop 143 = dktX6_laysSquares_6 := dk_seg dksX6_laysSquares_5 24 rfl rfl
theorem dX6_laysSquares_0 : decode cX6_laysSquares 0 = .ok (.aload_n 0, 1) := dk_42 (dk_at dksX6_laysSquares_0 0 rfl rfl)
theorem dX6_laysSquares_1 : decode cX6_laysSquares 1 = .ok (.iconst 0, 1) := dk_3 (dk_at dksX6_laysSquares_0 1 rfl rfl)
theorem dX6_laysSquares_2 : decode cX6_laysSquares 2 = .ok (.putfield 410, 3) := dk_181 1 154 (dk_at dksX6_laysSquares_0 2 rfl rfl)
theorem dX6_laysSquares_5 : decode cX6_laysSquares 5 = .ok (.iconst 0, 1) := dk_3 (dk_at dksX6_laysSquares_0 5 rfl rfl)
theorem dX6_laysSquares_6 : decode cX6_laysSquares 6 = .ok (.istore_n 2, 1) := dk_61 (dk_at dksX6_laysSquares_0 6 rfl rfl)
theorem dX6_laysSquares_7 : decode cX6_laysSquares 7 = .ok (.aload_n 0, 1) := dk_42 (dk_at dksX6_laysSquares_0 7 rfl rfl)
theorem dX6_laysSquares_8 : decode cX6_laysSquares 8 = .ok (.getfield 116, 3) := dk_180 0 116 (dk_at dksX6_laysSquares_0 8 rfl rfl)
theorem dX6_laysSquares_11 : decode cX6_laysSquares 11 = .ok (.iconst 0, 1) := dk_3 (dk_at dksX6_laysSquares_0 11 rfl rfl)
theorem dX6_laysSquares_12 : decode cX6_laysSquares 12 = .ok (.iconst (-1), 1) := dk_2 (dk_at dksX6_laysSquares_0 12 rfl rfl)
theorem dX6_laysSquares_13 : decode cX6_laysSquares 13 = .ok (.iastore, 1) := dk_79 (dk_at dksX6_laysSquares_0 13 rfl rfl)
theorem dX6_laysSquares_14 : decode cX6_laysSquares 14 = .ok (.iload_n 2, 1) := dk_28 (dk_at dksX6_laysSquares_0 14 rfl rfl)
theorem dX6_laysSquares_15 : decode cX6_laysSquares 15 = .ok (.ifCond .lt 131, 3) := dk_155 0 131 (dk_at dksX6_laysSquares_0 15 rfl rfl)
theorem dX6_laysSquares_18 : decode cX6_laysSquares 18 = .ok (.aload_n 0, 1) := dk_42 (dk_at dksX6_laysSquares_0 18 rfl rfl)
theorem dX6_laysSquares_19 : decode cX6_laysSquares 19 = .ok (.getfield 116, 3) := dk_180 0 116 (dk_at dksX6_laysSquares_0 19 rfl rfl)
theorem dX6_laysSquares_22 : decode cX6_laysSquares 22 = .ok (.iload_n 2, 1) := dk_28 (dk_at dksX6_laysSquares_0 22 rfl rfl)
theorem dX6_laysSquares_23 : decode cX6_laysSquares 23 = .ok (.aload_n 0, 1) := dk_42 (dk_at dksX6_laysSquares_0 23 rfl rfl)
theorem dX6_laysSquares_24 : decode cX6_laysSquares 24 = .ok (.getfield 116, 3) := dk_180 0 116 (dk_at dksX6_laysSquares_1 0 rfl rfl)
theorem dX6_laysSquares_27 : decode cX6_laysSquares 27 = .ok (.iload_n 2, 1) := dk_28 (dk_at dksX6_laysSquares_1 3 rfl rfl)
theorem dX6_laysSquares_28 : decode cX6_laysSquares 28 = .ok (.iaload, 1) := dk_46 (dk_at dksX6_laysSquares_1 4 rfl rfl)
theorem dX6_laysSquares_29 : decode cX6_laysSquares 29 = .ok (.iconst 1, 1) := dk_4 (dk_at dksX6_laysSquares_1 5 rfl rfl)
theorem dX6_laysSquares_30 : decode cX6_laysSquares 30 = .ok (.iadd, 1) := dk_96 (dk_at dksX6_laysSquares_1 6 rfl rfl)
theorem dX6_laysSquares_31 : decode cX6_laysSquares 31 = .ok (.iastore, 1) := dk_79 (dk_at dksX6_laysSquares_1 7 rfl rfl)
theorem dX6_laysSquares_32 : decode cX6_laysSquares 32 = .ok (.aload_n 0, 1) := dk_42 (dk_at dksX6_laysSquares_1 8 rfl rfl)
theorem dX6_laysSquares_33 : decode cX6_laysSquares 33 = .ok (.getfield 116, 3) := dk_180 0 116 (dk_at dksX6_laysSquares_1 9 rfl rfl)
theorem dX6_laysSquares_36 : decode cX6_laysSquares 36 = .ok (.iload_n 2, 1) := dk_28 (dk_at dksX6_laysSquares_1 12 rfl rfl)
theorem dX6_laysSquares_37 : decode cX6_laysSquares 37 = .ok (.iaload, 1) := dk_46 (dk_at dksX6_laysSquares_1 13 rfl rfl)
theorem dX6_laysSquares_38 : decode cX6_laysSquares 38 = .ok (.aload_n 0, 1) := dk_42 (dk_at dksX6_laysSquares_1 14 rfl rfl)
theorem dX6_laysSquares_39 : decode cX6_laysSquares 39 = .ok (.getfield 130, 3) := dk_180 0 130 (dk_at dksX6_laysSquares_1 15 rfl rfl)
theorem dX6_laysSquares_42 : decode cX6_laysSquares 42 = .ok (.if_icmp .lt 10, 3) := dk_161 0 10 (dk_at dksX6_laysSquares_1 18 rfl rfl)
theorem dX6_laysSquares_45 : decode cX6_laysSquares 45 = .ok (.iload_n 2, 1) := dk_28 (dk_at dksX6_laysSquares_1 21 rfl rfl)
theorem dX6_laysSquares_46 : decode cX6_laysSquares 46 = .ok (.iconst 1, 1) := dk_4 (dk_at dksX6_laysSquares_1 22 rfl rfl)
theorem dX6_laysSquares_47 : decode cX6_laysSquares 47 = .ok (.isub, 1) := dk_100 (dk_at dksX6_laysSquares_1 23 rfl rfl)
theorem dX6_laysSquares_48 : decode cX6_laysSquares 48 = .ok (.istore_n 2, 1) := dk_61 (dk_at dksX6_laysSquares_2 0 rfl rfl)
theorem dX6_laysSquares_49 : decode cX6_laysSquares 49 = .ok (.goto (-35), 3) := dk_167 255 221 (dk_at dksX6_laysSquares_2 1 rfl rfl)
theorem dX6_laysSquares_52 : decode cX6_laysSquares 52 = .ok (.aload_n 0, 1) := dk_42 (dk_at dksX6_laysSquares_2 4 rfl rfl)
theorem dX6_laysSquares_53 : decode cX6_laysSquares 53 = .ok (.aload_n 0, 1) := dk_42 (dk_at dksX6_laysSquares_2 5 rfl rfl)
theorem dX6_laysSquares_54 : decode cX6_laysSquares 54 = .ok (.getfield 116, 3) := dk_180 0 116 (dk_at dksX6_laysSquares_2 6 rfl rfl)
theorem dX6_laysSquares_57 : decode cX6_laysSquares 57 = .ok (.iload_n 2, 1) := dk_28 (dk_at dksX6_laysSquares_2 9 rfl rfl)
theorem dX6_laysSquares_58 : decode cX6_laysSquares 58 = .ok (.iaload, 1) := dk_46 (dk_at dksX6_laysSquares_2 10 rfl rfl)
theorem dX6_laysSquares_59 : decode cX6_laysSquares 59 = .ok (.iload_n 1, 1) := dk_27 (dk_at dksX6_laysSquares_2 11 rfl rfl)
theorem dX6_laysSquares_60 : decode cX6_laysSquares 60 = .ok (.invokevirtual 404, 3) := dk_182 1 148 (dk_at dksX6_laysSquares_2 12 rfl rfl)
theorem dX6_laysSquares_63 : decode cX6_laysSquares 63 = .ok (.ifCond .eq (-49), 3) := dk_153 255 207 (dk_at dksX6_laysSquares_2 15 rfl rfl)
theorem dX6_laysSquares_66 : decode cX6_laysSquares 66 = .ok (.aload_n 0, 1) := dk_42 (dk_at dksX6_laysSquares_2 18 rfl rfl)
theorem dX6_laysSquares_67 : decode cX6_laysSquares 67 = .ok (.iload_n 1, 1) := dk_27 (dk_at dksX6_laysSquares_2 19 rfl rfl)
theorem dX6_laysSquares_68 : decode cX6_laysSquares 68 = .ok (.iload_n 2, 1) := dk_28 (dk_at dksX6_laysSquares_2 20 rfl rfl)
theorem dX6_laysSquares_69 : decode cX6_laysSquares 69 = .ok (.iconst 1, 1) := dk_4 (dk_at dksX6_laysSquares_2 21 rfl rfl)
theorem dX6_laysSquares_70 : decode cX6_laysSquares 70 = .ok (.iadd, 1) := dk_96 (dk_at dksX6_laysSquares_2 22 rfl rfl)
theorem dX6_laysSquares_71 : decode cX6_laysSquares 71 = .ok (.invokevirtual 413, 3) := dk_182 1 157 (dk_at dksX6_laysSquares_3 0 rfl rfl)
theorem dX6_laysSquares_74 : decode cX6_laysSquares 74 = .ok (.ifCond .ne 6, 3) := dk_154 0 6 (dk_at dksX6_laysSquares_3 3 rfl rfl)
theorem dX6_laysSquares_77 : decode cX6_laysSquares 77 = .ok (.goto (-63), 3) := dk_167 255 193 (dk_at dksX6_laysSquares_3 6 rfl rfl)
theorem dX6_laysSquares_80 : decode cX6_laysSquares 80 = .ok (.iload_n 2, 1) := dk_28 (dk_at dksX6_laysSquares_3 9 rfl rfl)
theorem dX6_laysSquares_81 : decode cX6_laysSquares 81 = .ok (.iconst 1, 1) := dk_4 (dk_at dksX6_laysSquares_3 10 rfl rfl)
theorem dX6_laysSquares_82 : decode cX6_laysSquares 82 = .ok (.iadd, 1) := dk_96 (dk_at dksX6_laysSquares_3 11 rfl rfl)
theorem dX6_laysSquares_83 : decode cX6_laysSquares 83 = .ok (.iload_n 1, 1) := dk_27 (dk_at dksX6_laysSquares_3 12 rfl rfl)
theorem dX6_laysSquares_84 : decode cX6_laysSquares 84 = .ok (.if_icmp .ge 17, 3) := dk_162 0 17 (dk_at dksX6_laysSquares_3 13 rfl rfl)
theorem dX6_laysSquares_87 : decode cX6_laysSquares 87 = .ok (.iload_n 2, 1) := dk_28 (dk_at dksX6_laysSquares_3 16 rfl rfl)
theorem dX6_laysSquares_88 : decode cX6_laysSquares 88 = .ok (.iconst 1, 1) := dk_4 (dk_at dksX6_laysSquares_3 17 rfl rfl)
theorem dX6_laysSquares_89 : decode cX6_laysSquares 89 = .ok (.iadd, 1) := dk_96 (dk_at dksX6_laysSquares_3 18 rfl rfl)
theorem dX6_laysSquares_90 : decode cX6_laysSquares 90 = .ok (.istore_n 2, 1) := dk_61 (dk_at dksX6_laysSquares_3 19 rfl rfl)
theorem dX6_laysSquares_91 : decode cX6_laysSquares 91 = .ok (.aload_n 0, 1) := dk_42 (dk_at dksX6_laysSquares_3 20 rfl rfl)
theorem dX6_laysSquares_92 : decode cX6_laysSquares 92 = .ok (.getfield 116, 3) := dk_180 0 116 (dk_at dksX6_laysSquares_3 21 rfl rfl)
theorem dX6_laysSquares_95 : decode cX6_laysSquares 95 = .ok (.iload_n 2, 1) := dk_28 (dk_at dksX6_laysSquares_4 0 rfl rfl)
theorem dX6_laysSquares_96 : decode cX6_laysSquares 96 = .ok (.iconst (-1), 1) := dk_2 (dk_at dksX6_laysSquares_4 1 rfl rfl)
theorem dX6_laysSquares_97 : decode cX6_laysSquares 97 = .ok (.iastore, 1) := dk_79 (dk_at dksX6_laysSquares_4 2 rfl rfl)
theorem dX6_laysSquares_98 : decode cX6_laysSquares 98 = .ok (.goto (-84), 3) := dk_167 255 172 (dk_at dksX6_laysSquares_4 3 rfl rfl)
theorem dX6_laysSquares_101 : decode cX6_laysSquares 101 = .ok (.iconst 0, 1) := dk_3 (dk_at dksX6_laysSquares_4 6 rfl rfl)
theorem dX6_laysSquares_102 : decode cX6_laysSquares 102 = .ok (.istore_n 3, 1) := dk_62 (dk_at dksX6_laysSquares_4 7 rfl rfl)
theorem dX6_laysSquares_103 : decode cX6_laysSquares 103 = .ok (.iload_n 3, 1) := dk_29 (dk_at dksX6_laysSquares_4 8 rfl rfl)
theorem dX6_laysSquares_104 : decode cX6_laysSquares 104 = .ok (.iload_n 1, 1) := dk_27 (dk_at dksX6_laysSquares_4 9 rfl rfl)
theorem dX6_laysSquares_105 : decode cX6_laysSquares 105 = .ok (.if_icmp .ge 28, 3) := dk_162 0 28 (dk_at dksX6_laysSquares_4 10 rfl rfl)
theorem dX6_laysSquares_108 : decode cX6_laysSquares 108 = .ok (.aload_n 0, 1) := dk_42 (dk_at dksX6_laysSquares_4 13 rfl rfl)
theorem dX6_laysSquares_109 : decode cX6_laysSquares 109 = .ok (.getfield 410, 3) := dk_180 1 154 (dk_at dksX6_laysSquares_4 14 rfl rfl)
theorem dX6_laysSquares_112 : decode cX6_laysSquares 112 = .ok (.ifCond .ne 21, 3) := dk_154 0 21 (dk_at dksX6_laysSquares_4 17 rfl rfl)
theorem dX6_laysSquares_115 : decode cX6_laysSquares 115 = .ok (.aload_n 0, 1) := dk_42 (dk_at dksX6_laysSquares_4 20 rfl rfl)
theorem dX6_laysSquares_116 : decode cX6_laysSquares 116 = .ok (.getfield 119, 3) := dk_180 0 119 (dk_at dksX6_laysSquares_4 21 rfl rfl)
theorem dX6_laysSquares_119 : decode cX6_laysSquares 119 = .ok (.iload_n 3, 1) := dk_29 (dk_at dksX6_laysSquares_5 0 rfl rfl)
theorem dX6_laysSquares_120 : decode cX6_laysSquares 120 = .ok (.aload_n 0, 1) := dk_42 (dk_at dksX6_laysSquares_5 1 rfl rfl)
theorem dX6_laysSquares_121 : decode cX6_laysSquares 121 = .ok (.getfield 116, 3) := dk_180 0 116 (dk_at dksX6_laysSquares_5 2 rfl rfl)
theorem dX6_laysSquares_124 : decode cX6_laysSquares 124 = .ok (.iload_n 3, 1) := dk_29 (dk_at dksX6_laysSquares_5 5 rfl rfl)
theorem dX6_laysSquares_125 : decode cX6_laysSquares 125 = .ok (.iaload, 1) := dk_46 (dk_at dksX6_laysSquares_5 6 rfl rfl)
theorem dX6_laysSquares_126 : decode cX6_laysSquares 126 = .ok (.iastore, 1) := dk_79 (dk_at dksX6_laysSquares_5 7 rfl rfl)
theorem dX6_laysSquares_127 : decode cX6_laysSquares 127 = .ok (.iinc 3 1, 3) := dk_132 3 1 (dk_at dksX6_laysSquares_5 8 rfl rfl)
theorem dX6_laysSquares_130 : decode cX6_laysSquares 130 = .ok (.goto (-27), 3) := dk_167 255 229 (dk_at dksX6_laysSquares_5 11 rfl rfl)
theorem dX6_laysSquares_133 : decode cX6_laysSquares 133 = .ok (.aload_n 0, 1) := dk_42 (dk_at dksX6_laysSquares_5 14 rfl rfl)
theorem dX6_laysSquares_134 : decode cX6_laysSquares 134 = .ok (.aload_n 0, 1) := dk_42 (dk_at dksX6_laysSquares_5 15 rfl rfl)
theorem dX6_laysSquares_135 : decode cX6_laysSquares 135 = .ok (.getfield 410, 3) := dk_180 1 154 (dk_at dksX6_laysSquares_5 16 rfl rfl)
theorem dX6_laysSquares_138 : decode cX6_laysSquares 138 = .ok (.iconst 1, 1) := dk_4 (dk_at dksX6_laysSquares_5 19 rfl rfl)
theorem dX6_laysSquares_139 : decode cX6_laysSquares 139 = .ok (.iadd, 1) := dk_96 (dk_at dksX6_laysSquares_5 20 rfl rfl)
theorem dX6_laysSquares_140 : decode cX6_laysSquares 140 = .ok (.putfield 410, 3) := dk_181 1 154 (dk_at dksX6_laysSquares_5 21 rfl rfl)
theorem dX6_laysSquares_143 : decode cX6_laysSquares 143 = .ok (.goto (-129), 3) := dk_167 255 127 (dk_at dksX6_laysSquares_6 0 rfl rfl)
theorem dX6_laysSquares_146 : decode cX6_laysSquares 146 = .ok (.return_, 1) := dk_177 (dk_at dksX6_laysSquares_6 3 rfl rfl)
abbrev cX6_isOf : ByteArray := prog_17_method_94_code
def yX6_isOf : MethodName := ⟨RX6, "isOf", "(II)Z"⟩
def dkwX6_isOf_0 : List UInt8 := [42, 27, 182, 1, 26, 153, 0, 17, 42, 180, 0, 7, 27, 46, 28, 160, 0, 7, 4, 167, 0, 4, 3, 172]
abbrev dktX6_isOf_0 : List UInt8 := dkwX6_isOf_0 ++ []
theorem dksX6_isOf_0 : cX6_isOf.data.toList.drop 0 = dktX6_isOf_0 := by decide +kernel
theorem dX6_isOf_0 : decode cX6_isOf 0 = .ok (.aload_n 0, 1) := dk_42 (dk_at dksX6_isOf_0 0 rfl rfl)
theorem dX6_isOf_1 : decode cX6_isOf 1 = .ok (.iload_n 1, 1) := dk_27 (dk_at dksX6_isOf_0 1 rfl rfl)
theorem dX6_isOf_2 : decode cX6_isOf 2 = .ok (.invokevirtual 282, 3) := dk_182 1 26 (dk_at dksX6_isOf_0 2 rfl rfl)
theorem dX6_isOf_5 : decode cX6_isOf 5 = .ok (.ifCond .eq 17, 3) := dk_153 0 17 (dk_at dksX6_isOf_0 5 rfl rfl)
theorem dX6_isOf_8 : decode cX6_isOf 8 = .ok (.aload_n 0, 1) := dk_42 (dk_at dksX6_isOf_0 8 rfl rfl)
theorem dX6_isOf_9 : decode cX6_isOf 9 = .ok (.getfield 7, 3) := dk_180 0 7 (dk_at dksX6_isOf_0 9 rfl rfl)
theorem dX6_isOf_12 : decode cX6_isOf 12 = .ok (.iload_n 1, 1) := dk_27 (dk_at dksX6_isOf_0 12 rfl rfl)
theorem dX6_isOf_13 : decode cX6_isOf 13 = .ok (.iaload, 1) := dk_46 (dk_at dksX6_isOf_0 13 rfl rfl)
theorem dX6_isOf_14 : decode cX6_isOf 14 = .ok (.iload_n 2, 1) := dk_28 (dk_at dksX6_isOf_0 14 rfl rfl)
theorem dX6_isOf_15 : decode cX6_isOf 15 = .ok (.if_icmp .ne 7, 3) := dk_160 0 7 (dk_at dksX6_isOf_0 15 rfl rfl)
theorem dX6_isOf_18 : decode cX6_isOf 18 = .ok (.iconst 1, 1) := dk_4 (dk_at dksX6_isOf_0 18 rfl rfl)
theorem dX6_isOf_19 : decode cX6_isOf 19 = .ok (.goto 4, 3) := dk_167 0 4 (dk_at dksX6_isOf_0 19 rfl rfl)
theorem dX6_isOf_22 : decode cX6_isOf 22 = .ok (.iconst 0, 1) := dk_3 (dk_at dksX6_isOf_0 22 rfl rfl)
theorem dX6_isOf_23 : decode cX6_isOf 23 = .ok (.ireturn, 1) := dk_172 (dk_at dksX6_isOf_0 23 rfl rfl)
abbrev cX6_canRows : ByteArray := prog_17_method_96_code
def yX6_canRows : MethodName := ⟨RX6, "canRows", "(II)Z"⟩
def dkwX6_canRows_1 : List UInt8 := [167, 255, 236, 4, 172]
abbrev dktX6_canRows_1 : List UInt8 := dkwX6_canRows_1 ++ []
def dkwX6_canRows_0 : List UInt8 := [3, 62, 29, 27, 162, 0, 21, 42, 27, 29, 28, 182, 1, 151, 154, 0, 5, 3, 172, 132, 3, 1]
abbrev dktX6_canRows_0 : List UInt8 := dkwX6_canRows_0 ++ dktX6_canRows_1
theorem dksX6_canRows_0 : cX6_canRows.data.toList.drop 0 = dktX6_canRows_0 := by decide +kernel
theorem dksX6_canRows_1 : cX6_canRows.data.toList.drop 22 = dktX6_canRows_1 := dk_seg dksX6_canRows_0 22 rfl rfl
theorem dX6_canRows_0 : decode cX6_canRows 0 = .ok (.iconst 0, 1) := dk_3 (dk_at dksX6_canRows_0 0 rfl rfl)
theorem dX6_canRows_1 : decode cX6_canRows 1 = .ok (.istore_n 3, 1) := dk_62 (dk_at dksX6_canRows_0 1 rfl rfl)
theorem dX6_canRows_2 : decode cX6_canRows 2 = .ok (.iload_n 3, 1) := dk_29 (dk_at dksX6_canRows_0 2 rfl rfl)
theorem dX6_canRows_3 : decode cX6_canRows 3 = .ok (.iload_n 1, 1) := dk_27 (dk_at dksX6_canRows_0 3 rfl rfl)
theorem dX6_canRows_4 : decode cX6_canRows 4 = .ok (.if_icmp .ge 21, 3) := dk_162 0 21 (dk_at dksX6_canRows_0 4 rfl rfl)
theorem dX6_canRows_7 : decode cX6_canRows 7 = .ok (.aload_n 0, 1) := dk_42 (dk_at dksX6_canRows_0 7 rfl rfl)
theorem dX6_canRows_8 : decode cX6_canRows 8 = .ok (.iload_n 1, 1) := dk_27 (dk_at dksX6_canRows_0 8 rfl rfl)
theorem dX6_canRows_9 : decode cX6_canRows 9 = .ok (.iload_n 3, 1) := dk_29 (dk_at dksX6_canRows_0 9 rfl rfl)
theorem dX6_canRows_10 : decode cX6_canRows 10 = .ok (.iload_n 2, 1) := dk_28 (dk_at dksX6_canRows_0 10 rfl rfl)
theorem dX6_canRows_11 : decode cX6_canRows 11 = .ok (.invokevirtual 407, 3) := dk_182 1 151 (dk_at dksX6_canRows_0 11 rfl rfl)
theorem dX6_canRows_14 : decode cX6_canRows 14 = .ok (.ifCond .ne 5, 3) := dk_154 0 5 (dk_at dksX6_canRows_0 14 rfl rfl)
theorem dX6_canRows_17 : decode cX6_canRows 17 = .ok (.iconst 0, 1) := dk_3 (dk_at dksX6_canRows_0 17 rfl rfl)
theorem dX6_canRows_18 : decode cX6_canRows 18 = .ok (.ireturn, 1) := dk_172 (dk_at dksX6_canRows_0 18 rfl rfl)
theorem dX6_canRows_19 : decode cX6_canRows 19 = .ok (.iinc 3 1, 3) := dk_132 3 1 (dk_at dksX6_canRows_0 19 rfl rfl)
theorem dX6_canRows_22 : decode cX6_canRows 22 = .ok (.goto (-20), 3) := dk_167 255 236 (dk_at dksX6_canRows_1 0 rfl rfl)
theorem dX6_canRows_25 : decode cX6_canRows 25 = .ok (.iconst 1, 1) := dk_4 (dk_at dksX6_canRows_1 3 rfl rfl)
theorem dX6_canRows_26 : decode cX6_canRows 26 = .ok (.ireturn, 1) := dk_172 (dk_at dksX6_canRows_1 4 rfl rfl)
abbrev cX6_canColumn : ByteArray := prog_17_method_95_code
def yX6_canColumn : MethodName := ⟨RX6, "canColumn", "(III)Z"⟩
def dkwX6_canColumn_3 : List UInt8 := [21, 5, 153, 0, 5, 4, 172, 132, 4, 1, 167, 255, 178, 3, 172]
abbrev dktX6_canColumn_3 : List UInt8 := dkwX6_canColumn_3 ++ []
def dkwX6_canColumn_2 : List UInt8 := [21, 6, 46, 28, 182, 1, 6, 160, 0, 7, 4, 167, 0, 4, 3, 54, 5, 132, 6, 1, 167, 255, 212]
abbrev dktX6_canColumn_2 : List UInt8 := dkwX6_canColumn_2 ++ dktX6_canColumn_3
def dkwX6_canColumn_1 : List UInt8 := [21, 6, 29, 162, 0, 44, 21, 5, 153, 0, 39, 42, 21, 4, 21, 6, 182, 1, 6, 42, 42, 180, 0, 116]
abbrev dktX6_canColumn_1 : List UInt8 := dkwX6_canColumn_1 ++ dktX6_canColumn_2
def dkwX6_canColumn_0 : List UInt8 := [3, 54, 4, 21, 4, 42, 180, 0, 130, 162, 0, 75, 42, 21, 4, 27, 182, 1, 148, 54, 5, 3, 54, 6]
abbrev dktX6_canColumn_0 : List UInt8 := dkwX6_canColumn_0 ++ dktX6_canColumn_1
theorem dksX6_canColumn_0 : cX6_canColumn.data.toList.drop 0 = dktX6_canColumn_0 := by decide +kernel
theorem dksX6_canColumn_1 : cX6_canColumn.data.toList.drop 24 = dktX6_canColumn_1 := dk_seg dksX6_canColumn_0 24 rfl rfl
theorem dksX6_canColumn_2 : cX6_canColumn.data.toList.drop 48 = dktX6_canColumn_2 := dk_seg dksX6_canColumn_1 24 rfl rfl
theorem dksX6_canColumn_3 : cX6_canColumn.data.toList.drop 71 = dktX6_canColumn_3 := dk_seg dksX6_canColumn_2 23 rfl rfl
theorem dX6_canColumn_0 : decode cX6_canColumn 0 = .ok (.iconst 0, 1) := dk_3 (dk_at dksX6_canColumn_0 0 rfl rfl)
theorem dX6_canColumn_1 : decode cX6_canColumn 1 = .ok (.istore 4, 2) := dk_54 4 (dk_at dksX6_canColumn_0 1 rfl rfl)
theorem dX6_canColumn_3 : decode cX6_canColumn 3 = .ok (.iload 4, 2) := dk_21 4 (dk_at dksX6_canColumn_0 3 rfl rfl)
theorem dX6_canColumn_5 : decode cX6_canColumn 5 = .ok (.aload_n 0, 1) := dk_42 (dk_at dksX6_canColumn_0 5 rfl rfl)
theorem dX6_canColumn_6 : decode cX6_canColumn 6 = .ok (.getfield 130, 3) := dk_180 0 130 (dk_at dksX6_canColumn_0 6 rfl rfl)
theorem dX6_canColumn_9 : decode cX6_canColumn 9 = .ok (.if_icmp .ge 75, 3) := dk_162 0 75 (dk_at dksX6_canColumn_0 9 rfl rfl)
theorem dX6_canColumn_12 : decode cX6_canColumn 12 = .ok (.aload_n 0, 1) := dk_42 (dk_at dksX6_canColumn_0 12 rfl rfl)
theorem dX6_canColumn_13 : decode cX6_canColumn 13 = .ok (.iload 4, 2) := dk_21 4 (dk_at dksX6_canColumn_0 13 rfl rfl)
theorem dX6_canColumn_15 : decode cX6_canColumn 15 = .ok (.iload_n 1, 1) := dk_27 (dk_at dksX6_canColumn_0 15 rfl rfl)
theorem dX6_canColumn_16 : decode cX6_canColumn 16 = .ok (.invokevirtual 404, 3) := dk_182 1 148 (dk_at dksX6_canColumn_0 16 rfl rfl)
theorem dX6_canColumn_19 : decode cX6_canColumn 19 = .ok (.istore 5, 2) := dk_54 5 (dk_at dksX6_canColumn_0 19 rfl rfl)
theorem dX6_canColumn_21 : decode cX6_canColumn 21 = .ok (.iconst 0, 1) := dk_3 (dk_at dksX6_canColumn_0 21 rfl rfl)
theorem dX6_canColumn_22 : decode cX6_canColumn 22 = .ok (.istore 6, 2) := dk_54 6 (dk_at dksX6_canColumn_0 22 rfl rfl)
theorem dX6_canColumn_24 : decode cX6_canColumn 24 = .ok (.iload 6, 2) := dk_21 6 (dk_at dksX6_canColumn_1 0 rfl rfl)
theorem dX6_canColumn_26 : decode cX6_canColumn 26 = .ok (.iload_n 3, 1) := dk_29 (dk_at dksX6_canColumn_1 2 rfl rfl)
theorem dX6_canColumn_27 : decode cX6_canColumn 27 = .ok (.if_icmp .ge 44, 3) := dk_162 0 44 (dk_at dksX6_canColumn_1 3 rfl rfl)
theorem dX6_canColumn_30 : decode cX6_canColumn 30 = .ok (.iload 5, 2) := dk_21 5 (dk_at dksX6_canColumn_1 6 rfl rfl)
theorem dX6_canColumn_32 : decode cX6_canColumn 32 = .ok (.ifCond .eq 39, 3) := dk_153 0 39 (dk_at dksX6_canColumn_1 8 rfl rfl)
theorem dX6_canColumn_35 : decode cX6_canColumn 35 = .ok (.aload_n 0, 1) := dk_42 (dk_at dksX6_canColumn_1 11 rfl rfl)
theorem dX6_canColumn_36 : decode cX6_canColumn 36 = .ok (.iload 4, 2) := dk_21 4 (dk_at dksX6_canColumn_1 12 rfl rfl)
theorem dX6_canColumn_38 : decode cX6_canColumn 38 = .ok (.iload 6, 2) := dk_21 6 (dk_at dksX6_canColumn_1 14 rfl rfl)
theorem dX6_canColumn_40 : decode cX6_canColumn 40 = .ok (.invokevirtual 262, 3) := dk_182 1 6 (dk_at dksX6_canColumn_1 16 rfl rfl)
theorem dX6_canColumn_43 : decode cX6_canColumn 43 = .ok (.aload_n 0, 1) := dk_42 (dk_at dksX6_canColumn_1 19 rfl rfl)
theorem dX6_canColumn_44 : decode cX6_canColumn 44 = .ok (.aload_n 0, 1) := dk_42 (dk_at dksX6_canColumn_1 20 rfl rfl)
theorem dX6_canColumn_45 : decode cX6_canColumn 45 = .ok (.getfield 116, 3) := dk_180 0 116 (dk_at dksX6_canColumn_1 21 rfl rfl)
theorem dX6_canColumn_48 : decode cX6_canColumn 48 = .ok (.iload 6, 2) := dk_21 6 (dk_at dksX6_canColumn_2 0 rfl rfl)
theorem dX6_canColumn_50 : decode cX6_canColumn 50 = .ok (.iaload, 1) := dk_46 (dk_at dksX6_canColumn_2 2 rfl rfl)
theorem dX6_canColumn_51 : decode cX6_canColumn 51 = .ok (.iload_n 2, 1) := dk_28 (dk_at dksX6_canColumn_2 3 rfl rfl)
theorem dX6_canColumn_52 : decode cX6_canColumn 52 = .ok (.invokevirtual 262, 3) := dk_182 1 6 (dk_at dksX6_canColumn_2 4 rfl rfl)
theorem dX6_canColumn_55 : decode cX6_canColumn 55 = .ok (.if_icmp .ne 7, 3) := dk_160 0 7 (dk_at dksX6_canColumn_2 7 rfl rfl)
theorem dX6_canColumn_58 : decode cX6_canColumn 58 = .ok (.iconst 1, 1) := dk_4 (dk_at dksX6_canColumn_2 10 rfl rfl)
theorem dX6_canColumn_59 : decode cX6_canColumn 59 = .ok (.goto 4, 3) := dk_167 0 4 (dk_at dksX6_canColumn_2 11 rfl rfl)
theorem dX6_canColumn_62 : decode cX6_canColumn 62 = .ok (.iconst 0, 1) := dk_3 (dk_at dksX6_canColumn_2 14 rfl rfl)
theorem dX6_canColumn_63 : decode cX6_canColumn 63 = .ok (.istore 5, 2) := dk_54 5 (dk_at dksX6_canColumn_2 15 rfl rfl)
theorem dX6_canColumn_65 : decode cX6_canColumn 65 = .ok (.iinc 6 1, 3) := dk_132 6 1 (dk_at dksX6_canColumn_2 17 rfl rfl)
theorem dX6_canColumn_68 : decode cX6_canColumn 68 = .ok (.goto (-44), 3) := dk_167 255 212 (dk_at dksX6_canColumn_2 20 rfl rfl)
theorem dX6_canColumn_71 : decode cX6_canColumn 71 = .ok (.iload 5, 2) := dk_21 5 (dk_at dksX6_canColumn_3 0 rfl rfl)
theorem dX6_canColumn_73 : decode cX6_canColumn 73 = .ok (.ifCond .eq 5, 3) := dk_153 0 5 (dk_at dksX6_canColumn_3 2 rfl rfl)
theorem dX6_canColumn_76 : decode cX6_canColumn 76 = .ok (.iconst 1, 1) := dk_4 (dk_at dksX6_canColumn_3 5 rfl rfl)
theorem dX6_canColumn_77 : decode cX6_canColumn 77 = .ok (.ireturn, 1) := dk_172 (dk_at dksX6_canColumn_3 6 rfl rfl)
theorem dX6_canColumn_78 : decode cX6_canColumn 78 = .ok (.iinc 4 1, 3) := dk_132 4 1 (dk_at dksX6_canColumn_3 7 rfl rfl)
theorem dX6_canColumn_81 : decode cX6_canColumn 81 = .ok (.goto (-78), 3) := dk_167 255 178 (dk_at dksX6_canColumn_3 10 rfl rfl)
theorem dX6_canColumn_84 : decode cX6_canColumn 84 = .ok (.iconst 0, 1) := dk_3 (dk_at dksX6_canColumn_3 13 rfl rfl)
theorem dX6_canColumn_85 : decode cX6_canColumn 85 = .ok (.ireturn, 1) := dk_172 (dk_at dksX6_canColumn_3 14 rfl rfl)
abbrev cX6_seed : ByteArray := prog_17_method_99_code
def yX6_seed : MethodName := ⟨RX6, "seed", "(I)Z"⟩
def dkwX6_seed_0 : List UInt8 := [27, 3, 19, 1, 163, 184, 0, 139, 154, 0, 5, 3, 172, 42, 27, 181, 0, 122, 4, 172]
abbrev dktX6_seed_0 : List UInt8 := dkwX6_seed_0 ++ []
theorem dksX6_seed_0 : cX6_seed.data.toList.drop 0 = dktX6_seed_0 := by decide +kernel
theorem dX6_seed_0 : decode cX6_seed 0 = .ok (.iload_n 1, 1) := dk_27 (dk_at dksX6_seed_0 0 rfl rfl)
theorem dX6_seed_1 : decode cX6_seed 1 = .ok (.iconst 0, 1) := dk_3 (dk_at dksX6_seed_0 1 rfl rfl)
theorem dX6_seed_2 : decode cX6_seed 2 = .ok (.ldc_w 419, 3) := dk_19 1 163 (dk_at dksX6_seed_0 2 rfl rfl)
theorem dX6_seed_5 : decode cX6_seed 5 = .ok (.invokestatic 139, 3) := dk_184 0 139 (dk_at dksX6_seed_0 5 rfl rfl)
theorem dX6_seed_8 : decode cX6_seed 8 = .ok (.ifCond .ne 5, 3) := dk_154 0 5 (dk_at dksX6_seed_0 8 rfl rfl)
theorem dX6_seed_11 : decode cX6_seed 11 = .ok (.iconst 0, 1) := dk_3 (dk_at dksX6_seed_0 11 rfl rfl)
theorem dX6_seed_12 : decode cX6_seed 12 = .ok (.ireturn, 1) := dk_172 (dk_at dksX6_seed_0 12 rfl rfl)
theorem dX6_seed_13 : decode cX6_seed 13 = .ok (.aload_n 0, 1) := dk_42 (dk_at dksX6_seed_0 13 rfl rfl)
theorem dX6_seed_14 : decode cX6_seed 14 = .ok (.iload_n 1, 1) := dk_27 (dk_at dksX6_seed_0 14 rfl rfl)
theorem dX6_seed_15 : decode cX6_seed 15 = .ok (.putfield 122, 3) := dk_181 0 122 (dk_at dksX6_seed_0 15 rfl rfl)
theorem dX6_seed_18 : decode cX6_seed 18 = .ok (.iconst 1, 1) := dk_4 (dk_at dksX6_seed_0 18 rfl rfl)
theorem dX6_seed_19 : decode cX6_seed 19 = .ok (.ireturn, 1) := dk_172 (dk_at dksX6_seed_0 19 rfl rfl)
abbrev cX6_draw : ByteArray := prog_17_method_102_code
def yX6_draw : MethodName := ⟨RX6, "draw", "(III)I"⟩
def dkwX6_draw_8 : List UInt8 := [21, 6, 51, 153, 0, 7, 4, 167, 0, 4, 3, 96, 54, 5, 132, 6, 1, 167, 255, 224, 21, 5, 172]
abbrev dktX6_draw_8 : List UInt8 := dkwX6_draw_8 ++ []
def dkwX6_draw_7 : List UInt8 := [21, 4, 172, 3, 54, 5, 3, 54, 6, 21, 6, 42, 180, 0, 130, 162, 0, 29, 21, 5, 42, 180, 0, 88]
abbrev dktX6_draw_7 : List UInt8 := dkwX6_draw_7 ++ dktX6_draw_8
def dkwX6_draw_6 : List UInt8 := [112, 182, 1, 168, 54, 4, 42, 180, 0, 88, 21, 4, 4, 84, 132, 5, 1, 167, 255, 186, 29, 154, 0, 6]
abbrev dktX6_draw_6 : List UInt8 := dkwX6_draw_6 ++ dktX6_draw_7
def dkwX6_draw_5 : List UInt8 := [182, 1, 165, 54, 6, 21, 6, 154, 0, 8, 21, 4, 167, 0, 16, 42, 21, 4, 42, 180, 0, 122, 21, 6]
abbrev dktX6_draw_5 : List UInt8 := dkwX6_draw_5 ++ dktX6_draw_6
def dkwX6_draw_4 : List UInt8 := [17, 98, 85, 42, 180, 0, 122, 104, 17, 54, 25, 96, 19, 1, 164, 112, 181, 0, 122, 42, 21, 4]
abbrev dktX6_draw_4 : List UInt8 := dkwX6_draw_4 ++ dktX6_draw_5
def dkwX6_draw_3 : List UInt8 := [167, 0, 4, 3, 84, 132, 4, 1, 167, 255, 226, 27, 54, 4, 3, 54, 5, 21, 5, 28, 162, 0, 70, 42]
abbrev dktX6_draw_3 : List UInt8 := dkwX6_draw_3 ++ dktX6_draw_4
def dkwX6_draw_2 : List UInt8 := [21, 4, 42, 180, 0, 130, 162, 0, 27, 42, 180, 0, 88, 21, 4, 21, 4, 27, 160, 0, 7, 4]
abbrev dktX6_draw_2 : List UInt8 := dkwX6_draw_2 ++ dktX6_draw_3
def dkwX6_draw_1 : List UInt8 := [154, 0, 5, 2, 172, 42, 27, 182, 1, 26, 154, 0, 6, 16, 254, 172, 42, 182, 1, 35, 3, 54, 4]
abbrev dktX6_draw_1 : List UInt8 := dkwX6_draw_1 ++ dktX6_draw_2
def dkwX6_draw_0 : List UInt8 := [42, 27, 182, 0, 154, 153, 0, 22, 28, 4, 16, 60, 184, 0, 139, 153, 0, 12, 29, 3, 4, 184, 0, 139]
abbrev dktX6_draw_0 : List UInt8 := dkwX6_draw_0 ++ dktX6_draw_1
theorem dksX6_draw_0 : cX6_draw.data.toList.drop 0 = dktX6_draw_0 := by decide +kernel
theorem dksX6_draw_1 : cX6_draw.data.toList.drop 24 = dktX6_draw_1 := dk_seg dksX6_draw_0 24 rfl rfl
theorem dksX6_draw_2 : cX6_draw.data.toList.drop 47 = dktX6_draw_2 := dk_seg dksX6_draw_1 23 rfl rfl
theorem dksX6_draw_3 : cX6_draw.data.toList.drop 69 = dktX6_draw_3 := dk_seg dksX6_draw_2 22 rfl rfl
theorem dksX6_draw_4 : cX6_draw.data.toList.drop 93 = dktX6_draw_4 := dk_seg dksX6_draw_3 24 rfl rfl
theorem dksX6_draw_5 : cX6_draw.data.toList.drop 115 = dktX6_draw_5 := dk_seg dksX6_draw_4 22 rfl rfl
theorem dksX6_draw_6 : cX6_draw.data.toList.drop 139 = dktX6_draw_6 := dk_seg dksX6_draw_5 24 rfl rfl
theorem dksX6_draw_7 : cX6_draw.data.toList.drop 163 = dktX6_draw_7 := dk_seg dksX6_draw_6 24 rfl rfl
theorem dksX6_draw_8 : cX6_draw.data.toList.drop 187 = dktX6_draw_8 := dk_seg dksX6_draw_7 24 rfl rfl
theorem dX6_draw_0 : decode cX6_draw 0 = .ok (.aload_n 0, 1) := dk_42 (dk_at dksX6_draw_0 0 rfl rfl)
theorem dX6_draw_1 : decode cX6_draw 1 = .ok (.iload_n 1, 1) := dk_27 (dk_at dksX6_draw_0 1 rfl rfl)
theorem dX6_draw_2 : decode cX6_draw 2 = .ok (.invokevirtual 154, 3) := dk_182 0 154 (dk_at dksX6_draw_0 2 rfl rfl)
theorem dX6_draw_5 : decode cX6_draw 5 = .ok (.ifCond .eq 22, 3) := dk_153 0 22 (dk_at dksX6_draw_0 5 rfl rfl)
theorem dX6_draw_8 : decode cX6_draw 8 = .ok (.iload_n 2, 1) := dk_28 (dk_at dksX6_draw_0 8 rfl rfl)
theorem dX6_draw_9 : decode cX6_draw 9 = .ok (.iconst 1, 1) := dk_4 (dk_at dksX6_draw_0 9 rfl rfl)
theorem dX6_draw_10 : decode cX6_draw 10 = .ok (.bipush 60, 2) := dk_16 60 (dk_at dksX6_draw_0 10 rfl rfl)
theorem dX6_draw_12 : decode cX6_draw 12 = .ok (.invokestatic 139, 3) := dk_184 0 139 (dk_at dksX6_draw_0 12 rfl rfl)
theorem dX6_draw_15 : decode cX6_draw 15 = .ok (.ifCond .eq 12, 3) := dk_153 0 12 (dk_at dksX6_draw_0 15 rfl rfl)
theorem dX6_draw_18 : decode cX6_draw 18 = .ok (.iload_n 3, 1) := dk_29 (dk_at dksX6_draw_0 18 rfl rfl)
theorem dX6_draw_19 : decode cX6_draw 19 = .ok (.iconst 0, 1) := dk_3 (dk_at dksX6_draw_0 19 rfl rfl)
theorem dX6_draw_20 : decode cX6_draw 20 = .ok (.iconst 1, 1) := dk_4 (dk_at dksX6_draw_0 20 rfl rfl)
theorem dX6_draw_21 : decode cX6_draw 21 = .ok (.invokestatic 139, 3) := dk_184 0 139 (dk_at dksX6_draw_0 21 rfl rfl)
theorem dX6_draw_24 : decode cX6_draw 24 = .ok (.ifCond .ne 5, 3) := dk_154 0 5 (dk_at dksX6_draw_1 0 rfl rfl)
theorem dX6_draw_27 : decode cX6_draw 27 = .ok (.iconst (-1), 1) := dk_2 (dk_at dksX6_draw_1 3 rfl rfl)
theorem dX6_draw_28 : decode cX6_draw 28 = .ok (.ireturn, 1) := dk_172 (dk_at dksX6_draw_1 4 rfl rfl)
theorem dX6_draw_29 : decode cX6_draw 29 = .ok (.aload_n 0, 1) := dk_42 (dk_at dksX6_draw_1 5 rfl rfl)
theorem dX6_draw_30 : decode cX6_draw 30 = .ok (.iload_n 1, 1) := dk_27 (dk_at dksX6_draw_1 6 rfl rfl)
theorem dX6_draw_31 : decode cX6_draw 31 = .ok (.invokevirtual 282, 3) := dk_182 1 26 (dk_at dksX6_draw_1 7 rfl rfl)
theorem dX6_draw_34 : decode cX6_draw 34 = .ok (.ifCond .ne 6, 3) := dk_154 0 6 (dk_at dksX6_draw_1 10 rfl rfl)
theorem dX6_draw_37 : decode cX6_draw 37 = .ok (.bipush (-2), 2) := dk_16 254 (dk_at dksX6_draw_1 13 rfl rfl)
theorem dX6_draw_39 : decode cX6_draw 39 = .ok (.ireturn, 1) := dk_172 (dk_at dksX6_draw_1 15 rfl rfl)
theorem dX6_draw_40 : decode cX6_draw 40 = .ok (.aload_n 0, 1) := dk_42 (dk_at dksX6_draw_1 16 rfl rfl)
theorem dX6_draw_41 : decode cX6_draw 41 = .ok (.invokevirtual 291, 3) := dk_182 1 35 (dk_at dksX6_draw_1 17 rfl rfl)
theorem dX6_draw_44 : decode cX6_draw 44 = .ok (.iconst 0, 1) := dk_3 (dk_at dksX6_draw_1 20 rfl rfl)
theorem dX6_draw_45 : decode cX6_draw 45 = .ok (.istore 4, 2) := dk_54 4 (dk_at dksX6_draw_1 21 rfl rfl)
theorem dX6_draw_47 : decode cX6_draw 47 = .ok (.iload 4, 2) := dk_21 4 (dk_at dksX6_draw_2 0 rfl rfl)
theorem dX6_draw_49 : decode cX6_draw 49 = .ok (.aload_n 0, 1) := dk_42 (dk_at dksX6_draw_2 2 rfl rfl)
theorem dX6_draw_50 : decode cX6_draw 50 = .ok (.getfield 130, 3) := dk_180 0 130 (dk_at dksX6_draw_2 3 rfl rfl)
theorem dX6_draw_53 : decode cX6_draw 53 = .ok (.if_icmp .ge 27, 3) := dk_162 0 27 (dk_at dksX6_draw_2 6 rfl rfl)
theorem dX6_draw_56 : decode cX6_draw 56 = .ok (.aload_n 0, 1) := dk_42 (dk_at dksX6_draw_2 9 rfl rfl)
theorem dX6_draw_57 : decode cX6_draw 57 = .ok (.getfield 88, 3) := dk_180 0 88 (dk_at dksX6_draw_2 10 rfl rfl)
theorem dX6_draw_60 : decode cX6_draw 60 = .ok (.iload 4, 2) := dk_21 4 (dk_at dksX6_draw_2 13 rfl rfl)
theorem dX6_draw_62 : decode cX6_draw 62 = .ok (.iload 4, 2) := dk_21 4 (dk_at dksX6_draw_2 15 rfl rfl)
theorem dX6_draw_64 : decode cX6_draw 64 = .ok (.iload_n 1, 1) := dk_27 (dk_at dksX6_draw_2 17 rfl rfl)
theorem dX6_draw_65 : decode cX6_draw 65 = .ok (.if_icmp .ne 7, 3) := dk_160 0 7 (dk_at dksX6_draw_2 18 rfl rfl)
theorem dX6_draw_68 : decode cX6_draw 68 = .ok (.iconst 1, 1) := dk_4 (dk_at dksX6_draw_2 21 rfl rfl)
theorem dX6_draw_69 : decode cX6_draw 69 = .ok (.goto 4, 3) := dk_167 0 4 (dk_at dksX6_draw_3 0 rfl rfl)
theorem dX6_draw_72 : decode cX6_draw 72 = .ok (.iconst 0, 1) := dk_3 (dk_at dksX6_draw_3 3 rfl rfl)
theorem dX6_draw_73 : decode cX6_draw 73 = .ok (.bastore, 1) := dk_84 (dk_at dksX6_draw_3 4 rfl rfl)
theorem dX6_draw_74 : decode cX6_draw 74 = .ok (.iinc 4 1, 3) := dk_132 4 1 (dk_at dksX6_draw_3 5 rfl rfl)
theorem dX6_draw_77 : decode cX6_draw 77 = .ok (.goto (-30), 3) := dk_167 255 226 (dk_at dksX6_draw_3 8 rfl rfl)
theorem dX6_draw_80 : decode cX6_draw 80 = .ok (.iload_n 1, 1) := dk_27 (dk_at dksX6_draw_3 11 rfl rfl)
theorem dX6_draw_81 : decode cX6_draw 81 = .ok (.istore 4, 2) := dk_54 4 (dk_at dksX6_draw_3 12 rfl rfl)
theorem dX6_draw_83 : decode cX6_draw 83 = .ok (.iconst 0, 1) := dk_3 (dk_at dksX6_draw_3 14 rfl rfl)
theorem dX6_draw_84 : decode cX6_draw 84 = .ok (.istore 5, 2) := dk_54 5 (dk_at dksX6_draw_3 15 rfl rfl)
theorem dX6_draw_86 : decode cX6_draw 86 = .ok (.iload 5, 2) := dk_21 5 (dk_at dksX6_draw_3 17 rfl rfl)
theorem dX6_draw_88 : decode cX6_draw 88 = .ok (.iload_n 2, 1) := dk_28 (dk_at dksX6_draw_3 19 rfl rfl)
theorem dX6_draw_89 : decode cX6_draw 89 = .ok (.if_icmp .ge 70, 3) := dk_162 0 70 (dk_at dksX6_draw_3 20 rfl rfl)
theorem dX6_draw_92 : decode cX6_draw 92 = .ok (.aload_n 0, 1) := dk_42 (dk_at dksX6_draw_3 23 rfl rfl)
theorem dX6_draw_93 : decode cX6_draw 93 = .ok (.sipush 25173, 3) := dk_17 98 85 (dk_at dksX6_draw_4 0 rfl rfl)
theorem dX6_draw_96 : decode cX6_draw 96 = .ok (.aload_n 0, 1) := dk_42 (dk_at dksX6_draw_4 3 rfl rfl)
theorem dX6_draw_97 : decode cX6_draw 97 = .ok (.getfield 122, 3) := dk_180 0 122 (dk_at dksX6_draw_4 4 rfl rfl)
theorem dX6_draw_100 : decode cX6_draw 100 = .ok (.imul, 1) := dk_104 (dk_at dksX6_draw_4 7 rfl rfl)
theorem dX6_draw_101 : decode cX6_draw 101 = .ok (.sipush 13849, 3) := dk_17 54 25 (dk_at dksX6_draw_4 8 rfl rfl)
theorem dX6_draw_104 : decode cX6_draw 104 = .ok (.iadd, 1) := dk_96 (dk_at dksX6_draw_4 11 rfl rfl)
theorem dX6_draw_105 : decode cX6_draw 105 = .ok (.ldc_w 420, 3) := dk_19 1 164 (dk_at dksX6_draw_4 12 rfl rfl)
theorem dX6_draw_108 : decode cX6_draw 108 = .ok (.irem, 1) := dk_112 (dk_at dksX6_draw_4 15 rfl rfl)
theorem dX6_draw_109 : decode cX6_draw 109 = .ok (.putfield 122, 3) := dk_181 0 122 (dk_at dksX6_draw_4 16 rfl rfl)
theorem dX6_draw_112 : decode cX6_draw 112 = .ok (.aload_n 0, 1) := dk_42 (dk_at dksX6_draw_4 19 rfl rfl)
theorem dX6_draw_113 : decode cX6_draw 113 = .ok (.iload 4, 2) := dk_21 4 (dk_at dksX6_draw_4 20 rfl rfl)
theorem dX6_draw_115 : decode cX6_draw 115 = .ok (.invokevirtual 421, 3) := dk_182 1 165 (dk_at dksX6_draw_5 0 rfl rfl)
theorem dX6_draw_118 : decode cX6_draw 118 = .ok (.istore 6, 2) := dk_54 6 (dk_at dksX6_draw_5 3 rfl rfl)
theorem dX6_draw_120 : decode cX6_draw 120 = .ok (.iload 6, 2) := dk_21 6 (dk_at dksX6_draw_5 5 rfl rfl)
theorem dX6_draw_122 : decode cX6_draw 122 = .ok (.ifCond .ne 8, 3) := dk_154 0 8 (dk_at dksX6_draw_5 7 rfl rfl)
theorem dX6_draw_125 : decode cX6_draw 125 = .ok (.iload 4, 2) := dk_21 4 (dk_at dksX6_draw_5 10 rfl rfl)
theorem dX6_draw_127 : decode cX6_draw 127 = .ok (.goto 16, 3) := dk_167 0 16 (dk_at dksX6_draw_5 12 rfl rfl)
theorem dX6_draw_130 : decode cX6_draw 130 = .ok (.aload_n 0, 1) := dk_42 (dk_at dksX6_draw_5 15 rfl rfl)
theorem dX6_draw_131 : decode cX6_draw 131 = .ok (.iload 4, 2) := dk_21 4 (dk_at dksX6_draw_5 16 rfl rfl)
theorem dX6_draw_133 : decode cX6_draw 133 = .ok (.aload_n 0, 1) := dk_42 (dk_at dksX6_draw_5 18 rfl rfl)
theorem dX6_draw_134 : decode cX6_draw 134 = .ok (.getfield 122, 3) := dk_180 0 122 (dk_at dksX6_draw_5 19 rfl rfl)
theorem dX6_draw_137 : decode cX6_draw 137 = .ok (.iload 6, 2) := dk_21 6 (dk_at dksX6_draw_5 22 rfl rfl)
theorem dX6_draw_139 : decode cX6_draw 139 = .ok (.irem, 1) := dk_112 (dk_at dksX6_draw_6 0 rfl rfl)
theorem dX6_draw_140 : decode cX6_draw 140 = .ok (.invokevirtual 424, 3) := dk_182 1 168 (dk_at dksX6_draw_6 1 rfl rfl)
theorem dX6_draw_143 : decode cX6_draw 143 = .ok (.istore 4, 2) := dk_54 4 (dk_at dksX6_draw_6 4 rfl rfl)
theorem dX6_draw_145 : decode cX6_draw 145 = .ok (.aload_n 0, 1) := dk_42 (dk_at dksX6_draw_6 6 rfl rfl)
theorem dX6_draw_146 : decode cX6_draw 146 = .ok (.getfield 88, 3) := dk_180 0 88 (dk_at dksX6_draw_6 7 rfl rfl)
theorem dX6_draw_149 : decode cX6_draw 149 = .ok (.iload 4, 2) := dk_21 4 (dk_at dksX6_draw_6 10 rfl rfl)
theorem dX6_draw_151 : decode cX6_draw 151 = .ok (.iconst 1, 1) := dk_4 (dk_at dksX6_draw_6 12 rfl rfl)
theorem dX6_draw_152 : decode cX6_draw 152 = .ok (.bastore, 1) := dk_84 (dk_at dksX6_draw_6 13 rfl rfl)
theorem dX6_draw_153 : decode cX6_draw 153 = .ok (.iinc 5 1, 3) := dk_132 5 1 (dk_at dksX6_draw_6 14 rfl rfl)
theorem dX6_draw_156 : decode cX6_draw 156 = .ok (.goto (-70), 3) := dk_167 255 186 (dk_at dksX6_draw_6 17 rfl rfl)
theorem dX6_draw_159 : decode cX6_draw 159 = .ok (.iload_n 3, 1) := dk_29 (dk_at dksX6_draw_6 20 rfl rfl)
theorem dX6_draw_160 : decode cX6_draw 160 = .ok (.ifCond .ne 6, 3) := dk_154 0 6 (dk_at dksX6_draw_6 21 rfl rfl)
theorem dX6_draw_163 : decode cX6_draw 163 = .ok (.iload 4, 2) := dk_21 4 (dk_at dksX6_draw_7 0 rfl rfl)
theorem dX6_draw_165 : decode cX6_draw 165 = .ok (.ireturn, 1) := dk_172 (dk_at dksX6_draw_7 2 rfl rfl)
theorem dX6_draw_166 : decode cX6_draw 166 = .ok (.iconst 0, 1) := dk_3 (dk_at dksX6_draw_7 3 rfl rfl)
theorem dX6_draw_167 : decode cX6_draw 167 = .ok (.istore 5, 2) := dk_54 5 (dk_at dksX6_draw_7 4 rfl rfl)
theorem dX6_draw_169 : decode cX6_draw 169 = .ok (.iconst 0, 1) := dk_3 (dk_at dksX6_draw_7 6 rfl rfl)
theorem dX6_draw_170 : decode cX6_draw 170 = .ok (.istore 6, 2) := dk_54 6 (dk_at dksX6_draw_7 7 rfl rfl)
theorem dX6_draw_172 : decode cX6_draw 172 = .ok (.iload 6, 2) := dk_21 6 (dk_at dksX6_draw_7 9 rfl rfl)
theorem dX6_draw_174 : decode cX6_draw 174 = .ok (.aload_n 0, 1) := dk_42 (dk_at dksX6_draw_7 11 rfl rfl)
theorem dX6_draw_175 : decode cX6_draw 175 = .ok (.getfield 130, 3) := dk_180 0 130 (dk_at dksX6_draw_7 12 rfl rfl)
theorem dX6_draw_178 : decode cX6_draw 178 = .ok (.if_icmp .ge 29, 3) := dk_162 0 29 (dk_at dksX6_draw_7 15 rfl rfl)
theorem dX6_draw_181 : decode cX6_draw 181 = .ok (.iload 5, 2) := dk_21 5 (dk_at dksX6_draw_7 18 rfl rfl)
theorem dX6_draw_183 : decode cX6_draw 183 = .ok (.aload_n 0, 1) := dk_42 (dk_at dksX6_draw_7 20 rfl rfl)
theorem dX6_draw_184 : decode cX6_draw 184 = .ok (.getfield 88, 3) := dk_180 0 88 (dk_at dksX6_draw_7 21 rfl rfl)
theorem dX6_draw_187 : decode cX6_draw 187 = .ok (.iload 6, 2) := dk_21 6 (dk_at dksX6_draw_8 0 rfl rfl)
theorem dX6_draw_189 : decode cX6_draw 189 = .ok (.baload, 1) := dk_51 (dk_at dksX6_draw_8 2 rfl rfl)
theorem dX6_draw_190 : decode cX6_draw 190 = .ok (.ifCond .eq 7, 3) := dk_153 0 7 (dk_at dksX6_draw_8 3 rfl rfl)
theorem dX6_draw_193 : decode cX6_draw 193 = .ok (.iconst 1, 1) := dk_4 (dk_at dksX6_draw_8 6 rfl rfl)
theorem dX6_draw_194 : decode cX6_draw 194 = .ok (.goto 4, 3) := dk_167 0 4 (dk_at dksX6_draw_8 7 rfl rfl)
theorem dX6_draw_197 : decode cX6_draw 197 = .ok (.iconst 0, 1) := dk_3 (dk_at dksX6_draw_8 10 rfl rfl)
theorem dX6_draw_198 : decode cX6_draw 198 = .ok (.iadd, 1) := dk_96 (dk_at dksX6_draw_8 11 rfl rfl)
theorem dX6_draw_199 : decode cX6_draw 199 = .ok (.istore 5, 2) := dk_54 5 (dk_at dksX6_draw_8 12 rfl rfl)
theorem dX6_draw_201 : decode cX6_draw 201 = .ok (.iinc 6 1, 3) := dk_132 6 1 (dk_at dksX6_draw_8 14 rfl rfl)
theorem dX6_draw_204 : decode cX6_draw 204 = .ok (.goto (-32), 3) := dk_167 255 224 (dk_at dksX6_draw_8 17 rfl rfl)
theorem dX6_draw_207 : decode cX6_draw 207 = .ok (.iload 5, 2) := dk_21 5 (dk_at dksX6_draw_8 20 rfl rfl)
theorem dX6_draw_209 : decode cX6_draw 209 = .ok (.ireturn, 1) := dk_172 (dk_at dksX6_draw_8 22 rfl rfl)
abbrev cX6_stepsFrom : ByteArray := prog_17_method_100_code
def yX6_stepsFrom : MethodName := ⟨RX6, "stepsFrom", "(I)I"⟩
def dkwX6_stepsFrom_1 : List UInt8 := [167, 0, 4, 3, 96, 61, 132, 3, 1, 167, 255, 228, 28, 172]
abbrev dktX6_stepsFrom_1 : List UInt8 := dkwX6_stepsFrom_1 ++ []
def dkwX6_stepsFrom_0 : List UInt8 := [3, 61, 3, 62, 29, 42, 180, 0, 130, 162, 0, 26, 28, 42, 27, 29, 182, 1, 38, 153, 0, 7, 4]
abbrev dktX6_stepsFrom_0 : List UInt8 := dkwX6_stepsFrom_0 ++ dktX6_stepsFrom_1
theorem dksX6_stepsFrom_0 : cX6_stepsFrom.data.toList.drop 0 = dktX6_stepsFrom_0 := by decide +kernel
theorem dksX6_stepsFrom_1 : cX6_stepsFrom.data.toList.drop 23 = dktX6_stepsFrom_1 := dk_seg dksX6_stepsFrom_0 23 rfl rfl
theorem dX6_stepsFrom_0 : decode cX6_stepsFrom 0 = .ok (.iconst 0, 1) := dk_3 (dk_at dksX6_stepsFrom_0 0 rfl rfl)
theorem dX6_stepsFrom_1 : decode cX6_stepsFrom 1 = .ok (.istore_n 2, 1) := dk_61 (dk_at dksX6_stepsFrom_0 1 rfl rfl)
theorem dX6_stepsFrom_2 : decode cX6_stepsFrom 2 = .ok (.iconst 0, 1) := dk_3 (dk_at dksX6_stepsFrom_0 2 rfl rfl)
theorem dX6_stepsFrom_3 : decode cX6_stepsFrom 3 = .ok (.istore_n 3, 1) := dk_62 (dk_at dksX6_stepsFrom_0 3 rfl rfl)
theorem dX6_stepsFrom_4 : decode cX6_stepsFrom 4 = .ok (.iload_n 3, 1) := dk_29 (dk_at dksX6_stepsFrom_0 4 rfl rfl)
theorem dX6_stepsFrom_5 : decode cX6_stepsFrom 5 = .ok (.aload_n 0, 1) := dk_42 (dk_at dksX6_stepsFrom_0 5 rfl rfl)
theorem dX6_stepsFrom_6 : decode cX6_stepsFrom 6 = .ok (.getfield 130, 3) := dk_180 0 130 (dk_at dksX6_stepsFrom_0 6 rfl rfl)
theorem dX6_stepsFrom_9 : decode cX6_stepsFrom 9 = .ok (.if_icmp .ge 26, 3) := dk_162 0 26 (dk_at dksX6_stepsFrom_0 9 rfl rfl)
theorem dX6_stepsFrom_12 : decode cX6_stepsFrom 12 = .ok (.iload_n 2, 1) := dk_28 (dk_at dksX6_stepsFrom_0 12 rfl rfl)
theorem dX6_stepsFrom_13 : decode cX6_stepsFrom 13 = .ok (.aload_n 0, 1) := dk_42 (dk_at dksX6_stepsFrom_0 13 rfl rfl)
theorem dX6_stepsFrom_14 : decode cX6_stepsFrom 14 = .ok (.iload_n 1, 1) := dk_27 (dk_at dksX6_stepsFrom_0 14 rfl rfl)
theorem dX6_stepsFrom_15 : decode cX6_stepsFrom 15 = .ok (.iload_n 3, 1) := dk_29 (dk_at dksX6_stepsFrom_0 15 rfl rfl)
theorem dX6_stepsFrom_16 : decode cX6_stepsFrom 16 = .ok (.invokevirtual 294, 3) := dk_182 1 38 (dk_at dksX6_stepsFrom_0 16 rfl rfl)
theorem dX6_stepsFrom_19 : decode cX6_stepsFrom 19 = .ok (.ifCond .eq 7, 3) := dk_153 0 7 (dk_at dksX6_stepsFrom_0 19 rfl rfl)
theorem dX6_stepsFrom_22 : decode cX6_stepsFrom 22 = .ok (.iconst 1, 1) := dk_4 (dk_at dksX6_stepsFrom_0 22 rfl rfl)
theorem dX6_stepsFrom_23 : decode cX6_stepsFrom 23 = .ok (.goto 4, 3) := dk_167 0 4 (dk_at dksX6_stepsFrom_1 0 rfl rfl)
theorem dX6_stepsFrom_26 : decode cX6_stepsFrom 26 = .ok (.iconst 0, 1) := dk_3 (dk_at dksX6_stepsFrom_1 3 rfl rfl)
theorem dX6_stepsFrom_27 : decode cX6_stepsFrom 27 = .ok (.iadd, 1) := dk_96 (dk_at dksX6_stepsFrom_1 4 rfl rfl)
theorem dX6_stepsFrom_28 : decode cX6_stepsFrom 28 = .ok (.istore_n 2, 1) := dk_61 (dk_at dksX6_stepsFrom_1 5 rfl rfl)
theorem dX6_stepsFrom_29 : decode cX6_stepsFrom 29 = .ok (.iinc 3 1, 3) := dk_132 3 1 (dk_at dksX6_stepsFrom_1 6 rfl rfl)
theorem dX6_stepsFrom_32 : decode cX6_stepsFrom 32 = .ok (.goto (-28), 3) := dk_167 255 228 (dk_at dksX6_stepsFrom_1 9 rfl rfl)
theorem dX6_stepsFrom_35 : decode cX6_stepsFrom 35 = .ok (.iload_n 2, 1) := dk_28 (dk_at dksX6_stepsFrom_1 12 rfl rfl)
theorem dX6_stepsFrom_36 : decode cX6_stepsFrom 36 = .ok (.ireturn, 1) := dk_172 (dk_at dksX6_stepsFrom_1 13 rfl rfl)
abbrev cX6_stepTo : ByteArray := prog_17_method_101_code
def yX6_stepTo : MethodName := ⟨RX6, "stepTo", "(II)I"⟩
def dkwX6_stepTo_2 : List UInt8 := [21, 4, 172]
abbrev dktX6_stepTo_2 : List UInt8 := dkwX6_stepTo_2 ++ []
def dkwX6_stepTo_1 : List UInt8 := [182, 1, 38, 153, 0, 9, 29, 4, 100, 167, 0, 4, 29, 62, 21, 4, 4, 96, 54, 4, 167, 255, 218]
abbrev dktX6_stepTo_1 : List UInt8 := dkwX6_stepTo_1 ++ dktX6_stepTo_2
def dkwX6_stepTo_0 : List UInt8 := [28, 62, 3, 54, 4, 42, 27, 21, 4, 182, 1, 38, 153, 0, 7, 29, 158, 0, 30, 42, 27, 21, 4]
abbrev dktX6_stepTo_0 : List UInt8 := dkwX6_stepTo_0 ++ dktX6_stepTo_1
theorem dksX6_stepTo_0 : cX6_stepTo.data.toList.drop 0 = dktX6_stepTo_0 := by decide +kernel
theorem dksX6_stepTo_1 : cX6_stepTo.data.toList.drop 23 = dktX6_stepTo_1 := dk_seg dksX6_stepTo_0 23 rfl rfl
theorem dksX6_stepTo_2 : cX6_stepTo.data.toList.drop 46 = dktX6_stepTo_2 := dk_seg dksX6_stepTo_1 23 rfl rfl
theorem dX6_stepTo_0 : decode cX6_stepTo 0 = .ok (.iload_n 2, 1) := dk_28 (dk_at dksX6_stepTo_0 0 rfl rfl)
theorem dX6_stepTo_1 : decode cX6_stepTo 1 = .ok (.istore_n 3, 1) := dk_62 (dk_at dksX6_stepTo_0 1 rfl rfl)
theorem dX6_stepTo_2 : decode cX6_stepTo 2 = .ok (.iconst 0, 1) := dk_3 (dk_at dksX6_stepTo_0 2 rfl rfl)
theorem dX6_stepTo_3 : decode cX6_stepTo 3 = .ok (.istore 4, 2) := dk_54 4 (dk_at dksX6_stepTo_0 3 rfl rfl)
theorem dX6_stepTo_5 : decode cX6_stepTo 5 = .ok (.aload_n 0, 1) := dk_42 (dk_at dksX6_stepTo_0 5 rfl rfl)
theorem dX6_stepTo_6 : decode cX6_stepTo 6 = .ok (.iload_n 1, 1) := dk_27 (dk_at dksX6_stepTo_0 6 rfl rfl)
theorem dX6_stepTo_7 : decode cX6_stepTo 7 = .ok (.iload 4, 2) := dk_21 4 (dk_at dksX6_stepTo_0 7 rfl rfl)
theorem dX6_stepTo_9 : decode cX6_stepTo 9 = .ok (.invokevirtual 294, 3) := dk_182 1 38 (dk_at dksX6_stepTo_0 9 rfl rfl)
theorem dX6_stepTo_12 : decode cX6_stepTo 12 = .ok (.ifCond .eq 7, 3) := dk_153 0 7 (dk_at dksX6_stepTo_0 12 rfl rfl)
theorem dX6_stepTo_15 : decode cX6_stepTo 15 = .ok (.iload_n 3, 1) := dk_29 (dk_at dksX6_stepTo_0 15 rfl rfl)
theorem dX6_stepTo_16 : decode cX6_stepTo 16 = .ok (.ifCond .le 30, 3) := dk_158 0 30 (dk_at dksX6_stepTo_0 16 rfl rfl)
theorem dX6_stepTo_19 : decode cX6_stepTo 19 = .ok (.aload_n 0, 1) := dk_42 (dk_at dksX6_stepTo_0 19 rfl rfl)
theorem dX6_stepTo_20 : decode cX6_stepTo 20 = .ok (.iload_n 1, 1) := dk_27 (dk_at dksX6_stepTo_0 20 rfl rfl)
theorem dX6_stepTo_21 : decode cX6_stepTo 21 = .ok (.iload 4, 2) := dk_21 4 (dk_at dksX6_stepTo_0 21 rfl rfl)
theorem dX6_stepTo_23 : decode cX6_stepTo 23 = .ok (.invokevirtual 294, 3) := dk_182 1 38 (dk_at dksX6_stepTo_1 0 rfl rfl)
theorem dX6_stepTo_26 : decode cX6_stepTo 26 = .ok (.ifCond .eq 9, 3) := dk_153 0 9 (dk_at dksX6_stepTo_1 3 rfl rfl)
theorem dX6_stepTo_29 : decode cX6_stepTo 29 = .ok (.iload_n 3, 1) := dk_29 (dk_at dksX6_stepTo_1 6 rfl rfl)
theorem dX6_stepTo_30 : decode cX6_stepTo 30 = .ok (.iconst 1, 1) := dk_4 (dk_at dksX6_stepTo_1 7 rfl rfl)
theorem dX6_stepTo_31 : decode cX6_stepTo 31 = .ok (.isub, 1) := dk_100 (dk_at dksX6_stepTo_1 8 rfl rfl)
theorem dX6_stepTo_32 : decode cX6_stepTo 32 = .ok (.goto 4, 3) := dk_167 0 4 (dk_at dksX6_stepTo_1 9 rfl rfl)
theorem dX6_stepTo_35 : decode cX6_stepTo 35 = .ok (.iload_n 3, 1) := dk_29 (dk_at dksX6_stepTo_1 12 rfl rfl)
theorem dX6_stepTo_36 : decode cX6_stepTo 36 = .ok (.istore_n 3, 1) := dk_62 (dk_at dksX6_stepTo_1 13 rfl rfl)
theorem dX6_stepTo_37 : decode cX6_stepTo 37 = .ok (.iload 4, 2) := dk_21 4 (dk_at dksX6_stepTo_1 14 rfl rfl)
theorem dX6_stepTo_39 : decode cX6_stepTo 39 = .ok (.iconst 1, 1) := dk_4 (dk_at dksX6_stepTo_1 16 rfl rfl)
theorem dX6_stepTo_40 : decode cX6_stepTo 40 = .ok (.iadd, 1) := dk_96 (dk_at dksX6_stepTo_1 17 rfl rfl)
theorem dX6_stepTo_41 : decode cX6_stepTo 41 = .ok (.istore 4, 2) := dk_54 4 (dk_at dksX6_stepTo_1 18 rfl rfl)
theorem dX6_stepTo_43 : decode cX6_stepTo 43 = .ok (.goto (-38), 3) := dk_167 255 218 (dk_at dksX6_stepTo_1 20 rfl rfl)
theorem dX6_stepTo_46 : decode cX6_stepTo 46 = .ok (.iload 4, 2) := dk_21 4 (dk_at dksX6_stepTo_2 0 rfl rfl)
theorem dX6_stepTo_48 : decode cX6_stepTo 48 = .ok (.ireturn, 1) := dk_172 (dk_at dksX6_stepTo_2 2 rfl rfl)
abbrev cX6_check : ByteArray := prog_17_method_104_code
def yX6_check : MethodName := ⟨RX6, "check", "(II)I"⟩
def dkwX6_check_3 : List UInt8 := [167, 255, 222, 42, 180, 0, 7, 27, 46, 28, 162, 0, 12, 42, 180, 0, 7, 27, 46, 167, 0, 4, 2, 172]
abbrev dktX6_check_3 : List UInt8 := dkwX6_check_3 ++ []
def dkwX6_check_2 : List UInt8 := [29, 28, 159, 0, 17, 42, 29, 182, 1, 171, 42, 27, 29, 182, 1, 6, 159, 0, 5, 29, 172, 132, 3, 1]
abbrev dktX6_check_2 : List UInt8 := dkwX6_check_2 ++ dktX6_check_3
def dkwX6_check_1 : List UInt8 := [108, 164, 0, 6, 16, 254, 172, 42, 3, 181, 0, 133, 3, 62, 29, 42, 180, 0, 7, 27, 46, 162, 0, 30]
abbrev dktX6_check_1 : List UInt8 := dkwX6_check_1 ++ dktX6_check_2
def dkwX6_check_0 : List UInt8 := [42, 27, 182, 0, 154, 153, 0, 23, 28, 3, 16, 8, 184, 0, 139, 153, 0, 13, 28, 42, 180, 0, 133, 7]
abbrev dktX6_check_0 : List UInt8 := dkwX6_check_0 ++ dktX6_check_1
theorem dksX6_check_0 : cX6_check.data.toList.drop 0 = dktX6_check_0 := by decide +kernel
theorem dksX6_check_1 : cX6_check.data.toList.drop 24 = dktX6_check_1 := dk_seg dksX6_check_0 24 rfl rfl
theorem dksX6_check_2 : cX6_check.data.toList.drop 48 = dktX6_check_2 := dk_seg dksX6_check_1 24 rfl rfl
theorem dksX6_check_3 : cX6_check.data.toList.drop 72 = dktX6_check_3 := dk_seg dksX6_check_2 24 rfl rfl
theorem dX6_check_0 : decode cX6_check 0 = .ok (.aload_n 0, 1) := dk_42 (dk_at dksX6_check_0 0 rfl rfl)
theorem dX6_check_1 : decode cX6_check 1 = .ok (.iload_n 1, 1) := dk_27 (dk_at dksX6_check_0 1 rfl rfl)
theorem dX6_check_2 : decode cX6_check 2 = .ok (.invokevirtual 154, 3) := dk_182 0 154 (dk_at dksX6_check_0 2 rfl rfl)
theorem dX6_check_5 : decode cX6_check 5 = .ok (.ifCond .eq 23, 3) := dk_153 0 23 (dk_at dksX6_check_0 5 rfl rfl)
theorem dX6_check_8 : decode cX6_check 8 = .ok (.iload_n 2, 1) := dk_28 (dk_at dksX6_check_0 8 rfl rfl)
theorem dX6_check_9 : decode cX6_check 9 = .ok (.iconst 0, 1) := dk_3 (dk_at dksX6_check_0 9 rfl rfl)
theorem dX6_check_10 : decode cX6_check 10 = .ok (.bipush 8, 2) := dk_16 8 (dk_at dksX6_check_0 10 rfl rfl)
theorem dX6_check_12 : decode cX6_check 12 = .ok (.invokestatic 139, 3) := dk_184 0 139 (dk_at dksX6_check_0 12 rfl rfl)
theorem dX6_check_15 : decode cX6_check 15 = .ok (.ifCond .eq 13, 3) := dk_153 0 13 (dk_at dksX6_check_0 15 rfl rfl)
theorem dX6_check_18 : decode cX6_check 18 = .ok (.iload_n 2, 1) := dk_28 (dk_at dksX6_check_0 18 rfl rfl)
theorem dX6_check_19 : decode cX6_check 19 = .ok (.aload_n 0, 1) := dk_42 (dk_at dksX6_check_0 19 rfl rfl)
theorem dX6_check_20 : decode cX6_check 20 = .ok (.getfield 133, 3) := dk_180 0 133 (dk_at dksX6_check_0 20 rfl rfl)
theorem dX6_check_23 : decode cX6_check 23 = .ok (.iconst 4, 1) := dk_7 (dk_at dksX6_check_0 23 rfl rfl)
theorem dX6_check_24 : decode cX6_check 24 = .ok (.idiv, 1) := dk_108 (dk_at dksX6_check_1 0 rfl rfl)
theorem dX6_check_25 : decode cX6_check 25 = .ok (.if_icmp .le 6, 3) := dk_164 0 6 (dk_at dksX6_check_1 1 rfl rfl)
theorem dX6_check_28 : decode cX6_check 28 = .ok (.bipush (-2), 2) := dk_16 254 (dk_at dksX6_check_1 4 rfl rfl)
theorem dX6_check_30 : decode cX6_check 30 = .ok (.ireturn, 1) := dk_172 (dk_at dksX6_check_1 6 rfl rfl)
theorem dX6_check_31 : decode cX6_check 31 = .ok (.aload_n 0, 1) := dk_42 (dk_at dksX6_check_1 7 rfl rfl)
theorem dX6_check_32 : decode cX6_check 32 = .ok (.iconst 0, 1) := dk_3 (dk_at dksX6_check_1 8 rfl rfl)
theorem dX6_check_33 : decode cX6_check 33 = .ok (.putfield 133, 3) := dk_181 0 133 (dk_at dksX6_check_1 9 rfl rfl)
theorem dX6_check_36 : decode cX6_check 36 = .ok (.iconst 0, 1) := dk_3 (dk_at dksX6_check_1 12 rfl rfl)
theorem dX6_check_37 : decode cX6_check 37 = .ok (.istore_n 3, 1) := dk_62 (dk_at dksX6_check_1 13 rfl rfl)
theorem dX6_check_38 : decode cX6_check 38 = .ok (.iload_n 3, 1) := dk_29 (dk_at dksX6_check_1 14 rfl rfl)
theorem dX6_check_39 : decode cX6_check 39 = .ok (.aload_n 0, 1) := dk_42 (dk_at dksX6_check_1 15 rfl rfl)
theorem dX6_check_40 : decode cX6_check 40 = .ok (.getfield 7, 3) := dk_180 0 7 (dk_at dksX6_check_1 16 rfl rfl)
theorem dX6_check_43 : decode cX6_check 43 = .ok (.iload_n 1, 1) := dk_27 (dk_at dksX6_check_1 19 rfl rfl)
theorem dX6_check_44 : decode cX6_check 44 = .ok (.iaload, 1) := dk_46 (dk_at dksX6_check_1 20 rfl rfl)
theorem dX6_check_45 : decode cX6_check 45 = .ok (.if_icmp .ge 30, 3) := dk_162 0 30 (dk_at dksX6_check_1 21 rfl rfl)
theorem dX6_check_48 : decode cX6_check 48 = .ok (.iload_n 3, 1) := dk_29 (dk_at dksX6_check_2 0 rfl rfl)
theorem dX6_check_49 : decode cX6_check 49 = .ok (.iload_n 2, 1) := dk_28 (dk_at dksX6_check_2 1 rfl rfl)
theorem dX6_check_50 : decode cX6_check 50 = .ok (.if_icmp .eq 17, 3) := dk_159 0 17 (dk_at dksX6_check_2 2 rfl rfl)
theorem dX6_check_53 : decode cX6_check 53 = .ok (.aload_n 0, 1) := dk_42 (dk_at dksX6_check_2 5 rfl rfl)
theorem dX6_check_54 : decode cX6_check 54 = .ok (.iload_n 3, 1) := dk_29 (dk_at dksX6_check_2 6 rfl rfl)
theorem dX6_check_55 : decode cX6_check 55 = .ok (.invokevirtual 427, 3) := dk_182 1 171 (dk_at dksX6_check_2 7 rfl rfl)
theorem dX6_check_58 : decode cX6_check 58 = .ok (.aload_n 0, 1) := dk_42 (dk_at dksX6_check_2 10 rfl rfl)
theorem dX6_check_59 : decode cX6_check 59 = .ok (.iload_n 1, 1) := dk_27 (dk_at dksX6_check_2 11 rfl rfl)
theorem dX6_check_60 : decode cX6_check 60 = .ok (.iload_n 3, 1) := dk_29 (dk_at dksX6_check_2 12 rfl rfl)
theorem dX6_check_61 : decode cX6_check 61 = .ok (.invokevirtual 262, 3) := dk_182 1 6 (dk_at dksX6_check_2 13 rfl rfl)
theorem dX6_check_64 : decode cX6_check 64 = .ok (.if_icmp .eq 5, 3) := dk_159 0 5 (dk_at dksX6_check_2 16 rfl rfl)
theorem dX6_check_67 : decode cX6_check 67 = .ok (.iload_n 3, 1) := dk_29 (dk_at dksX6_check_2 19 rfl rfl)
theorem dX6_check_68 : decode cX6_check 68 = .ok (.ireturn, 1) := dk_172 (dk_at dksX6_check_2 20 rfl rfl)
theorem dX6_check_69 : decode cX6_check 69 = .ok (.iinc 3 1, 3) := dk_132 3 1 (dk_at dksX6_check_2 21 rfl rfl)
theorem dX6_check_72 : decode cX6_check 72 = .ok (.goto (-34), 3) := dk_167 255 222 (dk_at dksX6_check_3 0 rfl rfl)
theorem dX6_check_75 : decode cX6_check 75 = .ok (.aload_n 0, 1) := dk_42 (dk_at dksX6_check_3 3 rfl rfl)
theorem dX6_check_76 : decode cX6_check 76 = .ok (.getfield 7, 3) := dk_180 0 7 (dk_at dksX6_check_3 4 rfl rfl)
theorem dX6_check_79 : decode cX6_check 79 = .ok (.iload_n 1, 1) := dk_27 (dk_at dksX6_check_3 7 rfl rfl)
theorem dX6_check_80 : decode cX6_check 80 = .ok (.iaload, 1) := dk_46 (dk_at dksX6_check_3 8 rfl rfl)
theorem dX6_check_81 : decode cX6_check 81 = .ok (.iload_n 2, 1) := dk_28 (dk_at dksX6_check_3 9 rfl rfl)
theorem dX6_check_82 : decode cX6_check 82 = .ok (.if_icmp .ge 12, 3) := dk_162 0 12 (dk_at dksX6_check_3 10 rfl rfl)
theorem dX6_check_85 : decode cX6_check 85 = .ok (.aload_n 0, 1) := dk_42 (dk_at dksX6_check_3 13 rfl rfl)
theorem dX6_check_86 : decode cX6_check 86 = .ok (.getfield 7, 3) := dk_180 0 7 (dk_at dksX6_check_3 14 rfl rfl)
theorem dX6_check_89 : decode cX6_check 89 = .ok (.iload_n 1, 1) := dk_27 (dk_at dksX6_check_3 17 rfl rfl)
theorem dX6_check_90 : decode cX6_check 90 = .ok (.iaload, 1) := dk_46 (dk_at dksX6_check_3 18 rfl rfl)
theorem dX6_check_91 : decode cX6_check 91 = .ok (.goto 4, 3) := dk_167 0 4 (dk_at dksX6_check_3 19 rfl rfl)
theorem dX6_check_94 : decode cX6_check 94 = .ok (.iconst (-1), 1) := dk_2 (dk_at dksX6_check_3 22 rfl rfl)
theorem dX6_check_95 : decode cX6_check 95 = .ok (.ireturn, 1) := dk_172 (dk_at dksX6_check_3 23 rfl rfl)
abbrev cX6_tapeNumber : ByteArray := prog_17_method_103_code
def yX6_tapeNumber : MethodName := ⟨RX6, "tapeNumber", "(I)I"⟩
def dkwX6_tapeNumber_1 : List UInt8 := [51, 17, 0, 255, 126, 128, 61, 132, 3, 1, 167, 255, 228, 28, 172]
abbrev dktX6_tapeNumber_1 : List UInt8 := dkwX6_tapeNumber_1 ++ []
def dkwX6_tapeNumber_0 : List UInt8 := [3, 61, 7, 27, 104, 62, 29, 7, 27, 104, 7, 96, 162, 0, 25, 28, 16, 8, 120, 42, 180, 0, 29, 29]
abbrev dktX6_tapeNumber_0 : List UInt8 := dkwX6_tapeNumber_0 ++ dktX6_tapeNumber_1
theorem dksX6_tapeNumber_0 : cX6_tapeNumber.data.toList.drop 0 = dktX6_tapeNumber_0 := by decide +kernel
theorem dksX6_tapeNumber_1 : cX6_tapeNumber.data.toList.drop 24 = dktX6_tapeNumber_1 := dk_seg dksX6_tapeNumber_0 24 rfl rfl
theorem dX6_tapeNumber_0 : decode cX6_tapeNumber 0 = .ok (.iconst 0, 1) := dk_3 (dk_at dksX6_tapeNumber_0 0 rfl rfl)
theorem dX6_tapeNumber_1 : decode cX6_tapeNumber 1 = .ok (.istore_n 2, 1) := dk_61 (dk_at dksX6_tapeNumber_0 1 rfl rfl)
theorem dX6_tapeNumber_2 : decode cX6_tapeNumber 2 = .ok (.iconst 4, 1) := dk_7 (dk_at dksX6_tapeNumber_0 2 rfl rfl)
theorem dX6_tapeNumber_3 : decode cX6_tapeNumber 3 = .ok (.iload_n 1, 1) := dk_27 (dk_at dksX6_tapeNumber_0 3 rfl rfl)
theorem dX6_tapeNumber_4 : decode cX6_tapeNumber 4 = .ok (.imul, 1) := dk_104 (dk_at dksX6_tapeNumber_0 4 rfl rfl)
theorem dX6_tapeNumber_5 : decode cX6_tapeNumber 5 = .ok (.istore_n 3, 1) := dk_62 (dk_at dksX6_tapeNumber_0 5 rfl rfl)
theorem dX6_tapeNumber_6 : decode cX6_tapeNumber 6 = .ok (.iload_n 3, 1) := dk_29 (dk_at dksX6_tapeNumber_0 6 rfl rfl)
theorem dX6_tapeNumber_7 : decode cX6_tapeNumber 7 = .ok (.iconst 4, 1) := dk_7 (dk_at dksX6_tapeNumber_0 7 rfl rfl)
theorem dX6_tapeNumber_8 : decode cX6_tapeNumber 8 = .ok (.iload_n 1, 1) := dk_27 (dk_at dksX6_tapeNumber_0 8 rfl rfl)
theorem dX6_tapeNumber_9 : decode cX6_tapeNumber 9 = .ok (.imul, 1) := dk_104 (dk_at dksX6_tapeNumber_0 9 rfl rfl)
theorem dX6_tapeNumber_10 : decode cX6_tapeNumber 10 = .ok (.iconst 4, 1) := dk_7 (dk_at dksX6_tapeNumber_0 10 rfl rfl)
theorem dX6_tapeNumber_11 : decode cX6_tapeNumber 11 = .ok (.iadd, 1) := dk_96 (dk_at dksX6_tapeNumber_0 11 rfl rfl)
theorem dX6_tapeNumber_12 : decode cX6_tapeNumber 12 = .ok (.if_icmp .ge 25, 3) := dk_162 0 25 (dk_at dksX6_tapeNumber_0 12 rfl rfl)
theorem dX6_tapeNumber_15 : decode cX6_tapeNumber 15 = .ok (.iload_n 2, 1) := dk_28 (dk_at dksX6_tapeNumber_0 15 rfl rfl)
theorem dX6_tapeNumber_16 : decode cX6_tapeNumber 16 = .ok (.bipush 8, 2) := dk_16 8 (dk_at dksX6_tapeNumber_0 16 rfl rfl)
theorem dX6_tapeNumber_18 : decode cX6_tapeNumber 18 = .ok (.ishl, 1) := dk_120 (dk_at dksX6_tapeNumber_0 18 rfl rfl)
theorem dX6_tapeNumber_19 : decode cX6_tapeNumber 19 = .ok (.aload_n 0, 1) := dk_42 (dk_at dksX6_tapeNumber_0 19 rfl rfl)
theorem dX6_tapeNumber_20 : decode cX6_tapeNumber 20 = .ok (.getfield 29, 3) := dk_180 0 29 (dk_at dksX6_tapeNumber_0 20 rfl rfl)
theorem dX6_tapeNumber_23 : decode cX6_tapeNumber 23 = .ok (.iload_n 3, 1) := dk_29 (dk_at dksX6_tapeNumber_0 23 rfl rfl)
theorem dX6_tapeNumber_24 : decode cX6_tapeNumber 24 = .ok (.baload, 1) := dk_51 (dk_at dksX6_tapeNumber_1 0 rfl rfl)
theorem dX6_tapeNumber_25 : decode cX6_tapeNumber 25 = .ok (.sipush 255, 3) := dk_17 0 255 (dk_at dksX6_tapeNumber_1 1 rfl rfl)
theorem dX6_tapeNumber_28 : decode cX6_tapeNumber 28 = .ok (.iand, 1) := dk_126 (dk_at dksX6_tapeNumber_1 4 rfl rfl)
theorem dX6_tapeNumber_29 : decode cX6_tapeNumber 29 = .ok (.ior, 1) := dk_128 (dk_at dksX6_tapeNumber_1 5 rfl rfl)
theorem dX6_tapeNumber_30 : decode cX6_tapeNumber 30 = .ok (.istore_n 2, 1) := dk_61 (dk_at dksX6_tapeNumber_1 6 rfl rfl)
theorem dX6_tapeNumber_31 : decode cX6_tapeNumber 31 = .ok (.iinc 3 1, 3) := dk_132 3 1 (dk_at dksX6_tapeNumber_1 7 rfl rfl)
theorem dX6_tapeNumber_34 : decode cX6_tapeNumber 34 = .ok (.goto (-28), 3) := dk_167 255 228 (dk_at dksX6_tapeNumber_1 10 rfl rfl)
theorem dX6_tapeNumber_37 : decode cX6_tapeNumber 37 = .ok (.iload_n 2, 1) := dk_28 (dk_at dksX6_tapeNumber_1 13 rfl rfl)
theorem dX6_tapeNumber_38 : decode cX6_tapeNumber 38 = .ok (.ireturn, 1) := dk_172 (dk_at dksX6_tapeNumber_1 14 rfl rfl)
abbrev cX6_count : ByteArray := prog_17_method_106_code
def yX6_count : MethodName := ⟨RX6, "count", "(I)I"⟩
def dkwX6_count_7 : List UInt8 := [167, 0, 4, 2, 172]
abbrev dktX6_count_7 : List UInt8 := dkwX6_count_7 ++ []
def dkwX6_count_6 : List UInt8 := [184, 0, 139, 153, 0, 22, 42, 27, 16, 100, 100, 182, 1, 26, 153, 0, 7, 4, 167, 0, 8, 3]
abbrev dktX6_count_6 : List UInt8 := dkwX6_count_6 ++ dktX6_count_7
def dkwX6_count_5 : List UInt8 := [153, 0, 13, 42, 180, 0, 16, 27, 16, 60, 100, 46, 172, 27, 16, 100, 16, 99, 42, 180, 0, 130, 96]
abbrev dktX6_count_5 : List UInt8 := dkwX6_count_5 ++ dktX6_count_6
def dkwX6_count_4 : List UInt8 := [180, 0, 7, 27, 16, 20, 100, 46, 172, 27, 16, 60, 16, 59, 42, 180, 0, 130, 96, 184, 0, 139]
abbrev dktX6_count_4 : List UInt8 := dkwX6_count_4 ++ dktX6_count_5
def dkwX6_count_3 : List UInt8 := [172, 42, 180, 0, 126, 172, 27, 16, 20, 16, 19, 42, 180, 0, 130, 96, 184, 0, 139, 153, 0, 13, 42]
abbrev dktX6_count_3 : List UInt8 := dkwX6_count_3 ++ dktX6_count_4
def dkwX6_count_2 : List UInt8 := [42, 180, 0, 130, 172, 42, 182, 1, 174, 172, 42, 180, 0, 251, 172, 42, 180, 0, 133, 172, 42, 180, 0, 122]
abbrev dktX6_count_2 : List UInt8 := dkwX6_count_2 ++ dktX6_count_3
def dkwX6_count_1 : List UInt8 := [170, 0, 0, 0, 0, 0, 69, 0, 0, 0, 0, 0, 0, 0, 5, 0, 0, 0, 39, 0, 0, 0, 44, 0, 0, 0, 49, 0, 0, 0, 54, 0, 0, 0, 59, 0, 0, 0, 64]
abbrev dktX6_count_1 : List UInt8 := dkwX6_count_1 ++ dktX6_count_2
def dkwX6_count_0 : List UInt8 := [27]
abbrev dktX6_count_0 : List UInt8 := dkwX6_count_0 ++ dktX6_count_1
theorem dksX6_count_0 : cX6_count.data.toList.drop 0 = dktX6_count_0 := by decide +kernel
theorem dksX6_count_1 : cX6_count.data.toList.drop 1 = dktX6_count_1 := dk_seg dksX6_count_0 1 rfl rfl
theorem dksX6_count_2 : cX6_count.data.toList.drop 40 = dktX6_count_2 := dk_seg dksX6_count_1 39 rfl rfl
theorem dksX6_count_3 : cX6_count.data.toList.drop 64 = dktX6_count_3 := dk_seg dksX6_count_2 24 rfl rfl
theorem dksX6_count_4 : cX6_count.data.toList.drop 87 = dktX6_count_4 := dk_seg dksX6_count_3 23 rfl rfl
theorem dksX6_count_5 : cX6_count.data.toList.drop 109 = dktX6_count_5 := dk_seg dksX6_count_4 22 rfl rfl
theorem dksX6_count_6 : cX6_count.data.toList.drop 132 = dktX6_count_6 := dk_seg dksX6_count_5 23 rfl rfl
theorem dksX6_count_7 : cX6_count.data.toList.drop 154 = dktX6_count_7 := dk_seg dksX6_count_6 22 rfl rfl
theorem dX6_count_0 : decode cX6_count 0 = .ok (.iload_n 1, 1) := dk_27 (dk_at dksX6_count_0 0 rfl rfl)
theorem dX6_count_1 : decode cX6_count 1 = .ok (.tableswitch 69 0 5 #[39, 44, 49, 54, 59, 64], 39) := by decide +kernel
theorem dX6_count_40 : decode cX6_count 40 = .ok (.aload_n 0, 1) := dk_42 (dk_at dksX6_count_2 0 rfl rfl)
theorem dX6_count_41 : decode cX6_count 41 = .ok (.getfield 130, 3) := dk_180 0 130 (dk_at dksX6_count_2 1 rfl rfl)
theorem dX6_count_44 : decode cX6_count 44 = .ok (.ireturn, 1) := dk_172 (dk_at dksX6_count_2 4 rfl rfl)
theorem dX6_count_45 : decode cX6_count 45 = .ok (.aload_n 0, 1) := dk_42 (dk_at dksX6_count_2 5 rfl rfl)
theorem dX6_count_46 : decode cX6_count 46 = .ok (.invokevirtual 430, 3) := dk_182 1 174 (dk_at dksX6_count_2 6 rfl rfl)
theorem dX6_count_49 : decode cX6_count 49 = .ok (.ireturn, 1) := dk_172 (dk_at dksX6_count_2 9 rfl rfl)
theorem dX6_count_50 : decode cX6_count 50 = .ok (.aload_n 0, 1) := dk_42 (dk_at dksX6_count_2 10 rfl rfl)
theorem dX6_count_51 : decode cX6_count 51 = .ok (.getfield 251, 3) := dk_180 0 251 (dk_at dksX6_count_2 11 rfl rfl)
theorem dX6_count_54 : decode cX6_count 54 = .ok (.ireturn, 1) := dk_172 (dk_at dksX6_count_2 14 rfl rfl)
theorem dX6_count_55 : decode cX6_count 55 = .ok (.aload_n 0, 1) := dk_42 (dk_at dksX6_count_2 15 rfl rfl)
theorem dX6_count_56 : decode cX6_count 56 = .ok (.getfield 133, 3) := dk_180 0 133 (dk_at dksX6_count_2 16 rfl rfl)
theorem dX6_count_59 : decode cX6_count 59 = .ok (.ireturn, 1) := dk_172 (dk_at dksX6_count_2 19 rfl rfl)
theorem dX6_count_60 : decode cX6_count 60 = .ok (.aload_n 0, 1) := dk_42 (dk_at dksX6_count_2 20 rfl rfl)
theorem dX6_count_61 : decode cX6_count 61 = .ok (.getfield 122, 3) := dk_180 0 122 (dk_at dksX6_count_2 21 rfl rfl)
theorem dX6_count_64 : decode cX6_count 64 = .ok (.ireturn, 1) := dk_172 (dk_at dksX6_count_3 0 rfl rfl)
theorem dX6_count_65 : decode cX6_count 65 = .ok (.aload_n 0, 1) := dk_42 (dk_at dksX6_count_3 1 rfl rfl)
theorem dX6_count_66 : decode cX6_count 66 = .ok (.getfield 126, 3) := dk_180 0 126 (dk_at dksX6_count_3 2 rfl rfl)
theorem dX6_count_69 : decode cX6_count 69 = .ok (.ireturn, 1) := dk_172 (dk_at dksX6_count_3 5 rfl rfl)
theorem dX6_count_70 : decode cX6_count 70 = .ok (.iload_n 1, 1) := dk_27 (dk_at dksX6_count_3 6 rfl rfl)
theorem dX6_count_71 : decode cX6_count 71 = .ok (.bipush 20, 2) := dk_16 20 (dk_at dksX6_count_3 7 rfl rfl)
theorem dX6_count_73 : decode cX6_count 73 = .ok (.bipush 19, 2) := dk_16 19 (dk_at dksX6_count_3 9 rfl rfl)
theorem dX6_count_75 : decode cX6_count 75 = .ok (.aload_n 0, 1) := dk_42 (dk_at dksX6_count_3 11 rfl rfl)
theorem dX6_count_76 : decode cX6_count 76 = .ok (.getfield 130, 3) := dk_180 0 130 (dk_at dksX6_count_3 12 rfl rfl)
theorem dX6_count_79 : decode cX6_count 79 = .ok (.iadd, 1) := dk_96 (dk_at dksX6_count_3 15 rfl rfl)
theorem dX6_count_80 : decode cX6_count 80 = .ok (.invokestatic 139, 3) := dk_184 0 139 (dk_at dksX6_count_3 16 rfl rfl)
theorem dX6_count_83 : decode cX6_count 83 = .ok (.ifCond .eq 13, 3) := dk_153 0 13 (dk_at dksX6_count_3 19 rfl rfl)
theorem dX6_count_86 : decode cX6_count 86 = .ok (.aload_n 0, 1) := dk_42 (dk_at dksX6_count_3 22 rfl rfl)
theorem dX6_count_87 : decode cX6_count 87 = .ok (.getfield 7, 3) := dk_180 0 7 (dk_at dksX6_count_4 0 rfl rfl)
theorem dX6_count_90 : decode cX6_count 90 = .ok (.iload_n 1, 1) := dk_27 (dk_at dksX6_count_4 3 rfl rfl)
theorem dX6_count_91 : decode cX6_count 91 = .ok (.bipush 20, 2) := dk_16 20 (dk_at dksX6_count_4 4 rfl rfl)
theorem dX6_count_93 : decode cX6_count 93 = .ok (.isub, 1) := dk_100 (dk_at dksX6_count_4 6 rfl rfl)
theorem dX6_count_94 : decode cX6_count 94 = .ok (.iaload, 1) := dk_46 (dk_at dksX6_count_4 7 rfl rfl)
theorem dX6_count_95 : decode cX6_count 95 = .ok (.ireturn, 1) := dk_172 (dk_at dksX6_count_4 8 rfl rfl)
theorem dX6_count_96 : decode cX6_count 96 = .ok (.iload_n 1, 1) := dk_27 (dk_at dksX6_count_4 9 rfl rfl)
theorem dX6_count_97 : decode cX6_count 97 = .ok (.bipush 60, 2) := dk_16 60 (dk_at dksX6_count_4 10 rfl rfl)
theorem dX6_count_99 : decode cX6_count 99 = .ok (.bipush 59, 2) := dk_16 59 (dk_at dksX6_count_4 12 rfl rfl)
theorem dX6_count_101 : decode cX6_count 101 = .ok (.aload_n 0, 1) := dk_42 (dk_at dksX6_count_4 14 rfl rfl)
theorem dX6_count_102 : decode cX6_count 102 = .ok (.getfield 130, 3) := dk_180 0 130 (dk_at dksX6_count_4 15 rfl rfl)
theorem dX6_count_105 : decode cX6_count 105 = .ok (.iadd, 1) := dk_96 (dk_at dksX6_count_4 18 rfl rfl)
theorem dX6_count_106 : decode cX6_count 106 = .ok (.invokestatic 139, 3) := dk_184 0 139 (dk_at dksX6_count_4 19 rfl rfl)
theorem dX6_count_109 : decode cX6_count 109 = .ok (.ifCond .eq 13, 3) := dk_153 0 13 (dk_at dksX6_count_5 0 rfl rfl)
theorem dX6_count_112 : decode cX6_count 112 = .ok (.aload_n 0, 1) := dk_42 (dk_at dksX6_count_5 3 rfl rfl)
theorem dX6_count_113 : decode cX6_count 113 = .ok (.getfield 16, 3) := dk_180 0 16 (dk_at dksX6_count_5 4 rfl rfl)
theorem dX6_count_116 : decode cX6_count 116 = .ok (.iload_n 1, 1) := dk_27 (dk_at dksX6_count_5 7 rfl rfl)
theorem dX6_count_117 : decode cX6_count 117 = .ok (.bipush 60, 2) := dk_16 60 (dk_at dksX6_count_5 8 rfl rfl)
theorem dX6_count_119 : decode cX6_count 119 = .ok (.isub, 1) := dk_100 (dk_at dksX6_count_5 10 rfl rfl)
theorem dX6_count_120 : decode cX6_count 120 = .ok (.iaload, 1) := dk_46 (dk_at dksX6_count_5 11 rfl rfl)
theorem dX6_count_121 : decode cX6_count 121 = .ok (.ireturn, 1) := dk_172 (dk_at dksX6_count_5 12 rfl rfl)
theorem dX6_count_122 : decode cX6_count 122 = .ok (.iload_n 1, 1) := dk_27 (dk_at dksX6_count_5 13 rfl rfl)
theorem dX6_count_123 : decode cX6_count 123 = .ok (.bipush 100, 2) := dk_16 100 (dk_at dksX6_count_5 14 rfl rfl)
theorem dX6_count_125 : decode cX6_count 125 = .ok (.bipush 99, 2) := dk_16 99 (dk_at dksX6_count_5 16 rfl rfl)
theorem dX6_count_127 : decode cX6_count 127 = .ok (.aload_n 0, 1) := dk_42 (dk_at dksX6_count_5 18 rfl rfl)
theorem dX6_count_128 : decode cX6_count 128 = .ok (.getfield 130, 3) := dk_180 0 130 (dk_at dksX6_count_5 19 rfl rfl)
theorem dX6_count_131 : decode cX6_count 131 = .ok (.iadd, 1) := dk_96 (dk_at dksX6_count_5 22 rfl rfl)
theorem dX6_count_132 : decode cX6_count 132 = .ok (.invokestatic 139, 3) := dk_184 0 139 (dk_at dksX6_count_6 0 rfl rfl)
theorem dX6_count_135 : decode cX6_count 135 = .ok (.ifCond .eq 22, 3) := dk_153 0 22 (dk_at dksX6_count_6 3 rfl rfl)
theorem dX6_count_138 : decode cX6_count 138 = .ok (.aload_n 0, 1) := dk_42 (dk_at dksX6_count_6 6 rfl rfl)
theorem dX6_count_139 : decode cX6_count 139 = .ok (.iload_n 1, 1) := dk_27 (dk_at dksX6_count_6 7 rfl rfl)
theorem dX6_count_140 : decode cX6_count 140 = .ok (.bipush 100, 2) := dk_16 100 (dk_at dksX6_count_6 8 rfl rfl)
theorem dX6_count_142 : decode cX6_count 142 = .ok (.isub, 1) := dk_100 (dk_at dksX6_count_6 10 rfl rfl)
theorem dX6_count_143 : decode cX6_count 143 = .ok (.invokevirtual 282, 3) := dk_182 1 26 (dk_at dksX6_count_6 11 rfl rfl)
theorem dX6_count_146 : decode cX6_count 146 = .ok (.ifCond .eq 7, 3) := dk_153 0 7 (dk_at dksX6_count_6 14 rfl rfl)
theorem dX6_count_149 : decode cX6_count 149 = .ok (.iconst 1, 1) := dk_4 (dk_at dksX6_count_6 17 rfl rfl)
theorem dX6_count_150 : decode cX6_count 150 = .ok (.goto 8, 3) := dk_167 0 8 (dk_at dksX6_count_6 18 rfl rfl)
theorem dX6_count_153 : decode cX6_count 153 = .ok (.iconst 0, 1) := dk_3 (dk_at dksX6_count_6 21 rfl rfl)
theorem dX6_count_154 : decode cX6_count 154 = .ok (.goto 4, 3) := dk_167 0 4 (dk_at dksX6_count_7 0 rfl rfl)
theorem dX6_count_157 : decode cX6_count 157 = .ok (.iconst (-1), 1) := dk_2 (dk_at dksX6_count_7 3 rfl rfl)
theorem dX6_count_158 : decode cX6_count 158 = .ok (.ireturn, 1) := dk_172 (dk_at dksX6_count_7 4 rfl rfl)
abbrev cX6_usedMany : ByteArray := prog_17_method_105_code
def yX6_usedMany : MethodName := ⟨RX6, "usedMany", "()I"⟩
def dkwX6_usedMany_1 : List UInt8 := [167, 0, 4, 3, 96, 60, 132, 2, 1, 167, 255, 229, 27, 172]
abbrev dktX6_usedMany_1 : List UInt8 := dkwX6_usedMany_1 ++ []
def dkwX6_usedMany_0 : List UInt8 := [3, 60, 3, 61, 28, 42, 180, 0, 130, 162, 0, 25, 27, 42, 28, 182, 1, 26, 153, 0, 7, 4]
abbrev dktX6_usedMany_0 : List UInt8 := dkwX6_usedMany_0 ++ dktX6_usedMany_1
theorem dksX6_usedMany_0 : cX6_usedMany.data.toList.drop 0 = dktX6_usedMany_0 := by decide +kernel
theorem dksX6_usedMany_1 : cX6_usedMany.data.toList.drop 22 = dktX6_usedMany_1 := dk_seg dksX6_usedMany_0 22 rfl rfl
theorem dX6_usedMany_0 : decode cX6_usedMany 0 = .ok (.iconst 0, 1) := dk_3 (dk_at dksX6_usedMany_0 0 rfl rfl)
theorem dX6_usedMany_1 : decode cX6_usedMany 1 = .ok (.istore_n 1, 1) := dk_60 (dk_at dksX6_usedMany_0 1 rfl rfl)
theorem dX6_usedMany_2 : decode cX6_usedMany 2 = .ok (.iconst 0, 1) := dk_3 (dk_at dksX6_usedMany_0 2 rfl rfl)
theorem dX6_usedMany_3 : decode cX6_usedMany 3 = .ok (.istore_n 2, 1) := dk_61 (dk_at dksX6_usedMany_0 3 rfl rfl)
theorem dX6_usedMany_4 : decode cX6_usedMany 4 = .ok (.iload_n 2, 1) := dk_28 (dk_at dksX6_usedMany_0 4 rfl rfl)
theorem dX6_usedMany_5 : decode cX6_usedMany 5 = .ok (.aload_n 0, 1) := dk_42 (dk_at dksX6_usedMany_0 5 rfl rfl)
theorem dX6_usedMany_6 : decode cX6_usedMany 6 = .ok (.getfield 130, 3) := dk_180 0 130 (dk_at dksX6_usedMany_0 6 rfl rfl)
theorem dX6_usedMany_9 : decode cX6_usedMany 9 = .ok (.if_icmp .ge 25, 3) := dk_162 0 25 (dk_at dksX6_usedMany_0 9 rfl rfl)
theorem dX6_usedMany_12 : decode cX6_usedMany 12 = .ok (.iload_n 1, 1) := dk_27 (dk_at dksX6_usedMany_0 12 rfl rfl)
theorem dX6_usedMany_13 : decode cX6_usedMany 13 = .ok (.aload_n 0, 1) := dk_42 (dk_at dksX6_usedMany_0 13 rfl rfl)
theorem dX6_usedMany_14 : decode cX6_usedMany 14 = .ok (.iload_n 2, 1) := dk_28 (dk_at dksX6_usedMany_0 14 rfl rfl)
theorem dX6_usedMany_15 : decode cX6_usedMany 15 = .ok (.invokevirtual 282, 3) := dk_182 1 26 (dk_at dksX6_usedMany_0 15 rfl rfl)
theorem dX6_usedMany_18 : decode cX6_usedMany 18 = .ok (.ifCond .eq 7, 3) := dk_153 0 7 (dk_at dksX6_usedMany_0 18 rfl rfl)
theorem dX6_usedMany_21 : decode cX6_usedMany 21 = .ok (.iconst 1, 1) := dk_4 (dk_at dksX6_usedMany_0 21 rfl rfl)
theorem dX6_usedMany_22 : decode cX6_usedMany 22 = .ok (.goto 4, 3) := dk_167 0 4 (dk_at dksX6_usedMany_1 0 rfl rfl)
theorem dX6_usedMany_25 : decode cX6_usedMany 25 = .ok (.iconst 0, 1) := dk_3 (dk_at dksX6_usedMany_1 3 rfl rfl)
theorem dX6_usedMany_26 : decode cX6_usedMany 26 = .ok (.iadd, 1) := dk_96 (dk_at dksX6_usedMany_1 4 rfl rfl)
theorem dX6_usedMany_27 : decode cX6_usedMany 27 = .ok (.istore_n 1, 1) := dk_60 (dk_at dksX6_usedMany_1 5 rfl rfl)
theorem dX6_usedMany_28 : decode cX6_usedMany 28 = .ok (.iinc 2 1, 3) := dk_132 2 1 (dk_at dksX6_usedMany_1 6 rfl rfl)
theorem dX6_usedMany_31 : decode cX6_usedMany 31 = .ok (.goto (-27), 3) := dk_167 255 229 (dk_at dksX6_usedMany_1 9 rfl rfl)
theorem dX6_usedMany_34 : decode cX6_usedMany 34 = .ok (.iload_n 1, 1) := dk_27 (dk_at dksX6_usedMany_1 12 rfl rfl)
theorem dX6_usedMany_35 : decode cX6_usedMany 35 = .ok (.ireturn, 1) := dk_172 (dk_at dksX6_usedMany_1 13 rfl rfl)
theorem q127 : (Jvm.Cond.initialized "LetterHeapsModel") ∈ lw_all := lw_g (lw_at lw_m1 7 rfl) rfl
theorem q1012 : (Jvm.Cond.instantiable "LetterHeapsModel" (54 : Nat)) ∈ lw_all := lw_g (lw_at lw_m4 172 rfl) rfl
theorem q1014 : (Jvm.Cond.instanceMethod ({ cls := "LetterHeapsModel", name := "<init>", desc := "()V" } : Jvm.MethodName)) ∈ lw_all := lw_g (lw_at lw_m4 174 rfl) rfl
theorem q1015 : (Jvm.Cond.code ({ cls := "LetterHeapsModel", name := "<init>", desc := "()V" } : Jvm.MethodName) prog_17_method_1_code (1 : Nat) (Option.none : Option Jvm.ClassFile.FieldType)) ∈ lw_all := lw_g (lw_at lw_m4 175 rfl) rfl
theorem q1016 : (Jvm.Cond.methodLink "LetterHeapsModel" (1 : Nat) ({ cls := "java/lang/Object", name := "<init>", desc := "()V" } : Jvm.MethodName)) ∈ lw_all := lw_g (lw_at lw_m4 176 rfl) rfl
theorem q1017 : (Jvm.Cond.constant "LetterHeapsModel" (106 : Nat) (53248 : Int32)) ∈ lw_all := lw_g (lw_at lw_m4 177 rfl) rfl
theorem q1018 : (Jvm.Cond.fieldLink "LetterHeapsModel" (130 : Nat) "LetterHeapsModel" "words" "I") ∈ lw_all := lw_g (lw_at lw_m4 178 rfl) rfl
theorem q1019 : (Jvm.Cond.fieldLink "LetterHeapsModel" (122 : Nat) "LetterHeapsModel" "x0" "I") ∈ lw_all := lw_g (lw_at lw_m4 179 rfl) rfl
theorem q1020 : (Jvm.Cond.fieldLink "LetterHeapsModel" (126 : Nat) "LetterHeapsModel" "tongue0" "I") ∈ lw_all := lw_g (lw_at lw_m4 180 rfl) rfl
theorem q1021 : (Jvm.Cond.fieldLink "LetterHeapsModel" (7 : Nat) "LetterHeapsModel" "lengthOf" "[I") ∈ lw_all := lw_g (lw_at lw_m4 181 rfl) rfl
theorem q1022 : (Jvm.Cond.fieldLink "LetterHeapsModel" (13 : Nat) "LetterHeapsModel" "letterOf" "[I") ∈ lw_all := lw_g (lw_at lw_m4 182 rfl) rfl
theorem q1023 : (Jvm.Cond.fieldLink "LetterHeapsModel" (16 : Nat) "LetterHeapsModel" "knownOf" "[I") ∈ lw_all := lw_g (lw_at lw_m4 183 rfl) rfl
theorem q1024 : (Jvm.Cond.fieldLink "LetterHeapsModel" (19 : Nat) "LetterHeapsModel" "tonguesOf" "[I") ∈ lw_all := lw_g (lw_at lw_m4 184 rfl) rfl
theorem q1025 : (Jvm.Cond.fieldLink "LetterHeapsModel" (22 : Nat) "LetterHeapsModel" "isBarred" "[Z") ∈ lw_all := lw_g (lw_at lw_m4 185 rfl) rfl
theorem q1026 : (Jvm.Cond.fieldLink "LetterHeapsModel" (26 : Nat) "LetterHeapsModel" "row0" "[I") ∈ lw_all := lw_g (lw_at lw_m4 186 rfl) rfl
theorem q1027 : (Jvm.Cond.fieldLink "LetterHeapsModel" (136 : Nat) "LetterHeapsModel" "long0" "I") ∈ lw_all := lw_g (lw_at lw_m4 187 rfl) rfl
theorem q1028 : (Jvm.Cond.fieldLink "LetterHeapsModel" (29 : Nat) "LetterHeapsModel" "tape" "[B") ∈ lw_all := lw_g (lw_at lw_m4 188 rfl) rfl
theorem q1029 : (Jvm.Cond.fieldLink "LetterHeapsModel" (133 : Nat) "LetterHeapsModel" "taped" "I") ∈ lw_all := lw_g (lw_at lw_m4 189 rfl) rfl
theorem q1030 : (Jvm.Cond.fieldLink "LetterHeapsModel" (161 : Nat) "LetterHeapsModel" "place0" "I") ∈ lw_all := lw_g (lw_at lw_m4 190 rfl) rfl
theorem q1031 : (Jvm.Cond.fieldLink "LetterHeapsModel" (164 : Nat) "LetterHeapsModel" "length0" "I") ∈ lw_all := lw_g (lw_at lw_m4 191 rfl) rfl
theorem q1032 : (Jvm.Cond.fieldLink "LetterHeapsModel" (171 : Nat) "LetterHeapsModel" "fault" "I") ∈ lw_all := lw_g (lw_at lw_m4 192 rfl) rfl
theorem q1033 : (Jvm.Cond.fieldLink "LetterHeapsModel" (188 : Nat) "LetterHeapsModel" "open" "I") ∈ lw_all := lw_g (lw_at lw_m4 193 rfl) rfl
theorem q1034 : (Jvm.Cond.fieldLink "LetterHeapsModel" (184 : Nat) "LetterHeapsModel" "codeMany" "I") ∈ lw_all := lw_g (lw_at lw_m4 194 rfl) rfl
theorem q1035 : (Jvm.Cond.fieldLink "LetterHeapsModel" (191 : Nat) "LetterHeapsModel" "waiting" "I") ∈ lw_all := lw_g (lw_at lw_m4 195 rfl) rfl
theorem q1036 : (Jvm.Cond.fieldLink "LetterHeapsModel" (239 : Nat) "LetterHeapsModel" "saidMany" "I") ∈ lw_all := lw_g (lw_at lw_m4 196 rfl) rfl
theorem q1037 : (Jvm.Cond.fieldLink "LetterHeapsModel" (178 : Nat) "LetterHeapsModel" "number0" "I") ∈ lw_all := lw_g (lw_at lw_m4 197 rfl) rfl
theorem q1038 : (Jvm.Cond.fieldLink "LetterHeapsModel" (251 : Nat) "LetterHeapsModel" "clauses" "I") ∈ lw_all := lw_g (lw_at lw_m4 198 rfl) rfl
theorem q1039 : (Jvm.Cond.fieldLink "LetterHeapsModel" (33 : Nat) "LetterHeapsModel" "said" "[I") ∈ lw_all := lw_g (lw_at lw_m4 199 rfl) rfl
theorem q1040 : (Jvm.Cond.fieldLink "LetterHeapsModel" (36 : Nat) "LetterHeapsModel" "waits" "[I") ∈ lw_all := lw_g (lw_at lw_m4 200 rfl) rfl
theorem q1041 : (Jvm.Cond.fieldLink "LetterHeapsModel" (39 : Nat) "LetterHeapsModel" "saidLetter" "[I") ∈ lw_all := lw_g (lw_at lw_m4 201 rfl) rfl
theorem q1042 : (Jvm.Cond.fieldLink "LetterHeapsModel" (42 : Nat) "LetterHeapsModel" "saidFrom" "[I") ∈ lw_all := lw_g (lw_at lw_m4 202 rfl) rfl
theorem q1043 : (Jvm.Cond.fieldLink "LetterHeapsModel" (45 : Nat) "LetterHeapsModel" "saidHalf" "[I") ∈ lw_all := lw_g (lw_at lw_m4 203 rfl) rfl
theorem q1044 : (Jvm.Cond.fieldLink "LetterHeapsModel" (48 : Nat) "LetterHeapsModel" "saidTo" "[I") ∈ lw_all := lw_g (lw_at lw_m4 204 rfl) rfl
theorem q1045 : (Jvm.Cond.fieldLink "LetterHeapsModel" (51 : Nat) "LetterHeapsModel" "codes" "[I") ∈ lw_all := lw_g (lw_at lw_m4 205 rfl) rfl
theorem q1046 : (Jvm.Cond.fieldLink "LetterHeapsModel" (54 : Nat) "LetterHeapsModel" "clauseOf" "[I") ∈ lw_all := lw_g (lw_at lw_m4 206 rfl) rfl
theorem q1047 : (Jvm.Cond.fieldLink "LetterHeapsModel" (57 : Nat) "LetterHeapsModel" "codeFrom" "[I") ∈ lw_all := lw_g (lw_at lw_m4 207 rfl) rfl
theorem q1048 : (Jvm.Cond.fieldLink "LetterHeapsModel" (60 : Nat) "LetterHeapsModel" "codeHalf" "[I") ∈ lw_all := lw_g (lw_at lw_m4 208 rfl) rfl
theorem q1049 : (Jvm.Cond.fieldLink "LetterHeapsModel" (63 : Nat) "LetterHeapsModel" "codeTo" "[I") ∈ lw_all := lw_g (lw_at lw_m4 209 rfl) rfl
theorem q1050 : (Jvm.Cond.fieldLink "LetterHeapsModel" (66 : Nat) "LetterHeapsModel" "stack" "[I") ∈ lw_all := lw_g (lw_at lw_m4 210 rfl) rfl
theorem q1051 : (Jvm.Cond.fieldLink "LetterHeapsModel" (69 : Nat) "LetterHeapsModel" "facts" "[I") ∈ lw_all := lw_g (lw_at lw_m4 211 rfl) rfl
theorem q1052 : (Jvm.Cond.fieldLink "LetterHeapsModel" (72 : Nat) "LetterHeapsModel" "stepCost" "[I") ∈ lw_all := lw_g (lw_at lw_m4 212 rfl) rfl
theorem q1053 : (Jvm.Cond.fieldLink "LetterHeapsModel" (75 : Nat) "LetterHeapsModel" "stepKind" "[I") ∈ lw_all := lw_g (lw_at lw_m4 213 rfl) rfl
theorem q1054 : (Jvm.Cond.fieldLink "LetterHeapsModel" (78 : Nat) "LetterHeapsModel" "stepPlace" "[I") ∈ lw_all := lw_g (lw_at lw_m4 214 rfl) rfl
theorem q1055 : (Jvm.Cond.fieldLink "LetterHeapsModel" (81 : Nat) "LetterHeapsModel" "wayOf" "[I") ∈ lw_all := lw_g (lw_at lw_m4 215 rfl) rfl
theorem q1056 : (Jvm.Cond.fieldLink "LetterHeapsModel" (84 : Nat) "LetterHeapsModel" "waysFrom" "[J") ∈ lw_all := lw_g (lw_at lw_m4 216 rfl) rfl
theorem q1057 : (Jvm.Cond.fieldLink "LetterHeapsModel" (88 : Nat) "LetterHeapsModel" "isCome" "[Z") ∈ lw_all := lw_g (lw_at lw_m4 217 rfl) rfl
theorem q1058 : (Jvm.Cond.fieldLink "LetterHeapsModel" (91 : Nat) "LetterHeapsModel" "newRow" "[I") ∈ lw_all := lw_g (lw_at lw_m4 218 rfl) rfl
theorem q1059 : (Jvm.Cond.fieldLink "LetterHeapsModel" (345 : Nat) "LetterHeapsModel" "newHeaps" "I") ∈ lw_all := lw_g (lw_at lw_m4 219 rfl) rfl
theorem q1060 : (Jvm.Cond.fieldLink "LetterHeapsModel" (348 : Nat) "LetterHeapsModel" "newWords" "I") ∈ lw_all := lw_g (lw_at lw_m4 220 rfl) rfl
theorem q1061 : (Jvm.Cond.fieldLink "LetterHeapsModel" (339 : Nat) "LetterHeapsModel" "newLong" "I") ∈ lw_all := lw_g (lw_at lw_m4 221 rfl) rfl
theorem q1062 : (Jvm.Cond.fieldLink "LetterHeapsModel" (94 : Nat) "LetterHeapsModel" "heapAt" "[I") ∈ lw_all := lw_g (lw_at lw_m4 222 rfl) rfl
theorem q1063 : (Jvm.Cond.fieldLink "LetterHeapsModel" (97 : Nat) "LetterHeapsModel" "walksTo" "[J") ∈ lw_all := lw_g (lw_at lw_m4 223 rfl) rfl
theorem q1064 : (Jvm.Cond.fieldLink "LetterHeapsModel" (100 : Nat) "LetterHeapsModel" "walksThen" "[J") ∈ lw_all := lw_g (lw_at lw_m4 224 rfl) rfl
theorem q1065 : (Jvm.Cond.fieldLink "LetterHeapsModel" (103 : Nat) "LetterHeapsModel" "told" "[I") ∈ lw_all := lw_g (lw_at lw_m4 225 rfl) rfl
theorem q1066 : (Jvm.Cond.fieldLink "LetterHeapsModel" (107 : Nat) "LetterHeapsModel" "rest" "[I") ∈ lw_all := lw_g (lw_at lw_m4 226 rfl) rfl
theorem q1067 : (Jvm.Cond.fieldLink "LetterHeapsModel" (110 : Nat) "LetterHeapsModel" "farOf" "[I") ∈ lw_all := lw_g (lw_at lw_m4 227 rfl) rfl
theorem q1068 : (Jvm.Cond.fieldLink "LetterHeapsModel" (113 : Nat) "LetterHeapsModel" "tooNear" "[I") ∈ lw_all := lw_g (lw_at lw_m4 228 rfl) rfl
theorem q1069 : (Jvm.Cond.fieldLink "LetterHeapsModel" (116 : Nat) "LetterHeapsModel" "squareRow" "[I") ∈ lw_all := lw_g (lw_at lw_m4 229 rfl) rfl
theorem q1070 : (Jvm.Cond.fieldLink "LetterHeapsModel" (119 : Nat) "LetterHeapsModel" "firstSquare" "[I") ∈ lw_all := lw_g (lw_at lw_m4 230 rfl) rfl
theorem q1071 : (Jvm.Cond.fieldLink "LetterHeapsModel" (410 : Nat) "LetterHeapsModel" "squares" "I") ∈ lw_all := lw_g (lw_at lw_m4 231 rfl) rfl
theorem q1072 : (Jvm.Cond.lays "LetterHeapsModel" "LetterHeapsModel" "words" "I") ∈ lw_all := lw_g (lw_at lw_m4 232 rfl) rfl
theorem q1073 : (Jvm.Cond.soleField "LetterHeapsModel" "words") ∈ lw_all := lw_g (lw_at lw_m4 233 rfl) rfl
theorem q1074 : (Jvm.Cond.lays "LetterHeapsModel" "LetterHeapsModel" "x0" "I") ∈ lw_all := lw_g (lw_at lw_m4 234 rfl) rfl
theorem q1075 : (Jvm.Cond.soleField "LetterHeapsModel" "x0") ∈ lw_all := lw_g (lw_at lw_m4 235 rfl) rfl
theorem q1076 : (Jvm.Cond.lays "LetterHeapsModel" "LetterHeapsModel" "tongue0" "I") ∈ lw_all := lw_g (lw_at lw_m4 236 rfl) rfl
theorem q1077 : (Jvm.Cond.soleField "LetterHeapsModel" "tongue0") ∈ lw_all := lw_g (lw_at lw_m4 237 rfl) rfl
theorem q1078 : (Jvm.Cond.laysFinal "LetterHeapsModel" "LetterHeapsModel" "lengthOf" "[I") ∈ lw_all := lw_g (lw_at lw_m4 238 rfl) rfl
theorem q1079 : (Jvm.Cond.soleField "LetterHeapsModel" "lengthOf") ∈ lw_all := lw_g (lw_at lw_m4 239 rfl) rfl
theorem q1080 : (Jvm.Cond.laysFinal "LetterHeapsModel" "LetterHeapsModel" "letterOf" "[I") ∈ lw_all := lw_g (lw_at lw_m5 0 rfl) rfl
theorem q1081 : (Jvm.Cond.soleField "LetterHeapsModel" "letterOf") ∈ lw_all := lw_g (lw_at lw_m5 1 rfl) rfl
theorem q1082 : (Jvm.Cond.laysFinal "LetterHeapsModel" "LetterHeapsModel" "knownOf" "[I") ∈ lw_all := lw_g (lw_at lw_m5 2 rfl) rfl
theorem q1083 : (Jvm.Cond.soleField "LetterHeapsModel" "knownOf") ∈ lw_all := lw_g (lw_at lw_m5 3 rfl) rfl
theorem q1084 : (Jvm.Cond.laysFinal "LetterHeapsModel" "LetterHeapsModel" "tonguesOf" "[I") ∈ lw_all := lw_g (lw_at lw_m5 4 rfl) rfl
theorem q1085 : (Jvm.Cond.soleField "LetterHeapsModel" "tonguesOf") ∈ lw_all := lw_g (lw_at lw_m5 5 rfl) rfl
theorem q1086 : (Jvm.Cond.laysFinal "LetterHeapsModel" "LetterHeapsModel" "isBarred" "[Z") ∈ lw_all := lw_g (lw_at lw_m5 6 rfl) rfl
theorem q1087 : (Jvm.Cond.soleField "LetterHeapsModel" "isBarred") ∈ lw_all := lw_g (lw_at lw_m5 7 rfl) rfl
theorem q1088 : (Jvm.Cond.laysFinal "LetterHeapsModel" "LetterHeapsModel" "row0" "[I") ∈ lw_all := lw_g (lw_at lw_m5 8 rfl) rfl
theorem q1089 : (Jvm.Cond.soleField "LetterHeapsModel" "row0") ∈ lw_all := lw_g (lw_at lw_m5 9 rfl) rfl
theorem q1090 : (Jvm.Cond.lays "LetterHeapsModel" "LetterHeapsModel" "long0" "I") ∈ lw_all := lw_g (lw_at lw_m5 10 rfl) rfl
theorem q1091 : (Jvm.Cond.soleField "LetterHeapsModel" "long0") ∈ lw_all := lw_g (lw_at lw_m5 11 rfl) rfl
theorem q1092 : (Jvm.Cond.laysFinal "LetterHeapsModel" "LetterHeapsModel" "tape" "[B") ∈ lw_all := lw_g (lw_at lw_m5 12 rfl) rfl
theorem q1093 : (Jvm.Cond.soleField "LetterHeapsModel" "tape") ∈ lw_all := lw_g (lw_at lw_m5 13 rfl) rfl
theorem q1094 : (Jvm.Cond.lays "LetterHeapsModel" "LetterHeapsModel" "taped" "I") ∈ lw_all := lw_g (lw_at lw_m5 14 rfl) rfl
theorem q1095 : (Jvm.Cond.soleField "LetterHeapsModel" "taped") ∈ lw_all := lw_g (lw_at lw_m5 15 rfl) rfl
theorem q1096 : (Jvm.Cond.lays "LetterHeapsModel" "LetterHeapsModel" "place0" "I") ∈ lw_all := lw_g (lw_at lw_m5 16 rfl) rfl
theorem q1097 : (Jvm.Cond.soleField "LetterHeapsModel" "place0") ∈ lw_all := lw_g (lw_at lw_m5 17 rfl) rfl
theorem q1098 : (Jvm.Cond.lays "LetterHeapsModel" "LetterHeapsModel" "length0" "I") ∈ lw_all := lw_g (lw_at lw_m5 18 rfl) rfl
theorem q1099 : (Jvm.Cond.soleField "LetterHeapsModel" "length0") ∈ lw_all := lw_g (lw_at lw_m5 19 rfl) rfl
theorem q1100 : (Jvm.Cond.lays "LetterHeapsModel" "LetterHeapsModel" "fault" "I") ∈ lw_all := lw_g (lw_at lw_m5 20 rfl) rfl
theorem q1101 : (Jvm.Cond.soleField "LetterHeapsModel" "fault") ∈ lw_all := lw_g (lw_at lw_m5 21 rfl) rfl
theorem q1102 : (Jvm.Cond.lays "LetterHeapsModel" "LetterHeapsModel" "open" "I") ∈ lw_all := lw_g (lw_at lw_m5 22 rfl) rfl
theorem q1103 : (Jvm.Cond.soleField "LetterHeapsModel" "open") ∈ lw_all := lw_g (lw_at lw_m5 23 rfl) rfl
theorem q1104 : (Jvm.Cond.lays "LetterHeapsModel" "LetterHeapsModel" "codeMany" "I") ∈ lw_all := lw_g (lw_at lw_m5 24 rfl) rfl
theorem q1105 : (Jvm.Cond.soleField "LetterHeapsModel" "codeMany") ∈ lw_all := lw_g (lw_at lw_m5 25 rfl) rfl
theorem q1106 : (Jvm.Cond.lays "LetterHeapsModel" "LetterHeapsModel" "waiting" "I") ∈ lw_all := lw_g (lw_at lw_m5 26 rfl) rfl
theorem q1107 : (Jvm.Cond.soleField "LetterHeapsModel" "waiting") ∈ lw_all := lw_g (lw_at lw_m5 27 rfl) rfl
theorem q1108 : (Jvm.Cond.lays "LetterHeapsModel" "LetterHeapsModel" "saidMany" "I") ∈ lw_all := lw_g (lw_at lw_m5 28 rfl) rfl
theorem q1109 : (Jvm.Cond.soleField "LetterHeapsModel" "saidMany") ∈ lw_all := lw_g (lw_at lw_m5 29 rfl) rfl
theorem q1110 : (Jvm.Cond.lays "LetterHeapsModel" "LetterHeapsModel" "number0" "I") ∈ lw_all := lw_g (lw_at lw_m5 30 rfl) rfl
theorem q1111 : (Jvm.Cond.soleField "LetterHeapsModel" "number0") ∈ lw_all := lw_g (lw_at lw_m5 31 rfl) rfl
theorem q1112 : (Jvm.Cond.lays "LetterHeapsModel" "LetterHeapsModel" "clauses" "I") ∈ lw_all := lw_g (lw_at lw_m5 32 rfl) rfl
theorem q1113 : (Jvm.Cond.soleField "LetterHeapsModel" "clauses") ∈ lw_all := lw_g (lw_at lw_m5 33 rfl) rfl
theorem q1114 : (Jvm.Cond.laysFinal "LetterHeapsModel" "LetterHeapsModel" "said" "[I") ∈ lw_all := lw_g (lw_at lw_m5 34 rfl) rfl
theorem q1115 : (Jvm.Cond.soleField "LetterHeapsModel" "said") ∈ lw_all := lw_g (lw_at lw_m5 35 rfl) rfl
theorem q1116 : (Jvm.Cond.laysFinal "LetterHeapsModel" "LetterHeapsModel" "waits" "[I") ∈ lw_all := lw_g (lw_at lw_m5 36 rfl) rfl
theorem q1117 : (Jvm.Cond.soleField "LetterHeapsModel" "waits") ∈ lw_all := lw_g (lw_at lw_m5 37 rfl) rfl
theorem q1118 : (Jvm.Cond.laysFinal "LetterHeapsModel" "LetterHeapsModel" "saidLetter" "[I") ∈ lw_all := lw_g (lw_at lw_m5 38 rfl) rfl
theorem q1119 : (Jvm.Cond.soleField "LetterHeapsModel" "saidLetter") ∈ lw_all := lw_g (lw_at lw_m5 39 rfl) rfl
theorem q1120 : (Jvm.Cond.laysFinal "LetterHeapsModel" "LetterHeapsModel" "saidFrom" "[I") ∈ lw_all := lw_g (lw_at lw_m5 40 rfl) rfl
theorem q1121 : (Jvm.Cond.soleField "LetterHeapsModel" "saidFrom") ∈ lw_all := lw_g (lw_at lw_m5 41 rfl) rfl
theorem q1122 : (Jvm.Cond.laysFinal "LetterHeapsModel" "LetterHeapsModel" "saidHalf" "[I") ∈ lw_all := lw_g (lw_at lw_m5 42 rfl) rfl
theorem q1123 : (Jvm.Cond.soleField "LetterHeapsModel" "saidHalf") ∈ lw_all := lw_g (lw_at lw_m5 43 rfl) rfl
theorem q1124 : (Jvm.Cond.laysFinal "LetterHeapsModel" "LetterHeapsModel" "saidTo" "[I") ∈ lw_all := lw_g (lw_at lw_m5 44 rfl) rfl
theorem q1125 : (Jvm.Cond.soleField "LetterHeapsModel" "saidTo") ∈ lw_all := lw_g (lw_at lw_m5 45 rfl) rfl
theorem q1126 : (Jvm.Cond.laysFinal "LetterHeapsModel" "LetterHeapsModel" "codes" "[I") ∈ lw_all := lw_g (lw_at lw_m5 46 rfl) rfl
theorem q1127 : (Jvm.Cond.soleField "LetterHeapsModel" "codes") ∈ lw_all := lw_g (lw_at lw_m5 47 rfl) rfl
theorem q1128 : (Jvm.Cond.laysFinal "LetterHeapsModel" "LetterHeapsModel" "clauseOf" "[I") ∈ lw_all := lw_g (lw_at lw_m5 48 rfl) rfl
theorem q1129 : (Jvm.Cond.soleField "LetterHeapsModel" "clauseOf") ∈ lw_all := lw_g (lw_at lw_m5 49 rfl) rfl
theorem q1130 : (Jvm.Cond.laysFinal "LetterHeapsModel" "LetterHeapsModel" "codeFrom" "[I") ∈ lw_all := lw_g (lw_at lw_m5 50 rfl) rfl
theorem q1131 : (Jvm.Cond.soleField "LetterHeapsModel" "codeFrom") ∈ lw_all := lw_g (lw_at lw_m5 51 rfl) rfl
theorem q1132 : (Jvm.Cond.laysFinal "LetterHeapsModel" "LetterHeapsModel" "codeHalf" "[I") ∈ lw_all := lw_g (lw_at lw_m5 52 rfl) rfl
theorem q1133 : (Jvm.Cond.soleField "LetterHeapsModel" "codeHalf") ∈ lw_all := lw_g (lw_at lw_m5 53 rfl) rfl
theorem q1134 : (Jvm.Cond.laysFinal "LetterHeapsModel" "LetterHeapsModel" "codeTo" "[I") ∈ lw_all := lw_g (lw_at lw_m5 54 rfl) rfl
theorem q1135 : (Jvm.Cond.soleField "LetterHeapsModel" "codeTo") ∈ lw_all := lw_g (lw_at lw_m5 55 rfl) rfl
theorem q1136 : (Jvm.Cond.laysFinal "LetterHeapsModel" "LetterHeapsModel" "stack" "[I") ∈ lw_all := lw_g (lw_at lw_m5 56 rfl) rfl
theorem q1137 : (Jvm.Cond.soleField "LetterHeapsModel" "stack") ∈ lw_all := lw_g (lw_at lw_m5 57 rfl) rfl
theorem q1138 : (Jvm.Cond.laysFinal "LetterHeapsModel" "LetterHeapsModel" "facts" "[I") ∈ lw_all := lw_g (lw_at lw_m5 58 rfl) rfl
theorem q1139 : (Jvm.Cond.soleField "LetterHeapsModel" "facts") ∈ lw_all := lw_g (lw_at lw_m5 59 rfl) rfl
theorem q1140 : (Jvm.Cond.laysFinal "LetterHeapsModel" "LetterHeapsModel" "stepCost" "[I") ∈ lw_all := lw_g (lw_at lw_m5 60 rfl) rfl
theorem q1141 : (Jvm.Cond.soleField "LetterHeapsModel" "stepCost") ∈ lw_all := lw_g (lw_at lw_m5 61 rfl) rfl
theorem q1142 : (Jvm.Cond.laysFinal "LetterHeapsModel" "LetterHeapsModel" "stepKind" "[I") ∈ lw_all := lw_g (lw_at lw_m5 62 rfl) rfl
theorem q1143 : (Jvm.Cond.soleField "LetterHeapsModel" "stepKind") ∈ lw_all := lw_g (lw_at lw_m5 63 rfl) rfl
theorem q1144 : (Jvm.Cond.laysFinal "LetterHeapsModel" "LetterHeapsModel" "stepPlace" "[I") ∈ lw_all := lw_g (lw_at lw_m5 64 rfl) rfl
theorem q1145 : (Jvm.Cond.soleField "LetterHeapsModel" "stepPlace") ∈ lw_all := lw_g (lw_at lw_m5 65 rfl) rfl
theorem q1146 : (Jvm.Cond.laysFinal "LetterHeapsModel" "LetterHeapsModel" "wayOf" "[I") ∈ lw_all := lw_g (lw_at lw_m5 66 rfl) rfl
theorem q1147 : (Jvm.Cond.soleField "LetterHeapsModel" "wayOf") ∈ lw_all := lw_g (lw_at lw_m5 67 rfl) rfl
theorem q1148 : (Jvm.Cond.laysFinal "LetterHeapsModel" "LetterHeapsModel" "waysFrom" "[J") ∈ lw_all := lw_g (lw_at lw_m5 68 rfl) rfl
theorem q1149 : (Jvm.Cond.soleField "LetterHeapsModel" "waysFrom") ∈ lw_all := lw_g (lw_at lw_m5 69 rfl) rfl
theorem q1150 : (Jvm.Cond.laysFinal "LetterHeapsModel" "LetterHeapsModel" "isCome" "[Z") ∈ lw_all := lw_g (lw_at lw_m5 70 rfl) rfl
theorem q1151 : (Jvm.Cond.soleField "LetterHeapsModel" "isCome") ∈ lw_all := lw_g (lw_at lw_m5 71 rfl) rfl
theorem q1152 : (Jvm.Cond.laysFinal "LetterHeapsModel" "LetterHeapsModel" "newRow" "[I") ∈ lw_all := lw_g (lw_at lw_m5 72 rfl) rfl
theorem q1153 : (Jvm.Cond.soleField "LetterHeapsModel" "newRow") ∈ lw_all := lw_g (lw_at lw_m5 73 rfl) rfl
theorem q1154 : (Jvm.Cond.lays "LetterHeapsModel" "LetterHeapsModel" "newHeaps" "I") ∈ lw_all := lw_g (lw_at lw_m5 74 rfl) rfl
theorem q1155 : (Jvm.Cond.soleField "LetterHeapsModel" "newHeaps") ∈ lw_all := lw_g (lw_at lw_m5 75 rfl) rfl
theorem q1156 : (Jvm.Cond.lays "LetterHeapsModel" "LetterHeapsModel" "newWords" "I") ∈ lw_all := lw_g (lw_at lw_m5 76 rfl) rfl
theorem q1157 : (Jvm.Cond.soleField "LetterHeapsModel" "newWords") ∈ lw_all := lw_g (lw_at lw_m5 77 rfl) rfl
theorem q1158 : (Jvm.Cond.lays "LetterHeapsModel" "LetterHeapsModel" "newLong" "I") ∈ lw_all := lw_g (lw_at lw_m5 78 rfl) rfl
theorem q1159 : (Jvm.Cond.soleField "LetterHeapsModel" "newLong") ∈ lw_all := lw_g (lw_at lw_m5 79 rfl) rfl
theorem q1160 : (Jvm.Cond.laysFinal "LetterHeapsModel" "LetterHeapsModel" "heapAt" "[I") ∈ lw_all := lw_g (lw_at lw_m5 80 rfl) rfl
theorem q1161 : (Jvm.Cond.soleField "LetterHeapsModel" "heapAt") ∈ lw_all := lw_g (lw_at lw_m5 81 rfl) rfl
theorem q1162 : (Jvm.Cond.laysFinal "LetterHeapsModel" "LetterHeapsModel" "walksTo" "[J") ∈ lw_all := lw_g (lw_at lw_m5 82 rfl) rfl
theorem q1163 : (Jvm.Cond.soleField "LetterHeapsModel" "walksTo") ∈ lw_all := lw_g (lw_at lw_m5 83 rfl) rfl
theorem q1164 : (Jvm.Cond.laysFinal "LetterHeapsModel" "LetterHeapsModel" "walksThen" "[J") ∈ lw_all := lw_g (lw_at lw_m5 84 rfl) rfl
theorem q1165 : (Jvm.Cond.soleField "LetterHeapsModel" "walksThen") ∈ lw_all := lw_g (lw_at lw_m5 85 rfl) rfl
theorem q1166 : (Jvm.Cond.laysFinal "LetterHeapsModel" "LetterHeapsModel" "told" "[I") ∈ lw_all := lw_g (lw_at lw_m5 86 rfl) rfl
theorem q1167 : (Jvm.Cond.soleField "LetterHeapsModel" "told") ∈ lw_all := lw_g (lw_at lw_m5 87 rfl) rfl
theorem q1168 : (Jvm.Cond.laysFinal "LetterHeapsModel" "LetterHeapsModel" "rest" "[I") ∈ lw_all := lw_g (lw_at lw_m5 88 rfl) rfl
theorem q1169 : (Jvm.Cond.soleField "LetterHeapsModel" "rest") ∈ lw_all := lw_g (lw_at lw_m5 89 rfl) rfl
theorem q1170 : (Jvm.Cond.laysFinal "LetterHeapsModel" "LetterHeapsModel" "farOf" "[I") ∈ lw_all := lw_g (lw_at lw_m5 90 rfl) rfl
theorem q1171 : (Jvm.Cond.soleField "LetterHeapsModel" "farOf") ∈ lw_all := lw_g (lw_at lw_m5 91 rfl) rfl
theorem q1172 : (Jvm.Cond.laysFinal "LetterHeapsModel" "LetterHeapsModel" "tooNear" "[I") ∈ lw_all := lw_g (lw_at lw_m5 92 rfl) rfl
theorem q1173 : (Jvm.Cond.soleField "LetterHeapsModel" "tooNear") ∈ lw_all := lw_g (lw_at lw_m5 93 rfl) rfl
theorem q1174 : (Jvm.Cond.laysFinal "LetterHeapsModel" "LetterHeapsModel" "squareRow" "[I") ∈ lw_all := lw_g (lw_at lw_m5 94 rfl) rfl
theorem q1175 : (Jvm.Cond.soleField "LetterHeapsModel" "squareRow") ∈ lw_all := lw_g (lw_at lw_m5 95 rfl) rfl
theorem q1176 : (Jvm.Cond.laysFinal "LetterHeapsModel" "LetterHeapsModel" "firstSquare" "[I") ∈ lw_all := lw_g (lw_at lw_m5 96 rfl) rfl
theorem q1177 : (Jvm.Cond.soleField "LetterHeapsModel" "firstSquare") ∈ lw_all := lw_g (lw_at lw_m5 97 rfl) rfl
theorem q1178 : (Jvm.Cond.lays "LetterHeapsModel" "LetterHeapsModel" "squares" "I") ∈ lw_all := lw_g (lw_at lw_m5 98 rfl) rfl
theorem q1179 : (Jvm.Cond.soleField "LetterHeapsModel" "squares") ∈ lw_all := lw_g (lw_at lw_m5 99 rfl) rfl
theorem q1180 : (Jvm.Cond.superclass "LetterHeapsModel" "java/lang/Object") ∈ lw_all := lw_g (lw_at lw_m5 100 rfl) rfl
theorem q1182 : (Jvm.Cond.instanceMethod ({ cls := "LetterHeapsModel", name := "word", desc := "(III)I" } : Jvm.MethodName)) ∈ lw_all := lw_g (lw_at lw_m5 102 rfl) rfl
theorem q1183 : (Jvm.Cond.selects "LetterHeapsModel" ({ cls := "LetterHeapsModel", name := "word", desc := "(III)I" } : Jvm.MethodName) ({ cls := "LetterHeapsModel", name := "word", desc := "(III)I" } : Jvm.MethodName)) ∈ lw_all := lw_g (lw_at lw_m5 103 rfl) rfl
theorem q1184 : (Jvm.Cond.code ({ cls := "LetterHeapsModel", name := "word", desc := "(III)I" } : Jvm.MethodName) prog_17_method_11_code (5 : Nat) (Option.some Jvm.ClassFile.FieldType.int)) ∈ lw_all := lw_g (lw_at lw_m5 104 rfl) rfl
theorem q1185 : (Jvm.Cond.methodLink "LetterHeapsModel" (139 : Nat) ({ cls := "LetterHeapsModel", name := "in", desc := "(III)Z" } : Jvm.MethodName)) ∈ lw_all := lw_g (lw_at lw_m5 105 rfl) rfl
theorem q1186 : (Jvm.Cond.static ({ cls := "LetterHeapsModel", name := "in", desc := "(III)Z" } : Jvm.MethodName)) ∈ lw_all := lw_g (lw_at lw_m5 106 rfl) rfl
theorem q1187 : (Jvm.Cond.code ({ cls := "LetterHeapsModel", name := "in", desc := "(III)Z" } : Jvm.MethodName) prog_17_method_2_code (3 : Nat) (Option.some Jvm.ClassFile.FieldType.boolean)) ∈ lw_all := lw_g (lw_at lw_m5 107 rfl) rfl
theorem q1188 : (Jvm.Cond.methodLink "LetterHeapsModel" (147 : Nat) ({ cls := "LetterHeapsModel", name := "takesLetters", desc := "(I)Z" } : Jvm.MethodName)) ∈ lw_all := lw_g (lw_at lw_m5 108 rfl) rfl
theorem q1189 : (Jvm.Cond.privateMethod ({ cls := "LetterHeapsModel", name := "takesLetters", desc := "(I)Z" } : Jvm.MethodName)) ∈ lw_tbl := lw_at lw_m5 109 rfl
theorem q1190 : (Jvm.Cond.instanceMethod ({ cls := "LetterHeapsModel", name := "takesLetters", desc := "(I)Z" } : Jvm.MethodName)) ∈ lw_all := lw_g (lw_at lw_m5 110 rfl) rfl
theorem q1191 : (Jvm.Cond.code ({ cls := "LetterHeapsModel", name := "takesLetters", desc := "(I)Z" } : Jvm.MethodName) prog_17_method_8_code (3 : Nat) (Option.some Jvm.ClassFile.FieldType.boolean)) ∈ lw_all := lw_g (lw_at lw_m5 111 rfl) rfl
theorem q1192 : (Jvm.Cond.methodLink "LetterHeapsModel" (150 : Nat) ({ cls := "LetterHeapsModel", name := "isRowWord", desc := "()Z" } : Jvm.MethodName)) ∈ lw_all := lw_g (lw_at lw_m5 112 rfl) rfl
theorem q1193 : (Jvm.Cond.privateMethod ({ cls := "LetterHeapsModel", name := "isRowWord", desc := "()Z" } : Jvm.MethodName)) ∈ lw_tbl := lw_at lw_m5 113 rfl
theorem q1194 : (Jvm.Cond.instanceMethod ({ cls := "LetterHeapsModel", name := "isRowWord", desc := "()Z" } : Jvm.MethodName)) ∈ lw_all := lw_g (lw_at lw_m5 114 rfl) rfl
theorem q1195 : (Jvm.Cond.code ({ cls := "LetterHeapsModel", name := "isRowWord", desc := "()Z" } : Jvm.MethodName) prog_17_method_10_code (2 : Nat) (Option.some Jvm.ClassFile.FieldType.boolean)) ∈ lw_all := lw_g (lw_at lw_m5 115 rfl) rfl
theorem q1196 : (Jvm.Cond.methodLink "LetterHeapsModel" (143 : Nat) ({ cls := "LetterHeapsModel", name := "isRow", desc := "(I)Z" } : Jvm.MethodName)) ∈ lw_all := lw_g (lw_at lw_m5 116 rfl) rfl
theorem q1197 : (Jvm.Cond.privateMethod ({ cls := "LetterHeapsModel", name := "isRow", desc := "(I)Z" } : Jvm.MethodName)) ∈ lw_tbl := lw_at lw_m5 117 rfl
theorem q1198 : (Jvm.Cond.instanceMethod ({ cls := "LetterHeapsModel", name := "isRow", desc := "(I)Z" } : Jvm.MethodName)) ∈ lw_all := lw_g (lw_at lw_m5 118 rfl) rfl
theorem q1199 : (Jvm.Cond.code ({ cls := "LetterHeapsModel", name := "isRow", desc := "(I)Z" } : Jvm.MethodName) prog_17_method_9_code (3 : Nat) (Option.some Jvm.ClassFile.FieldType.boolean)) ∈ lw_all := lw_g (lw_at lw_m5 119 rfl) rfl
theorem q1201 : (Jvm.Cond.instanceMethod ({ cls := "LetterHeapsModel", name := "bar", desc := "(IZ)Z" } : Jvm.MethodName)) ∈ lw_all := lw_g (lw_at lw_m5 121 rfl) rfl
theorem q1202 : (Jvm.Cond.selects "LetterHeapsModel" ({ cls := "LetterHeapsModel", name := "bar", desc := "(IZ)Z" } : Jvm.MethodName) ({ cls := "LetterHeapsModel", name := "bar", desc := "(IZ)Z" } : Jvm.MethodName)) ∈ lw_all := lw_g (lw_at lw_m5 122 rfl) rfl
theorem q1203 : (Jvm.Cond.code ({ cls := "LetterHeapsModel", name := "bar", desc := "(IZ)Z" } : Jvm.MethodName) prog_17_method_12_code (3 : Nat) (Option.some Jvm.ClassFile.FieldType.boolean)) ∈ lw_all := lw_g (lw_at lw_m5 123 rfl) rfl
theorem q1204 : (Jvm.Cond.methodLink "LetterHeapsModel" (154 : Nat) ({ cls := "LetterHeapsModel", name := "isWord", desc := "(I)Z" } : Jvm.MethodName)) ∈ lw_all := lw_g (lw_at lw_m5 124 rfl) rfl
theorem q1205 : (Jvm.Cond.privateMethod ({ cls := "LetterHeapsModel", name := "isWord", desc := "(I)Z" } : Jvm.MethodName)) ∈ lw_tbl := lw_at lw_m5 125 rfl
theorem q1206 : (Jvm.Cond.instanceMethod ({ cls := "LetterHeapsModel", name := "isWord", desc := "(I)Z" } : Jvm.MethodName)) ∈ lw_all := lw_g (lw_at lw_m5 126 rfl) rfl
theorem q1207 : (Jvm.Cond.code ({ cls := "LetterHeapsModel", name := "isWord", desc := "(I)Z" } : Jvm.MethodName) prog_17_method_6_code (2 : Nat) (Option.some Jvm.ClassFile.FieldType.boolean)) ∈ lw_all := lw_g (lw_at lw_m5 127 rfl) rfl
theorem q1209 : (Jvm.Cond.instanceMethod ({ cls := "LetterHeapsModel", name := "know", desc := "(II)Z" } : Jvm.MethodName)) ∈ lw_all := lw_g (lw_at lw_m5 129 rfl) rfl
theorem q1210 : (Jvm.Cond.selects "LetterHeapsModel" ({ cls := "LetterHeapsModel", name := "know", desc := "(II)Z" } : Jvm.MethodName) ({ cls := "LetterHeapsModel", name := "know", desc := "(II)Z" } : Jvm.MethodName)) ∈ lw_all := lw_g (lw_at lw_m5 130 rfl) rfl
theorem q1211 : (Jvm.Cond.code ({ cls := "LetterHeapsModel", name := "know", desc := "(II)Z" } : Jvm.MethodName) prog_17_method_13_code (3 : Nat) (Option.some Jvm.ClassFile.FieldType.boolean)) ∈ lw_all := lw_g (lw_at lw_m5 131 rfl) rfl
theorem q1213 : (Jvm.Cond.instanceMethod ({ cls := "LetterHeapsModel", name := "speak", desc := "(I)Z" } : Jvm.MethodName)) ∈ lw_all := lw_g (lw_at lw_m5 133 rfl) rfl
theorem q1214 : (Jvm.Cond.selects "LetterHeapsModel" ({ cls := "LetterHeapsModel", name := "speak", desc := "(I)Z" } : Jvm.MethodName) ({ cls := "LetterHeapsModel", name := "speak", desc := "(I)Z" } : Jvm.MethodName)) ∈ lw_all := lw_g (lw_at lw_m5 134 rfl) rfl
theorem q1215 : (Jvm.Cond.code ({ cls := "LetterHeapsModel", name := "speak", desc := "(I)Z" } : Jvm.MethodName) prog_17_method_14_code (2 : Nat) (Option.some Jvm.ClassFile.FieldType.boolean)) ∈ lw_all := lw_g (lw_at lw_m5 135 rfl) rfl
theorem q1217 : (Jvm.Cond.instanceMethod ({ cls := "LetterHeapsModel", name := "off", desc := "()I" } : Jvm.MethodName)) ∈ lw_all := lw_g (lw_at lw_m5 137 rfl) rfl
theorem q1218 : (Jvm.Cond.selects "LetterHeapsModel" ({ cls := "LetterHeapsModel", name := "off", desc := "()I" } : Jvm.MethodName) ({ cls := "LetterHeapsModel", name := "off", desc := "()I" } : Jvm.MethodName)) ∈ lw_all := lw_g (lw_at lw_m5 138 rfl) rfl
theorem q1219 : (Jvm.Cond.code ({ cls := "LetterHeapsModel", name := "off", desc := "()I" } : Jvm.MethodName) prog_17_method_15_code (1 : Nat) (Option.some Jvm.ClassFile.FieldType.int)) ∈ lw_all := lw_g (lw_at lw_m5 139 rfl) rfl
theorem q1221 : (Jvm.Cond.instanceMethod ({ cls := "LetterHeapsModel", name := "feed", desc := "(IIIII)I" } : Jvm.MethodName)) ∈ lw_all := lw_g (lw_at lw_m5 141 rfl) rfl
theorem q1222 : (Jvm.Cond.selects "LetterHeapsModel" ({ cls := "LetterHeapsModel", name := "feed", desc := "(IIIII)I" } : Jvm.MethodName) ({ cls := "LetterHeapsModel", name := "feed", desc := "(IIIII)I" } : Jvm.MethodName)) ∈ lw_all := lw_g (lw_at lw_m5 142 rfl) rfl
theorem q1223 : (Jvm.Cond.code ({ cls := "LetterHeapsModel", name := "feed", desc := "(IIIII)I" } : Jvm.MethodName) prog_17_method_17_code (6 : Nat) (Option.some Jvm.ClassFile.FieldType.int)) ∈ lw_all := lw_g (lw_at lw_m5 143 rfl) rfl
theorem q1224 : (Jvm.Cond.methodLink "LetterHeapsModel" (157 : Nat) ({ cls := "LetterHeapsModel", name := "types", desc := "(I)V" } : Jvm.MethodName)) ∈ lw_all := lw_g (lw_at lw_m5 144 rfl) rfl
theorem q1225 : (Jvm.Cond.privateMethod ({ cls := "LetterHeapsModel", name := "types", desc := "(I)V" } : Jvm.MethodName)) ∈ lw_tbl := lw_at lw_m5 145 rfl
theorem q1226 : (Jvm.Cond.instanceMethod ({ cls := "LetterHeapsModel", name := "types", desc := "(I)V" } : Jvm.MethodName)) ∈ lw_all := lw_g (lw_at lw_m5 146 rfl) rfl
theorem q1227 : (Jvm.Cond.code ({ cls := "LetterHeapsModel", name := "types", desc := "(I)V" } : Jvm.MethodName) prog_17_method_16_code (3 : Nat) (Option.none : Option Jvm.ClassFile.FieldType)) ∈ lw_all := lw_g (lw_at lw_m5 147 rfl) rfl
theorem q1229 : (Jvm.Cond.instanceMethod ({ cls := "LetterHeapsModel", name := "law", desc := "(I)I" } : Jvm.MethodName)) ∈ lw_all := lw_g (lw_at lw_m5 149 rfl) rfl
theorem q1230 : (Jvm.Cond.selects "LetterHeapsModel" ({ cls := "LetterHeapsModel", name := "law", desc := "(I)I" } : Jvm.MethodName) ({ cls := "LetterHeapsModel", name := "law", desc := "(I)I" } : Jvm.MethodName)) ∈ lw_all := lw_g (lw_at lw_m5 150 rfl) rfl
theorem q1231 : (Jvm.Cond.code ({ cls := "LetterHeapsModel", name := "law", desc := "(I)I" } : Jvm.MethodName) prog_17_method_38_code (4 : Nat) (Option.some Jvm.ClassFile.FieldType.int)) ∈ lw_all := lw_g (lw_at lw_m5 151 rfl) rfl
theorem q1232 : (Jvm.Cond.methodLink "LetterHeapsModel" (245 : Nat) ({ cls := "LetterHeapsModel", name := "readsClause", desc := "()Z" } : Jvm.MethodName)) ∈ lw_all := lw_g (lw_at lw_m5 152 rfl) rfl
theorem q1233 : (Jvm.Cond.privateMethod ({ cls := "LetterHeapsModel", name := "readsClause", desc := "()Z" } : Jvm.MethodName)) ∈ lw_tbl := lw_at lw_m5 153 rfl
theorem q1234 : (Jvm.Cond.instanceMethod ({ cls := "LetterHeapsModel", name := "readsClause", desc := "()Z" } : Jvm.MethodName)) ∈ lw_all := lw_g (lw_at lw_m5 154 rfl) rfl
theorem q1235 : (Jvm.Cond.code ({ cls := "LetterHeapsModel", name := "readsClause", desc := "()Z" } : Jvm.MethodName) prog_17_method_37_code (2 : Nat) (Option.some Jvm.ClassFile.FieldType.boolean)) ∈ lw_all := lw_g (lw_at lw_m5 155 rfl) rfl
theorem q1236 : (Jvm.Cond.methodLink "LetterHeapsModel" (167 : Nat) ({ cls := "LetterHeapsModel", name := "here", desc := "()I" } : Jvm.MethodName)) ∈ lw_all := lw_g (lw_at lw_m5 156 rfl) rfl
theorem q1237 : (Jvm.Cond.privateMethod ({ cls := "LetterHeapsModel", name := "here", desc := "()I" } : Jvm.MethodName)) ∈ lw_tbl := lw_at lw_m5 157 rfl
theorem q1238 : (Jvm.Cond.instanceMethod ({ cls := "LetterHeapsModel", name := "here", desc := "()I" } : Jvm.MethodName)) ∈ lw_all := lw_g (lw_at lw_m5 158 rfl) rfl
theorem q1239 : (Jvm.Cond.code ({ cls := "LetterHeapsModel", name := "here", desc := "()I" } : Jvm.MethodName) prog_17_method_18_code (1 : Nat) (Option.some Jvm.ClassFile.FieldType.int)) ∈ lw_all := lw_g (lw_at lw_m5 159 rfl) rfl
theorem q1240 : (Jvm.Cond.methodLink "LetterHeapsModel" (174 : Nat) ({ cls := "LetterHeapsModel", name := "wrongAt", desc := "(II)Z" } : Jvm.MethodName)) ∈ lw_all := lw_g (lw_at lw_m5 160 rfl) rfl
theorem q1241 : (Jvm.Cond.privateMethod ({ cls := "LetterHeapsModel", name := "wrongAt", desc := "(II)Z" } : Jvm.MethodName)) ∈ lw_tbl := lw_at lw_m5 161 rfl
theorem q1242 : (Jvm.Cond.instanceMethod ({ cls := "LetterHeapsModel", name := "wrongAt", desc := "(II)Z" } : Jvm.MethodName)) ∈ lw_all := lw_g (lw_at lw_m5 162 rfl) rfl
theorem q1243 : (Jvm.Cond.code ({ cls := "LetterHeapsModel", name := "wrongAt", desc := "(II)Z" } : Jvm.MethodName) prog_17_method_20_code (3 : Nat) (Option.some Jvm.ClassFile.FieldType.boolean)) ∈ lw_all := lw_g (lw_at lw_m5 163 rfl) rfl
theorem q1244 : (Jvm.Cond.methodLink "LetterHeapsModel" (224 : Nat) ({ cls := "LetterHeapsModel", name := "readsSum", desc := "()Z" } : Jvm.MethodName)) ∈ lw_all := lw_g (lw_at lw_m5 164 rfl) rfl
theorem q1245 : (Jvm.Cond.privateMethod ({ cls := "LetterHeapsModel", name := "readsSum", desc := "()Z" } : Jvm.MethodName)) ∈ lw_tbl := lw_at lw_m5 165 rfl
theorem q1246 : (Jvm.Cond.instanceMethod ({ cls := "LetterHeapsModel", name := "readsSum", desc := "()Z" } : Jvm.MethodName)) ∈ lw_all := lw_g (lw_at lw_m5 166 rfl) rfl
theorem q1247 : (Jvm.Cond.code ({ cls := "LetterHeapsModel", name := "readsSum", desc := "()Z" } : Jvm.MethodName) prog_17_method_31_code (3 : Nat) (Option.some Jvm.ClassFile.FieldType.boolean)) ∈ lw_all := lw_g (lw_at lw_m5 167 rfl) rfl
theorem q1248 : (Jvm.Cond.methodLink "LetterHeapsModel" (211 : Nat) ({ cls := "LetterHeapsModel", name := "readsFactor", desc := "()Z" } : Jvm.MethodName)) ∈ lw_all := lw_g (lw_at lw_m5 168 rfl) rfl
theorem q1249 : (Jvm.Cond.privateMethod ({ cls := "LetterHeapsModel", name := "readsFactor", desc := "()Z" } : Jvm.MethodName)) ∈ lw_tbl := lw_at lw_m5 169 rfl
theorem q1250 : (Jvm.Cond.instanceMethod ({ cls := "LetterHeapsModel", name := "readsFactor", desc := "()Z" } : Jvm.MethodName)) ∈ lw_all := lw_g (lw_at lw_m5 170 rfl) rfl
theorem q1251 : (Jvm.Cond.code ({ cls := "LetterHeapsModel", name := "readsFactor", desc := "()Z" } : Jvm.MethodName) prog_17_method_29_code (2 : Nat) (Option.some Jvm.ClassFile.FieldType.boolean)) ∈ lw_all := lw_g (lw_at lw_m5 171 rfl) rfl
theorem q1252 : (Jvm.Cond.methodLink "LetterHeapsModel" (201 : Nat) ({ cls := "LetterHeapsModel", name := "opens", desc := "(I)Z" } : Jvm.MethodName)) ∈ lw_all := lw_g (lw_at lw_m5 172 rfl) rfl
theorem q1253 : (Jvm.Cond.privateMethod ({ cls := "LetterHeapsModel", name := "opens", desc := "(I)Z" } : Jvm.MethodName)) ∈ lw_tbl := lw_at lw_m5 173 rfl
theorem q1254 : (Jvm.Cond.instanceMethod ({ cls := "LetterHeapsModel", name := "opens", desc := "(I)Z" } : Jvm.MethodName)) ∈ lw_all := lw_g (lw_at lw_m5 174 rfl) rfl
theorem q1255 : (Jvm.Cond.code ({ cls := "LetterHeapsModel", name := "opens", desc := "(I)Z" } : Jvm.MethodName) prog_17_method_24_code (2 : Nat) (Option.some Jvm.ClassFile.FieldType.boolean)) ∈ lw_all := lw_g (lw_at lw_m5 175 rfl) rfl
theorem q1256 : (Jvm.Cond.constant "LetterHeapsModel" (187 : Nat) (1048576 : Int32)) ∈ lw_all := lw_g (lw_at lw_m5 176 rfl) rfl
theorem q1257 : (Jvm.Cond.methodLink "LetterHeapsModel" (181 : Nat) ({ cls := "LetterHeapsModel", name := "isDigit", desc := "()Z" } : Jvm.MethodName)) ∈ lw_all := lw_g (lw_at lw_m5 177 rfl) rfl
theorem q1258 : (Jvm.Cond.privateMethod ({ cls := "LetterHeapsModel", name := "isDigit", desc := "()Z" } : Jvm.MethodName)) ∈ lw_tbl := lw_at lw_m5 178 rfl
theorem q1259 : (Jvm.Cond.instanceMethod ({ cls := "LetterHeapsModel", name := "isDigit", desc := "()Z" } : Jvm.MethodName)) ∈ lw_all := lw_g (lw_at lw_m5 179 rfl) rfl
theorem q1260 : (Jvm.Cond.code ({ cls := "LetterHeapsModel", name := "isDigit", desc := "()Z" } : Jvm.MethodName) prog_17_method_19_code (1 : Nat) (Option.some Jvm.ClassFile.FieldType.boolean)) ∈ lw_all := lw_g (lw_at lw_m5 180 rfl) rfl
theorem q1261 : (Jvm.Cond.methodLink "LetterHeapsModel" (204 : Nat) ({ cls := "LetterHeapsModel", name := "readsNumber", desc := "()Z" } : Jvm.MethodName)) ∈ lw_all := lw_g (lw_at lw_m5 181 rfl) rfl
theorem q1262 : (Jvm.Cond.privateMethod ({ cls := "LetterHeapsModel", name := "readsNumber", desc := "()Z" } : Jvm.MethodName)) ∈ lw_tbl := lw_at lw_m5 182 rfl
theorem q1263 : (Jvm.Cond.instanceMethod ({ cls := "LetterHeapsModel", name := "readsNumber", desc := "()Z" } : Jvm.MethodName)) ∈ lw_all := lw_g (lw_at lw_m5 183 rfl) rfl
theorem q1264 : (Jvm.Cond.code ({ cls := "LetterHeapsModel", name := "readsNumber", desc := "()Z" } : Jvm.MethodName) prog_17_method_22_code (2 : Nat) (Option.some Jvm.ClassFile.FieldType.boolean)) ∈ lw_all := lw_g (lw_at lw_m5 184 rfl) rfl
theorem q1265 : (Jvm.Cond.methodLink "LetterHeapsModel" (197 : Nat) ({ cls := "LetterHeapsModel", name := "notes", desc := "(II)V" } : Jvm.MethodName)) ∈ lw_all := lw_g (lw_at lw_m5 185 rfl) rfl
theorem q1266 : (Jvm.Cond.privateMethod ({ cls := "LetterHeapsModel", name := "notes", desc := "(II)V" } : Jvm.MethodName)) ∈ lw_tbl := lw_at lw_m5 186 rfl
theorem q1267 : (Jvm.Cond.instanceMethod ({ cls := "LetterHeapsModel", name := "notes", desc := "(II)V" } : Jvm.MethodName)) ∈ lw_all := lw_g (lw_at lw_m5 187 rfl) rfl
theorem q1268 : (Jvm.Cond.code ({ cls := "LetterHeapsModel", name := "notes", desc := "(II)V" } : Jvm.MethodName) prog_17_method_23_code (3 : Nat) (Option.none : Option Jvm.ClassFile.FieldType)) ∈ lw_all := lw_g (lw_at lw_m5 188 rfl) rfl
theorem q1269 : (Jvm.Cond.methodLink "LetterHeapsModel" (207 : Nat) ({ cls := "LetterHeapsModel", name := "factOf", desc := "(I)I" } : Jvm.MethodName)) ∈ lw_all := lw_g (lw_at lw_m5 189 rfl) rfl
theorem q1270 : (Jvm.Cond.static ({ cls := "LetterHeapsModel", name := "factOf", desc := "(I)I" } : Jvm.MethodName)) ∈ lw_all := lw_g (lw_at lw_m5 190 rfl) rfl
theorem q1271 : (Jvm.Cond.code ({ cls := "LetterHeapsModel", name := "factOf", desc := "(I)I" } : Jvm.MethodName) prog_17_method_26_code (1 : Nat) (Option.some Jvm.ClassFile.FieldType.int)) ∈ lw_all := lw_g (lw_at lw_m5 191 rfl) rfl
theorem q1272 : (Jvm.Cond.methodLink "LetterHeapsModel" (214 : Nat) ({ cls := "LetterHeapsModel", name := "sumSign", desc := "(I)I" } : Jvm.MethodName)) ∈ lw_all := lw_g (lw_at lw_m5 192 rfl) rfl
theorem q1273 : (Jvm.Cond.static ({ cls := "LetterHeapsModel", name := "sumSign", desc := "(I)I" } : Jvm.MethodName)) ∈ lw_all := lw_g (lw_at lw_m5 193 rfl) rfl
theorem q1274 : (Jvm.Cond.code ({ cls := "LetterHeapsModel", name := "sumSign", desc := "(I)I" } : Jvm.MethodName) prog_17_method_27_code (1 : Nat) (Option.some Jvm.ClassFile.FieldType.int)) ∈ lw_all := lw_g (lw_at lw_m5 194 rfl) rfl
theorem q1275 : (Jvm.Cond.methodLink "LetterHeapsModel" (217 : Nat) ({ cls := "LetterHeapsModel", name := "closesSums", desc := "(Z)V" } : Jvm.MethodName)) ∈ lw_all := lw_g (lw_at lw_m5 195 rfl) rfl
theorem q1276 : (Jvm.Cond.privateMethod ({ cls := "LetterHeapsModel", name := "closesSums", desc := "(Z)V" } : Jvm.MethodName)) ∈ lw_tbl := lw_at lw_m5 196 rfl
theorem q1277 : (Jvm.Cond.instanceMethod ({ cls := "LetterHeapsModel", name := "closesSums", desc := "(Z)V" } : Jvm.MethodName)) ∈ lw_all := lw_g (lw_at lw_m5 197 rfl) rfl
theorem q1278 : (Jvm.Cond.code ({ cls := "LetterHeapsModel", name := "closesSums", desc := "(Z)V" } : Jvm.MethodName) prog_17_method_28_code (2 : Nat) (Option.none : Option Jvm.ClassFile.FieldType)) ∈ lw_all := lw_g (lw_at lw_m5 198 rfl) rfl
theorem q1279 : (Jvm.Cond.methodLink "LetterHeapsModel" (194 : Nat) ({ cls := "LetterHeapsModel", name := "top", desc := "()I" } : Jvm.MethodName)) ∈ lw_all := lw_g (lw_at lw_m5 199 rfl) rfl
theorem q1280 : (Jvm.Cond.privateMethod ({ cls := "LetterHeapsModel", name := "top", desc := "()I" } : Jvm.MethodName)) ∈ lw_tbl := lw_at lw_m5 200 rfl
theorem q1281 : (Jvm.Cond.instanceMethod ({ cls := "LetterHeapsModel", name := "top", desc := "()I" } : Jvm.MethodName)) ∈ lw_all := lw_g (lw_at lw_m5 201 rfl) rfl
theorem q1282 : (Jvm.Cond.code ({ cls := "LetterHeapsModel", name := "top", desc := "()I" } : Jvm.MethodName) prog_17_method_25_code (1 : Nat) (Option.some Jvm.ClassFile.FieldType.int)) ∈ lw_all := lw_g (lw_at lw_m5 202 rfl) rfl
theorem q1283 : (Jvm.Cond.methodLink "LetterHeapsModel" (221 : Nat) ({ cls := "LetterHeapsModel", name := "hasOpenSum", desc := "(I)Z" } : Jvm.MethodName)) ∈ lw_all := lw_g (lw_at lw_m5 203 rfl) rfl
theorem q1284 : (Jvm.Cond.privateMethod ({ cls := "LetterHeapsModel", name := "hasOpenSum", desc := "(I)Z" } : Jvm.MethodName)) ∈ lw_tbl := lw_at lw_m5 204 rfl
theorem q1285 : (Jvm.Cond.instanceMethod ({ cls := "LetterHeapsModel", name := "hasOpenSum", desc := "(I)Z" } : Jvm.MethodName)) ∈ lw_all := lw_g (lw_at lw_m5 205 rfl) rfl
theorem q1286 : (Jvm.Cond.code ({ cls := "LetterHeapsModel", name := "hasOpenSum", desc := "(I)Z" } : Jvm.MethodName) prog_17_method_30_code (3 : Nat) (Option.some Jvm.ClassFile.FieldType.boolean)) ∈ lw_all := lw_g (lw_at lw_m5 206 rfl) rfl
theorem q1287 : (Jvm.Cond.methodLink "LetterHeapsModel" (242 : Nat) ({ cls := "LetterHeapsModel", name := "readsCondition", desc := "()Z" } : Jvm.MethodName)) ∈ lw_all := lw_g (lw_at lw_m5 207 rfl) rfl
theorem q1288 : (Jvm.Cond.privateMethod ({ cls := "LetterHeapsModel", name := "readsCondition", desc := "()Z" } : Jvm.MethodName)) ∈ lw_tbl := lw_at lw_m5 208 rfl
theorem q1289 : (Jvm.Cond.instanceMethod ({ cls := "LetterHeapsModel", name := "readsCondition", desc := "()Z" } : Jvm.MethodName)) ∈ lw_all := lw_g (lw_at lw_m5 209 rfl) rfl
theorem q1290 : (Jvm.Cond.code ({ cls := "LetterHeapsModel", name := "readsCondition", desc := "()Z" } : Jvm.MethodName) prog_17_method_36_code (1 : Nat) (Option.some Jvm.ClassFile.FieldType.boolean)) ∈ lw_all := lw_g (lw_at lw_m5 210 rfl) rfl
theorem q1291 : (Jvm.Cond.methodLink "LetterHeapsModel" (230 : Nat) ({ cls := "LetterHeapsModel", name := "readsCompared", desc := "()Z" } : Jvm.MethodName)) ∈ lw_all := lw_g (lw_at lw_m5 211 rfl) rfl
theorem q1292 : (Jvm.Cond.privateMethod ({ cls := "LetterHeapsModel", name := "readsCompared", desc := "()Z" } : Jvm.MethodName)) ∈ lw_tbl := lw_at lw_m5 212 rfl
theorem q1293 : (Jvm.Cond.instanceMethod ({ cls := "LetterHeapsModel", name := "readsCompared", desc := "()Z" } : Jvm.MethodName)) ∈ lw_all := lw_g (lw_at lw_m5 213 rfl) rfl
theorem q1294 : (Jvm.Cond.code ({ cls := "LetterHeapsModel", name := "readsCompared", desc := "()Z" } : Jvm.MethodName) prog_17_method_35_code (2 : Nat) (Option.some Jvm.ClassFile.FieldType.boolean)) ∈ lw_all := lw_g (lw_at lw_m5 214 rfl) rfl
theorem q1295 : (Jvm.Cond.methodLink "LetterHeapsModel" (227 : Nat) ({ cls := "LetterHeapsModel", name := "endsPiece", desc := "()V" } : Jvm.MethodName)) ∈ lw_all := lw_g (lw_at lw_m5 215 rfl) rfl
theorem q1296 : (Jvm.Cond.privateMethod ({ cls := "LetterHeapsModel", name := "endsPiece", desc := "()V" } : Jvm.MethodName)) ∈ lw_tbl := lw_at lw_m5 216 rfl
theorem q1297 : (Jvm.Cond.instanceMethod ({ cls := "LetterHeapsModel", name := "endsPiece", desc := "()V" } : Jvm.MethodName)) ∈ lw_all := lw_g (lw_at lw_m5 217 rfl) rfl
theorem q1298 : (Jvm.Cond.code ({ cls := "LetterHeapsModel", name := "endsPiece", desc := "()V" } : Jvm.MethodName) prog_17_method_32_code (1 : Nat) (Option.none : Option Jvm.ClassFile.FieldType)) ∈ lw_all := lw_g (lw_at lw_m5 218 rfl) rfl
theorem q1299 : (Jvm.Cond.methodLink "LetterHeapsModel" (233 : Nat) ({ cls := "LetterHeapsModel", name := "lands", desc := "(Z)V" } : Jvm.MethodName)) ∈ lw_all := lw_g (lw_at lw_m5 219 rfl) rfl
theorem q1300 : (Jvm.Cond.privateMethod ({ cls := "LetterHeapsModel", name := "lands", desc := "(Z)V" } : Jvm.MethodName)) ∈ lw_tbl := lw_at lw_m5 220 rfl
theorem q1301 : (Jvm.Cond.instanceMethod ({ cls := "LetterHeapsModel", name := "lands", desc := "(Z)V" } : Jvm.MethodName)) ∈ lw_all := lw_g (lw_at lw_m5 221 rfl) rfl
theorem q1302 : (Jvm.Cond.code ({ cls := "LetterHeapsModel", name := "lands", desc := "(Z)V" } : Jvm.MethodName) prog_17_method_33_code (3 : Nat) (Option.none : Option Jvm.ClassFile.FieldType)) ∈ lw_all := lw_g (lw_at lw_m5 222 rfl) rfl
theorem q1303 : (Jvm.Cond.methodLink "LetterHeapsModel" (236 : Nat) ({ cls := "LetterHeapsModel", name := "jumps", desc := "(I)V" } : Jvm.MethodName)) ∈ lw_all := lw_g (lw_at lw_m5 223 rfl) rfl
theorem q1304 : (Jvm.Cond.privateMethod ({ cls := "LetterHeapsModel", name := "jumps", desc := "(I)V" } : Jvm.MethodName)) ∈ lw_tbl := lw_at lw_m5 224 rfl
theorem q1305 : (Jvm.Cond.instanceMethod ({ cls := "LetterHeapsModel", name := "jumps", desc := "(I)V" } : Jvm.MethodName)) ∈ lw_all := lw_g (lw_at lw_m5 225 rfl) rfl
theorem q1306 : (Jvm.Cond.code ({ cls := "LetterHeapsModel", name := "jumps", desc := "(I)V" } : Jvm.MethodName) prog_17_method_34_code (2 : Nat) (Option.none : Option Jvm.ClassFile.FieldType)) ∈ lw_all := lw_g (lw_at lw_m5 226 rfl) rfl
theorem q1307 : (Jvm.Cond.methodLink "LetterHeapsModel" (248 : Nat) ({ cls := "LetterHeapsModel", name := "takes", desc := "(I)Z" } : Jvm.MethodName)) ∈ lw_all := lw_g (lw_at lw_m5 227 rfl) rfl
theorem q1308 : (Jvm.Cond.privateMethod ({ cls := "LetterHeapsModel", name := "takes", desc := "(I)Z" } : Jvm.MethodName)) ∈ lw_tbl := lw_at lw_m5 228 rfl
theorem q1309 : (Jvm.Cond.instanceMethod ({ cls := "LetterHeapsModel", name := "takes", desc := "(I)Z" } : Jvm.MethodName)) ∈ lw_all := lw_g (lw_at lw_m5 229 rfl) rfl
theorem q1310 : (Jvm.Cond.code ({ cls := "LetterHeapsModel", name := "takes", desc := "(I)Z" } : Jvm.MethodName) prog_17_method_21_code (2 : Nat) (Option.some Jvm.ClassFile.FieldType.boolean)) ∈ lw_all := lw_g (lw_at lw_m5 230 rfl) rfl
theorem q1312 : (Jvm.Cond.instanceMethod ({ cls := "LetterHeapsModel", name := "step", desc := "(III)I" } : Jvm.MethodName)) ∈ lw_all := lw_g (lw_at lw_m5 232 rfl) rfl
theorem q1313 : (Jvm.Cond.selects "LetterHeapsModel" ({ cls := "LetterHeapsModel", name := "step", desc := "(III)I" } : Jvm.MethodName) ({ cls := "LetterHeapsModel", name := "step", desc := "(III)I" } : Jvm.MethodName)) ∈ lw_all := lw_g (lw_at lw_m5 233 rfl) rfl
theorem q1314 : (Jvm.Cond.code ({ cls := "LetterHeapsModel", name := "step", desc := "(III)I" } : Jvm.MethodName) prog_17_method_51_code (4 : Nat) (Option.some Jvm.ClassFile.FieldType.int)) ∈ lw_all := lw_g (lw_at lw_m5 234 rfl) rfl
theorem q1315 : (Jvm.Cond.methodLink "LetterHeapsModel" (291 : Nat) ({ cls := "LetterHeapsModel", name := "laysSteps", desc := "()V" } : Jvm.MethodName)) ∈ lw_all := lw_g (lw_at lw_m5 235 rfl) rfl
theorem q1316 : (Jvm.Cond.privateMethod ({ cls := "LetterHeapsModel", name := "laysSteps", desc := "()V" } : Jvm.MethodName)) ∈ lw_tbl := lw_at lw_m5 236 rfl
theorem q1317 : (Jvm.Cond.instanceMethod ({ cls := "LetterHeapsModel", name := "laysSteps", desc := "()V" } : Jvm.MethodName)) ∈ lw_all := lw_g (lw_at lw_m5 237 rfl) rfl
theorem q1318 : (Jvm.Cond.code ({ cls := "LetterHeapsModel", name := "laysSteps", desc := "()V" } : Jvm.MethodName) prog_17_method_49_code (3 : Nat) (Option.none : Option Jvm.ClassFile.FieldType)) ∈ lw_all := lw_g (lw_at lw_m5 238 rfl) rfl
theorem q1319 : (Jvm.Cond.constant "LetterHeapsModel" (129 : Nat) (1000000000 : Int32)) ∈ lw_all := lw_g (lw_at lw_m5 239 rfl) rfl
theorem q1320 : (Jvm.Cond.methodLink "LetterHeapsModel" (282 : Nat) ({ cls := "LetterHeapsModel", name := "isUsed", desc := "(I)Z" } : Jvm.MethodName)) ∈ lw_all := lw_g (lw_at lw_m6 0 rfl) rfl
theorem q1321 : (Jvm.Cond.privateMethod ({ cls := "LetterHeapsModel", name := "isUsed", desc := "(I)Z" } : Jvm.MethodName)) ∈ lw_tbl := lw_at lw_m6 1 rfl
theorem q1322 : (Jvm.Cond.instanceMethod ({ cls := "LetterHeapsModel", name := "isUsed", desc := "(I)Z" } : Jvm.MethodName)) ∈ lw_all := lw_g (lw_at lw_m6 2 rfl) rfl
theorem q1323 : (Jvm.Cond.code ({ cls := "LetterHeapsModel", name := "isUsed", desc := "(I)Z" } : Jvm.MethodName) prog_17_method_7_code (2 : Nat) (Option.some Jvm.ClassFile.FieldType.boolean)) ∈ lw_all := lw_g (lw_at lw_m6 3 rfl) rfl
theorem q1324 : (Jvm.Cond.methodLink "LetterHeapsModel" (285 : Nat) ({ cls := "LetterHeapsModel", name := "mayNear", desc := "(II)Z" } : Jvm.MethodName)) ∈ lw_all := lw_g (lw_at lw_m6 4 rfl) rfl
theorem q1325 : (Jvm.Cond.privateMethod ({ cls := "LetterHeapsModel", name := "mayNear", desc := "(II)Z" } : Jvm.MethodName)) ∈ lw_tbl := lw_at lw_m6 5 rfl
theorem q1326 : (Jvm.Cond.instanceMethod ({ cls := "LetterHeapsModel", name := "mayNear", desc := "(II)Z" } : Jvm.MethodName)) ∈ lw_all := lw_g (lw_at lw_m6 6 rfl) rfl
theorem q1327 : (Jvm.Cond.code ({ cls := "LetterHeapsModel", name := "mayNear", desc := "(II)Z" } : Jvm.MethodName) prog_17_method_48_code (3 : Nat) (Option.some Jvm.ClassFile.FieldType.boolean)) ∈ lw_all := lw_g (lw_at lw_m6 7 rfl) rfl
theorem q1328 : (Jvm.Cond.methodLink "LetterHeapsModel" (288 : Nat) ({ cls := "LetterHeapsModel", name := "laysStep", desc := "(II)V" } : Jvm.MethodName)) ∈ lw_all := lw_g (lw_at lw_m6 8 rfl) rfl
theorem q1329 : (Jvm.Cond.privateMethod ({ cls := "LetterHeapsModel", name := "laysStep", desc := "(II)V" } : Jvm.MethodName)) ∈ lw_tbl := lw_at lw_m6 9 rfl
theorem q1330 : (Jvm.Cond.instanceMethod ({ cls := "LetterHeapsModel", name := "laysStep", desc := "(II)V" } : Jvm.MethodName)) ∈ lw_all := lw_g (lw_at lw_m6 10 rfl) rfl
theorem q1331 : (Jvm.Cond.code ({ cls := "LetterHeapsModel", name := "laysStep", desc := "(II)V" } : Jvm.MethodName) prog_17_method_47_code (7 : Nat) (Option.none : Option Jvm.ClassFile.FieldType)) ∈ lw_all := lw_g (lw_at lw_m6 11 rfl) rfl
theorem q1332 : (Jvm.Cond.methodLink "LetterHeapsModel" (272 : Nat) ({ cls := "LetterHeapsModel", name := "isChange", desc := "(IIII)Z" } : Jvm.MethodName)) ∈ lw_all := lw_g (lw_at lw_m6 12 rfl) rfl
theorem q1333 : (Jvm.Cond.privateMethod ({ cls := "LetterHeapsModel", name := "isChange", desc := "(IIII)Z" } : Jvm.MethodName)) ∈ lw_tbl := lw_at lw_m6 13 rfl
theorem q1334 : (Jvm.Cond.instanceMethod ({ cls := "LetterHeapsModel", name := "isChange", desc := "(IIII)Z" } : Jvm.MethodName)) ∈ lw_all := lw_g (lw_at lw_m6 14 rfl) rfl
theorem q1335 : (Jvm.Cond.code ({ cls := "LetterHeapsModel", name := "isChange", desc := "(IIII)Z" } : Jvm.MethodName) prog_17_method_45_code (6 : Nat) (Option.some Jvm.ClassFile.FieldType.boolean)) ∈ lw_all := lw_g (lw_at lw_m6 15 rfl) rfl
theorem q1336 : (Jvm.Cond.methodLink "LetterHeapsModel" (262 : Nat) ({ cls := "LetterHeapsModel", name := "letter", desc := "(II)I" } : Jvm.MethodName)) ∈ lw_all := lw_g (lw_at lw_m6 16 rfl) rfl
theorem q1337 : (Jvm.Cond.privateMethod ({ cls := "LetterHeapsModel", name := "letter", desc := "(II)I" } : Jvm.MethodName)) ∈ lw_tbl := lw_at lw_m6 17 rfl
theorem q1338 : (Jvm.Cond.instanceMethod ({ cls := "LetterHeapsModel", name := "letter", desc := "(II)I" } : Jvm.MethodName)) ∈ lw_all := lw_g (lw_at lw_m6 18 rfl) rfl
theorem q1339 : (Jvm.Cond.code ({ cls := "LetterHeapsModel", name := "letter", desc := "(II)I" } : Jvm.MethodName) prog_17_method_42_code (3 : Nat) (Option.some Jvm.ClassFile.FieldType.int)) ∈ lw_all := lw_g (lw_at lw_m6 19 rfl) rfl
theorem q1340 : (Jvm.Cond.methodLink "LetterHeapsModel" (265 : Nat) ({ cls := "LetterHeapsModel", name := "areAlikeBut", desc := "(IIII)Z" } : Jvm.MethodName)) ∈ lw_all := lw_g (lw_at lw_m6 20 rfl) rfl
theorem q1341 : (Jvm.Cond.privateMethod ({ cls := "LetterHeapsModel", name := "areAlikeBut", desc := "(IIII)Z" } : Jvm.MethodName)) ∈ lw_tbl := lw_at lw_m6 21 rfl
theorem q1342 : (Jvm.Cond.instanceMethod ({ cls := "LetterHeapsModel", name := "areAlikeBut", desc := "(IIII)Z" } : Jvm.MethodName)) ∈ lw_all := lw_g (lw_at lw_m6 22 rfl) rfl
theorem q1343 : (Jvm.Cond.code ({ cls := "LetterHeapsModel", name := "areAlikeBut", desc := "(IIII)Z" } : Jvm.MethodName) prog_17_method_44_code (6 : Nat) (Option.some Jvm.ClassFile.FieldType.boolean)) ∈ lw_all := lw_g (lw_at lw_m6 23 rfl) rfl
theorem q1344 : (Jvm.Cond.methodLink "LetterHeapsModel" (269 : Nat) ({ cls := "LetterHeapsModel", name := "isWithout", desc := "(III)Z" } : Jvm.MethodName)) ∈ lw_all := lw_g (lw_at lw_m6 24 rfl) rfl
theorem q1345 : (Jvm.Cond.privateMethod ({ cls := "LetterHeapsModel", name := "isWithout", desc := "(III)Z" } : Jvm.MethodName)) ∈ lw_tbl := lw_at lw_m6 25 rfl
theorem q1346 : (Jvm.Cond.instanceMethod ({ cls := "LetterHeapsModel", name := "isWithout", desc := "(III)Z" } : Jvm.MethodName)) ∈ lw_all := lw_g (lw_at lw_m6 26 rfl) rfl
theorem q1347 : (Jvm.Cond.code ({ cls := "LetterHeapsModel", name := "isWithout", desc := "(III)Z" } : Jvm.MethodName) prog_17_method_43_code (5 : Nat) (Option.some Jvm.ClassFile.FieldType.boolean)) ∈ lw_all := lw_g (lw_at lw_m6 27 rfl) rfl
theorem q1348 : (Jvm.Cond.methodLink "LetterHeapsModel" (275 : Nat) ({ cls := "LetterHeapsModel", name := "feels", desc := "(IIII)V" } : Jvm.MethodName)) ∈ lw_all := lw_g (lw_at lw_m6 28 rfl) rfl
theorem q1349 : (Jvm.Cond.privateMethod ({ cls := "LetterHeapsModel", name := "feels", desc := "(IIII)V" } : Jvm.MethodName)) ∈ lw_tbl := lw_at lw_m6 29 rfl
theorem q1350 : (Jvm.Cond.instanceMethod ({ cls := "LetterHeapsModel", name := "feels", desc := "(IIII)V" } : Jvm.MethodName)) ∈ lw_all := lw_g (lw_at lw_m6 30 rfl) rfl
theorem q1351 : (Jvm.Cond.code ({ cls := "LetterHeapsModel", name := "feels", desc := "(IIII)V" } : Jvm.MethodName) prog_17_method_46_code (5 : Nat) (Option.none : Option Jvm.ClassFile.FieldType)) ∈ lw_all := lw_g (lw_at lw_m6 31 rfl) rfl
theorem q1352 : (Jvm.Cond.methodLink "LetterHeapsModel" (279 : Nat) ({ cls := "LetterHeapsModel", name := "costOf", desc := "()I" } : Jvm.MethodName)) ∈ lw_all := lw_g (lw_at lw_m6 32 rfl) rfl
theorem q1353 : (Jvm.Cond.privateMethod ({ cls := "LetterHeapsModel", name := "costOf", desc := "()I" } : Jvm.MethodName)) ∈ lw_tbl := lw_at lw_m6 33 rfl
theorem q1354 : (Jvm.Cond.instanceMethod ({ cls := "LetterHeapsModel", name := "costOf", desc := "()I" } : Jvm.MethodName)) ∈ lw_all := lw_g (lw_at lw_m6 34 rfl) rfl
theorem q1355 : (Jvm.Cond.code ({ cls := "LetterHeapsModel", name := "costOf", desc := "()I" } : Jvm.MethodName) prog_17_method_41_code (4 : Nat) (Option.some Jvm.ClassFile.FieldType.int)) ∈ lw_all := lw_g (lw_at lw_m6 35 rfl) rfl
theorem q1356 : (Jvm.Cond.methodLink "LetterHeapsModel" (258 : Nat) ({ cls := "LetterHeapsModel", name := "comesTo", desc := "(II)I" } : Jvm.MethodName)) ∈ lw_all := lw_g (lw_at lw_m6 36 rfl) rfl
theorem q1357 : (Jvm.Cond.privateMethod ({ cls := "LetterHeapsModel", name := "comesTo", desc := "(II)I" } : Jvm.MethodName)) ∈ lw_tbl := lw_at lw_m6 37 rfl
theorem q1358 : (Jvm.Cond.instanceMethod ({ cls := "LetterHeapsModel", name := "comesTo", desc := "(II)I" } : Jvm.MethodName)) ∈ lw_all := lw_g (lw_at lw_m6 38 rfl) rfl
theorem q1359 : (Jvm.Cond.code ({ cls := "LetterHeapsModel", name := "comesTo", desc := "(II)I" } : Jvm.MethodName) prog_17_method_40_code (8 : Nat) (Option.some Jvm.ClassFile.FieldType.int)) ∈ lw_all := lw_g (lw_at lw_m6 39 rfl) rfl
theorem q1360 : (Jvm.Cond.methodLink "LetterHeapsModel" (254 : Nat) ({ cls := "LetterHeapsModel", name := "reckon", desc := "(III)I" } : Jvm.MethodName)) ∈ lw_all := lw_g (lw_at lw_m6 40 rfl) rfl
theorem q1361 : (Jvm.Cond.static ({ cls := "LetterHeapsModel", name := "reckon", desc := "(III)I" } : Jvm.MethodName)) ∈ lw_all := lw_g (lw_at lw_m6 41 rfl) rfl
theorem q1362 : (Jvm.Cond.code ({ cls := "LetterHeapsModel", name := "reckon", desc := "(III)I" } : Jvm.MethodName) prog_17_method_39_code (3 : Nat) (Option.some Jvm.ClassFile.FieldType.int)) ∈ lw_all := lw_g (lw_at lw_m6 42 rfl) rfl
theorem q1363 : (Jvm.Cond.methodLink "LetterHeapsModel" (294 : Nat) ({ cls := "LetterHeapsModel", name := "isStep", desc := "(II)Z" } : Jvm.MethodName)) ∈ lw_all := lw_g (lw_at lw_m6 43 rfl) rfl
theorem q1364 : (Jvm.Cond.privateMethod ({ cls := "LetterHeapsModel", name := "isStep", desc := "(II)Z" } : Jvm.MethodName)) ∈ lw_tbl := lw_at lw_m6 44 rfl
theorem q1365 : (Jvm.Cond.instanceMethod ({ cls := "LetterHeapsModel", name := "isStep", desc := "(II)Z" } : Jvm.MethodName)) ∈ lw_all := lw_g (lw_at lw_m6 45 rfl) rfl
theorem q1366 : (Jvm.Cond.code ({ cls := "LetterHeapsModel", name := "isStep", desc := "(II)Z" } : Jvm.MethodName) prog_17_method_50_code (3 : Nat) (Option.some Jvm.ClassFile.FieldType.boolean)) ∈ lw_all := lw_g (lw_at lw_m6 46 rfl) rfl
theorem q1368 : (Jvm.Cond.instanceMethod ({ cls := "LetterHeapsModel", name := "least", desc := "(III)I" } : Jvm.MethodName)) ∈ lw_all := lw_g (lw_at lw_m6 48 rfl) rfl
theorem q1369 : (Jvm.Cond.selects "LetterHeapsModel" ({ cls := "LetterHeapsModel", name := "least", desc := "(III)I" } : Jvm.MethodName) ({ cls := "LetterHeapsModel", name := "least", desc := "(III)I" } : Jvm.MethodName)) ∈ lw_all := lw_g (lw_at lw_m6 49 rfl) rfl
theorem q1370 : (Jvm.Cond.code ({ cls := "LetterHeapsModel", name := "least", desc := "(III)I" } : Jvm.MethodName) prog_17_method_56_code (7 : Nat) (Option.some Jvm.ClassFile.FieldType.int)) ∈ lw_all := lw_g (lw_at lw_m6 50 rfl) rfl
theorem q1371 : (Jvm.Cond.methodLink "LetterHeapsModel" (306 : Nat) ({ cls := "LetterHeapsModel", name := "laysWays", desc := "()V" } : Jvm.MethodName)) ∈ lw_all := lw_g (lw_at lw_m6 51 rfl) rfl
theorem q1372 : (Jvm.Cond.privateMethod ({ cls := "LetterHeapsModel", name := "laysWays", desc := "()V" } : Jvm.MethodName)) ∈ lw_tbl := lw_at lw_m6 52 rfl
theorem q1373 : (Jvm.Cond.instanceMethod ({ cls := "LetterHeapsModel", name := "laysWays", desc := "()V" } : Jvm.MethodName)) ∈ lw_all := lw_g (lw_at lw_m6 53 rfl) rfl
theorem q1374 : (Jvm.Cond.code ({ cls := "LetterHeapsModel", name := "laysWays", desc := "()V" } : Jvm.MethodName) prog_17_method_53_code (4 : Nat) (Option.none : Option Jvm.ClassFile.FieldType)) ∈ lw_all := lw_g (lw_at lw_m6 54 rfl) rfl
theorem q1375 : (Jvm.Cond.methodLink "LetterHeapsModel" (297 : Nat) ({ cls := "LetterHeapsModel", name := "stepWay", desc := "(II)I" } : Jvm.MethodName)) ∈ lw_all := lw_g (lw_at lw_m6 55 rfl) rfl
theorem q1376 : (Jvm.Cond.privateMethod ({ cls := "LetterHeapsModel", name := "stepWay", desc := "(II)I" } : Jvm.MethodName)) ∈ lw_tbl := lw_at lw_m6 56 rfl
theorem q1377 : (Jvm.Cond.instanceMethod ({ cls := "LetterHeapsModel", name := "stepWay", desc := "(II)I" } : Jvm.MethodName)) ∈ lw_all := lw_g (lw_at lw_m6 57 rfl) rfl
theorem q1378 : (Jvm.Cond.code ({ cls := "LetterHeapsModel", name := "stepWay", desc := "(II)I" } : Jvm.MethodName) prog_17_method_52_code (3 : Nat) (Option.some Jvm.ClassFile.FieldType.int)) ∈ lw_all := lw_g (lw_at lw_m6 58 rfl) rfl
theorem q1379 : (Jvm.Cond.methodLink "LetterHeapsModel" (300 : Nat) ({ cls := "LetterHeapsModel", name := "sum", desc := "(II)I" } : Jvm.MethodName)) ∈ lw_all := lw_g (lw_at lw_m6 59 rfl) rfl
theorem q1380 : (Jvm.Cond.static ({ cls := "LetterHeapsModel", name := "sum", desc := "(II)I" } : Jvm.MethodName)) ∈ lw_all := lw_g (lw_at lw_m6 60 rfl) rfl
theorem q1381 : (Jvm.Cond.code ({ cls := "LetterHeapsModel", name := "sum", desc := "(II)I" } : Jvm.MethodName) prog_17_method_3_code (2 : Nat) (Option.some Jvm.ClassFile.FieldType.int)) ∈ lw_all := lw_g (lw_at lw_m6 61 rfl) rfl
theorem q1382 : (Jvm.Cond.methodLink "LetterHeapsModel" (303 : Nat) ({ cls := "LetterHeapsModel", name := "min", desc := "(II)I" } : Jvm.MethodName)) ∈ lw_all := lw_g (lw_at lw_m6 62 rfl) rfl
theorem q1383 : (Jvm.Cond.static ({ cls := "LetterHeapsModel", name := "min", desc := "(II)I" } : Jvm.MethodName)) ∈ lw_all := lw_g (lw_at lw_m6 63 rfl) rfl
theorem q1384 : (Jvm.Cond.code ({ cls := "LetterHeapsModel", name := "min", desc := "(II)I" } : Jvm.MethodName) prog_17_method_4_code (2 : Nat) (Option.some Jvm.ClassFile.FieldType.int)) ∈ lw_all := lw_g (lw_at lw_m6 64 rfl) rfl
theorem q1385 : (Jvm.Cond.methodLink "LetterHeapsModel" (309 : Nat) ({ cls := "LetterHeapsModel", name := "nextOn", desc := "(II)I" } : Jvm.MethodName)) ∈ lw_all := lw_g (lw_at lw_m6 65 rfl) rfl
theorem q1386 : (Jvm.Cond.privateMethod ({ cls := "LetterHeapsModel", name := "nextOn", desc := "(II)I" } : Jvm.MethodName)) ∈ lw_tbl := lw_at lw_m6 66 rfl
theorem q1387 : (Jvm.Cond.instanceMethod ({ cls := "LetterHeapsModel", name := "nextOn", desc := "(II)I" } : Jvm.MethodName)) ∈ lw_all := lw_g (lw_at lw_m6 67 rfl) rfl
theorem q1388 : (Jvm.Cond.code ({ cls := "LetterHeapsModel", name := "nextOn", desc := "(II)I" } : Jvm.MethodName) prog_17_method_55_code (4 : Nat) (Option.some Jvm.ClassFile.FieldType.int)) ∈ lw_all := lw_g (lw_at lw_m6 68 rfl) rfl
theorem q1390 : (Jvm.Cond.instanceMethod ({ cls := "LetterHeapsModel", name := "howMany", desc := "(II)J" } : Jvm.MethodName)) ∈ lw_all := lw_g (lw_at lw_m6 70 rfl) rfl
theorem q1391 : (Jvm.Cond.selects "LetterHeapsModel" ({ cls := "LetterHeapsModel", name := "howMany", desc := "(II)J" } : Jvm.MethodName) ({ cls := "LetterHeapsModel", name := "howMany", desc := "(II)J" } : Jvm.MethodName)) ∈ lw_all := lw_g (lw_at lw_m6 71 rfl) rfl
theorem q1392 : (Jvm.Cond.code ({ cls := "LetterHeapsModel", name := "howMany", desc := "(II)J" } : Jvm.MethodName) prog_17_method_57_code (6 : Nat) (Option.some Jvm.ClassFile.FieldType.long)) ∈ lw_all := lw_g (lw_at lw_m6 72 rfl) rfl
theorem q1393 : (Jvm.Cond.constantLong "LetterHeapsModel" (312 : Nat) (-1 : Int64)) ∈ lw_all := lw_g (lw_at lw_m6 73 rfl) rfl
theorem q1394 : (Jvm.Cond.methodLink "LetterHeapsModel" (314 : Nat) ({ cls := "LetterHeapsModel", name := "leastOf", desc := "(II)I" } : Jvm.MethodName)) ∈ lw_all := lw_g (lw_at lw_m6 74 rfl) rfl
theorem q1395 : (Jvm.Cond.privateMethod ({ cls := "LetterHeapsModel", name := "leastOf", desc := "(II)I" } : Jvm.MethodName)) ∈ lw_tbl := lw_at lw_m6 75 rfl
theorem q1396 : (Jvm.Cond.instanceMethod ({ cls := "LetterHeapsModel", name := "leastOf", desc := "(II)I" } : Jvm.MethodName)) ∈ lw_all := lw_g (lw_at lw_m6 76 rfl) rfl
theorem q1397 : (Jvm.Cond.code ({ cls := "LetterHeapsModel", name := "leastOf", desc := "(II)I" } : Jvm.MethodName) prog_17_method_54_code (3 : Nat) (Option.some Jvm.ClassFile.FieldType.int)) ∈ lw_all := lw_g (lw_at lw_m6 77 rfl) rfl
theorem q1398 : (Jvm.Cond.methodLink "LetterHeapsModel" (317 : Nat) ({ cls := "LetterHeapsModel", name := "sumOf", desc := "(III)J" } : Jvm.MethodName)) ∈ lw_all := lw_g (lw_at lw_m6 78 rfl) rfl
theorem q1399 : (Jvm.Cond.privateMethod ({ cls := "LetterHeapsModel", name := "sumOf", desc := "(III)J" } : Jvm.MethodName)) ∈ lw_tbl := lw_at lw_m6 79 rfl
theorem q1400 : (Jvm.Cond.instanceMethod ({ cls := "LetterHeapsModel", name := "sumOf", desc := "(III)J" } : Jvm.MethodName)) ∈ lw_all := lw_g (lw_at lw_m6 80 rfl) rfl
theorem q1401 : (Jvm.Cond.code ({ cls := "LetterHeapsModel", name := "sumOf", desc := "(III)J" } : Jvm.MethodName) prog_17_method_58_code (7 : Nat) (Option.some Jvm.ClassFile.FieldType.long)) ∈ lw_all := lw_g (lw_at lw_m6 81 rfl) rfl
theorem q1403 : (Jvm.Cond.instanceMethod ({ cls := "LetterHeapsModel", name := "without", desc := "(II)J" } : Jvm.MethodName)) ∈ lw_all := lw_g (lw_at lw_m6 83 rfl) rfl
theorem q1404 : (Jvm.Cond.selects "LetterHeapsModel" ({ cls := "LetterHeapsModel", name := "without", desc := "(II)J" } : Jvm.MethodName) ({ cls := "LetterHeapsModel", name := "without", desc := "(II)J" } : Jvm.MethodName)) ∈ lw_all := lw_g (lw_at lw_m6 84 rfl) rfl
theorem q1405 : (Jvm.Cond.code ({ cls := "LetterHeapsModel", name := "without", desc := "(II)J" } : Jvm.MethodName) prog_17_method_60_code (6 : Nat) (Option.some Jvm.ClassFile.FieldType.long)) ∈ lw_all := lw_g (lw_at lw_m6 85 rfl) rfl
theorem q1406 : (Jvm.Cond.methodLink "LetterHeapsModel" (321 : Nat) ({ cls := "LetterHeapsModel", name := "comes", desc := "(III)Z" } : Jvm.MethodName)) ∈ lw_all := lw_g (lw_at lw_m6 86 rfl) rfl
theorem q1407 : (Jvm.Cond.privateMethod ({ cls := "LetterHeapsModel", name := "comes", desc := "(III)Z" } : Jvm.MethodName)) ∈ lw_tbl := lw_at lw_m6 87 rfl
theorem q1408 : (Jvm.Cond.instanceMethod ({ cls := "LetterHeapsModel", name := "comes", desc := "(III)Z" } : Jvm.MethodName)) ∈ lw_all := lw_g (lw_at lw_m6 88 rfl) rfl
theorem q1409 : (Jvm.Cond.code ({ cls := "LetterHeapsModel", name := "comes", desc := "(III)Z" } : Jvm.MethodName) prog_17_method_59_code (7 : Nat) (Option.some Jvm.ClassFile.FieldType.boolean)) ∈ lw_all := lw_g (lw_at lw_m6 89 rfl) rfl
theorem q1410 : (Jvm.Cond.constantLong "LetterHeapsModel" (324 : Nat) (-2 : Int64)) ∈ lw_all := lw_g (lw_at lw_m6 90 rfl) rfl
theorem q1412 : (Jvm.Cond.instanceMethod ({ cls := "LetterHeapsModel", name := "heap", desc := "(I)I" } : Jvm.MethodName)) ∈ lw_all := lw_g (lw_at lw_m6 92 rfl) rfl
theorem q1413 : (Jvm.Cond.selects "LetterHeapsModel" ({ cls := "LetterHeapsModel", name := "heap", desc := "(I)I" } : Jvm.MethodName) ({ cls := "LetterHeapsModel", name := "heap", desc := "(I)I" } : Jvm.MethodName)) ∈ lw_all := lw_g (lw_at lw_m6 93 rfl) rfl
theorem q1414 : (Jvm.Cond.code ({ cls := "LetterHeapsModel", name := "heap", desc := "(I)I" } : Jvm.MethodName) prog_17_method_62_code (2 : Nat) (Option.some Jvm.ClassFile.FieldType.int)) ∈ lw_all := lw_g (lw_at lw_m6 94 rfl) rfl
theorem q1415 : (Jvm.Cond.methodLink "LetterHeapsModel" (326 : Nat) ({ cls := "LetterHeapsModel", name := "heapOf", desc := "(I)I" } : Jvm.MethodName)) ∈ lw_all := lw_g (lw_at lw_m6 95 rfl) rfl
theorem q1416 : (Jvm.Cond.privateMethod ({ cls := "LetterHeapsModel", name := "heapOf", desc := "(I)I" } : Jvm.MethodName)) ∈ lw_tbl := lw_at lw_m6 96 rfl
theorem q1417 : (Jvm.Cond.instanceMethod ({ cls := "LetterHeapsModel", name := "heapOf", desc := "(I)I" } : Jvm.MethodName)) ∈ lw_all := lw_g (lw_at lw_m6 97 rfl) rfl
theorem q1418 : (Jvm.Cond.code ({ cls := "LetterHeapsModel", name := "heapOf", desc := "(I)I" } : Jvm.MethodName) prog_17_method_61_code (3 : Nat) (Option.some Jvm.ClassFile.FieldType.int)) ∈ lw_all := lw_g (lw_at lw_m6 98 rfl) rfl
theorem q1420 : (Jvm.Cond.instanceMethod ({ cls := "LetterHeapsModel", name := "heaps", desc := "()I" } : Jvm.MethodName)) ∈ lw_all := lw_g (lw_at lw_m6 100 rfl) rfl
theorem q1421 : (Jvm.Cond.selects "LetterHeapsModel" ({ cls := "LetterHeapsModel", name := "heaps", desc := "()I" } : Jvm.MethodName) ({ cls := "LetterHeapsModel", name := "heaps", desc := "()I" } : Jvm.MethodName)) ∈ lw_all := lw_g (lw_at lw_m6 101 rfl) rfl
theorem q1422 : (Jvm.Cond.code ({ cls := "LetterHeapsModel", name := "heaps", desc := "()I" } : Jvm.MethodName) prog_17_method_63_code (3 : Nat) (Option.some Jvm.ClassFile.FieldType.int)) ∈ lw_all := lw_g (lw_at lw_m6 102 rfl) rfl
theorem q1424 : (Jvm.Cond.instanceMethod ({ cls := "LetterHeapsModel", name := "far", desc := "(I)I" } : Jvm.MethodName)) ∈ lw_all := lw_g (lw_at lw_m6 104 rfl) rfl
theorem q1425 : (Jvm.Cond.selects "LetterHeapsModel" ({ cls := "LetterHeapsModel", name := "far", desc := "(I)I" } : Jvm.MethodName) ({ cls := "LetterHeapsModel", name := "far", desc := "(I)I" } : Jvm.MethodName)) ∈ lw_all := lw_g (lw_at lw_m6 105 rfl) rfl
theorem q1426 : (Jvm.Cond.code ({ cls := "LetterHeapsModel", name := "far", desc := "(I)I" } : Jvm.MethodName) prog_17_method_64_code (7 : Nat) (Option.some Jvm.ClassFile.FieldType.int)) ∈ lw_all := lw_g (lw_at lw_m6 106 rfl) rfl
theorem q1428 : (Jvm.Cond.instanceMethod ({ cls := "LetterHeapsModel", name := "between", desc := "(I)I" } : Jvm.MethodName)) ∈ lw_all := lw_g (lw_at lw_m6 108 rfl) rfl
theorem q1429 : (Jvm.Cond.selects "LetterHeapsModel" ({ cls := "LetterHeapsModel", name := "between", desc := "(I)I" } : Jvm.MethodName) ({ cls := "LetterHeapsModel", name := "between", desc := "(I)I" } : Jvm.MethodName)) ∈ lw_all := lw_g (lw_at lw_m6 109 rfl) rfl
theorem q1430 : (Jvm.Cond.code ({ cls := "LetterHeapsModel", name := "between", desc := "(I)I" } : Jvm.MethodName) prog_17_method_66_code (6 : Nat) (Option.some Jvm.ClassFile.FieldType.int)) ∈ lw_all := lw_g (lw_at lw_m6 110 rfl) rfl
theorem q1431 : (Jvm.Cond.methodLink "LetterHeapsModel" (329 : Nat) ({ cls := "LetterHeapsModel", name := "twosBy", desc := "(I)I" } : Jvm.MethodName)) ∈ lw_all := lw_g (lw_at lw_m6 111 rfl) rfl
theorem q1432 : (Jvm.Cond.privateMethod ({ cls := "LetterHeapsModel", name := "twosBy", desc := "(I)I" } : Jvm.MethodName)) ∈ lw_tbl := lw_at lw_m6 112 rfl
theorem q1433 : (Jvm.Cond.instanceMethod ({ cls := "LetterHeapsModel", name := "twosBy", desc := "(I)I" } : Jvm.MethodName)) ∈ lw_all := lw_g (lw_at lw_m6 113 rfl) rfl
theorem q1434 : (Jvm.Cond.code ({ cls := "LetterHeapsModel", name := "twosBy", desc := "(I)I" } : Jvm.MethodName) prog_17_method_65_code (5 : Nat) (Option.some Jvm.ClassFile.FieldType.int)) ∈ lw_all := lw_g (lw_at lw_m6 114 rfl) rfl
theorem q1436 : (Jvm.Cond.instanceMethod ({ cls := "LetterHeapsModel", name := "newWord", desc := "(I)I" } : Jvm.MethodName)) ∈ lw_all := lw_g (lw_at lw_m6 116 rfl) rfl
theorem q1437 : (Jvm.Cond.selects "LetterHeapsModel" ({ cls := "LetterHeapsModel", name := "newWord", desc := "(I)I" } : Jvm.MethodName) ({ cls := "LetterHeapsModel", name := "newWord", desc := "(I)I" } : Jvm.MethodName)) ∈ lw_all := lw_g (lw_at lw_m6 117 rfl) rfl
theorem q1438 : (Jvm.Cond.code ({ cls := "LetterHeapsModel", name := "newWord", desc := "(I)I" } : Jvm.MethodName) prog_17_method_76_code (3 : Nat) (Option.some Jvm.ClassFile.FieldType.int)) ∈ lw_all := lw_g (lw_at lw_m6 118 rfl) rfl
theorem q1439 : (Jvm.Cond.methodLink "LetterHeapsModel" (367 : Nat) ({ cls := "LetterHeapsModel", name := "triesAbout", desc := "(I)V" } : Jvm.MethodName)) ∈ lw_all := lw_g (lw_at lw_m6 119 rfl) rfl
theorem q1440 : (Jvm.Cond.privateMethod ({ cls := "LetterHeapsModel", name := "triesAbout", desc := "(I)V" } : Jvm.MethodName)) ∈ lw_tbl := lw_at lw_m6 120 rfl
theorem q1441 : (Jvm.Cond.instanceMethod ({ cls := "LetterHeapsModel", name := "triesAbout", desc := "(I)V" } : Jvm.MethodName)) ∈ lw_all := lw_g (lw_at lw_m6 121 rfl) rfl
theorem q1442 : (Jvm.Cond.code ({ cls := "LetterHeapsModel", name := "triesAbout", desc := "(I)V" } : Jvm.MethodName) prog_17_method_75_code (4 : Nat) (Option.none : Option Jvm.ClassFile.FieldType)) ∈ lw_all := lw_g (lw_at lw_m6 122 rfl) rfl
theorem q1443 : (Jvm.Cond.methodLink "LetterHeapsModel" (354 : Nat) ({ cls := "LetterHeapsModel", name := "putsIn", desc := "(III)V" } : Jvm.MethodName)) ∈ lw_all := lw_g (lw_at lw_m6 123 rfl) rfl
theorem q1444 : (Jvm.Cond.privateMethod ({ cls := "LetterHeapsModel", name := "putsIn", desc := "(III)V" } : Jvm.MethodName)) ∈ lw_tbl := lw_at lw_m6 124 rfl
theorem q1445 : (Jvm.Cond.instanceMethod ({ cls := "LetterHeapsModel", name := "putsIn", desc := "(III)V" } : Jvm.MethodName)) ∈ lw_all := lw_g (lw_at lw_m6 125 rfl) rfl
theorem q1446 : (Jvm.Cond.code ({ cls := "LetterHeapsModel", name := "putsIn", desc := "(III)V" } : Jvm.MethodName) prog_17_method_73_code (5 : Nat) (Option.none : Option Jvm.ClassFile.FieldType)) ∈ lw_all := lw_g (lw_at lw_m6 126 rfl) rfl
theorem q1447 : (Jvm.Cond.methodLink "LetterHeapsModel" (358 : Nat) ({ cls := "LetterHeapsModel", name := "triesNew", desc := "()V" } : Jvm.MethodName)) ∈ lw_all := lw_g (lw_at lw_m6 127 rfl) rfl
theorem q1448 : (Jvm.Cond.privateMethod ({ cls := "LetterHeapsModel", name := "triesNew", desc := "()V" } : Jvm.MethodName)) ∈ lw_tbl := lw_at lw_m6 128 rfl
theorem q1449 : (Jvm.Cond.instanceMethod ({ cls := "LetterHeapsModel", name := "triesNew", desc := "()V" } : Jvm.MethodName)) ∈ lw_all := lw_g (lw_at lw_m6 129 rfl) rfl
theorem q1450 : (Jvm.Cond.code ({ cls := "LetterHeapsModel", name := "triesNew", desc := "()V" } : Jvm.MethodName) prog_17_method_71_code (6 : Nat) (Option.none : Option Jvm.ClassFile.FieldType)) ∈ lw_all := lw_g (lw_at lw_m6 130 rfl) rfl
theorem q1451 : (Jvm.Cond.methodLink "LetterHeapsModel" (342 : Nat) ({ cls := "LetterHeapsModel", name := "isNear", desc := "(I)Z" } : Jvm.MethodName)) ∈ lw_all := lw_g (lw_at lw_m6 131 rfl) rfl
theorem q1452 : (Jvm.Cond.privateMethod ({ cls := "LetterHeapsModel", name := "isNear", desc := "(I)Z" } : Jvm.MethodName)) ∈ lw_tbl := lw_at lw_m6 132 rfl
theorem q1453 : (Jvm.Cond.instanceMethod ({ cls := "LetterHeapsModel", name := "isNear", desc := "(I)Z" } : Jvm.MethodName)) ∈ lw_all := lw_g (lw_at lw_m6 133 rfl) rfl
theorem q1454 : (Jvm.Cond.code ({ cls := "LetterHeapsModel", name := "isNear", desc := "(I)Z" } : Jvm.MethodName) prog_17_method_67_code (5 : Nat) (Option.some Jvm.ClassFile.FieldType.boolean)) ∈ lw_all := lw_g (lw_at lw_m6 134 rfl) rfl
theorem q1455 : (Jvm.Cond.methodLink "LetterHeapsModel" (332 : Nat) ({ cls := "LetterHeapsModel", name := "isNearAlike", desc := "(I)Z" } : Jvm.MethodName)) ∈ lw_all := lw_g (lw_at lw_m6 135 rfl) rfl
theorem q1456 : (Jvm.Cond.privateMethod ({ cls := "LetterHeapsModel", name := "isNearAlike", desc := "(I)Z" } : Jvm.MethodName)) ∈ lw_tbl := lw_at lw_m6 136 rfl
theorem q1457 : (Jvm.Cond.instanceMethod ({ cls := "LetterHeapsModel", name := "isNearAlike", desc := "(I)Z" } : Jvm.MethodName)) ∈ lw_all := lw_g (lw_at lw_m6 137 rfl) rfl
theorem q1458 : (Jvm.Cond.code ({ cls := "LetterHeapsModel", name := "isNearAlike", desc := "(I)Z" } : Jvm.MethodName) prog_17_method_69_code (6 : Nat) (Option.some Jvm.ClassFile.FieldType.boolean)) ∈ lw_all := lw_g (lw_at lw_m6 138 rfl) rfl
theorem q1459 : (Jvm.Cond.methodLink "LetterHeapsModel" (335 : Nat) ({ cls := "LetterHeapsModel", name := "isRowWithout", desc := "(IIZ)Z" } : Jvm.MethodName)) ∈ lw_all := lw_g (lw_at lw_m6 139 rfl) rfl
theorem q1460 : (Jvm.Cond.privateMethod ({ cls := "LetterHeapsModel", name := "isRowWithout", desc := "(IIZ)Z" } : Jvm.MethodName)) ∈ lw_tbl := lw_at lw_m6 140 rfl
theorem q1461 : (Jvm.Cond.instanceMethod ({ cls := "LetterHeapsModel", name := "isRowWithout", desc := "(IIZ)Z" } : Jvm.MethodName)) ∈ lw_all := lw_g (lw_at lw_m6 141 rfl) rfl
theorem q1462 : (Jvm.Cond.code ({ cls := "LetterHeapsModel", name := "isRowWithout", desc := "(IIZ)Z" } : Jvm.MethodName) prog_17_method_68_code (7 : Nat) (Option.some Jvm.ClassFile.FieldType.boolean)) ∈ lw_all := lw_g (lw_at lw_m6 142 rfl) rfl
theorem q1463 : (Jvm.Cond.methodLink "LetterHeapsModel" (351 : Nat) ({ cls := "LetterHeapsModel", name := "isAheadOfNew", desc := "()Z" } : Jvm.MethodName)) ∈ lw_all := lw_g (lw_at lw_m6 143 rfl) rfl
theorem q1464 : (Jvm.Cond.privateMethod ({ cls := "LetterHeapsModel", name := "isAheadOfNew", desc := "()Z" } : Jvm.MethodName)) ∈ lw_tbl := lw_at lw_m6 144 rfl
theorem q1465 : (Jvm.Cond.instanceMethod ({ cls := "LetterHeapsModel", name := "isAheadOfNew", desc := "()Z" } : Jvm.MethodName)) ∈ lw_all := lw_g (lw_at lw_m6 145 rfl) rfl
theorem q1466 : (Jvm.Cond.code ({ cls := "LetterHeapsModel", name := "isAheadOfNew", desc := "()Z" } : Jvm.MethodName) prog_17_method_70_code (2 : Nat) (Option.some Jvm.ClassFile.FieldType.boolean)) ∈ lw_all := lw_g (lw_at lw_m6 146 rfl) rfl
theorem q1467 : (Jvm.Cond.methodLink "LetterHeapsModel" (361 : Nat) ({ cls := "LetterHeapsModel", name := "laysRow", desc := "(I)V" } : Jvm.MethodName)) ∈ lw_all := lw_g (lw_at lw_m6 147 rfl) rfl
theorem q1468 : (Jvm.Cond.privateMethod ({ cls := "LetterHeapsModel", name := "laysRow", desc := "(I)V" } : Jvm.MethodName)) ∈ lw_tbl := lw_at lw_m6 148 rfl
theorem q1469 : (Jvm.Cond.instanceMethod ({ cls := "LetterHeapsModel", name := "laysRow", desc := "(I)V" } : Jvm.MethodName)) ∈ lw_all := lw_g (lw_at lw_m6 149 rfl) rfl
theorem q1470 : (Jvm.Cond.code ({ cls := "LetterHeapsModel", name := "laysRow", desc := "(I)V" } : Jvm.MethodName) prog_17_method_72_code (3 : Nat) (Option.none : Option Jvm.ClassFile.FieldType)) ∈ lw_all := lw_g (lw_at lw_m6 150 rfl) rfl
theorem q1471 : (Jvm.Cond.methodLink "LetterHeapsModel" (364 : Nat) ({ cls := "LetterHeapsModel", name := "leavesOut", desc := "(II)V" } : Jvm.MethodName)) ∈ lw_all := lw_g (lw_at lw_m6 151 rfl) rfl
theorem q1472 : (Jvm.Cond.privateMethod ({ cls := "LetterHeapsModel", name := "leavesOut", desc := "(II)V" } : Jvm.MethodName)) ∈ lw_tbl := lw_at lw_m6 152 rfl
theorem q1473 : (Jvm.Cond.instanceMethod ({ cls := "LetterHeapsModel", name := "leavesOut", desc := "(II)V" } : Jvm.MethodName)) ∈ lw_all := lw_g (lw_at lw_m6 153 rfl) rfl
theorem q1474 : (Jvm.Cond.code ({ cls := "LetterHeapsModel", name := "leavesOut", desc := "(II)V" } : Jvm.MethodName) prog_17_method_74_code (4 : Nat) (Option.none : Option Jvm.ClassFile.FieldType)) ∈ lw_all := lw_g (lw_at lw_m6 154 rfl) rfl
theorem q1476 : (Jvm.Cond.instanceMethod ({ cls := "LetterHeapsModel", name := "walks", desc := "(III)J" } : Jvm.MethodName)) ∈ lw_all := lw_g (lw_at lw_m6 156 rfl) rfl
theorem q1477 : (Jvm.Cond.selects "LetterHeapsModel" ({ cls := "LetterHeapsModel", name := "walks", desc := "(III)J" } : Jvm.MethodName) ({ cls := "LetterHeapsModel", name := "walks", desc := "(III)J" } : Jvm.MethodName)) ∈ lw_all := lw_g (lw_at lw_m6 157 rfl) rfl
theorem q1478 : (Jvm.Cond.code ({ cls := "LetterHeapsModel", name := "walks", desc := "(III)J" } : Jvm.MethodName) prog_17_method_77_code (7 : Nat) (Option.some Jvm.ClassFile.FieldType.long)) ∈ lw_all := lw_g (lw_at lw_m6 158 rfl) rfl
theorem q1480 : (Jvm.Cond.instanceMethod ({ cls := "LetterHeapsModel", name := "row", desc := "(II)I" } : Jvm.MethodName)) ∈ lw_all := lw_g (lw_at lw_m6 160 rfl) rfl
theorem q1481 : (Jvm.Cond.selects "LetterHeapsModel" ({ cls := "LetterHeapsModel", name := "row", desc := "(II)I" } : Jvm.MethodName) ({ cls := "LetterHeapsModel", name := "row", desc := "(II)I" } : Jvm.MethodName)) ∈ lw_all := lw_g (lw_at lw_m6 161 rfl) rfl
theorem q1482 : (Jvm.Cond.code ({ cls := "LetterHeapsModel", name := "row", desc := "(II)I" } : Jvm.MethodName) prog_17_method_83_code (9 : Nat) (Option.some Jvm.ClassFile.FieldType.int)) ∈ lw_all := lw_g (lw_at lw_m6 162 rfl) rfl
theorem q1483 : (Jvm.Cond.methodLink "LetterHeapsModel" (377 : Nat) ({ cls := "LetterHeapsModel", name := "takesWords", desc := "(I)Z" } : Jvm.MethodName)) ∈ lw_all := lw_g (lw_at lw_m6 163 rfl) rfl
theorem q1484 : (Jvm.Cond.privateMethod ({ cls := "LetterHeapsModel", name := "takesWords", desc := "(I)Z" } : Jvm.MethodName)) ∈ lw_tbl := lw_at lw_m6 164 rfl
theorem q1485 : (Jvm.Cond.instanceMethod ({ cls := "LetterHeapsModel", name := "takesWords", desc := "(I)Z" } : Jvm.MethodName)) ∈ lw_all := lw_g (lw_at lw_m6 165 rfl) rfl
theorem q1486 : (Jvm.Cond.code ({ cls := "LetterHeapsModel", name := "takesWords", desc := "(I)Z" } : Jvm.MethodName) prog_17_method_78_code (4 : Nat) (Option.some Jvm.ClassFile.FieldType.boolean)) ∈ lw_all := lw_g (lw_at lw_m6 166 rfl) rfl
theorem q1487 : (Jvm.Cond.methodLink "LetterHeapsModel" (380 : Nat) ({ cls := "LetterHeapsModel", name := "areUsed", desc := "(I)Z" } : Jvm.MethodName)) ∈ lw_all := lw_g (lw_at lw_m6 167 rfl) rfl
theorem q1488 : (Jvm.Cond.privateMethod ({ cls := "LetterHeapsModel", name := "areUsed", desc := "(I)Z" } : Jvm.MethodName)) ∈ lw_tbl := lw_at lw_m6 168 rfl
theorem q1489 : (Jvm.Cond.instanceMethod ({ cls := "LetterHeapsModel", name := "areUsed", desc := "(I)Z" } : Jvm.MethodName)) ∈ lw_all := lw_g (lw_at lw_m6 169 rfl) rfl
theorem q1490 : (Jvm.Cond.code ({ cls := "LetterHeapsModel", name := "areUsed", desc := "(I)Z" } : Jvm.MethodName) prog_17_method_79_code (3 : Nat) (Option.some Jvm.ClassFile.FieldType.boolean)) ∈ lw_all := lw_g (lw_at lw_m6 170 rfl) rfl
theorem q1491 : (Jvm.Cond.methodLink "LetterHeapsModel" (383 : Nat) ({ cls := "LetterHeapsModel", name := "laysRest", desc := "(I)V" } : Jvm.MethodName)) ∈ lw_all := lw_g (lw_at lw_m6 171 rfl) rfl
theorem q1492 : (Jvm.Cond.privateMethod ({ cls := "LetterHeapsModel", name := "laysRest", desc := "(I)V" } : Jvm.MethodName)) ∈ lw_tbl := lw_at lw_m6 172 rfl
theorem q1493 : (Jvm.Cond.instanceMethod ({ cls := "LetterHeapsModel", name := "laysRest", desc := "(I)V" } : Jvm.MethodName)) ∈ lw_all := lw_g (lw_at lw_m6 173 rfl) rfl
theorem q1494 : (Jvm.Cond.code ({ cls := "LetterHeapsModel", name := "laysRest", desc := "(I)V" } : Jvm.MethodName) prog_17_method_82_code (7 : Nat) (Option.none : Option Jvm.ClassFile.FieldType)) ∈ lw_all := lw_g (lw_at lw_m6 174 rfl) rfl
theorem q1495 : (Jvm.Cond.methodLink "LetterHeapsModel" (373 : Nat) ({ cls := "LetterHeapsModel", name := "rowBy", desc := "(IIII)I" } : Jvm.MethodName)) ∈ lw_all := lw_g (lw_at lw_m6 175 rfl) rfl
theorem q1496 : (Jvm.Cond.privateMethod ({ cls := "LetterHeapsModel", name := "rowBy", desc := "(IIII)I" } : Jvm.MethodName)) ∈ lw_tbl := lw_at lw_m6 176 rfl
theorem q1497 : (Jvm.Cond.instanceMethod ({ cls := "LetterHeapsModel", name := "rowBy", desc := "(IIII)I" } : Jvm.MethodName)) ∈ lw_all := lw_g (lw_at lw_m6 177 rfl) rfl
theorem q1498 : (Jvm.Cond.code ({ cls := "LetterHeapsModel", name := "rowBy", desc := "(IIII)I" } : Jvm.MethodName) prog_17_method_81_code (5 : Nat) (Option.some Jvm.ClassFile.FieldType.int)) ∈ lw_all := lw_g (lw_at lw_m6 178 rfl) rfl
theorem q1499 : (Jvm.Cond.methodLink "LetterHeapsModel" (370 : Nat) ({ cls := "LetterHeapsModel", name := "stepTold", desc := "(II)I" } : Jvm.MethodName)) ∈ lw_all := lw_g (lw_at lw_m6 179 rfl) rfl
theorem q1500 : (Jvm.Cond.privateMethod ({ cls := "LetterHeapsModel", name := "stepTold", desc := "(II)I" } : Jvm.MethodName)) ∈ lw_tbl := lw_at lw_m6 180 rfl
theorem q1501 : (Jvm.Cond.instanceMethod ({ cls := "LetterHeapsModel", name := "stepTold", desc := "(II)I" } : Jvm.MethodName)) ∈ lw_all := lw_g (lw_at lw_m6 181 rfl) rfl
theorem q1502 : (Jvm.Cond.code ({ cls := "LetterHeapsModel", name := "stepTold", desc := "(II)I" } : Jvm.MethodName) prog_17_method_80_code (3 : Nat) (Option.some Jvm.ClassFile.FieldType.int)) ∈ lw_all := lw_g (lw_at lw_m6 182 rfl) rfl
theorem q1504 : (Jvm.Cond.instanceMethod ({ cls := "LetterHeapsModel", name := "game", desc := "(II)I" } : Jvm.MethodName)) ∈ lw_all := lw_g (lw_at lw_m6 184 rfl) rfl
theorem q1505 : (Jvm.Cond.selects "LetterHeapsModel" ({ cls := "LetterHeapsModel", name := "game", desc := "(II)I" } : Jvm.MethodName) ({ cls := "LetterHeapsModel", name := "game", desc := "(II)I" } : Jvm.MethodName)) ∈ lw_all := lw_g (lw_at lw_m6 185 rfl) rfl
theorem q1506 : (Jvm.Cond.code ({ cls := "LetterHeapsModel", name := "game", desc := "(II)I" } : Jvm.MethodName) prog_17_method_85_code (5 : Nat) (Option.some Jvm.ClassFile.FieldType.int)) ∈ lw_all := lw_g (lw_at lw_m6 186 rfl) rfl
theorem q1507 : (Jvm.Cond.methodLink "LetterHeapsModel" (386 : Nat) ({ cls := "LetterHeapsModel", name := "wins", desc := "(III)Z" } : Jvm.MethodName)) ∈ lw_all := lw_g (lw_at lw_m6 187 rfl) rfl
theorem q1508 : (Jvm.Cond.privateMethod ({ cls := "LetterHeapsModel", name := "wins", desc := "(III)Z" } : Jvm.MethodName)) ∈ lw_tbl := lw_at lw_m6 188 rfl
theorem q1509 : (Jvm.Cond.instanceMethod ({ cls := "LetterHeapsModel", name := "wins", desc := "(III)Z" } : Jvm.MethodName)) ∈ lw_all := lw_g (lw_at lw_m6 189 rfl) rfl
theorem q1510 : (Jvm.Cond.code ({ cls := "LetterHeapsModel", name := "wins", desc := "(III)Z" } : Jvm.MethodName) prog_17_method_84_code (5 : Nat) (Option.some Jvm.ClassFile.FieldType.boolean)) ∈ lw_all := lw_g (lw_at lw_m6 190 rfl) rfl
theorem q1512 : (Jvm.Cond.instanceMethod ({ cls := "LetterHeapsModel", name := "farBy", desc := "(II)I" } : Jvm.MethodName)) ∈ lw_all := lw_g (lw_at lw_m6 192 rfl) rfl
theorem q1513 : (Jvm.Cond.selects "LetterHeapsModel" ({ cls := "LetterHeapsModel", name := "farBy", desc := "(II)I" } : Jvm.MethodName) ({ cls := "LetterHeapsModel", name := "farBy", desc := "(II)I" } : Jvm.MethodName)) ∈ lw_all := lw_g (lw_at lw_m6 193 rfl) rfl
theorem q1514 : (Jvm.Cond.code ({ cls := "LetterHeapsModel", name := "farBy", desc := "(II)I" } : Jvm.MethodName) prog_17_method_88_code (3 : Nat) (Option.some Jvm.ClassFile.FieldType.int)) ∈ lw_all := lw_g (lw_at lw_m6 194 rfl) rfl
theorem q1515 : (Jvm.Cond.methodLink "LetterHeapsModel" (392 : Nat) ({ cls := "LetterHeapsModel", name := "farBetween", desc := "(II)I" } : Jvm.MethodName)) ∈ lw_all := lw_g (lw_at lw_m6 195 rfl) rfl
theorem q1516 : (Jvm.Cond.privateMethod ({ cls := "LetterHeapsModel", name := "farBetween", desc := "(II)I" } : Jvm.MethodName)) ∈ lw_tbl := lw_at lw_m6 196 rfl
theorem q1517 : (Jvm.Cond.instanceMethod ({ cls := "LetterHeapsModel", name := "farBetween", desc := "(II)I" } : Jvm.MethodName)) ∈ lw_all := lw_g (lw_at lw_m6 197 rfl) rfl
theorem q1518 : (Jvm.Cond.code ({ cls := "LetterHeapsModel", name := "farBetween", desc := "(II)I" } : Jvm.MethodName) prog_17_method_87_code (3 : Nat) (Option.some Jvm.ClassFile.FieldType.int)) ∈ lw_all := lw_g (lw_at lw_m6 198 rfl) rfl
theorem q1519 : (Jvm.Cond.methodLink "LetterHeapsModel" (389 : Nat) ({ cls := "LetterHeapsModel", name := "farFromRow", desc := "(I)I" } : Jvm.MethodName)) ∈ lw_all := lw_g (lw_at lw_m6 199 rfl) rfl
theorem q1520 : (Jvm.Cond.privateMethod ({ cls := "LetterHeapsModel", name := "farFromRow", desc := "(I)I" } : Jvm.MethodName)) ∈ lw_tbl := lw_at lw_m6 200 rfl
theorem q1521 : (Jvm.Cond.instanceMethod ({ cls := "LetterHeapsModel", name := "farFromRow", desc := "(I)I" } : Jvm.MethodName)) ∈ lw_all := lw_g (lw_at lw_m6 201 rfl) rfl
theorem q1522 : (Jvm.Cond.code ({ cls := "LetterHeapsModel", name := "farFromRow", desc := "(I)I" } : Jvm.MethodName) prog_17_method_86_code (5 : Nat) (Option.some Jvm.ClassFile.FieldType.int)) ∈ lw_all := lw_g (lw_at lw_m6 202 rfl) rfl
theorem q1524 : (Jvm.Cond.instanceMethod ({ cls := "LetterHeapsModel", name := "near", desc := "(II)I" } : Jvm.MethodName)) ∈ lw_all := lw_g (lw_at lw_m6 204 rfl) rfl
theorem q1525 : (Jvm.Cond.selects "LetterHeapsModel" ({ cls := "LetterHeapsModel", name := "near", desc := "(II)I" } : Jvm.MethodName) ({ cls := "LetterHeapsModel", name := "near", desc := "(II)I" } : Jvm.MethodName)) ∈ lw_all := lw_g (lw_at lw_m6 205 rfl) rfl
theorem q1526 : (Jvm.Cond.code ({ cls := "LetterHeapsModel", name := "near", desc := "(II)I" } : Jvm.MethodName) prog_17_method_89_code (8 : Nat) (Option.some Jvm.ClassFile.FieldType.int)) ∈ lw_all := lw_g (lw_at lw_m6 206 rfl) rfl
theorem q1528 : (Jvm.Cond.instanceMethod ({ cls := "LetterHeapsModel", name := "clear", desc := "(III)I" } : Jvm.MethodName)) ∈ lw_all := lw_g (lw_at lw_m6 208 rfl) rfl
theorem q1529 : (Jvm.Cond.selects "LetterHeapsModel" ({ cls := "LetterHeapsModel", name := "clear", desc := "(III)I" } : Jvm.MethodName) ({ cls := "LetterHeapsModel", name := "clear", desc := "(III)I" } : Jvm.MethodName)) ∈ lw_all := lw_g (lw_at lw_m6 209 rfl) rfl
theorem q1530 : (Jvm.Cond.code ({ cls := "LetterHeapsModel", name := "clear", desc := "(III)I" } : Jvm.MethodName) prog_17_method_90_code (6 : Nat) (Option.some Jvm.ClassFile.FieldType.int)) ∈ lw_all := lw_g (lw_at lw_m6 210 rfl) rfl
theorem q1531 : (Jvm.Cond.methodLink "LetterHeapsModel" (395 : Nat) ({ cls := "LetterHeapsModel", name := "bits", desc := "(I)I" } : Jvm.MethodName)) ∈ lw_all := lw_g (lw_at lw_m6 211 rfl) rfl
theorem q1532 : (Jvm.Cond.static ({ cls := "LetterHeapsModel", name := "bits", desc := "(I)I" } : Jvm.MethodName)) ∈ lw_all := lw_g (lw_at lw_m6 212 rfl) rfl
theorem q1533 : (Jvm.Cond.code ({ cls := "LetterHeapsModel", name := "bits", desc := "(I)I" } : Jvm.MethodName) prog_17_method_5_code (3 : Nat) (Option.some Jvm.ClassFile.FieldType.int)) ∈ lw_all := lw_g (lw_at lw_m6 213 rfl) rfl
theorem q1534 : (Jvm.Cond.methodLink "LetterHeapsModel" (398 : Nat) ({ cls := "LetterHeapsModel", name := "isClear", desc := "(II)Z" } : Jvm.MethodName)) ∈ lw_all := lw_g (lw_at lw_m6 214 rfl) rfl
theorem q1535 : (Jvm.Cond.privateMethod ({ cls := "LetterHeapsModel", name := "isClear", desc := "(II)Z" } : Jvm.MethodName)) ∈ lw_tbl := lw_at lw_m6 215 rfl
theorem q1536 : (Jvm.Cond.instanceMethod ({ cls := "LetterHeapsModel", name := "isClear", desc := "(II)Z" } : Jvm.MethodName)) ∈ lw_all := lw_g (lw_at lw_m6 216 rfl) rfl
theorem q1537 : (Jvm.Cond.code ({ cls := "LetterHeapsModel", name := "isClear", desc := "(II)Z" } : Jvm.MethodName) prog_17_method_91_code (4 : Nat) (Option.some Jvm.ClassFile.FieldType.boolean)) ∈ lw_all := lw_g (lw_at lw_m6 217 rfl) rfl
theorem q1539 : (Jvm.Cond.instanceMethod ({ cls := "LetterHeapsModel", name := "rubbed", desc := "(I)J" } : Jvm.MethodName)) ∈ lw_all := lw_g (lw_at lw_m6 219 rfl) rfl
theorem q1540 : (Jvm.Cond.selects "LetterHeapsModel" ({ cls := "LetterHeapsModel", name := "rubbed", desc := "(I)J" } : Jvm.MethodName) ({ cls := "LetterHeapsModel", name := "rubbed", desc := "(I)J" } : Jvm.MethodName)) ∈ lw_all := lw_g (lw_at lw_m6 220 rfl) rfl
theorem q1541 : (Jvm.Cond.code ({ cls := "LetterHeapsModel", name := "rubbed", desc := "(I)J" } : Jvm.MethodName) prog_17_method_92_code (5 : Nat) (Option.some Jvm.ClassFile.FieldType.long)) ∈ lw_all := lw_g (lw_at lw_m6 221 rfl) rfl
theorem q1542 : (Jvm.Cond.methodLink "LetterHeapsModel" (401 : Nat) ({ cls := "LetterHeapsModel", name := "isRubbed", desc := "(II)Z" } : Jvm.MethodName)) ∈ lw_all := lw_g (lw_at lw_m6 222 rfl) rfl
theorem q1543 : (Jvm.Cond.privateMethod ({ cls := "LetterHeapsModel", name := "isRubbed", desc := "(II)Z" } : Jvm.MethodName)) ∈ lw_tbl := lw_at lw_m6 223 rfl
theorem q1544 : (Jvm.Cond.instanceMethod ({ cls := "LetterHeapsModel", name := "isRubbed", desc := "(II)Z" } : Jvm.MethodName)) ∈ lw_all := lw_g (lw_at lw_m6 224 rfl) rfl
theorem q1545 : (Jvm.Cond.code ({ cls := "LetterHeapsModel", name := "isRubbed", desc := "(II)Z" } : Jvm.MethodName) prog_17_method_93_code (4 : Nat) (Option.some Jvm.ClassFile.FieldType.boolean)) ∈ lw_all := lw_g (lw_at lw_m6 225 rfl) rfl
theorem q1547 : (Jvm.Cond.instanceMethod ({ cls := "LetterHeapsModel", name := "square", desc := "(II)I" } : Jvm.MethodName)) ∈ lw_all := lw_g (lw_at lw_m6 227 rfl) rfl
theorem q1548 : (Jvm.Cond.selects "LetterHeapsModel" ({ cls := "LetterHeapsModel", name := "square", desc := "(II)I" } : Jvm.MethodName) ({ cls := "LetterHeapsModel", name := "square", desc := "(II)I" } : Jvm.MethodName)) ∈ lw_all := lw_g (lw_at lw_m6 228 rfl) rfl
theorem q1549 : (Jvm.Cond.code ({ cls := "LetterHeapsModel", name := "square", desc := "(II)I" } : Jvm.MethodName) prog_17_method_98_code (3 : Nat) (Option.some Jvm.ClassFile.FieldType.int)) ∈ lw_all := lw_g (lw_at lw_m6 229 rfl) rfl
theorem q1550 : (Jvm.Cond.methodLink "LetterHeapsModel" (416 : Nat) ({ cls := "LetterHeapsModel", name := "laysSquares", desc := "(I)V" } : Jvm.MethodName)) ∈ lw_all := lw_g (lw_at lw_m6 230 rfl) rfl
theorem q1551 : (Jvm.Cond.privateMethod ({ cls := "LetterHeapsModel", name := "laysSquares", desc := "(I)V" } : Jvm.MethodName)) ∈ lw_tbl := lw_at lw_m6 231 rfl
theorem q1552 : (Jvm.Cond.instanceMethod ({ cls := "LetterHeapsModel", name := "laysSquares", desc := "(I)V" } : Jvm.MethodName)) ∈ lw_all := lw_g (lw_at lw_m6 232 rfl) rfl
theorem q1553 : (Jvm.Cond.code ({ cls := "LetterHeapsModel", name := "laysSquares", desc := "(I)V" } : Jvm.MethodName) prog_17_method_97_code (4 : Nat) (Option.none : Option Jvm.ClassFile.FieldType)) ∈ lw_all := lw_g (lw_at lw_m6 233 rfl) rfl
theorem q1554 : (Jvm.Cond.methodLink "LetterHeapsModel" (404 : Nat) ({ cls := "LetterHeapsModel", name := "isOf", desc := "(II)Z" } : Jvm.MethodName)) ∈ lw_all := lw_g (lw_at lw_m6 234 rfl) rfl
theorem q1555 : (Jvm.Cond.privateMethod ({ cls := "LetterHeapsModel", name := "isOf", desc := "(II)Z" } : Jvm.MethodName)) ∈ lw_tbl := lw_at lw_m6 235 rfl
theorem q1556 : (Jvm.Cond.instanceMethod ({ cls := "LetterHeapsModel", name := "isOf", desc := "(II)Z" } : Jvm.MethodName)) ∈ lw_all := lw_g (lw_at lw_m6 236 rfl) rfl
theorem q1557 : (Jvm.Cond.code ({ cls := "LetterHeapsModel", name := "isOf", desc := "(II)Z" } : Jvm.MethodName) prog_17_method_94_code (3 : Nat) (Option.some Jvm.ClassFile.FieldType.boolean)) ∈ lw_all := lw_g (lw_at lw_m6 237 rfl) rfl
theorem q1558 : (Jvm.Cond.methodLink "LetterHeapsModel" (413 : Nat) ({ cls := "LetterHeapsModel", name := "canRows", desc := "(II)Z" } : Jvm.MethodName)) ∈ lw_all := lw_g (lw_at lw_m6 238 rfl) rfl
theorem q1559 : (Jvm.Cond.privateMethod ({ cls := "LetterHeapsModel", name := "canRows", desc := "(II)Z" } : Jvm.MethodName)) ∈ lw_tbl := lw_at lw_m6 239 rfl
theorem q1560 : (Jvm.Cond.instanceMethod ({ cls := "LetterHeapsModel", name := "canRows", desc := "(II)Z" } : Jvm.MethodName)) ∈ lw_all := lw_g (lw_at lw_m7 0 rfl) rfl
theorem q1561 : (Jvm.Cond.code ({ cls := "LetterHeapsModel", name := "canRows", desc := "(II)Z" } : Jvm.MethodName) prog_17_method_96_code (4 : Nat) (Option.some Jvm.ClassFile.FieldType.boolean)) ∈ lw_all := lw_g (lw_at lw_m7 1 rfl) rfl
theorem q1562 : (Jvm.Cond.methodLink "LetterHeapsModel" (407 : Nat) ({ cls := "LetterHeapsModel", name := "canColumn", desc := "(III)Z" } : Jvm.MethodName)) ∈ lw_all := lw_g (lw_at lw_m7 2 rfl) rfl
theorem q1563 : (Jvm.Cond.privateMethod ({ cls := "LetterHeapsModel", name := "canColumn", desc := "(III)Z" } : Jvm.MethodName)) ∈ lw_tbl := lw_at lw_m7 3 rfl
theorem q1564 : (Jvm.Cond.instanceMethod ({ cls := "LetterHeapsModel", name := "canColumn", desc := "(III)Z" } : Jvm.MethodName)) ∈ lw_all := lw_g (lw_at lw_m7 4 rfl) rfl
theorem q1565 : (Jvm.Cond.code ({ cls := "LetterHeapsModel", name := "canColumn", desc := "(III)Z" } : Jvm.MethodName) prog_17_method_95_code (7 : Nat) (Option.some Jvm.ClassFile.FieldType.boolean)) ∈ lw_all := lw_g (lw_at lw_m7 5 rfl) rfl
theorem q1567 : (Jvm.Cond.instanceMethod ({ cls := "LetterHeapsModel", name := "seed", desc := "(I)Z" } : Jvm.MethodName)) ∈ lw_all := lw_g (lw_at lw_m7 7 rfl) rfl
theorem q1568 : (Jvm.Cond.selects "LetterHeapsModel" ({ cls := "LetterHeapsModel", name := "seed", desc := "(I)Z" } : Jvm.MethodName) ({ cls := "LetterHeapsModel", name := "seed", desc := "(I)Z" } : Jvm.MethodName)) ∈ lw_all := lw_g (lw_at lw_m7 8 rfl) rfl
theorem q1569 : (Jvm.Cond.code ({ cls := "LetterHeapsModel", name := "seed", desc := "(I)Z" } : Jvm.MethodName) prog_17_method_99_code (2 : Nat) (Option.some Jvm.ClassFile.FieldType.boolean)) ∈ lw_all := lw_g (lw_at lw_m7 9 rfl) rfl
theorem q1570 : (Jvm.Cond.constant "LetterHeapsModel" (419 : Nat) (65535 : Int32)) ∈ lw_all := lw_g (lw_at lw_m7 10 rfl) rfl
theorem q1572 : (Jvm.Cond.instanceMethod ({ cls := "LetterHeapsModel", name := "draw", desc := "(III)I" } : Jvm.MethodName)) ∈ lw_all := lw_g (lw_at lw_m7 12 rfl) rfl
theorem q1573 : (Jvm.Cond.selects "LetterHeapsModel" ({ cls := "LetterHeapsModel", name := "draw", desc := "(III)I" } : Jvm.MethodName) ({ cls := "LetterHeapsModel", name := "draw", desc := "(III)I" } : Jvm.MethodName)) ∈ lw_all := lw_g (lw_at lw_m7 13 rfl) rfl
theorem q1574 : (Jvm.Cond.code ({ cls := "LetterHeapsModel", name := "draw", desc := "(III)I" } : Jvm.MethodName) prog_17_method_102_code (7 : Nat) (Option.some Jvm.ClassFile.FieldType.int)) ∈ lw_all := lw_g (lw_at lw_m7 14 rfl) rfl
theorem q1575 : (Jvm.Cond.constant "LetterHeapsModel" (420 : Nat) (65536 : Int32)) ∈ lw_all := lw_g (lw_at lw_m7 15 rfl) rfl
theorem q1576 : (Jvm.Cond.methodLink "LetterHeapsModel" (421 : Nat) ({ cls := "LetterHeapsModel", name := "stepsFrom", desc := "(I)I" } : Jvm.MethodName)) ∈ lw_all := lw_g (lw_at lw_m7 16 rfl) rfl
theorem q1577 : (Jvm.Cond.privateMethod ({ cls := "LetterHeapsModel", name := "stepsFrom", desc := "(I)I" } : Jvm.MethodName)) ∈ lw_tbl := lw_at lw_m7 17 rfl
theorem q1578 : (Jvm.Cond.instanceMethod ({ cls := "LetterHeapsModel", name := "stepsFrom", desc := "(I)I" } : Jvm.MethodName)) ∈ lw_all := lw_g (lw_at lw_m7 18 rfl) rfl
theorem q1579 : (Jvm.Cond.code ({ cls := "LetterHeapsModel", name := "stepsFrom", desc := "(I)I" } : Jvm.MethodName) prog_17_method_100_code (4 : Nat) (Option.some Jvm.ClassFile.FieldType.int)) ∈ lw_all := lw_g (lw_at lw_m7 19 rfl) rfl
theorem q1580 : (Jvm.Cond.methodLink "LetterHeapsModel" (424 : Nat) ({ cls := "LetterHeapsModel", name := "stepTo", desc := "(II)I" } : Jvm.MethodName)) ∈ lw_all := lw_g (lw_at lw_m7 20 rfl) rfl
theorem q1581 : (Jvm.Cond.privateMethod ({ cls := "LetterHeapsModel", name := "stepTo", desc := "(II)I" } : Jvm.MethodName)) ∈ lw_tbl := lw_at lw_m7 21 rfl
theorem q1582 : (Jvm.Cond.instanceMethod ({ cls := "LetterHeapsModel", name := "stepTo", desc := "(II)I" } : Jvm.MethodName)) ∈ lw_all := lw_g (lw_at lw_m7 22 rfl) rfl
theorem q1583 : (Jvm.Cond.code ({ cls := "LetterHeapsModel", name := "stepTo", desc := "(II)I" } : Jvm.MethodName) prog_17_method_101_code (5 : Nat) (Option.some Jvm.ClassFile.FieldType.int)) ∈ lw_all := lw_g (lw_at lw_m7 23 rfl) rfl
theorem q1585 : (Jvm.Cond.instanceMethod ({ cls := "LetterHeapsModel", name := "check", desc := "(II)I" } : Jvm.MethodName)) ∈ lw_all := lw_g (lw_at lw_m7 25 rfl) rfl
theorem q1586 : (Jvm.Cond.selects "LetterHeapsModel" ({ cls := "LetterHeapsModel", name := "check", desc := "(II)I" } : Jvm.MethodName) ({ cls := "LetterHeapsModel", name := "check", desc := "(II)I" } : Jvm.MethodName)) ∈ lw_all := lw_g (lw_at lw_m7 26 rfl) rfl
theorem q1587 : (Jvm.Cond.code ({ cls := "LetterHeapsModel", name := "check", desc := "(II)I" } : Jvm.MethodName) prog_17_method_104_code (4 : Nat) (Option.some Jvm.ClassFile.FieldType.int)) ∈ lw_all := lw_g (lw_at lw_m7 27 rfl) rfl
theorem q1588 : (Jvm.Cond.methodLink "LetterHeapsModel" (427 : Nat) ({ cls := "LetterHeapsModel", name := "tapeNumber", desc := "(I)I" } : Jvm.MethodName)) ∈ lw_all := lw_g (lw_at lw_m7 28 rfl) rfl
theorem q1589 : (Jvm.Cond.privateMethod ({ cls := "LetterHeapsModel", name := "tapeNumber", desc := "(I)I" } : Jvm.MethodName)) ∈ lw_tbl := lw_at lw_m7 29 rfl
theorem q1590 : (Jvm.Cond.instanceMethod ({ cls := "LetterHeapsModel", name := "tapeNumber", desc := "(I)I" } : Jvm.MethodName)) ∈ lw_all := lw_g (lw_at lw_m7 30 rfl) rfl
theorem q1591 : (Jvm.Cond.code ({ cls := "LetterHeapsModel", name := "tapeNumber", desc := "(I)I" } : Jvm.MethodName) prog_17_method_103_code (4 : Nat) (Option.some Jvm.ClassFile.FieldType.int)) ∈ lw_all := lw_g (lw_at lw_m7 31 rfl) rfl
theorem q1593 : (Jvm.Cond.instanceMethod ({ cls := "LetterHeapsModel", name := "count", desc := "(I)I" } : Jvm.MethodName)) ∈ lw_all := lw_g (lw_at lw_m7 33 rfl) rfl
theorem q1594 : (Jvm.Cond.selects "LetterHeapsModel" ({ cls := "LetterHeapsModel", name := "count", desc := "(I)I" } : Jvm.MethodName) ({ cls := "LetterHeapsModel", name := "count", desc := "(I)I" } : Jvm.MethodName)) ∈ lw_all := lw_g (lw_at lw_m7 34 rfl) rfl
theorem q1595 : (Jvm.Cond.code ({ cls := "LetterHeapsModel", name := "count", desc := "(I)I" } : Jvm.MethodName) prog_17_method_106_code (2 : Nat) (Option.some Jvm.ClassFile.FieldType.int)) ∈ lw_all := lw_g (lw_at lw_m7 35 rfl) rfl
theorem q1596 : (Jvm.Cond.methodLink "LetterHeapsModel" (430 : Nat) ({ cls := "LetterHeapsModel", name := "usedMany", desc := "()I" } : Jvm.MethodName)) ∈ lw_all := lw_g (lw_at lw_m7 36 rfl) rfl
theorem q1597 : (Jvm.Cond.privateMethod ({ cls := "LetterHeapsModel", name := "usedMany", desc := "()I" } : Jvm.MethodName)) ∈ lw_tbl := lw_at lw_m7 37 rfl
theorem q1598 : (Jvm.Cond.instanceMethod ({ cls := "LetterHeapsModel", name := "usedMany", desc := "()I" } : Jvm.MethodName)) ∈ lw_all := lw_g (lw_at lw_m7 38 rfl) rfl
theorem q1599 : (Jvm.Cond.code ({ cls := "LetterHeapsModel", name := "usedMany", desc := "()I" } : Jvm.MethodName) prog_17_method_105_code (3 : Nat) (Option.some Jvm.ClassFile.FieldType.int)) ∈ lw_all := lw_g (lw_at lw_m7 39 rfl) rfl
theorem in_X6 : ∀ w ∈ wsX60, w ∈ lw_all := lw_in wsX60 [1072, 1074, 1076, 1078, 1080, 1082, 1084, 1086, 1088, 1090, 1092, 1094, 1096, 1098, 1100, 1102, 1104, 1106, 1108, 1110, 1112, 1114, 1116, 1118, 1120, 1122, 1124, 1126, 1128, 1130, 1132, 1134, 1136, 1138, 1140, 1142, 1144, 1146, 1148, 1150, 1152, 1154, 1156, 1158, 1160, 1162, 1164, 1166, 1168, 1170, 1172, 1174, 1176, 1178] (by decide +kernel) (by decide +kernel)
