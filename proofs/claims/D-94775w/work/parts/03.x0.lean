/-! LetterHeaps -/
set_option maxRecDepth 100000
def RX0 : String := "LetterHeaps"
def TX0 : u_T := fun k => match k with
  | 0 => ("LetterHeaps", "words", "[LLetterHeaps$Word;", true)
  | 1 => ("LetterHeaps", "tape", "[B", true)
  | 2 => ("LetterHeaps", "law", "LLetterHeaps$Text;", false)
  | 3 => ("LetterHeaps", "wordMany", "I", false)
  | 4 => ("LetterHeaps", "spoken", "I", false)
  | 5 => ("LetterHeaps", "taped", "I", false)
  | 6 => ("LetterHeaps", "x", "I", false)
  | 7 => ("LetterHeaps", "version", "I", false)
  | 8 => ("LetterHeaps", "laidAt", "I", false)
  | 9 => ("LetterHeaps", "told", "LLetterHeaps$Line;", true)
  | 10 => ("LetterHeaps", "unlike", "I", false)
  | 11 => ("LetterHeaps", "stepCost", "[[I", true)
  | 12 => ("LetterHeaps", "stepKind", "[[I", true)
  | 13 => ("LetterHeaps", "stepPlace", "[[I", true)
  | 14 => ("LetterHeaps", "ways", "[[I", true)
  | 15 => ("LetterHeaps", "reach", "[J", true)
  | 16 => ("LetterHeaps", "change", "LLetterHeaps$Change;", true)
  | 17 => ("LetterHeaps", "many", "[J", true)
  | 18 => ("LetterHeaps", "isCounted", "[Z", true)
  | 19 => ("LetterHeaps", "tried", "LLetterHeaps$Line;", true)
  | 20 => ("LetterHeaps", "bestNew", "LLetterHeaps$Line;", true)
  | 21 => ("LetterHeaps", "newHeaps", "I", false)
  | 22 => ("LetterHeaps", "newWords", "I", false)
  | 23 => ("LetterHeaps", "walked", "[[J", true)
  | 24 => ("LetterHeaps", "some", "[I", true)
  | 25 => ("LetterHeaps", "someMany", "I", false)
  | 26 => ("LetterHeaps", "rest", "[[I", true)
  | 27 => ("LetterHeaps", "wins", "[[Z", true)
  | 28 => ("LetterHeaps", "changes", "[[I", true)
  | 29 => ("LetterHeaps", "tooNear", "[I", true)
  | 30 => ("LetterHeaps", "square", "[I", true)
  | 31 => ("LetterHeaps", "firstSquare", "[I", true)
  | _ => ("LetterHeaps", "squares", "I", false)
def tyX0 : Nat → FieldType := fun k => match k with
  | 0 => .array (.object "LetterHeaps$Word")
  | 1 => .array .byte
  | 2 => .object "LetterHeaps$Text"
  | 3 => .int
  | 4 => .int
  | 5 => .int
  | 6 => .int
  | 7 => .int
  | 8 => .int
  | 9 => .object "LetterHeaps$Line"
  | 10 => .int
  | 11 => .array (.array .int)
  | 12 => .array (.array .int)
  | 13 => .array (.array .int)
  | 14 => .array (.array .int)
  | 15 => .array .long
  | 16 => .object "LetterHeaps$Change"
  | 17 => .array .long
  | 18 => .array .boolean
  | 19 => .object "LetterHeaps$Line"
  | 20 => .object "LetterHeaps$Line"
  | 21 => .int
  | 22 => .int
  | 23 => .array (.array .long)
  | 24 => .array .int
  | 25 => .int
  | 26 => .array (.array .int)
  | 27 => .array (.array .boolean)
  | 28 => .array (.array .int)
  | 29 => .array .int
  | 30 => .array .int
  | 31 => .array .int
  | _ => .int
abbrev wsX00 : List Cond := u_ws RX0 TX0 33
set_option maxRecDepth 100000 in
theorem nmX0 : ∀ a, a < 33 → ∀ b, b < 33 → a ≠ b → (TX0 a).2.1 ≠ (TX0 b).2.1 := by decide +kernel
set_option maxRecDepth 100000 in
theorem tyX0_ok : ∀ k, k < 33 → parseFieldDescriptor (TX0 k).2.2.1 = some (tyX0 k) := by decide +kernel
abbrev cX0_init : ByteArray := prog_1_method_4_code
def yX0_init : MethodName := ⟨RX0, "<init>", "()V"⟩
def dkwX0_init_11 : List UInt8 := [180, 0, 11, 27, 187, 0, 9, 89, 183, 0, 112, 83, 132, 1, 1, 167, 255, 234, 177]
abbrev dktX0_init_11 : List UInt8 := dkwX0_init_11 ++ []
def dkwX0_init_10 : List UInt8 := [7, 188, 10, 181, 0, 106, 42, 7, 188, 10, 181, 0, 109, 3, 60, 27, 16, 40, 162, 0, 22, 42]
abbrev dktX0_init_10 : List UInt8 := dkwX0_init_10 ++ dktX0_init_11
def dkwX0_init_9 : List UInt8 := [181, 0, 97, 42, 16, 13, 16, 9, 197, 0, 43, 2, 181, 0, 100, 42, 16, 14, 188, 10, 181, 0, 103, 42]
abbrev dktX0_init_9 : List UInt8 := dkwX0_init_9 ++ dktX0_init_10
def dkwX0_init_8 : List UInt8 := [17, 4, 0, 16, 10, 197, 0, 43, 2, 181, 0, 92, 42, 17, 16, 0, 16, 12, 197, 0, 95, 2]
abbrev dktX0_init_8 : List UInt8 := dkwX0_init_8 ++ dktX0_init_9
def dkwX0_init_7 : List UInt8 := [181, 0, 80, 42, 5, 16, 40, 197, 0, 83, 2, 181, 0, 85, 42, 16, 14, 188, 10, 181, 0, 88, 42]
abbrev dktX0_init_7 : List UInt8 := dkwX0_init_7 ++ dktX0_init_8
def dkwX0_init_6 : List UInt8 := [181, 0, 73, 42, 187, 0, 36, 89, 183, 0, 38, 181, 0, 77, 42, 187, 0, 36, 89, 183, 0, 38]
abbrev dktX0_init_6 : List UInt8 := dkwX0_init_6 ++ dktX0_init_7
def dkwX0_init_5 : List UInt8 := [187, 0, 61, 89, 42, 183, 0, 63, 181, 0, 66, 42, 16, 40, 188, 11, 181, 0, 70, 42, 16, 40, 188, 4]
abbrev dktX0_init_5 : List UInt8 := dkwX0_init_5 ++ dktX0_init_6
def dkwX0_init_4 : List UInt8 := [181, 0, 51, 42, 16, 40, 16, 40, 197, 0, 43, 2, 181, 0, 54, 42, 16, 40, 188, 11, 181, 0, 57, 42]
abbrev dktX0_init_4 : List UInt8 := dkwX0_init_4 ++ dktX0_init_5
def dkwX0_init_3 : List UInt8 := [181, 0, 45, 42, 16, 40, 16, 40, 197, 0, 43, 2, 181, 0, 48, 42, 16, 40, 16, 40, 197, 0, 43, 2]
abbrev dktX0_init_3 : List UInt8 := dkwX0_init_3 ++ dktX0_init_4
def dkwX0_init_2 : List UInt8 := [181, 0, 33, 42, 187, 0, 36, 89, 183, 0, 38, 181, 0, 39, 42, 16, 40, 16, 40, 197, 0, 43, 2]
abbrev dktX0_init_2 : List UInt8 := dkwX0_init_2 ++ dktX0_init_3
def dkwX0_init_1 : List UInt8 := [187, 0, 19, 89, 183, 0, 21, 181, 0, 22, 42, 2, 181, 0, 26, 42, 4, 181, 0, 30, 42, 2]
abbrev dktX0_init_1 : List UInt8 := dkwX0_init_1 ++ dktX0_init_2
def dkwX0_init_0 : List UInt8 := [42, 183, 0, 1, 42, 16, 40, 189, 0, 9, 181, 0, 11, 42, 17, 0, 200, 188, 8, 181, 0, 15, 42]
abbrev dktX0_init_0 : List UInt8 := dkwX0_init_0 ++ dktX0_init_1
theorem dksX0_init_0 : cX0_init.data.toList.drop 0 = dktX0_init_0 := by decide +kernel
theorem dksX0_init_1 : cX0_init.data.toList.drop 23 = dktX0_init_1 := dk_seg dksX0_init_0 23 rfl rfl
theorem dksX0_init_2 : cX0_init.data.toList.drop 45 = dktX0_init_2 := dk_seg dksX0_init_1 22 rfl rfl
theorem dksX0_init_3 : cX0_init.data.toList.drop 68 = dktX0_init_3 := dk_seg dksX0_init_2 23 rfl rfl
theorem dksX0_init_4 : cX0_init.data.toList.drop 92 = dktX0_init_4 := dk_seg dksX0_init_3 24 rfl rfl
theorem dksX0_init_5 : cX0_init.data.toList.drop 116 = dktX0_init_5 := dk_seg dksX0_init_4 24 rfl rfl
theorem dksX0_init_6 : cX0_init.data.toList.drop 140 = dktX0_init_6 := dk_seg dksX0_init_5 24 rfl rfl
theorem dksX0_init_7 : cX0_init.data.toList.drop 162 = dktX0_init_7 := dk_seg dksX0_init_6 22 rfl rfl
theorem dksX0_init_8 : cX0_init.data.toList.drop 185 = dktX0_init_8 := dk_seg dksX0_init_7 23 rfl rfl
theorem dksX0_init_9 : cX0_init.data.toList.drop 207 = dktX0_init_9 := dk_seg dksX0_init_8 22 rfl rfl
theorem dksX0_init_10 : cX0_init.data.toList.drop 231 = dktX0_init_10 := dk_seg dksX0_init_9 24 rfl rfl
theorem dksX0_init_11 : cX0_init.data.toList.drop 253 = dktX0_init_11 := dk_seg dksX0_init_10 22 rfl rfl
theorem dX0_init_0 : decode cX0_init 0 = .ok (.aload_n 0, 1) := dk_42 (dk_at dksX0_init_0 0 rfl rfl)
theorem dX0_init_1 : decode cX0_init 1 = .ok (.invokespecial 1, 3) := dk_183 0 1 (dk_at dksX0_init_0 1 rfl rfl)
theorem dX0_init_4 : decode cX0_init 4 = .ok (.aload_n 0, 1) := dk_42 (dk_at dksX0_init_0 4 rfl rfl)
theorem dX0_init_5 : decode cX0_init 5 = .ok (.bipush 40, 2) := dk_16 40 (dk_at dksX0_init_0 5 rfl rfl)
theorem dX0_init_7 : decode cX0_init 7 = .ok (.anewarray 9, 3) := dk_189 0 9 (dk_at dksX0_init_0 7 rfl rfl)
theorem dX0_init_10 : decode cX0_init 10 = .ok (.putfield 11, 3) := dk_181 0 11 (dk_at dksX0_init_0 10 rfl rfl)
theorem dX0_init_13 : decode cX0_init 13 = .ok (.aload_n 0, 1) := dk_42 (dk_at dksX0_init_0 13 rfl rfl)
theorem dX0_init_14 : decode cX0_init 14 = .ok (.sipush 200, 3) := dk_17 0 200 (dk_at dksX0_init_0 14 rfl rfl)
theorem dX0_init_17 : decode cX0_init 17 = .ok (.newarray .byte, 2) := dk_188_8 (dk_at dksX0_init_0 17 rfl rfl)
theorem dX0_init_19 : decode cX0_init 19 = .ok (.putfield 15, 3) := dk_181 0 15 (dk_at dksX0_init_0 19 rfl rfl)
theorem dX0_init_22 : decode cX0_init 22 = .ok (.aload_n 0, 1) := dk_42 (dk_at dksX0_init_0 22 rfl rfl)
theorem dX0_init_23 : decode cX0_init 23 = .ok (.new 19, 3) := dk_187 0 19 (dk_at dksX0_init_1 0 rfl rfl)
theorem dX0_init_26 : decode cX0_init 26 = .ok (.dup, 1) := dk_89 (dk_at dksX0_init_1 3 rfl rfl)
theorem dX0_init_27 : decode cX0_init 27 = .ok (.invokespecial 21, 3) := dk_183 0 21 (dk_at dksX0_init_1 4 rfl rfl)
theorem dX0_init_30 : decode cX0_init 30 = .ok (.putfield 22, 3) := dk_181 0 22 (dk_at dksX0_init_1 7 rfl rfl)
theorem dX0_init_33 : decode cX0_init 33 = .ok (.aload_n 0, 1) := dk_42 (dk_at dksX0_init_1 10 rfl rfl)
theorem dX0_init_34 : decode cX0_init 34 = .ok (.iconst (-1), 1) := dk_2 (dk_at dksX0_init_1 11 rfl rfl)
theorem dX0_init_35 : decode cX0_init 35 = .ok (.putfield 26, 3) := dk_181 0 26 (dk_at dksX0_init_1 12 rfl rfl)
theorem dX0_init_38 : decode cX0_init 38 = .ok (.aload_n 0, 1) := dk_42 (dk_at dksX0_init_1 15 rfl rfl)
theorem dX0_init_39 : decode cX0_init 39 = .ok (.iconst 1, 1) := dk_4 (dk_at dksX0_init_1 16 rfl rfl)
theorem dX0_init_40 : decode cX0_init 40 = .ok (.putfield 30, 3) := dk_181 0 30 (dk_at dksX0_init_1 17 rfl rfl)
theorem dX0_init_43 : decode cX0_init 43 = .ok (.aload_n 0, 1) := dk_42 (dk_at dksX0_init_1 20 rfl rfl)
theorem dX0_init_44 : decode cX0_init 44 = .ok (.iconst (-1), 1) := dk_2 (dk_at dksX0_init_1 21 rfl rfl)
theorem dX0_init_45 : decode cX0_init 45 = .ok (.putfield 33, 3) := dk_181 0 33 (dk_at dksX0_init_2 0 rfl rfl)
theorem dX0_init_48 : decode cX0_init 48 = .ok (.aload_n 0, 1) := dk_42 (dk_at dksX0_init_2 3 rfl rfl)
theorem dX0_init_49 : decode cX0_init 49 = .ok (.new 36, 3) := dk_187 0 36 (dk_at dksX0_init_2 4 rfl rfl)
theorem dX0_init_52 : decode cX0_init 52 = .ok (.dup, 1) := dk_89 (dk_at dksX0_init_2 7 rfl rfl)
theorem dX0_init_53 : decode cX0_init 53 = .ok (.invokespecial 38, 3) := dk_183 0 38 (dk_at dksX0_init_2 8 rfl rfl)
theorem dX0_init_56 : decode cX0_init 56 = .ok (.putfield 39, 3) := dk_181 0 39 (dk_at dksX0_init_2 11 rfl rfl)
theorem dX0_init_59 : decode cX0_init 59 = .ok (.aload_n 0, 1) := dk_42 (dk_at dksX0_init_2 14 rfl rfl)
theorem dX0_init_60 : decode cX0_init 60 = .ok (.bipush 40, 2) := dk_16 40 (dk_at dksX0_init_2 15 rfl rfl)
theorem dX0_init_62 : decode cX0_init 62 = .ok (.bipush 40, 2) := dk_16 40 (dk_at dksX0_init_2 17 rfl rfl)
theorem dX0_init_64 : decode cX0_init 64 = .ok (.multianewarray 43 2, 4) := by decide +kernel
theorem dX0_init_68 : decode cX0_init 68 = .ok (.putfield 45, 3) := dk_181 0 45 (dk_at dksX0_init_3 0 rfl rfl)
theorem dX0_init_71 : decode cX0_init 71 = .ok (.aload_n 0, 1) := dk_42 (dk_at dksX0_init_3 3 rfl rfl)
theorem dX0_init_72 : decode cX0_init 72 = .ok (.bipush 40, 2) := dk_16 40 (dk_at dksX0_init_3 4 rfl rfl)
theorem dX0_init_74 : decode cX0_init 74 = .ok (.bipush 40, 2) := dk_16 40 (dk_at dksX0_init_3 6 rfl rfl)
theorem dX0_init_76 : decode cX0_init 76 = .ok (.multianewarray 43 2, 4) := by decide +kernel
theorem dX0_init_80 : decode cX0_init 80 = .ok (.putfield 48, 3) := dk_181 0 48 (dk_at dksX0_init_3 12 rfl rfl)
theorem dX0_init_83 : decode cX0_init 83 = .ok (.aload_n 0, 1) := dk_42 (dk_at dksX0_init_3 15 rfl rfl)
theorem dX0_init_84 : decode cX0_init 84 = .ok (.bipush 40, 2) := dk_16 40 (dk_at dksX0_init_3 16 rfl rfl)
theorem dX0_init_86 : decode cX0_init 86 = .ok (.bipush 40, 2) := dk_16 40 (dk_at dksX0_init_3 18 rfl rfl)
theorem dX0_init_88 : decode cX0_init 88 = .ok (.multianewarray 43 2, 4) := by decide +kernel
theorem dX0_init_92 : decode cX0_init 92 = .ok (.putfield 51, 3) := dk_181 0 51 (dk_at dksX0_init_4 0 rfl rfl)
theorem dX0_init_95 : decode cX0_init 95 = .ok (.aload_n 0, 1) := dk_42 (dk_at dksX0_init_4 3 rfl rfl)
theorem dX0_init_96 : decode cX0_init 96 = .ok (.bipush 40, 2) := dk_16 40 (dk_at dksX0_init_4 4 rfl rfl)
theorem dX0_init_98 : decode cX0_init 98 = .ok (.bipush 40, 2) := dk_16 40 (dk_at dksX0_init_4 6 rfl rfl)
theorem dX0_init_100 : decode cX0_init 100 = .ok (.multianewarray 43 2, 4) := by decide +kernel
theorem dX0_init_104 : decode cX0_init 104 = .ok (.putfield 54, 3) := dk_181 0 54 (dk_at dksX0_init_4 12 rfl rfl)
theorem dX0_init_107 : decode cX0_init 107 = .ok (.aload_n 0, 1) := dk_42 (dk_at dksX0_init_4 15 rfl rfl)
theorem dX0_init_108 : decode cX0_init 108 = .ok (.bipush 40, 2) := dk_16 40 (dk_at dksX0_init_4 16 rfl rfl)
theorem dX0_init_110 : decode cX0_init 110 = .ok (.newarray .long, 2) := dk_188_11 (dk_at dksX0_init_4 18 rfl rfl)
theorem dX0_init_112 : decode cX0_init 112 = .ok (.putfield 57, 3) := dk_181 0 57 (dk_at dksX0_init_4 20 rfl rfl)
theorem dX0_init_115 : decode cX0_init 115 = .ok (.aload_n 0, 1) := dk_42 (dk_at dksX0_init_4 23 rfl rfl)
theorem dX0_init_116 : decode cX0_init 116 = .ok (.new 61, 3) := dk_187 0 61 (dk_at dksX0_init_5 0 rfl rfl)
theorem dX0_init_119 : decode cX0_init 119 = .ok (.dup, 1) := dk_89 (dk_at dksX0_init_5 3 rfl rfl)
theorem dX0_init_120 : decode cX0_init 120 = .ok (.aload_n 0, 1) := dk_42 (dk_at dksX0_init_5 4 rfl rfl)
theorem dX0_init_121 : decode cX0_init 121 = .ok (.invokespecial 63, 3) := dk_183 0 63 (dk_at dksX0_init_5 5 rfl rfl)
theorem dX0_init_124 : decode cX0_init 124 = .ok (.putfield 66, 3) := dk_181 0 66 (dk_at dksX0_init_5 8 rfl rfl)
theorem dX0_init_127 : decode cX0_init 127 = .ok (.aload_n 0, 1) := dk_42 (dk_at dksX0_init_5 11 rfl rfl)
theorem dX0_init_128 : decode cX0_init 128 = .ok (.bipush 40, 2) := dk_16 40 (dk_at dksX0_init_5 12 rfl rfl)
theorem dX0_init_130 : decode cX0_init 130 = .ok (.newarray .long, 2) := dk_188_11 (dk_at dksX0_init_5 14 rfl rfl)
theorem dX0_init_132 : decode cX0_init 132 = .ok (.putfield 70, 3) := dk_181 0 70 (dk_at dksX0_init_5 16 rfl rfl)
theorem dX0_init_135 : decode cX0_init 135 = .ok (.aload_n 0, 1) := dk_42 (dk_at dksX0_init_5 19 rfl rfl)
theorem dX0_init_136 : decode cX0_init 136 = .ok (.bipush 40, 2) := dk_16 40 (dk_at dksX0_init_5 20 rfl rfl)
theorem dX0_init_138 : decode cX0_init 138 = .ok (.newarray .boolean, 2) := dk_188_4 (dk_at dksX0_init_5 22 rfl rfl)
theorem dX0_init_140 : decode cX0_init 140 = .ok (.putfield 73, 3) := dk_181 0 73 (dk_at dksX0_init_6 0 rfl rfl)
theorem dX0_init_143 : decode cX0_init 143 = .ok (.aload_n 0, 1) := dk_42 (dk_at dksX0_init_6 3 rfl rfl)
theorem dX0_init_144 : decode cX0_init 144 = .ok (.new 36, 3) := dk_187 0 36 (dk_at dksX0_init_6 4 rfl rfl)
theorem dX0_init_147 : decode cX0_init 147 = .ok (.dup, 1) := dk_89 (dk_at dksX0_init_6 7 rfl rfl)
theorem dX0_init_148 : decode cX0_init 148 = .ok (.invokespecial 38, 3) := dk_183 0 38 (dk_at dksX0_init_6 8 rfl rfl)
theorem dX0_init_151 : decode cX0_init 151 = .ok (.putfield 77, 3) := dk_181 0 77 (dk_at dksX0_init_6 11 rfl rfl)
theorem dX0_init_154 : decode cX0_init 154 = .ok (.aload_n 0, 1) := dk_42 (dk_at dksX0_init_6 14 rfl rfl)
theorem dX0_init_155 : decode cX0_init 155 = .ok (.new 36, 3) := dk_187 0 36 (dk_at dksX0_init_6 15 rfl rfl)
theorem dX0_init_158 : decode cX0_init 158 = .ok (.dup, 1) := dk_89 (dk_at dksX0_init_6 18 rfl rfl)
theorem dX0_init_159 : decode cX0_init 159 = .ok (.invokespecial 38, 3) := dk_183 0 38 (dk_at dksX0_init_6 19 rfl rfl)
theorem dX0_init_162 : decode cX0_init 162 = .ok (.putfield 80, 3) := dk_181 0 80 (dk_at dksX0_init_7 0 rfl rfl)
theorem dX0_init_165 : decode cX0_init 165 = .ok (.aload_n 0, 1) := dk_42 (dk_at dksX0_init_7 3 rfl rfl)
theorem dX0_init_166 : decode cX0_init 166 = .ok (.iconst 2, 1) := dk_5 (dk_at dksX0_init_7 4 rfl rfl)
theorem dX0_init_167 : decode cX0_init 167 = .ok (.bipush 40, 2) := dk_16 40 (dk_at dksX0_init_7 5 rfl rfl)
theorem dX0_init_169 : decode cX0_init 169 = .ok (.multianewarray 83 2, 4) := by decide +kernel
theorem dX0_init_173 : decode cX0_init 173 = .ok (.putfield 85, 3) := dk_181 0 85 (dk_at dksX0_init_7 11 rfl rfl)
theorem dX0_init_176 : decode cX0_init 176 = .ok (.aload_n 0, 1) := dk_42 (dk_at dksX0_init_7 14 rfl rfl)
theorem dX0_init_177 : decode cX0_init 177 = .ok (.bipush 14, 2) := dk_16 14 (dk_at dksX0_init_7 15 rfl rfl)
theorem dX0_init_179 : decode cX0_init 179 = .ok (.newarray .int, 2) := dk_188_10 (dk_at dksX0_init_7 17 rfl rfl)
theorem dX0_init_181 : decode cX0_init 181 = .ok (.putfield 88, 3) := dk_181 0 88 (dk_at dksX0_init_7 19 rfl rfl)
theorem dX0_init_184 : decode cX0_init 184 = .ok (.aload_n 0, 1) := dk_42 (dk_at dksX0_init_7 22 rfl rfl)
theorem dX0_init_185 : decode cX0_init 185 = .ok (.sipush 1024, 3) := dk_17 4 0 (dk_at dksX0_init_8 0 rfl rfl)
theorem dX0_init_188 : decode cX0_init 188 = .ok (.bipush 10, 2) := dk_16 10 (dk_at dksX0_init_8 3 rfl rfl)
theorem dX0_init_190 : decode cX0_init 190 = .ok (.multianewarray 43 2, 4) := by decide +kernel
theorem dX0_init_194 : decode cX0_init 194 = .ok (.putfield 92, 3) := dk_181 0 92 (dk_at dksX0_init_8 9 rfl rfl)
theorem dX0_init_197 : decode cX0_init 197 = .ok (.aload_n 0, 1) := dk_42 (dk_at dksX0_init_8 12 rfl rfl)
theorem dX0_init_198 : decode cX0_init 198 = .ok (.sipush 4096, 3) := dk_17 16 0 (dk_at dksX0_init_8 13 rfl rfl)
theorem dX0_init_201 : decode cX0_init 201 = .ok (.bipush 12, 2) := dk_16 12 (dk_at dksX0_init_8 16 rfl rfl)
theorem dX0_init_203 : decode cX0_init 203 = .ok (.multianewarray 95 2, 4) := by decide +kernel
theorem dX0_init_207 : decode cX0_init 207 = .ok (.putfield 97, 3) := dk_181 0 97 (dk_at dksX0_init_9 0 rfl rfl)
theorem dX0_init_210 : decode cX0_init 210 = .ok (.aload_n 0, 1) := dk_42 (dk_at dksX0_init_9 3 rfl rfl)
theorem dX0_init_211 : decode cX0_init 211 = .ok (.bipush 13, 2) := dk_16 13 (dk_at dksX0_init_9 4 rfl rfl)
theorem dX0_init_213 : decode cX0_init 213 = .ok (.bipush 9, 2) := dk_16 9 (dk_at dksX0_init_9 6 rfl rfl)
theorem dX0_init_215 : decode cX0_init 215 = .ok (.multianewarray 43 2, 4) := by decide +kernel
theorem dX0_init_219 : decode cX0_init 219 = .ok (.putfield 100, 3) := dk_181 0 100 (dk_at dksX0_init_9 12 rfl rfl)
theorem dX0_init_222 : decode cX0_init 222 = .ok (.aload_n 0, 1) := dk_42 (dk_at dksX0_init_9 15 rfl rfl)
theorem dX0_init_223 : decode cX0_init 223 = .ok (.bipush 14, 2) := dk_16 14 (dk_at dksX0_init_9 16 rfl rfl)
theorem dX0_init_225 : decode cX0_init 225 = .ok (.newarray .int, 2) := dk_188_10 (dk_at dksX0_init_9 18 rfl rfl)
theorem dX0_init_227 : decode cX0_init 227 = .ok (.putfield 103, 3) := dk_181 0 103 (dk_at dksX0_init_9 20 rfl rfl)
theorem dX0_init_230 : decode cX0_init 230 = .ok (.aload_n 0, 1) := dk_42 (dk_at dksX0_init_9 23 rfl rfl)
theorem dX0_init_231 : decode cX0_init 231 = .ok (.iconst 4, 1) := dk_7 (dk_at dksX0_init_10 0 rfl rfl)
theorem dX0_init_232 : decode cX0_init 232 = .ok (.newarray .int, 2) := dk_188_10 (dk_at dksX0_init_10 1 rfl rfl)
theorem dX0_init_234 : decode cX0_init 234 = .ok (.putfield 106, 3) := dk_181 0 106 (dk_at dksX0_init_10 3 rfl rfl)
theorem dX0_init_237 : decode cX0_init 237 = .ok (.aload_n 0, 1) := dk_42 (dk_at dksX0_init_10 6 rfl rfl)
theorem dX0_init_238 : decode cX0_init 238 = .ok (.iconst 4, 1) := dk_7 (dk_at dksX0_init_10 7 rfl rfl)
theorem dX0_init_239 : decode cX0_init 239 = .ok (.newarray .int, 2) := dk_188_10 (dk_at dksX0_init_10 8 rfl rfl)
theorem dX0_init_241 : decode cX0_init 241 = .ok (.putfield 109, 3) := dk_181 0 109 (dk_at dksX0_init_10 10 rfl rfl)
theorem dX0_init_244 : decode cX0_init 244 = .ok (.iconst 0, 1) := dk_3 (dk_at dksX0_init_10 13 rfl rfl)
theorem dX0_init_245 : decode cX0_init 245 = .ok (.istore_n 1, 1) := dk_60 (dk_at dksX0_init_10 14 rfl rfl)
theorem dX0_init_246 : decode cX0_init 246 = .ok (.iload_n 1, 1) := dk_27 (dk_at dksX0_init_10 15 rfl rfl)
theorem dX0_init_247 : decode cX0_init 247 = .ok (.bipush 40, 2) := dk_16 40 (dk_at dksX0_init_10 16 rfl rfl)
theorem dX0_init_249 : decode cX0_init 249 = .ok (.if_icmp .ge 22, 3) := dk_162 0 22 (dk_at dksX0_init_10 18 rfl rfl)
theorem dX0_init_252 : decode cX0_init 252 = .ok (.aload_n 0, 1) := dk_42 (dk_at dksX0_init_10 21 rfl rfl)
theorem dX0_init_253 : decode cX0_init 253 = .ok (.getfield 11, 3) := dk_180 0 11 (dk_at dksX0_init_11 0 rfl rfl)
theorem dX0_init_256 : decode cX0_init 256 = .ok (.iload_n 1, 1) := dk_27 (dk_at dksX0_init_11 3 rfl rfl)
theorem dX0_init_257 : decode cX0_init 257 = .ok (.new 9, 3) := dk_187 0 9 (dk_at dksX0_init_11 4 rfl rfl)
theorem dX0_init_260 : decode cX0_init 260 = .ok (.dup, 1) := dk_89 (dk_at dksX0_init_11 7 rfl rfl)
theorem dX0_init_261 : decode cX0_init 261 = .ok (.invokespecial 112, 3) := dk_183 0 112 (dk_at dksX0_init_11 8 rfl rfl)
theorem dX0_init_264 : decode cX0_init 264 = .ok (.aastore, 1) := dk_83 (dk_at dksX0_init_11 11 rfl rfl)
theorem dX0_init_265 : decode cX0_init 265 = .ok (.iinc 1 1, 3) := dk_132 1 1 (dk_at dksX0_init_11 12 rfl rfl)
theorem dX0_init_268 : decode cX0_init 268 = .ok (.goto (-22), 3) := dk_167 255 234 (dk_at dksX0_init_11 15 rfl rfl)
theorem dX0_init_271 : decode cX0_init 271 = .ok (.return_, 1) := dk_177 (dk_at dksX0_init_11 18 rfl rfl)
abbrev cX0_feed : ByteArray := prog_1_method_8_code
def yX0_feed : MethodName := ⟨RX0, "feed", "(IIIII)I"⟩
def dkwX0_feed_2 : List UInt8 := [172]
abbrev dktX0_feed_2 : List UInt8 := dkwX0_feed_2 ++ []
def dkwX0_feed_1 : List UInt8 := [182, 0, 138, 42, 29, 182, 0, 138, 42, 21, 4, 182, 0, 138, 42, 21, 5, 182, 0, 138, 42, 180, 0, 135]
abbrev dktX0_feed_1 : List UInt8 := dkwX0_feed_1 ++ dktX0_feed_2
def dkwX0_feed_0 : List UInt8 := [42, 180, 0, 135, 16, 20, 96, 17, 0, 200, 164, 0, 5, 2, 172, 42, 27, 182, 0, 138, 42, 28]
abbrev dktX0_feed_0 : List UInt8 := dkwX0_feed_0 ++ dktX0_feed_1
theorem dksX0_feed_0 : cX0_feed.data.toList.drop 0 = dktX0_feed_0 := by decide +kernel
theorem dksX0_feed_1 : cX0_feed.data.toList.drop 22 = dktX0_feed_1 := dk_seg dksX0_feed_0 22 rfl rfl
theorem dksX0_feed_2 : cX0_feed.data.toList.drop 46 = dktX0_feed_2 := dk_seg dksX0_feed_1 24 rfl rfl
theorem dX0_feed_0 : decode cX0_feed 0 = .ok (.aload_n 0, 1) := dk_42 (dk_at dksX0_feed_0 0 rfl rfl)
theorem dX0_feed_1 : decode cX0_feed 1 = .ok (.getfield 135, 3) := dk_180 0 135 (dk_at dksX0_feed_0 1 rfl rfl)
theorem dX0_feed_4 : decode cX0_feed 4 = .ok (.bipush 20, 2) := dk_16 20 (dk_at dksX0_feed_0 4 rfl rfl)
theorem dX0_feed_6 : decode cX0_feed 6 = .ok (.iadd, 1) := dk_96 (dk_at dksX0_feed_0 6 rfl rfl)
theorem dX0_feed_7 : decode cX0_feed 7 = .ok (.sipush 200, 3) := dk_17 0 200 (dk_at dksX0_feed_0 7 rfl rfl)
theorem dX0_feed_10 : decode cX0_feed 10 = .ok (.if_icmp .le 5, 3) := dk_164 0 5 (dk_at dksX0_feed_0 10 rfl rfl)
theorem dX0_feed_13 : decode cX0_feed 13 = .ok (.iconst (-1), 1) := dk_2 (dk_at dksX0_feed_0 13 rfl rfl)
theorem dX0_feed_14 : decode cX0_feed 14 = .ok (.ireturn, 1) := dk_172 (dk_at dksX0_feed_0 14 rfl rfl)
theorem dX0_feed_15 : decode cX0_feed 15 = .ok (.aload_n 0, 1) := dk_42 (dk_at dksX0_feed_0 15 rfl rfl)
theorem dX0_feed_16 : decode cX0_feed 16 = .ok (.iload_n 1, 1) := dk_27 (dk_at dksX0_feed_0 16 rfl rfl)
theorem dX0_feed_17 : decode cX0_feed 17 = .ok (.invokevirtual 138, 3) := dk_182 0 138 (dk_at dksX0_feed_0 17 rfl rfl)
theorem dX0_feed_20 : decode cX0_feed 20 = .ok (.aload_n 0, 1) := dk_42 (dk_at dksX0_feed_0 20 rfl rfl)
theorem dX0_feed_21 : decode cX0_feed 21 = .ok (.iload_n 2, 1) := dk_28 (dk_at dksX0_feed_0 21 rfl rfl)
theorem dX0_feed_22 : decode cX0_feed 22 = .ok (.invokevirtual 138, 3) := dk_182 0 138 (dk_at dksX0_feed_1 0 rfl rfl)
theorem dX0_feed_25 : decode cX0_feed 25 = .ok (.aload_n 0, 1) := dk_42 (dk_at dksX0_feed_1 3 rfl rfl)
theorem dX0_feed_26 : decode cX0_feed 26 = .ok (.iload_n 3, 1) := dk_29 (dk_at dksX0_feed_1 4 rfl rfl)
theorem dX0_feed_27 : decode cX0_feed 27 = .ok (.invokevirtual 138, 3) := dk_182 0 138 (dk_at dksX0_feed_1 5 rfl rfl)
theorem dX0_feed_30 : decode cX0_feed 30 = .ok (.aload_n 0, 1) := dk_42 (dk_at dksX0_feed_1 8 rfl rfl)
theorem dX0_feed_31 : decode cX0_feed 31 = .ok (.iload 4, 2) := dk_21 4 (dk_at dksX0_feed_1 9 rfl rfl)
theorem dX0_feed_33 : decode cX0_feed 33 = .ok (.invokevirtual 138, 3) := dk_182 0 138 (dk_at dksX0_feed_1 11 rfl rfl)
theorem dX0_feed_36 : decode cX0_feed 36 = .ok (.aload_n 0, 1) := dk_42 (dk_at dksX0_feed_1 14 rfl rfl)
theorem dX0_feed_37 : decode cX0_feed 37 = .ok (.iload 5, 2) := dk_21 5 (dk_at dksX0_feed_1 15 rfl rfl)
theorem dX0_feed_39 : decode cX0_feed 39 = .ok (.invokevirtual 138, 3) := dk_182 0 138 (dk_at dksX0_feed_1 17 rfl rfl)
theorem dX0_feed_42 : decode cX0_feed 42 = .ok (.aload_n 0, 1) := dk_42 (dk_at dksX0_feed_1 20 rfl rfl)
theorem dX0_feed_43 : decode cX0_feed 43 = .ok (.getfield 135, 3) := dk_180 0 135 (dk_at dksX0_feed_1 21 rfl rfl)
theorem dX0_feed_46 : decode cX0_feed 46 = .ok (.ireturn, 1) := dk_172 (dk_at dksX0_feed_2 0 rfl rfl)
abbrev cX0_push : ByteArray := prog_1_method_7_code
def yX0_push : MethodName := ⟨RX0, "push", "(I)V"⟩
def dkwX0_push_1 : List UInt8 := [180, 0, 135, 4, 96, 181, 0, 135, 132, 2, 248, 167, 255, 226, 177]
abbrev dktX0_push_1 : List UInt8 := dkwX0_push_1 ++ []
def dkwX0_push_0 : List UInt8 := [16, 24, 61, 28, 155, 0, 32, 42, 180, 0, 15, 42, 180, 0, 135, 27, 28, 122, 145, 84, 42, 89]
abbrev dktX0_push_0 : List UInt8 := dkwX0_push_0 ++ dktX0_push_1
theorem dksX0_push_0 : cX0_push.data.toList.drop 0 = dktX0_push_0 := by decide +kernel
theorem dksX0_push_1 : cX0_push.data.toList.drop 22 = dktX0_push_1 := dk_seg dksX0_push_0 22 rfl rfl
theorem dX0_push_0 : decode cX0_push 0 = .ok (.bipush 24, 2) := dk_16 24 (dk_at dksX0_push_0 0 rfl rfl)
theorem dX0_push_2 : decode cX0_push 2 = .ok (.istore_n 2, 1) := dk_61 (dk_at dksX0_push_0 2 rfl rfl)
theorem dX0_push_3 : decode cX0_push 3 = .ok (.iload_n 2, 1) := dk_28 (dk_at dksX0_push_0 3 rfl rfl)
theorem dX0_push_4 : decode cX0_push 4 = .ok (.ifCond .lt 32, 3) := dk_155 0 32 (dk_at dksX0_push_0 4 rfl rfl)
theorem dX0_push_7 : decode cX0_push 7 = .ok (.aload_n 0, 1) := dk_42 (dk_at dksX0_push_0 7 rfl rfl)
theorem dX0_push_8 : decode cX0_push 8 = .ok (.getfield 15, 3) := dk_180 0 15 (dk_at dksX0_push_0 8 rfl rfl)
theorem dX0_push_11 : decode cX0_push 11 = .ok (.aload_n 0, 1) := dk_42 (dk_at dksX0_push_0 11 rfl rfl)
theorem dX0_push_12 : decode cX0_push 12 = .ok (.getfield 135, 3) := dk_180 0 135 (dk_at dksX0_push_0 12 rfl rfl)
theorem dX0_push_15 : decode cX0_push 15 = .ok (.iload_n 1, 1) := dk_27 (dk_at dksX0_push_0 15 rfl rfl)
theorem dX0_push_16 : decode cX0_push 16 = .ok (.iload_n 2, 1) := dk_28 (dk_at dksX0_push_0 16 rfl rfl)
theorem dX0_push_17 : decode cX0_push 17 = .ok (.ishr, 1) := dk_122 (dk_at dksX0_push_0 17 rfl rfl)
theorem dX0_push_18 : decode cX0_push 18 = .ok (.i2b, 1) := dk_145 (dk_at dksX0_push_0 18 rfl rfl)
theorem dX0_push_19 : decode cX0_push 19 = .ok (.bastore, 1) := dk_84 (dk_at dksX0_push_0 19 rfl rfl)
theorem dX0_push_20 : decode cX0_push 20 = .ok (.aload_n 0, 1) := dk_42 (dk_at dksX0_push_0 20 rfl rfl)
theorem dX0_push_21 : decode cX0_push 21 = .ok (.dup, 1) := dk_89 (dk_at dksX0_push_0 21 rfl rfl)
theorem dX0_push_22 : decode cX0_push 22 = .ok (.getfield 135, 3) := dk_180 0 135 (dk_at dksX0_push_1 0 rfl rfl)
theorem dX0_push_25 : decode cX0_push 25 = .ok (.iconst 1, 1) := dk_4 (dk_at dksX0_push_1 3 rfl rfl)
theorem dX0_push_26 : decode cX0_push 26 = .ok (.iadd, 1) := dk_96 (dk_at dksX0_push_1 4 rfl rfl)
theorem dX0_push_27 : decode cX0_push 27 = .ok (.putfield 135, 3) := dk_181 0 135 (dk_at dksX0_push_1 5 rfl rfl)
theorem dX0_push_30 : decode cX0_push 30 = .ok (.iinc 2 (-8), 3) := dk_132 2 248 (dk_at dksX0_push_1 8 rfl rfl)
theorem dX0_push_33 : decode cX0_push 33 = .ok (.goto (-30), 3) := dk_167 255 226 (dk_at dksX0_push_1 11 rfl rfl)
theorem dX0_push_36 : decode cX0_push 36 = .ok (.return_, 1) := dk_177 (dk_at dksX0_push_1 14 rfl rfl)
abbrev cX0_word : ByteArray := prog_1_method_11_code
def yX0_word : MethodName := ⟨RX0, "word", "(III)I"⟩
def dkwX0_word_6 : List UInt8 := [42, 180, 0, 113, 4, 100, 172]
abbrev dktX0_word_6 : List UInt8 := dkwX0_word_6 ++ []
def dkwX0_word_5 : List UInt8 := [3, 181, 0, 124, 42, 89, 180, 0, 113, 4, 96, 181, 0, 113, 42, 89, 180, 0, 174, 4, 96, 181, 0, 174]
abbrev dktX0_word_5 : List UInt8 := dkwX0_word_5 ++ dktX0_word_6
def dkwX0_word_4 : List UInt8 := [180, 0, 148, 42, 180, 0, 39, 182, 0, 167, 25, 4, 28, 181, 0, 171, 25, 4, 29, 181, 0, 128, 25, 4]
abbrev dktX0_word_4 : List UInt8 := dkwX0_word_4 ++ dktX0_word_5
def dkwX0_word_3 : List UInt8 := [182, 0, 163, 2, 159, 0, 6, 16, 254, 172, 42, 180, 0, 11, 42, 180, 0, 113, 50, 58, 4, 25, 4]
abbrev dktX0_word_3 : List UInt8 := dkwX0_word_3 ++ dktX0_word_4
def dkwX0_word_2 : List UInt8 := [172, 42, 3, 181, 0, 135, 42, 42, 180, 0, 39, 27, 182, 0, 159, 153, 0, 15, 42, 42, 180, 0, 39]
abbrev dktX0_word_2 : List UInt8 := dkwX0_word_2 ++ dktX0_word_3
def dkwX0_word_1 : List UInt8 := [184, 0, 155, 153, 0, 20, 42, 180, 0, 113, 16, 40, 159, 0, 11, 27, 42, 180, 0, 135, 164, 0, 5, 2]
abbrev dktX0_word_1 : List UInt8 := dkwX0_word_1 ++ dktX0_word_2
def dkwX0_word_0 : List UInt8 := [27, 4, 16, 8, 184, 0, 155, 153, 0, 39, 28, 16, 100, 184, 0, 116, 153, 0, 30, 29, 4, 16, 15]
abbrev dktX0_word_0 : List UInt8 := dkwX0_word_0 ++ dktX0_word_1
theorem dksX0_word_0 : cX0_word.data.toList.drop 0 = dktX0_word_0 := by decide +kernel
theorem dksX0_word_1 : cX0_word.data.toList.drop 23 = dktX0_word_1 := dk_seg dksX0_word_0 23 rfl rfl
theorem dksX0_word_2 : cX0_word.data.toList.drop 47 = dktX0_word_2 := dk_seg dksX0_word_1 24 rfl rfl
theorem dksX0_word_3 : cX0_word.data.toList.drop 70 = dktX0_word_3 := dk_seg dksX0_word_2 23 rfl rfl
theorem dksX0_word_4 : cX0_word.data.toList.drop 93 = dktX0_word_4 := dk_seg dksX0_word_3 23 rfl rfl
theorem dksX0_word_5 : cX0_word.data.toList.drop 117 = dktX0_word_5 := dk_seg dksX0_word_4 24 rfl rfl
theorem dksX0_word_6 : cX0_word.data.toList.drop 141 = dktX0_word_6 := dk_seg dksX0_word_5 24 rfl rfl
theorem dX0_word_0 : decode cX0_word 0 = .ok (.iload_n 1, 1) := dk_27 (dk_at dksX0_word_0 0 rfl rfl)
theorem dX0_word_1 : decode cX0_word 1 = .ok (.iconst 1, 1) := dk_4 (dk_at dksX0_word_0 1 rfl rfl)
theorem dX0_word_2 : decode cX0_word 2 = .ok (.bipush 8, 2) := dk_16 8 (dk_at dksX0_word_0 2 rfl rfl)
theorem dX0_word_4 : decode cX0_word 4 = .ok (.invokestatic 155, 3) := dk_184 0 155 (dk_at dksX0_word_0 4 rfl rfl)
theorem dX0_word_7 : decode cX0_word 7 = .ok (.ifCond .eq 39, 3) := dk_153 0 39 (dk_at dksX0_word_0 7 rfl rfl)
theorem dX0_word_10 : decode cX0_word 10 = .ok (.iload_n 2, 1) := dk_28 (dk_at dksX0_word_0 10 rfl rfl)
theorem dX0_word_11 : decode cX0_word 11 = .ok (.bipush 100, 2) := dk_16 100 (dk_at dksX0_word_0 11 rfl rfl)
theorem dX0_word_13 : decode cX0_word 13 = .ok (.invokestatic 116, 3) := dk_184 0 116 (dk_at dksX0_word_0 13 rfl rfl)
theorem dX0_word_16 : decode cX0_word 16 = .ok (.ifCond .eq 30, 3) := dk_153 0 30 (dk_at dksX0_word_0 16 rfl rfl)
theorem dX0_word_19 : decode cX0_word 19 = .ok (.iload_n 3, 1) := dk_29 (dk_at dksX0_word_0 19 rfl rfl)
theorem dX0_word_20 : decode cX0_word 20 = .ok (.iconst 1, 1) := dk_4 (dk_at dksX0_word_0 20 rfl rfl)
theorem dX0_word_21 : decode cX0_word 21 = .ok (.bipush 15, 2) := dk_16 15 (dk_at dksX0_word_0 21 rfl rfl)
theorem dX0_word_23 : decode cX0_word 23 = .ok (.invokestatic 155, 3) := dk_184 0 155 (dk_at dksX0_word_1 0 rfl rfl)
theorem dX0_word_26 : decode cX0_word 26 = .ok (.ifCond .eq 20, 3) := dk_153 0 20 (dk_at dksX0_word_1 3 rfl rfl)
theorem dX0_word_29 : decode cX0_word 29 = .ok (.aload_n 0, 1) := dk_42 (dk_at dksX0_word_1 6 rfl rfl)
theorem dX0_word_30 : decode cX0_word 30 = .ok (.getfield 113, 3) := dk_180 0 113 (dk_at dksX0_word_1 7 rfl rfl)
theorem dX0_word_33 : decode cX0_word 33 = .ok (.bipush 40, 2) := dk_16 40 (dk_at dksX0_word_1 10 rfl rfl)
theorem dX0_word_35 : decode cX0_word 35 = .ok (.if_icmp .eq 11, 3) := dk_159 0 11 (dk_at dksX0_word_1 12 rfl rfl)
theorem dX0_word_38 : decode cX0_word 38 = .ok (.iload_n 1, 1) := dk_27 (dk_at dksX0_word_1 15 rfl rfl)
theorem dX0_word_39 : decode cX0_word 39 = .ok (.aload_n 0, 1) := dk_42 (dk_at dksX0_word_1 16 rfl rfl)
theorem dX0_word_40 : decode cX0_word 40 = .ok (.getfield 135, 3) := dk_180 0 135 (dk_at dksX0_word_1 17 rfl rfl)
theorem dX0_word_43 : decode cX0_word 43 = .ok (.if_icmp .le 5, 3) := dk_164 0 5 (dk_at dksX0_word_1 20 rfl rfl)
theorem dX0_word_46 : decode cX0_word 46 = .ok (.iconst (-1), 1) := dk_2 (dk_at dksX0_word_1 23 rfl rfl)
theorem dX0_word_47 : decode cX0_word 47 = .ok (.ireturn, 1) := dk_172 (dk_at dksX0_word_2 0 rfl rfl)
theorem dX0_word_48 : decode cX0_word 48 = .ok (.aload_n 0, 1) := dk_42 (dk_at dksX0_word_2 1 rfl rfl)
theorem dX0_word_49 : decode cX0_word 49 = .ok (.iconst 0, 1) := dk_3 (dk_at dksX0_word_2 2 rfl rfl)
theorem dX0_word_50 : decode cX0_word 50 = .ok (.putfield 135, 3) := dk_181 0 135 (dk_at dksX0_word_2 3 rfl rfl)
theorem dX0_word_53 : decode cX0_word 53 = .ok (.aload_n 0, 1) := dk_42 (dk_at dksX0_word_2 6 rfl rfl)
theorem dX0_word_54 : decode cX0_word 54 = .ok (.aload_n 0, 1) := dk_42 (dk_at dksX0_word_2 7 rfl rfl)
theorem dX0_word_55 : decode cX0_word 55 = .ok (.getfield 39, 3) := dk_180 0 39 (dk_at dksX0_word_2 8 rfl rfl)
theorem dX0_word_58 : decode cX0_word 58 = .ok (.iload_n 1, 1) := dk_27 (dk_at dksX0_word_2 11 rfl rfl)
theorem dX0_word_59 : decode cX0_word 59 = .ok (.invokevirtual 159, 3) := dk_182 0 159 (dk_at dksX0_word_2 12 rfl rfl)
theorem dX0_word_62 : decode cX0_word 62 = .ok (.ifCond .eq 15, 3) := dk_153 0 15 (dk_at dksX0_word_2 15 rfl rfl)
theorem dX0_word_65 : decode cX0_word 65 = .ok (.aload_n 0, 1) := dk_42 (dk_at dksX0_word_2 18 rfl rfl)
theorem dX0_word_66 : decode cX0_word 66 = .ok (.aload_n 0, 1) := dk_42 (dk_at dksX0_word_2 19 rfl rfl)
theorem dX0_word_67 : decode cX0_word 67 = .ok (.getfield 39, 3) := dk_180 0 39 (dk_at dksX0_word_2 20 rfl rfl)
theorem dX0_word_70 : decode cX0_word 70 = .ok (.invokevirtual 163, 3) := dk_182 0 163 (dk_at dksX0_word_3 0 rfl rfl)
theorem dX0_word_73 : decode cX0_word 73 = .ok (.iconst (-1), 1) := dk_2 (dk_at dksX0_word_3 3 rfl rfl)
theorem dX0_word_74 : decode cX0_word 74 = .ok (.if_icmp .eq 6, 3) := dk_159 0 6 (dk_at dksX0_word_3 4 rfl rfl)
theorem dX0_word_77 : decode cX0_word 77 = .ok (.bipush (-2), 2) := dk_16 254 (dk_at dksX0_word_3 7 rfl rfl)
theorem dX0_word_79 : decode cX0_word 79 = .ok (.ireturn, 1) := dk_172 (dk_at dksX0_word_3 9 rfl rfl)
theorem dX0_word_80 : decode cX0_word 80 = .ok (.aload_n 0, 1) := dk_42 (dk_at dksX0_word_3 10 rfl rfl)
theorem dX0_word_81 : decode cX0_word 81 = .ok (.getfield 11, 3) := dk_180 0 11 (dk_at dksX0_word_3 11 rfl rfl)
theorem dX0_word_84 : decode cX0_word 84 = .ok (.aload_n 0, 1) := dk_42 (dk_at dksX0_word_3 14 rfl rfl)
theorem dX0_word_85 : decode cX0_word 85 = .ok (.getfield 113, 3) := dk_180 0 113 (dk_at dksX0_word_3 15 rfl rfl)
theorem dX0_word_88 : decode cX0_word 88 = .ok (.aaload, 1) := dk_50 (dk_at dksX0_word_3 18 rfl rfl)
theorem dX0_word_89 : decode cX0_word 89 = .ok (.astore 4, 2) := dk_58 4 (dk_at dksX0_word_3 19 rfl rfl)
theorem dX0_word_91 : decode cX0_word 91 = .ok (.aload 4, 2) := dk_25 4 (dk_at dksX0_word_3 21 rfl rfl)
theorem dX0_word_93 : decode cX0_word 93 = .ok (.getfield 148, 3) := dk_180 0 148 (dk_at dksX0_word_4 0 rfl rfl)
theorem dX0_word_96 : decode cX0_word 96 = .ok (.aload_n 0, 1) := dk_42 (dk_at dksX0_word_4 3 rfl rfl)
theorem dX0_word_97 : decode cX0_word 97 = .ok (.getfield 39, 3) := dk_180 0 39 (dk_at dksX0_word_4 4 rfl rfl)
theorem dX0_word_100 : decode cX0_word 100 = .ok (.invokevirtual 167, 3) := dk_182 0 167 (dk_at dksX0_word_4 7 rfl rfl)
theorem dX0_word_103 : decode cX0_word 103 = .ok (.aload 4, 2) := dk_25 4 (dk_at dksX0_word_4 10 rfl rfl)
theorem dX0_word_105 : decode cX0_word 105 = .ok (.iload_n 2, 1) := dk_28 (dk_at dksX0_word_4 12 rfl rfl)
theorem dX0_word_106 : decode cX0_word 106 = .ok (.putfield 171, 3) := dk_181 0 171 (dk_at dksX0_word_4 13 rfl rfl)
theorem dX0_word_109 : decode cX0_word 109 = .ok (.aload 4, 2) := dk_25 4 (dk_at dksX0_word_4 16 rfl rfl)
theorem dX0_word_111 : decode cX0_word 111 = .ok (.iload_n 3, 1) := dk_29 (dk_at dksX0_word_4 18 rfl rfl)
theorem dX0_word_112 : decode cX0_word 112 = .ok (.putfield 128, 3) := dk_181 0 128 (dk_at dksX0_word_4 19 rfl rfl)
theorem dX0_word_115 : decode cX0_word 115 = .ok (.aload 4, 2) := dk_25 4 (dk_at dksX0_word_4 22 rfl rfl)
theorem dX0_word_117 : decode cX0_word 117 = .ok (.iconst 0, 1) := dk_3 (dk_at dksX0_word_5 0 rfl rfl)
theorem dX0_word_118 : decode cX0_word 118 = .ok (.putfield 124, 3) := dk_181 0 124 (dk_at dksX0_word_5 1 rfl rfl)
theorem dX0_word_121 : decode cX0_word 121 = .ok (.aload_n 0, 1) := dk_42 (dk_at dksX0_word_5 4 rfl rfl)
theorem dX0_word_122 : decode cX0_word 122 = .ok (.dup, 1) := dk_89 (dk_at dksX0_word_5 5 rfl rfl)
theorem dX0_word_123 : decode cX0_word 123 = .ok (.getfield 113, 3) := dk_180 0 113 (dk_at dksX0_word_5 6 rfl rfl)
theorem dX0_word_126 : decode cX0_word 126 = .ok (.iconst 1, 1) := dk_4 (dk_at dksX0_word_5 9 rfl rfl)
theorem dX0_word_127 : decode cX0_word 127 = .ok (.iadd, 1) := dk_96 (dk_at dksX0_word_5 10 rfl rfl)
theorem dX0_word_128 : decode cX0_word 128 = .ok (.putfield 113, 3) := dk_181 0 113 (dk_at dksX0_word_5 11 rfl rfl)
theorem dX0_word_131 : decode cX0_word 131 = .ok (.aload_n 0, 1) := dk_42 (dk_at dksX0_word_5 14 rfl rfl)
theorem dX0_word_132 : decode cX0_word 132 = .ok (.dup, 1) := dk_89 (dk_at dksX0_word_5 15 rfl rfl)
theorem dX0_word_133 : decode cX0_word 133 = .ok (.getfield 174, 3) := dk_180 0 174 (dk_at dksX0_word_5 16 rfl rfl)
theorem dX0_word_136 : decode cX0_word 136 = .ok (.iconst 1, 1) := dk_4 (dk_at dksX0_word_5 19 rfl rfl)
theorem dX0_word_137 : decode cX0_word 137 = .ok (.iadd, 1) := dk_96 (dk_at dksX0_word_5 20 rfl rfl)
theorem dX0_word_138 : decode cX0_word 138 = .ok (.putfield 174, 3) := dk_181 0 174 (dk_at dksX0_word_5 21 rfl rfl)
theorem dX0_word_141 : decode cX0_word 141 = .ok (.aload_n 0, 1) := dk_42 (dk_at dksX0_word_6 0 rfl rfl)
theorem dX0_word_142 : decode cX0_word 142 = .ok (.getfield 113, 3) := dk_180 0 113 (dk_at dksX0_word_6 1 rfl rfl)
theorem dX0_word_145 : decode cX0_word 145 = .ok (.iconst 1, 1) := dk_4 (dk_at dksX0_word_6 4 rfl rfl)
theorem dX0_word_146 : decode cX0_word 146 = .ok (.isub, 1) := dk_100 (dk_at dksX0_word_6 5 rfl rfl)
theorem dX0_word_147 : decode cX0_word 147 = .ok (.ireturn, 1) := dk_172 (dk_at dksX0_word_6 6 rfl rfl)
abbrev cX0_within : ByteArray := prog_1_method_2_code
def yX0_within : MethodName := ⟨RX0, "within", "(III)Z"⟩
def dkwX0_within_0 : List UInt8 := [26, 27, 161, 0, 12, 26, 28, 163, 0, 7, 4, 167, 0, 4, 3, 172]
abbrev dktX0_within_0 : List UInt8 := dkwX0_within_0 ++ []
theorem dksX0_within_0 : cX0_within.data.toList.drop 0 = dktX0_within_0 := by decide +kernel
theorem dX0_within_0 : decode cX0_within 0 = .ok (.iload_n 0, 1) := dk_26 (dk_at dksX0_within_0 0 rfl rfl)
theorem dX0_within_1 : decode cX0_within 1 = .ok (.iload_n 1, 1) := dk_27 (dk_at dksX0_within_0 1 rfl rfl)
theorem dX0_within_2 : decode cX0_within 2 = .ok (.if_icmp .lt 12, 3) := dk_161 0 12 (dk_at dksX0_within_0 2 rfl rfl)
theorem dX0_within_5 : decode cX0_within 5 = .ok (.iload_n 0, 1) := dk_26 (dk_at dksX0_within_0 5 rfl rfl)
theorem dX0_within_6 : decode cX0_within 6 = .ok (.iload_n 2, 1) := dk_28 (dk_at dksX0_within_0 6 rfl rfl)
theorem dX0_within_7 : decode cX0_within 7 = .ok (.if_icmp .gt 7, 3) := dk_163 0 7 (dk_at dksX0_within_0 7 rfl rfl)
theorem dX0_within_10 : decode cX0_within 10 = .ok (.iconst 1, 1) := dk_4 (dk_at dksX0_within_0 10 rfl rfl)
theorem dX0_within_11 : decode cX0_within 11 = .ok (.goto 4, 3) := dk_167 0 4 (dk_at dksX0_within_0 11 rfl rfl)
theorem dX0_within_14 : decode cX0_within 14 = .ok (.iconst 0, 1) := dk_3 (dk_at dksX0_within_0 14 rfl rfl)
theorem dX0_within_15 : decode cX0_within 15 = .ok (.ireturn, 1) := dk_172 (dk_at dksX0_within_0 15 rfl rfl)
abbrev cX0_in : ByteArray := prog_1_method_1_code
def yX0_in : MethodName := ⟨RX0, "in", "(II)Z"⟩
def dkwX0_in_0 : List UInt8 := [26, 155, 0, 12, 26, 27, 162, 0, 7, 4, 167, 0, 4, 3, 172]
abbrev dktX0_in_0 : List UInt8 := dkwX0_in_0 ++ []
theorem dksX0_in_0 : cX0_in.data.toList.drop 0 = dktX0_in_0 := by decide +kernel
theorem dX0_in_0 : decode cX0_in 0 = .ok (.iload_n 0, 1) := dk_26 (dk_at dksX0_in_0 0 rfl rfl)
theorem dX0_in_1 : decode cX0_in 1 = .ok (.ifCond .lt 12, 3) := dk_155 0 12 (dk_at dksX0_in_0 1 rfl rfl)
theorem dX0_in_4 : decode cX0_in 4 = .ok (.iload_n 0, 1) := dk_26 (dk_at dksX0_in_0 4 rfl rfl)
theorem dX0_in_5 : decode cX0_in 5 = .ok (.iload_n 1, 1) := dk_27 (dk_at dksX0_in_0 5 rfl rfl)
theorem dX0_in_6 : decode cX0_in 6 = .ok (.if_icmp .ge 7, 3) := dk_162 0 7 (dk_at dksX0_in_0 6 rfl rfl)
theorem dX0_in_9 : decode cX0_in 9 = .ok (.iconst 1, 1) := dk_4 (dk_at dksX0_in_0 9 rfl rfl)
theorem dX0_in_10 : decode cX0_in 10 = .ok (.goto 4, 3) := dk_167 0 4 (dk_at dksX0_in_0 10 rfl rfl)
theorem dX0_in_13 : decode cX0_in 13 = .ok (.iconst 0, 1) := dk_3 (dk_at dksX0_in_0 13 rfl rfl)
theorem dX0_in_14 : decode cX0_in 14 = .ok (.ireturn, 1) := dk_172 (dk_at dksX0_in_0 14 rfl rfl)
abbrev cX0_readsLine : ByteArray := prog_1_method_9_code
def yX0_readsLine : MethodName := ⟨RX0, "readsLine", "(LLetterHeaps$Line;I)Z"⟩
def dkwX0_readsLine_2 : List UInt8 := [167, 255, 216, 4, 172]
abbrev dktX0_readsLine_2 : List UInt8 := dkwX0_readsLine_2 ++ []
def dkwX0_readsLine_1 : List UInt8 := [184, 0, 116, 154, 0, 5, 3, 172, 43, 42, 180, 0, 15, 29, 51, 16, 97, 100, 182, 0, 145, 132, 3, 1]
abbrev dktX0_readsLine_1 : List UInt8 := dkwX0_readsLine_1 ++ dktX0_readsLine_2
def dkwX0_readsLine_0 : List UInt8 := [43, 182, 0, 142, 3, 62, 29, 28, 162, 0, 41, 42, 180, 0, 15, 29, 51, 16, 97, 100, 16, 26]
abbrev dktX0_readsLine_0 : List UInt8 := dkwX0_readsLine_0 ++ dktX0_readsLine_1
theorem dksX0_readsLine_0 : cX0_readsLine.data.toList.drop 0 = dktX0_readsLine_0 := by decide +kernel
theorem dksX0_readsLine_1 : cX0_readsLine.data.toList.drop 22 = dktX0_readsLine_1 := dk_seg dksX0_readsLine_0 22 rfl rfl
theorem dksX0_readsLine_2 : cX0_readsLine.data.toList.drop 46 = dktX0_readsLine_2 := dk_seg dksX0_readsLine_1 24 rfl rfl
theorem dX0_readsLine_0 : decode cX0_readsLine 0 = .ok (.aload_n 1, 1) := dk_43 (dk_at dksX0_readsLine_0 0 rfl rfl)
theorem dX0_readsLine_1 : decode cX0_readsLine 1 = .ok (.invokevirtual 142, 3) := dk_182 0 142 (dk_at dksX0_readsLine_0 1 rfl rfl)
theorem dX0_readsLine_4 : decode cX0_readsLine 4 = .ok (.iconst 0, 1) := dk_3 (dk_at dksX0_readsLine_0 4 rfl rfl)
theorem dX0_readsLine_5 : decode cX0_readsLine 5 = .ok (.istore_n 3, 1) := dk_62 (dk_at dksX0_readsLine_0 5 rfl rfl)
theorem dX0_readsLine_6 : decode cX0_readsLine 6 = .ok (.iload_n 3, 1) := dk_29 (dk_at dksX0_readsLine_0 6 rfl rfl)
theorem dX0_readsLine_7 : decode cX0_readsLine 7 = .ok (.iload_n 2, 1) := dk_28 (dk_at dksX0_readsLine_0 7 rfl rfl)
theorem dX0_readsLine_8 : decode cX0_readsLine 8 = .ok (.if_icmp .ge 41, 3) := dk_162 0 41 (dk_at dksX0_readsLine_0 8 rfl rfl)
theorem dX0_readsLine_11 : decode cX0_readsLine 11 = .ok (.aload_n 0, 1) := dk_42 (dk_at dksX0_readsLine_0 11 rfl rfl)
theorem dX0_readsLine_12 : decode cX0_readsLine 12 = .ok (.getfield 15, 3) := dk_180 0 15 (dk_at dksX0_readsLine_0 12 rfl rfl)
theorem dX0_readsLine_15 : decode cX0_readsLine 15 = .ok (.iload_n 3, 1) := dk_29 (dk_at dksX0_readsLine_0 15 rfl rfl)
theorem dX0_readsLine_16 : decode cX0_readsLine 16 = .ok (.baload, 1) := dk_51 (dk_at dksX0_readsLine_0 16 rfl rfl)
theorem dX0_readsLine_17 : decode cX0_readsLine 17 = .ok (.bipush 97, 2) := dk_16 97 (dk_at dksX0_readsLine_0 17 rfl rfl)
theorem dX0_readsLine_19 : decode cX0_readsLine 19 = .ok (.isub, 1) := dk_100 (dk_at dksX0_readsLine_0 19 rfl rfl)
theorem dX0_readsLine_20 : decode cX0_readsLine 20 = .ok (.bipush 26, 2) := dk_16 26 (dk_at dksX0_readsLine_0 20 rfl rfl)
theorem dX0_readsLine_22 : decode cX0_readsLine 22 = .ok (.invokestatic 116, 3) := dk_184 0 116 (dk_at dksX0_readsLine_1 0 rfl rfl)
theorem dX0_readsLine_25 : decode cX0_readsLine 25 = .ok (.ifCond .ne 5, 3) := dk_154 0 5 (dk_at dksX0_readsLine_1 3 rfl rfl)
theorem dX0_readsLine_28 : decode cX0_readsLine 28 = .ok (.iconst 0, 1) := dk_3 (dk_at dksX0_readsLine_1 6 rfl rfl)
theorem dX0_readsLine_29 : decode cX0_readsLine 29 = .ok (.ireturn, 1) := dk_172 (dk_at dksX0_readsLine_1 7 rfl rfl)
theorem dX0_readsLine_30 : decode cX0_readsLine 30 = .ok (.aload_n 1, 1) := dk_43 (dk_at dksX0_readsLine_1 8 rfl rfl)
theorem dX0_readsLine_31 : decode cX0_readsLine 31 = .ok (.aload_n 0, 1) := dk_42 (dk_at dksX0_readsLine_1 9 rfl rfl)
theorem dX0_readsLine_32 : decode cX0_readsLine 32 = .ok (.getfield 15, 3) := dk_180 0 15 (dk_at dksX0_readsLine_1 10 rfl rfl)
theorem dX0_readsLine_35 : decode cX0_readsLine 35 = .ok (.iload_n 3, 1) := dk_29 (dk_at dksX0_readsLine_1 13 rfl rfl)
theorem dX0_readsLine_36 : decode cX0_readsLine 36 = .ok (.baload, 1) := dk_51 (dk_at dksX0_readsLine_1 14 rfl rfl)
theorem dX0_readsLine_37 : decode cX0_readsLine 37 = .ok (.bipush 97, 2) := dk_16 97 (dk_at dksX0_readsLine_1 15 rfl rfl)
theorem dX0_readsLine_39 : decode cX0_readsLine 39 = .ok (.isub, 1) := dk_100 (dk_at dksX0_readsLine_1 17 rfl rfl)
theorem dX0_readsLine_40 : decode cX0_readsLine 40 = .ok (.invokevirtual 145, 3) := dk_182 0 145 (dk_at dksX0_readsLine_1 18 rfl rfl)
theorem dX0_readsLine_43 : decode cX0_readsLine 43 = .ok (.iinc 3 1, 3) := dk_132 3 1 (dk_at dksX0_readsLine_1 21 rfl rfl)
theorem dX0_readsLine_46 : decode cX0_readsLine 46 = .ok (.goto (-40), 3) := dk_167 255 216 (dk_at dksX0_readsLine_2 0 rfl rfl)
theorem dX0_readsLine_49 : decode cX0_readsLine 49 = .ok (.iconst 1, 1) := dk_4 (dk_at dksX0_readsLine_2 3 rfl rfl)
theorem dX0_readsLine_50 : decode cX0_readsLine 50 = .ok (.ireturn, 1) := dk_172 (dk_at dksX0_readsLine_2 4 rfl rfl)
abbrev cX0_wordOf : ByteArray := prog_1_method_10_code
def yX0_wordOf : MethodName := ⟨RX0, "wordOf", "(LLetterHeaps$Line;)I"⟩
def dkwX0_wordOf_1 : List UInt8 := [153, 0, 5, 28, 172, 132, 2, 1, 167, 255, 227, 2, 172]
abbrev dktX0_wordOf_1 : List UInt8 := dkwX0_wordOf_1 ++ []
def dkwX0_wordOf_0 : List UInt8 := [3, 61, 28, 42, 180, 0, 113, 162, 0, 27, 42, 180, 0, 11, 28, 50, 180, 0, 148, 43, 182, 0, 151]
abbrev dktX0_wordOf_0 : List UInt8 := dkwX0_wordOf_0 ++ dktX0_wordOf_1
theorem dksX0_wordOf_0 : cX0_wordOf.data.toList.drop 0 = dktX0_wordOf_0 := by decide +kernel
theorem dksX0_wordOf_1 : cX0_wordOf.data.toList.drop 23 = dktX0_wordOf_1 := dk_seg dksX0_wordOf_0 23 rfl rfl
theorem dX0_wordOf_0 : decode cX0_wordOf 0 = .ok (.iconst 0, 1) := dk_3 (dk_at dksX0_wordOf_0 0 rfl rfl)
theorem dX0_wordOf_1 : decode cX0_wordOf 1 = .ok (.istore_n 2, 1) := dk_61 (dk_at dksX0_wordOf_0 1 rfl rfl)
theorem dX0_wordOf_2 : decode cX0_wordOf 2 = .ok (.iload_n 2, 1) := dk_28 (dk_at dksX0_wordOf_0 2 rfl rfl)
theorem dX0_wordOf_3 : decode cX0_wordOf 3 = .ok (.aload_n 0, 1) := dk_42 (dk_at dksX0_wordOf_0 3 rfl rfl)
theorem dX0_wordOf_4 : decode cX0_wordOf 4 = .ok (.getfield 113, 3) := dk_180 0 113 (dk_at dksX0_wordOf_0 4 rfl rfl)
theorem dX0_wordOf_7 : decode cX0_wordOf 7 = .ok (.if_icmp .ge 27, 3) := dk_162 0 27 (dk_at dksX0_wordOf_0 7 rfl rfl)
theorem dX0_wordOf_10 : decode cX0_wordOf 10 = .ok (.aload_n 0, 1) := dk_42 (dk_at dksX0_wordOf_0 10 rfl rfl)
theorem dX0_wordOf_11 : decode cX0_wordOf 11 = .ok (.getfield 11, 3) := dk_180 0 11 (dk_at dksX0_wordOf_0 11 rfl rfl)
theorem dX0_wordOf_14 : decode cX0_wordOf 14 = .ok (.iload_n 2, 1) := dk_28 (dk_at dksX0_wordOf_0 14 rfl rfl)
theorem dX0_wordOf_15 : decode cX0_wordOf 15 = .ok (.aaload, 1) := dk_50 (dk_at dksX0_wordOf_0 15 rfl rfl)
theorem dX0_wordOf_16 : decode cX0_wordOf 16 = .ok (.getfield 148, 3) := dk_180 0 148 (dk_at dksX0_wordOf_0 16 rfl rfl)
theorem dX0_wordOf_19 : decode cX0_wordOf 19 = .ok (.aload_n 1, 1) := dk_43 (dk_at dksX0_wordOf_0 19 rfl rfl)
theorem dX0_wordOf_20 : decode cX0_wordOf 20 = .ok (.invokevirtual 151, 3) := dk_182 0 151 (dk_at dksX0_wordOf_0 20 rfl rfl)
theorem dX0_wordOf_23 : decode cX0_wordOf 23 = .ok (.ifCond .eq 5, 3) := dk_153 0 5 (dk_at dksX0_wordOf_1 0 rfl rfl)
theorem dX0_wordOf_26 : decode cX0_wordOf 26 = .ok (.iload_n 2, 1) := dk_28 (dk_at dksX0_wordOf_1 3 rfl rfl)
theorem dX0_wordOf_27 : decode cX0_wordOf 27 = .ok (.ireturn, 1) := dk_172 (dk_at dksX0_wordOf_1 4 rfl rfl)
theorem dX0_wordOf_28 : decode cX0_wordOf 28 = .ok (.iinc 2 1, 3) := dk_132 2 1 (dk_at dksX0_wordOf_1 5 rfl rfl)
theorem dX0_wordOf_31 : decode cX0_wordOf 31 = .ok (.goto (-29), 3) := dk_167 255 227 (dk_at dksX0_wordOf_1 8 rfl rfl)
theorem dX0_wordOf_34 : decode cX0_wordOf 34 = .ok (.iconst (-1), 1) := dk_2 (dk_at dksX0_wordOf_1 11 rfl rfl)
theorem dX0_wordOf_35 : decode cX0_wordOf 35 = .ok (.ireturn, 1) := dk_172 (dk_at dksX0_wordOf_1 12 rfl rfl)
abbrev cX0_bar : ByteArray := prog_1_method_12_code
def yX0_bar : MethodName := ⟨RX0, "bar", "(IZ)Z"⟩
def dkwX0_bar_1 : List UInt8 := [180, 0, 11, 27, 50, 28, 181, 0, 124, 42, 89, 180, 0, 174, 4, 96, 181, 0, 174, 4, 172]
abbrev dktX0_bar_1 : List UInt8 := dkwX0_bar_1 ++ []
def dkwX0_bar_0 : List UInt8 := [42, 27, 182, 0, 120, 153, 0, 16, 42, 180, 0, 11, 27, 50, 180, 0, 124, 28, 160, 0, 5, 3, 172, 42]
abbrev dktX0_bar_0 : List UInt8 := dkwX0_bar_0 ++ dktX0_bar_1
theorem dksX0_bar_0 : cX0_bar.data.toList.drop 0 = dktX0_bar_0 := by decide +kernel
theorem dksX0_bar_1 : cX0_bar.data.toList.drop 24 = dktX0_bar_1 := dk_seg dksX0_bar_0 24 rfl rfl
theorem dX0_bar_0 : decode cX0_bar 0 = .ok (.aload_n 0, 1) := dk_42 (dk_at dksX0_bar_0 0 rfl rfl)
theorem dX0_bar_1 : decode cX0_bar 1 = .ok (.iload_n 1, 1) := dk_27 (dk_at dksX0_bar_0 1 rfl rfl)
theorem dX0_bar_2 : decode cX0_bar 2 = .ok (.invokevirtual 120, 3) := dk_182 0 120 (dk_at dksX0_bar_0 2 rfl rfl)
theorem dX0_bar_5 : decode cX0_bar 5 = .ok (.ifCond .eq 16, 3) := dk_153 0 16 (dk_at dksX0_bar_0 5 rfl rfl)
theorem dX0_bar_8 : decode cX0_bar 8 = .ok (.aload_n 0, 1) := dk_42 (dk_at dksX0_bar_0 8 rfl rfl)
theorem dX0_bar_9 : decode cX0_bar 9 = .ok (.getfield 11, 3) := dk_180 0 11 (dk_at dksX0_bar_0 9 rfl rfl)
theorem dX0_bar_12 : decode cX0_bar 12 = .ok (.iload_n 1, 1) := dk_27 (dk_at dksX0_bar_0 12 rfl rfl)
theorem dX0_bar_13 : decode cX0_bar 13 = .ok (.aaload, 1) := dk_50 (dk_at dksX0_bar_0 13 rfl rfl)
theorem dX0_bar_14 : decode cX0_bar 14 = .ok (.getfield 124, 3) := dk_180 0 124 (dk_at dksX0_bar_0 14 rfl rfl)
theorem dX0_bar_17 : decode cX0_bar 17 = .ok (.iload_n 2, 1) := dk_28 (dk_at dksX0_bar_0 17 rfl rfl)
theorem dX0_bar_18 : decode cX0_bar 18 = .ok (.if_icmp .ne 5, 3) := dk_160 0 5 (dk_at dksX0_bar_0 18 rfl rfl)
theorem dX0_bar_21 : decode cX0_bar 21 = .ok (.iconst 0, 1) := dk_3 (dk_at dksX0_bar_0 21 rfl rfl)
theorem dX0_bar_22 : decode cX0_bar 22 = .ok (.ireturn, 1) := dk_172 (dk_at dksX0_bar_0 22 rfl rfl)
theorem dX0_bar_23 : decode cX0_bar 23 = .ok (.aload_n 0, 1) := dk_42 (dk_at dksX0_bar_0 23 rfl rfl)
theorem dX0_bar_24 : decode cX0_bar 24 = .ok (.getfield 11, 3) := dk_180 0 11 (dk_at dksX0_bar_1 0 rfl rfl)
theorem dX0_bar_27 : decode cX0_bar 27 = .ok (.iload_n 1, 1) := dk_27 (dk_at dksX0_bar_1 3 rfl rfl)
theorem dX0_bar_28 : decode cX0_bar 28 = .ok (.aaload, 1) := dk_50 (dk_at dksX0_bar_1 4 rfl rfl)
theorem dX0_bar_29 : decode cX0_bar 29 = .ok (.iload_n 2, 1) := dk_28 (dk_at dksX0_bar_1 5 rfl rfl)
theorem dX0_bar_30 : decode cX0_bar 30 = .ok (.putfield 124, 3) := dk_181 0 124 (dk_at dksX0_bar_1 6 rfl rfl)
theorem dX0_bar_33 : decode cX0_bar 33 = .ok (.aload_n 0, 1) := dk_42 (dk_at dksX0_bar_1 9 rfl rfl)
theorem dX0_bar_34 : decode cX0_bar 34 = .ok (.dup, 1) := dk_89 (dk_at dksX0_bar_1 10 rfl rfl)
theorem dX0_bar_35 : decode cX0_bar 35 = .ok (.getfield 174, 3) := dk_180 0 174 (dk_at dksX0_bar_1 11 rfl rfl)
theorem dX0_bar_38 : decode cX0_bar 38 = .ok (.iconst 1, 1) := dk_4 (dk_at dksX0_bar_1 14 rfl rfl)
theorem dX0_bar_39 : decode cX0_bar 39 = .ok (.iadd, 1) := dk_96 (dk_at dksX0_bar_1 15 rfl rfl)
theorem dX0_bar_40 : decode cX0_bar 40 = .ok (.putfield 174, 3) := dk_181 0 174 (dk_at dksX0_bar_1 16 rfl rfl)
theorem dX0_bar_43 : decode cX0_bar 43 = .ok (.iconst 1, 1) := dk_4 (dk_at dksX0_bar_1 19 rfl rfl)
theorem dX0_bar_44 : decode cX0_bar 44 = .ok (.ireturn, 1) := dk_172 (dk_at dksX0_bar_1 20 rfl rfl)
abbrev cX0_isWord : ByteArray := prog_1_method_5_code
def yX0_isWord : MethodName := ⟨RX0, "isWord", "(I)Z"⟩
def dkwX0_isWord_0 : List UInt8 := [27, 42, 180, 0, 113, 184, 0, 116, 172]
abbrev dktX0_isWord_0 : List UInt8 := dkwX0_isWord_0 ++ []
theorem dksX0_isWord_0 : cX0_isWord.data.toList.drop 0 = dktX0_isWord_0 := by decide +kernel
theorem dX0_isWord_0 : decode cX0_isWord 0 = .ok (.iload_n 1, 1) := dk_27 (dk_at dksX0_isWord_0 0 rfl rfl)
theorem dX0_isWord_1 : decode cX0_isWord 1 = .ok (.aload_n 0, 1) := dk_42 (dk_at dksX0_isWord_0 1 rfl rfl)
theorem dX0_isWord_2 : decode cX0_isWord 2 = .ok (.getfield 113, 3) := dk_180 0 113 (dk_at dksX0_isWord_0 2 rfl rfl)
theorem dX0_isWord_5 : decode cX0_isWord 5 = .ok (.invokestatic 116, 3) := dk_184 0 116 (dk_at dksX0_isWord_0 5 rfl rfl)
theorem dX0_isWord_8 : decode cX0_isWord 8 = .ok (.ireturn, 1) := dk_172 (dk_at dksX0_isWord_0 8 rfl rfl)
abbrev cX0_know : ByteArray := prog_1_method_13_code
def yX0_know : MethodName := ⟨RX0, "know", "(II)Z"⟩
def dkwX0_know_1 : List UInt8 := [50, 28, 181, 0, 171, 42, 89, 180, 0, 174, 4, 96, 181, 0, 174, 4, 172]
abbrev dktX0_know_1 : List UInt8 := dkwX0_know_1 ++ []
def dkwX0_know_0 : List UInt8 := [42, 27, 182, 0, 120, 153, 0, 12, 28, 16, 100, 184, 0, 116, 154, 0, 5, 3, 172, 42, 180, 0, 11, 27]
abbrev dktX0_know_0 : List UInt8 := dkwX0_know_0 ++ dktX0_know_1
theorem dksX0_know_0 : cX0_know.data.toList.drop 0 = dktX0_know_0 := by decide +kernel
theorem dksX0_know_1 : cX0_know.data.toList.drop 24 = dktX0_know_1 := dk_seg dksX0_know_0 24 rfl rfl
theorem dX0_know_0 : decode cX0_know 0 = .ok (.aload_n 0, 1) := dk_42 (dk_at dksX0_know_0 0 rfl rfl)
theorem dX0_know_1 : decode cX0_know 1 = .ok (.iload_n 1, 1) := dk_27 (dk_at dksX0_know_0 1 rfl rfl)
theorem dX0_know_2 : decode cX0_know 2 = .ok (.invokevirtual 120, 3) := dk_182 0 120 (dk_at dksX0_know_0 2 rfl rfl)
theorem dX0_know_5 : decode cX0_know 5 = .ok (.ifCond .eq 12, 3) := dk_153 0 12 (dk_at dksX0_know_0 5 rfl rfl)
theorem dX0_know_8 : decode cX0_know 8 = .ok (.iload_n 2, 1) := dk_28 (dk_at dksX0_know_0 8 rfl rfl)
theorem dX0_know_9 : decode cX0_know 9 = .ok (.bipush 100, 2) := dk_16 100 (dk_at dksX0_know_0 9 rfl rfl)
theorem dX0_know_11 : decode cX0_know 11 = .ok (.invokestatic 116, 3) := dk_184 0 116 (dk_at dksX0_know_0 11 rfl rfl)
theorem dX0_know_14 : decode cX0_know 14 = .ok (.ifCond .ne 5, 3) := dk_154 0 5 (dk_at dksX0_know_0 14 rfl rfl)
theorem dX0_know_17 : decode cX0_know 17 = .ok (.iconst 0, 1) := dk_3 (dk_at dksX0_know_0 17 rfl rfl)
theorem dX0_know_18 : decode cX0_know 18 = .ok (.ireturn, 1) := dk_172 (dk_at dksX0_know_0 18 rfl rfl)
theorem dX0_know_19 : decode cX0_know 19 = .ok (.aload_n 0, 1) := dk_42 (dk_at dksX0_know_0 19 rfl rfl)
theorem dX0_know_20 : decode cX0_know 20 = .ok (.getfield 11, 3) := dk_180 0 11 (dk_at dksX0_know_0 20 rfl rfl)
theorem dX0_know_23 : decode cX0_know 23 = .ok (.iload_n 1, 1) := dk_27 (dk_at dksX0_know_0 23 rfl rfl)
theorem dX0_know_24 : decode cX0_know 24 = .ok (.aaload, 1) := dk_50 (dk_at dksX0_know_1 0 rfl rfl)
theorem dX0_know_25 : decode cX0_know 25 = .ok (.iload_n 2, 1) := dk_28 (dk_at dksX0_know_1 1 rfl rfl)
theorem dX0_know_26 : decode cX0_know 26 = .ok (.putfield 171, 3) := dk_181 0 171 (dk_at dksX0_know_1 2 rfl rfl)
theorem dX0_know_29 : decode cX0_know 29 = .ok (.aload_n 0, 1) := dk_42 (dk_at dksX0_know_1 5 rfl rfl)
theorem dX0_know_30 : decode cX0_know 30 = .ok (.dup, 1) := dk_89 (dk_at dksX0_know_1 6 rfl rfl)
theorem dX0_know_31 : decode cX0_know 31 = .ok (.getfield 174, 3) := dk_180 0 174 (dk_at dksX0_know_1 7 rfl rfl)
theorem dX0_know_34 : decode cX0_know 34 = .ok (.iconst 1, 1) := dk_4 (dk_at dksX0_know_1 10 rfl rfl)
theorem dX0_know_35 : decode cX0_know 35 = .ok (.iadd, 1) := dk_96 (dk_at dksX0_know_1 11 rfl rfl)
theorem dX0_know_36 : decode cX0_know 36 = .ok (.putfield 174, 3) := dk_181 0 174 (dk_at dksX0_know_1 12 rfl rfl)
theorem dX0_know_39 : decode cX0_know 39 = .ok (.iconst 1, 1) := dk_4 (dk_at dksX0_know_1 15 rfl rfl)
theorem dX0_know_40 : decode cX0_know 40 = .ok (.ireturn, 1) := dk_172 (dk_at dksX0_know_1 16 rfl rfl)
abbrev cX0_speak : ByteArray := prog_1_method_14_code
def yX0_speak : MethodName := ⟨RX0, "speak", "(I)Z"⟩
def dkwX0_speak_1 : List UInt8 := [180, 0, 174, 4, 96, 181, 0, 174, 4, 172]
abbrev dktX0_speak_1 : List UInt8 := dkwX0_speak_1 ++ []
def dkwX0_speak_0 : List UInt8 := [27, 2, 159, 0, 13, 27, 7, 184, 0, 116, 154, 0, 5, 3, 172, 42, 27, 181, 0, 26, 42, 89]
abbrev dktX0_speak_0 : List UInt8 := dkwX0_speak_0 ++ dktX0_speak_1
theorem dksX0_speak_0 : cX0_speak.data.toList.drop 0 = dktX0_speak_0 := by decide +kernel
theorem dksX0_speak_1 : cX0_speak.data.toList.drop 22 = dktX0_speak_1 := dk_seg dksX0_speak_0 22 rfl rfl
theorem dX0_speak_0 : decode cX0_speak 0 = .ok (.iload_n 1, 1) := dk_27 (dk_at dksX0_speak_0 0 rfl rfl)
theorem dX0_speak_1 : decode cX0_speak 1 = .ok (.iconst (-1), 1) := dk_2 (dk_at dksX0_speak_0 1 rfl rfl)
theorem dX0_speak_2 : decode cX0_speak 2 = .ok (.if_icmp .eq 13, 3) := dk_159 0 13 (dk_at dksX0_speak_0 2 rfl rfl)
theorem dX0_speak_5 : decode cX0_speak 5 = .ok (.iload_n 1, 1) := dk_27 (dk_at dksX0_speak_0 5 rfl rfl)
theorem dX0_speak_6 : decode cX0_speak 6 = .ok (.iconst 4, 1) := dk_7 (dk_at dksX0_speak_0 6 rfl rfl)
theorem dX0_speak_7 : decode cX0_speak 7 = .ok (.invokestatic 116, 3) := dk_184 0 116 (dk_at dksX0_speak_0 7 rfl rfl)
theorem dX0_speak_10 : decode cX0_speak 10 = .ok (.ifCond .ne 5, 3) := dk_154 0 5 (dk_at dksX0_speak_0 10 rfl rfl)
theorem dX0_speak_13 : decode cX0_speak 13 = .ok (.iconst 0, 1) := dk_3 (dk_at dksX0_speak_0 13 rfl rfl)
theorem dX0_speak_14 : decode cX0_speak 14 = .ok (.ireturn, 1) := dk_172 (dk_at dksX0_speak_0 14 rfl rfl)
theorem dX0_speak_15 : decode cX0_speak 15 = .ok (.aload_n 0, 1) := dk_42 (dk_at dksX0_speak_0 15 rfl rfl)
theorem dX0_speak_16 : decode cX0_speak 16 = .ok (.iload_n 1, 1) := dk_27 (dk_at dksX0_speak_0 16 rfl rfl)
theorem dX0_speak_17 : decode cX0_speak 17 = .ok (.putfield 26, 3) := dk_181 0 26 (dk_at dksX0_speak_0 17 rfl rfl)
theorem dX0_speak_20 : decode cX0_speak 20 = .ok (.aload_n 0, 1) := dk_42 (dk_at dksX0_speak_0 20 rfl rfl)
theorem dX0_speak_21 : decode cX0_speak 21 = .ok (.dup, 1) := dk_89 (dk_at dksX0_speak_0 21 rfl rfl)
theorem dX0_speak_22 : decode cX0_speak 22 = .ok (.getfield 174, 3) := dk_180 0 174 (dk_at dksX0_speak_1 0 rfl rfl)
theorem dX0_speak_25 : decode cX0_speak 25 = .ok (.iconst 1, 1) := dk_4 (dk_at dksX0_speak_1 3 rfl rfl)
theorem dX0_speak_26 : decode cX0_speak 26 = .ok (.iadd, 1) := dk_96 (dk_at dksX0_speak_1 4 rfl rfl)
theorem dX0_speak_27 : decode cX0_speak 27 = .ok (.putfield 174, 3) := dk_181 0 174 (dk_at dksX0_speak_1 5 rfl rfl)
theorem dX0_speak_30 : decode cX0_speak 30 = .ok (.iconst 1, 1) := dk_4 (dk_at dksX0_speak_1 8 rfl rfl)
theorem dX0_speak_31 : decode cX0_speak 31 = .ok (.ireturn, 1) := dk_172 (dk_at dksX0_speak_1 9 rfl rfl)
abbrev cX0_law : ByteArray := prog_1_method_15_code
def yX0_law : MethodName := ⟨RX0, "law", "(I)I"⟩
def dkwX0_law_2 : List UInt8 := [42, 44, 180, 0, 186, 181, 0, 22, 42, 89, 180, 0, 174, 4, 96, 181, 0, 174, 29, 172]
abbrev dktX0_law_2 : List UInt8 := dkwX0_law_2 ++ []
def dkwX0_law_1 : List UInt8 := [181, 0, 135, 187, 0, 177, 89, 42, 27, 183, 0, 179, 77, 44, 182, 0, 182, 62, 29, 156, 0, 5, 29, 172]
abbrev dktX0_law_1 : List UInt8 := dkwX0_law_1 ++ dktX0_law_2
def dkwX0_law_0 : List UInt8 := [27, 4, 17, 0, 160, 184, 0, 155, 153, 0, 11, 27, 42, 180, 0, 135, 164, 0, 5, 2, 172, 42, 3]
abbrev dktX0_law_0 : List UInt8 := dkwX0_law_0 ++ dktX0_law_1
theorem dksX0_law_0 : cX0_law.data.toList.drop 0 = dktX0_law_0 := by decide +kernel
theorem dksX0_law_1 : cX0_law.data.toList.drop 23 = dktX0_law_1 := dk_seg dksX0_law_0 23 rfl rfl
theorem dksX0_law_2 : cX0_law.data.toList.drop 47 = dktX0_law_2 := dk_seg dksX0_law_1 24 rfl rfl
theorem dX0_law_0 : decode cX0_law 0 = .ok (.iload_n 1, 1) := dk_27 (dk_at dksX0_law_0 0 rfl rfl)
theorem dX0_law_1 : decode cX0_law 1 = .ok (.iconst 1, 1) := dk_4 (dk_at dksX0_law_0 1 rfl rfl)
theorem dX0_law_2 : decode cX0_law 2 = .ok (.sipush 160, 3) := dk_17 0 160 (dk_at dksX0_law_0 2 rfl rfl)
theorem dX0_law_5 : decode cX0_law 5 = .ok (.invokestatic 155, 3) := dk_184 0 155 (dk_at dksX0_law_0 5 rfl rfl)
theorem dX0_law_8 : decode cX0_law 8 = .ok (.ifCond .eq 11, 3) := dk_153 0 11 (dk_at dksX0_law_0 8 rfl rfl)
theorem dX0_law_11 : decode cX0_law 11 = .ok (.iload_n 1, 1) := dk_27 (dk_at dksX0_law_0 11 rfl rfl)
theorem dX0_law_12 : decode cX0_law 12 = .ok (.aload_n 0, 1) := dk_42 (dk_at dksX0_law_0 12 rfl rfl)
theorem dX0_law_13 : decode cX0_law 13 = .ok (.getfield 135, 3) := dk_180 0 135 (dk_at dksX0_law_0 13 rfl rfl)
theorem dX0_law_16 : decode cX0_law 16 = .ok (.if_icmp .le 5, 3) := dk_164 0 5 (dk_at dksX0_law_0 16 rfl rfl)
theorem dX0_law_19 : decode cX0_law 19 = .ok (.iconst (-1), 1) := dk_2 (dk_at dksX0_law_0 19 rfl rfl)
theorem dX0_law_20 : decode cX0_law 20 = .ok (.ireturn, 1) := dk_172 (dk_at dksX0_law_0 20 rfl rfl)
theorem dX0_law_21 : decode cX0_law 21 = .ok (.aload_n 0, 1) := dk_42 (dk_at dksX0_law_0 21 rfl rfl)
theorem dX0_law_22 : decode cX0_law 22 = .ok (.iconst 0, 1) := dk_3 (dk_at dksX0_law_0 22 rfl rfl)
theorem dX0_law_23 : decode cX0_law 23 = .ok (.putfield 135, 3) := dk_181 0 135 (dk_at dksX0_law_1 0 rfl rfl)
theorem dX0_law_26 : decode cX0_law 26 = .ok (.new 177, 3) := dk_187 0 177 (dk_at dksX0_law_1 3 rfl rfl)
theorem dX0_law_29 : decode cX0_law 29 = .ok (.dup, 1) := dk_89 (dk_at dksX0_law_1 6 rfl rfl)
theorem dX0_law_30 : decode cX0_law 30 = .ok (.aload_n 0, 1) := dk_42 (dk_at dksX0_law_1 7 rfl rfl)
theorem dX0_law_31 : decode cX0_law 31 = .ok (.iload_n 1, 1) := dk_27 (dk_at dksX0_law_1 8 rfl rfl)
theorem dX0_law_32 : decode cX0_law 32 = .ok (.invokespecial 179, 3) := dk_183 0 179 (dk_at dksX0_law_1 9 rfl rfl)
theorem dX0_law_35 : decode cX0_law 35 = .ok (.astore_n 2, 1) := dk_77 (dk_at dksX0_law_1 12 rfl rfl)
theorem dX0_law_36 : decode cX0_law 36 = .ok (.aload_n 2, 1) := dk_44 (dk_at dksX0_law_1 13 rfl rfl)
theorem dX0_law_37 : decode cX0_law 37 = .ok (.invokevirtual 182, 3) := dk_182 0 182 (dk_at dksX0_law_1 14 rfl rfl)
theorem dX0_law_40 : decode cX0_law 40 = .ok (.istore_n 3, 1) := dk_62 (dk_at dksX0_law_1 17 rfl rfl)
theorem dX0_law_41 : decode cX0_law 41 = .ok (.iload_n 3, 1) := dk_29 (dk_at dksX0_law_1 18 rfl rfl)
theorem dX0_law_42 : decode cX0_law 42 = .ok (.ifCond .ge 5, 3) := dk_156 0 5 (dk_at dksX0_law_1 19 rfl rfl)
theorem dX0_law_45 : decode cX0_law 45 = .ok (.iload_n 3, 1) := dk_29 (dk_at dksX0_law_1 22 rfl rfl)
theorem dX0_law_46 : decode cX0_law 46 = .ok (.ireturn, 1) := dk_172 (dk_at dksX0_law_1 23 rfl rfl)
theorem dX0_law_47 : decode cX0_law 47 = .ok (.aload_n 0, 1) := dk_42 (dk_at dksX0_law_2 0 rfl rfl)
theorem dX0_law_48 : decode cX0_law 48 = .ok (.aload_n 2, 1) := dk_44 (dk_at dksX0_law_2 1 rfl rfl)
theorem dX0_law_49 : decode cX0_law 49 = .ok (.getfield 186, 3) := dk_180 0 186 (dk_at dksX0_law_2 2 rfl rfl)
theorem dX0_law_52 : decode cX0_law 52 = .ok (.putfield 22, 3) := dk_181 0 22 (dk_at dksX0_law_2 5 rfl rfl)
theorem dX0_law_55 : decode cX0_law 55 = .ok (.aload_n 0, 1) := dk_42 (dk_at dksX0_law_2 8 rfl rfl)
theorem dX0_law_56 : decode cX0_law 56 = .ok (.dup, 1) := dk_89 (dk_at dksX0_law_2 9 rfl rfl)
theorem dX0_law_57 : decode cX0_law 57 = .ok (.getfield 174, 3) := dk_180 0 174 (dk_at dksX0_law_2 10 rfl rfl)
theorem dX0_law_60 : decode cX0_law 60 = .ok (.iconst 1, 1) := dk_4 (dk_at dksX0_law_2 13 rfl rfl)
theorem dX0_law_61 : decode cX0_law 61 = .ok (.iadd, 1) := dk_96 (dk_at dksX0_law_2 14 rfl rfl)
theorem dX0_law_62 : decode cX0_law 62 = .ok (.putfield 174, 3) := dk_181 0 174 (dk_at dksX0_law_2 15 rfl rfl)
theorem dX0_law_65 : decode cX0_law 65 = .ok (.iload_n 3, 1) := dk_29 (dk_at dksX0_law_2 18 rfl rfl)
theorem dX0_law_66 : decode cX0_law 66 = .ok (.ireturn, 1) := dk_172 (dk_at dksX0_law_2 19 rfl rfl)
abbrev cX0_step : ByteArray := prog_1_method_24_code
def yX0_step : MethodName := ⟨RX0, "step", "(III)I"⟩
def dkwX0_step_3 : List UInt8 := [50, 28, 46, 172]
abbrev dktX0_step_3 : List UInt8 := dkwX0_step_3 ++ []
def dkwX0_step_2 : List UInt8 := [167, 0, 27, 29, 4, 160, 0, 14, 42, 180, 0, 48, 27, 50, 28, 46, 167, 0, 11, 42, 180, 0, 51, 27]
abbrev dktX0_step_2 : List UInt8 := dkwX0_step_2 ++ dktX0_step_3
def dkwX0_step_1 : List UInt8 := [27, 28, 182, 0, 244, 154, 0, 6, 16, 254, 172, 29, 154, 0, 14, 42, 180, 0, 45, 27, 50, 28, 46]
abbrev dktX0_step_1 : List UInt8 := dkwX0_step_1 ++ dktX0_step_2
def dkwX0_step_0 : List UInt8 := [42, 27, 28, 182, 0, 238, 153, 0, 11, 29, 6, 184, 0, 116, 154, 0, 5, 2, 172, 42, 182, 0, 241, 42]
abbrev dktX0_step_0 : List UInt8 := dkwX0_step_0 ++ dktX0_step_1
theorem dksX0_step_0 : cX0_step.data.toList.drop 0 = dktX0_step_0 := by decide +kernel
theorem dksX0_step_1 : cX0_step.data.toList.drop 24 = dktX0_step_1 := dk_seg dksX0_step_0 24 rfl rfl
theorem dksX0_step_2 : cX0_step.data.toList.drop 47 = dktX0_step_2 := dk_seg dksX0_step_1 23 rfl rfl
theorem dksX0_step_3 : cX0_step.data.toList.drop 71 = dktX0_step_3 := dk_seg dksX0_step_2 24 rfl rfl
theorem dX0_step_0 : decode cX0_step 0 = .ok (.aload_n 0, 1) := dk_42 (dk_at dksX0_step_0 0 rfl rfl)
theorem dX0_step_1 : decode cX0_step 1 = .ok (.iload_n 1, 1) := dk_27 (dk_at dksX0_step_0 1 rfl rfl)
theorem dX0_step_2 : decode cX0_step 2 = .ok (.iload_n 2, 1) := dk_28 (dk_at dksX0_step_0 2 rfl rfl)
theorem dX0_step_3 : decode cX0_step 3 = .ok (.invokevirtual 238, 3) := dk_182 0 238 (dk_at dksX0_step_0 3 rfl rfl)
theorem dX0_step_6 : decode cX0_step 6 = .ok (.ifCond .eq 11, 3) := dk_153 0 11 (dk_at dksX0_step_0 6 rfl rfl)
theorem dX0_step_9 : decode cX0_step 9 = .ok (.iload_n 3, 1) := dk_29 (dk_at dksX0_step_0 9 rfl rfl)
theorem dX0_step_10 : decode cX0_step 10 = .ok (.iconst 3, 1) := dk_6 (dk_at dksX0_step_0 10 rfl rfl)
theorem dX0_step_11 : decode cX0_step 11 = .ok (.invokestatic 116, 3) := dk_184 0 116 (dk_at dksX0_step_0 11 rfl rfl)
theorem dX0_step_14 : decode cX0_step 14 = .ok (.ifCond .ne 5, 3) := dk_154 0 5 (dk_at dksX0_step_0 14 rfl rfl)
theorem dX0_step_17 : decode cX0_step 17 = .ok (.iconst (-1), 1) := dk_2 (dk_at dksX0_step_0 17 rfl rfl)
theorem dX0_step_18 : decode cX0_step 18 = .ok (.ireturn, 1) := dk_172 (dk_at dksX0_step_0 18 rfl rfl)
theorem dX0_step_19 : decode cX0_step 19 = .ok (.aload_n 0, 1) := dk_42 (dk_at dksX0_step_0 19 rfl rfl)
theorem dX0_step_20 : decode cX0_step 20 = .ok (.invokevirtual 241, 3) := dk_182 0 241 (dk_at dksX0_step_0 20 rfl rfl)
theorem dX0_step_23 : decode cX0_step 23 = .ok (.aload_n 0, 1) := dk_42 (dk_at dksX0_step_0 23 rfl rfl)
theorem dX0_step_24 : decode cX0_step 24 = .ok (.iload_n 1, 1) := dk_27 (dk_at dksX0_step_1 0 rfl rfl)
theorem dX0_step_25 : decode cX0_step 25 = .ok (.iload_n 2, 1) := dk_28 (dk_at dksX0_step_1 1 rfl rfl)
theorem dX0_step_26 : decode cX0_step 26 = .ok (.invokevirtual 244, 3) := dk_182 0 244 (dk_at dksX0_step_1 2 rfl rfl)
theorem dX0_step_29 : decode cX0_step 29 = .ok (.ifCond .ne 6, 3) := dk_154 0 6 (dk_at dksX0_step_1 5 rfl rfl)
theorem dX0_step_32 : decode cX0_step 32 = .ok (.bipush (-2), 2) := dk_16 254 (dk_at dksX0_step_1 8 rfl rfl)
theorem dX0_step_34 : decode cX0_step 34 = .ok (.ireturn, 1) := dk_172 (dk_at dksX0_step_1 10 rfl rfl)
theorem dX0_step_35 : decode cX0_step 35 = .ok (.iload_n 3, 1) := dk_29 (dk_at dksX0_step_1 11 rfl rfl)
theorem dX0_step_36 : decode cX0_step 36 = .ok (.ifCond .ne 14, 3) := dk_154 0 14 (dk_at dksX0_step_1 12 rfl rfl)
theorem dX0_step_39 : decode cX0_step 39 = .ok (.aload_n 0, 1) := dk_42 (dk_at dksX0_step_1 15 rfl rfl)
theorem dX0_step_40 : decode cX0_step 40 = .ok (.getfield 45, 3) := dk_180 0 45 (dk_at dksX0_step_1 16 rfl rfl)
theorem dX0_step_43 : decode cX0_step 43 = .ok (.iload_n 1, 1) := dk_27 (dk_at dksX0_step_1 19 rfl rfl)
theorem dX0_step_44 : decode cX0_step 44 = .ok (.aaload, 1) := dk_50 (dk_at dksX0_step_1 20 rfl rfl)
theorem dX0_step_45 : decode cX0_step 45 = .ok (.iload_n 2, 1) := dk_28 (dk_at dksX0_step_1 21 rfl rfl)
theorem dX0_step_46 : decode cX0_step 46 = .ok (.iaload, 1) := dk_46 (dk_at dksX0_step_1 22 rfl rfl)
theorem dX0_step_47 : decode cX0_step 47 = .ok (.goto 27, 3) := dk_167 0 27 (dk_at dksX0_step_2 0 rfl rfl)
theorem dX0_step_50 : decode cX0_step 50 = .ok (.iload_n 3, 1) := dk_29 (dk_at dksX0_step_2 3 rfl rfl)
theorem dX0_step_51 : decode cX0_step 51 = .ok (.iconst 1, 1) := dk_4 (dk_at dksX0_step_2 4 rfl rfl)
theorem dX0_step_52 : decode cX0_step 52 = .ok (.if_icmp .ne 14, 3) := dk_160 0 14 (dk_at dksX0_step_2 5 rfl rfl)
theorem dX0_step_55 : decode cX0_step 55 = .ok (.aload_n 0, 1) := dk_42 (dk_at dksX0_step_2 8 rfl rfl)
theorem dX0_step_56 : decode cX0_step 56 = .ok (.getfield 48, 3) := dk_180 0 48 (dk_at dksX0_step_2 9 rfl rfl)
theorem dX0_step_59 : decode cX0_step 59 = .ok (.iload_n 1, 1) := dk_27 (dk_at dksX0_step_2 12 rfl rfl)
theorem dX0_step_60 : decode cX0_step 60 = .ok (.aaload, 1) := dk_50 (dk_at dksX0_step_2 13 rfl rfl)
theorem dX0_step_61 : decode cX0_step 61 = .ok (.iload_n 2, 1) := dk_28 (dk_at dksX0_step_2 14 rfl rfl)
theorem dX0_step_62 : decode cX0_step 62 = .ok (.iaload, 1) := dk_46 (dk_at dksX0_step_2 15 rfl rfl)
theorem dX0_step_63 : decode cX0_step 63 = .ok (.goto 11, 3) := dk_167 0 11 (dk_at dksX0_step_2 16 rfl rfl)
theorem dX0_step_66 : decode cX0_step 66 = .ok (.aload_n 0, 1) := dk_42 (dk_at dksX0_step_2 19 rfl rfl)
theorem dX0_step_67 : decode cX0_step 67 = .ok (.getfield 51, 3) := dk_180 0 51 (dk_at dksX0_step_2 20 rfl rfl)
theorem dX0_step_70 : decode cX0_step 70 = .ok (.iload_n 1, 1) := dk_27 (dk_at dksX0_step_2 23 rfl rfl)
theorem dX0_step_71 : decode cX0_step 71 = .ok (.aaload, 1) := dk_50 (dk_at dksX0_step_3 0 rfl rfl)
theorem dX0_step_72 : decode cX0_step 72 = .ok (.iload_n 2, 1) := dk_28 (dk_at dksX0_step_3 1 rfl rfl)
theorem dX0_step_73 : decode cX0_step 73 = .ok (.iaload, 1) := dk_46 (dk_at dksX0_step_3 2 rfl rfl)
theorem dX0_step_74 : decode cX0_step 74 = .ok (.ireturn, 1) := dk_172 (dk_at dksX0_step_3 3 rfl rfl)
abbrev cX0_areTwo : ByteArray := prog_1_method_23_code
def yX0_areTwo : MethodName := ⟨RX0, "areTwo", "(II)Z"⟩
def dkwX0_areTwo_0 : List UInt8 := [42, 27, 182, 0, 120, 153, 0, 15, 42, 28, 182, 0, 120, 153, 0, 7, 4, 167, 0, 4, 3, 172]
abbrev dktX0_areTwo_0 : List UInt8 := dkwX0_areTwo_0 ++ []
theorem dksX0_areTwo_0 : cX0_areTwo.data.toList.drop 0 = dktX0_areTwo_0 := by decide +kernel
theorem dX0_areTwo_0 : decode cX0_areTwo 0 = .ok (.aload_n 0, 1) := dk_42 (dk_at dksX0_areTwo_0 0 rfl rfl)
theorem dX0_areTwo_1 : decode cX0_areTwo 1 = .ok (.iload_n 1, 1) := dk_27 (dk_at dksX0_areTwo_0 1 rfl rfl)
theorem dX0_areTwo_2 : decode cX0_areTwo 2 = .ok (.invokevirtual 120, 3) := dk_182 0 120 (dk_at dksX0_areTwo_0 2 rfl rfl)
theorem dX0_areTwo_5 : decode cX0_areTwo 5 = .ok (.ifCond .eq 15, 3) := dk_153 0 15 (dk_at dksX0_areTwo_0 5 rfl rfl)
theorem dX0_areTwo_8 : decode cX0_areTwo 8 = .ok (.aload_n 0, 1) := dk_42 (dk_at dksX0_areTwo_0 8 rfl rfl)
theorem dX0_areTwo_9 : decode cX0_areTwo 9 = .ok (.iload_n 2, 1) := dk_28 (dk_at dksX0_areTwo_0 9 rfl rfl)
theorem dX0_areTwo_10 : decode cX0_areTwo 10 = .ok (.invokevirtual 120, 3) := dk_182 0 120 (dk_at dksX0_areTwo_0 10 rfl rfl)
theorem dX0_areTwo_13 : decode cX0_areTwo 13 = .ok (.ifCond .eq 7, 3) := dk_153 0 7 (dk_at dksX0_areTwo_0 13 rfl rfl)
theorem dX0_areTwo_16 : decode cX0_areTwo 16 = .ok (.iconst 1, 1) := dk_4 (dk_at dksX0_areTwo_0 16 rfl rfl)
theorem dX0_areTwo_17 : decode cX0_areTwo 17 = .ok (.goto 4, 3) := dk_167 0 4 (dk_at dksX0_areTwo_0 17 rfl rfl)
theorem dX0_areTwo_20 : decode cX0_areTwo 20 = .ok (.iconst 0, 1) := dk_3 (dk_at dksX0_areTwo_0 20 rfl rfl)
theorem dX0_areTwo_21 : decode cX0_areTwo 21 = .ok (.ireturn, 1) := dk_172 (dk_at dksX0_areTwo_0 21 rfl rfl)
abbrev cX0_lays : ByteArray := prog_1_method_21_code
def yX0_lays : MethodName := ⟨RX0, "lays", "()V"⟩
def dkwX0_lays_13 : List UInt8 := [132, 2, 1, 167, 255, 220, 132, 1, 1, 167, 255, 204, 177]
abbrev dktX0_lays_13 : List UInt8 := dkwX0_lays_13 ++ []
def dkwX0_lays_12 : List UInt8 := [180, 0, 54, 27, 50, 28, 46, 18, 220, 162, 0, 15, 42, 180, 0, 57, 27, 92, 47, 10, 28, 121, 129, 80]
abbrev dktX0_lays_12 : List UInt8 := dkwX0_lays_12 ++ dktX0_lays_13
def dkwX0_lays_11 : List UInt8 := [167, 255, 172, 3, 60, 27, 42, 180, 0, 113, 162, 0, 50, 3, 61, 28, 42, 180, 0, 113, 162, 0, 34, 42]
abbrev dktX0_lays_11 : List UInt8 := dkwX0_lays_11 ++ dktX0_lays_12
def dkwX0_lays_10 : List UInt8 := [184, 0, 232, 184, 0, 232, 79, 132, 3, 1, 167, 255, 204, 132, 2, 1, 167, 255, 188, 132, 1, 1]
abbrev dktX0_lays_10 : List UInt8 := dkwX0_lays_10 ++ dktX0_lays_11
def dkwX0_lays_9 : List UInt8 := [28, 50, 29, 46, 18, 220, 42, 180, 0, 54, 28, 50, 27, 46, 42, 180, 0, 54, 27, 50, 29, 46, 96]
abbrev dktX0_lays_9 : List UInt8 := dkwX0_lays_9 ++ dktX0_lays_10
def dkwX0_lays_8 : List UInt8 := [162, 0, 66, 3, 62, 29, 42, 180, 0, 113, 162, 0, 50, 42, 180, 0, 54, 28, 50, 29, 42, 180, 0, 54]
abbrev dktX0_lays_8 : List UInt8 := dkwX0_lays_8 ++ dktX0_lays_9
def dkwX0_lays_7 : List UInt8 := [132, 1, 1, 167, 255, 152, 3, 60, 27, 42, 180, 0, 113, 162, 0, 82, 3, 61, 28, 42, 180, 0, 113]
abbrev dktX0_lays_7 : List UInt8 := dkwX0_lays_7 ++ dktX0_lays_8
def dkwX0_lays_6 : List UInt8 := [167, 0, 16, 16, 100, 42, 180, 0, 45, 27, 50, 28, 46, 104, 4, 96, 79, 132, 2, 1, 167, 255, 189]
abbrev dktX0_lays_6 : List UInt8 := dkwX0_lays_6 ++ dktX0_lays_7
def dkwX0_lays_5 : List UInt8 := [153, 0, 7, 3, 167, 0, 34, 42, 180, 0, 45, 27, 50, 28, 46, 18, 220, 160, 0, 8, 18, 220]
abbrev dktX0_lays_5 : List UInt8 := dkwX0_lays_5 ++ dktX0_lays_6
def dkwX0_lays_4 : List UInt8 := [180, 0, 113, 162, 0, 65, 42, 180, 0, 54, 27, 50, 28, 27, 28, 160, 0, 15, 42, 27, 182, 0, 221]
abbrev dktX0_lays_4 : List UInt8 := dkwX0_lays_4 ++ dktX0_lays_5
def dkwX0_lays_3 : List UInt8 := [180, 0, 57, 27, 42, 27, 182, 0, 221, 153, 0, 9, 10, 27, 121, 167, 0, 4, 9, 80, 3, 61, 28, 42]
abbrev dktX0_lays_3 : List UInt8 := dkwX0_lays_3 ++ dktX0_lays_4
def dkwX0_lays_2 : List UInt8 := [132, 2, 1, 167, 255, 239, 132, 1, 1, 167, 255, 223, 3, 60, 27, 42, 180, 0, 113, 162, 0, 102, 42]
abbrev dktX0_lays_2 : List UInt8 := dkwX0_lays_2 ++ dktX0_lays_3
def dkwX0_lays_1 : List UInt8 := [180, 0, 113, 162, 0, 31, 3, 61, 28, 42, 180, 0, 113, 162, 0, 15, 42, 27, 28, 182, 0, 228]
abbrev dktX0_lays_1 : List UInt8 := dkwX0_lays_1 ++ dktX0_lays_2
def dkwX0_lays_0 : List UInt8 := [42, 180, 0, 33, 42, 180, 0, 174, 160, 0, 4, 177, 42, 42, 180, 0, 174, 181, 0, 33, 3, 60, 27, 42]
abbrev dktX0_lays_0 : List UInt8 := dkwX0_lays_0 ++ dktX0_lays_1
theorem dksX0_lays_0 : cX0_lays.data.toList.drop 0 = dktX0_lays_0 := by decide +kernel
theorem dksX0_lays_1 : cX0_lays.data.toList.drop 24 = dktX0_lays_1 := dk_seg dksX0_lays_0 24 rfl rfl
theorem dksX0_lays_2 : cX0_lays.data.toList.drop 46 = dktX0_lays_2 := dk_seg dksX0_lays_1 22 rfl rfl
theorem dksX0_lays_3 : cX0_lays.data.toList.drop 69 = dktX0_lays_3 := dk_seg dksX0_lays_2 23 rfl rfl
theorem dksX0_lays_4 : cX0_lays.data.toList.drop 93 = dktX0_lays_4 := dk_seg dksX0_lays_3 24 rfl rfl
theorem dksX0_lays_5 : cX0_lays.data.toList.drop 116 = dktX0_lays_5 := dk_seg dksX0_lays_4 23 rfl rfl
theorem dksX0_lays_6 : cX0_lays.data.toList.drop 138 = dktX0_lays_6 := dk_seg dksX0_lays_5 22 rfl rfl
theorem dksX0_lays_7 : cX0_lays.data.toList.drop 161 = dktX0_lays_7 := dk_seg dksX0_lays_6 23 rfl rfl
theorem dksX0_lays_8 : cX0_lays.data.toList.drop 184 = dktX0_lays_8 := dk_seg dksX0_lays_7 23 rfl rfl
theorem dksX0_lays_9 : cX0_lays.data.toList.drop 208 = dktX0_lays_9 := dk_seg dksX0_lays_8 24 rfl rfl
theorem dksX0_lays_10 : cX0_lays.data.toList.drop 231 = dktX0_lays_10 := dk_seg dksX0_lays_9 23 rfl rfl
theorem dksX0_lays_11 : cX0_lays.data.toList.drop 253 = dktX0_lays_11 := dk_seg dksX0_lays_10 22 rfl rfl
theorem dksX0_lays_12 : cX0_lays.data.toList.drop 277 = dktX0_lays_12 := dk_seg dksX0_lays_11 24 rfl rfl
theorem dksX0_lays_13 : cX0_lays.data.toList.drop 301 = dktX0_lays_13 := dk_seg dksX0_lays_12 24 rfl rfl
theorem dX0_lays_0 : decode cX0_lays 0 = .ok (.aload_n 0, 1) := dk_42 (dk_at dksX0_lays_0 0 rfl rfl)
theorem dX0_lays_1 : decode cX0_lays 1 = .ok (.getfield 33, 3) := dk_180 0 33 (dk_at dksX0_lays_0 1 rfl rfl)
theorem dX0_lays_4 : decode cX0_lays 4 = .ok (.aload_n 0, 1) := dk_42 (dk_at dksX0_lays_0 4 rfl rfl)
theorem dX0_lays_5 : decode cX0_lays 5 = .ok (.getfield 174, 3) := dk_180 0 174 (dk_at dksX0_lays_0 5 rfl rfl)
theorem dX0_lays_8 : decode cX0_lays 8 = .ok (.if_icmp .ne 4, 3) := dk_160 0 4 (dk_at dksX0_lays_0 8 rfl rfl)
theorem dX0_lays_11 : decode cX0_lays 11 = .ok (.return_, 1) := dk_177 (dk_at dksX0_lays_0 11 rfl rfl)
theorem dX0_lays_12 : decode cX0_lays 12 = .ok (.aload_n 0, 1) := dk_42 (dk_at dksX0_lays_0 12 rfl rfl)
theorem dX0_lays_13 : decode cX0_lays 13 = .ok (.aload_n 0, 1) := dk_42 (dk_at dksX0_lays_0 13 rfl rfl)
theorem dX0_lays_14 : decode cX0_lays 14 = .ok (.getfield 174, 3) := dk_180 0 174 (dk_at dksX0_lays_0 14 rfl rfl)
theorem dX0_lays_17 : decode cX0_lays 17 = .ok (.putfield 33, 3) := dk_181 0 33 (dk_at dksX0_lays_0 17 rfl rfl)
theorem dX0_lays_20 : decode cX0_lays 20 = .ok (.iconst 0, 1) := dk_3 (dk_at dksX0_lays_0 20 rfl rfl)
theorem dX0_lays_21 : decode cX0_lays 21 = .ok (.istore_n 1, 1) := dk_60 (dk_at dksX0_lays_0 21 rfl rfl)
theorem dX0_lays_22 : decode cX0_lays 22 = .ok (.iload_n 1, 1) := dk_27 (dk_at dksX0_lays_0 22 rfl rfl)
theorem dX0_lays_23 : decode cX0_lays 23 = .ok (.aload_n 0, 1) := dk_42 (dk_at dksX0_lays_0 23 rfl rfl)
theorem dX0_lays_24 : decode cX0_lays 24 = .ok (.getfield 113, 3) := dk_180 0 113 (dk_at dksX0_lays_1 0 rfl rfl)
theorem dX0_lays_27 : decode cX0_lays 27 = .ok (.if_icmp .ge 31, 3) := dk_162 0 31 (dk_at dksX0_lays_1 3 rfl rfl)
theorem dX0_lays_30 : decode cX0_lays 30 = .ok (.iconst 0, 1) := dk_3 (dk_at dksX0_lays_1 6 rfl rfl)
theorem dX0_lays_31 : decode cX0_lays 31 = .ok (.istore_n 2, 1) := dk_61 (dk_at dksX0_lays_1 7 rfl rfl)
theorem dX0_lays_32 : decode cX0_lays 32 = .ok (.iload_n 2, 1) := dk_28 (dk_at dksX0_lays_1 8 rfl rfl)
theorem dX0_lays_33 : decode cX0_lays 33 = .ok (.aload_n 0, 1) := dk_42 (dk_at dksX0_lays_1 9 rfl rfl)
theorem dX0_lays_34 : decode cX0_lays 34 = .ok (.getfield 113, 3) := dk_180 0 113 (dk_at dksX0_lays_1 10 rfl rfl)
theorem dX0_lays_37 : decode cX0_lays 37 = .ok (.if_icmp .ge 15, 3) := dk_162 0 15 (dk_at dksX0_lays_1 13 rfl rfl)
theorem dX0_lays_40 : decode cX0_lays 40 = .ok (.aload_n 0, 1) := dk_42 (dk_at dksX0_lays_1 16 rfl rfl)
theorem dX0_lays_41 : decode cX0_lays 41 = .ok (.iload_n 1, 1) := dk_27 (dk_at dksX0_lays_1 17 rfl rfl)
theorem dX0_lays_42 : decode cX0_lays 42 = .ok (.iload_n 2, 1) := dk_28 (dk_at dksX0_lays_1 18 rfl rfl)
theorem dX0_lays_43 : decode cX0_lays 43 = .ok (.invokevirtual 228, 3) := dk_182 0 228 (dk_at dksX0_lays_1 19 rfl rfl)
theorem dX0_lays_46 : decode cX0_lays 46 = .ok (.iinc 2 1, 3) := dk_132 2 1 (dk_at dksX0_lays_2 0 rfl rfl)
theorem dX0_lays_49 : decode cX0_lays 49 = .ok (.goto (-17), 3) := dk_167 255 239 (dk_at dksX0_lays_2 3 rfl rfl)
theorem dX0_lays_52 : decode cX0_lays 52 = .ok (.iinc 1 1, 3) := dk_132 1 1 (dk_at dksX0_lays_2 6 rfl rfl)
theorem dX0_lays_55 : decode cX0_lays 55 = .ok (.goto (-33), 3) := dk_167 255 223 (dk_at dksX0_lays_2 9 rfl rfl)
theorem dX0_lays_58 : decode cX0_lays 58 = .ok (.iconst 0, 1) := dk_3 (dk_at dksX0_lays_2 12 rfl rfl)
theorem dX0_lays_59 : decode cX0_lays 59 = .ok (.istore_n 1, 1) := dk_60 (dk_at dksX0_lays_2 13 rfl rfl)
theorem dX0_lays_60 : decode cX0_lays 60 = .ok (.iload_n 1, 1) := dk_27 (dk_at dksX0_lays_2 14 rfl rfl)
theorem dX0_lays_61 : decode cX0_lays 61 = .ok (.aload_n 0, 1) := dk_42 (dk_at dksX0_lays_2 15 rfl rfl)
theorem dX0_lays_62 : decode cX0_lays 62 = .ok (.getfield 113, 3) := dk_180 0 113 (dk_at dksX0_lays_2 16 rfl rfl)
theorem dX0_lays_65 : decode cX0_lays 65 = .ok (.if_icmp .ge 102, 3) := dk_162 0 102 (dk_at dksX0_lays_2 19 rfl rfl)
theorem dX0_lays_68 : decode cX0_lays 68 = .ok (.aload_n 0, 1) := dk_42 (dk_at dksX0_lays_2 22 rfl rfl)
theorem dX0_lays_69 : decode cX0_lays 69 = .ok (.getfield 57, 3) := dk_180 0 57 (dk_at dksX0_lays_3 0 rfl rfl)
theorem dX0_lays_72 : decode cX0_lays 72 = .ok (.iload_n 1, 1) := dk_27 (dk_at dksX0_lays_3 3 rfl rfl)
theorem dX0_lays_73 : decode cX0_lays 73 = .ok (.aload_n 0, 1) := dk_42 (dk_at dksX0_lays_3 4 rfl rfl)
theorem dX0_lays_74 : decode cX0_lays 74 = .ok (.iload_n 1, 1) := dk_27 (dk_at dksX0_lays_3 5 rfl rfl)
theorem dX0_lays_75 : decode cX0_lays 75 = .ok (.invokevirtual 221, 3) := dk_182 0 221 (dk_at dksX0_lays_3 6 rfl rfl)
theorem dX0_lays_78 : decode cX0_lays 78 = .ok (.ifCond .eq 9, 3) := dk_153 0 9 (dk_at dksX0_lays_3 9 rfl rfl)
theorem dX0_lays_81 : decode cX0_lays 81 = .ok (.lconst 1, 1) := dk_10 (dk_at dksX0_lays_3 12 rfl rfl)
theorem dX0_lays_82 : decode cX0_lays 82 = .ok (.iload_n 1, 1) := dk_27 (dk_at dksX0_lays_3 13 rfl rfl)
theorem dX0_lays_83 : decode cX0_lays 83 = .ok (.lshl, 1) := dk_121 (dk_at dksX0_lays_3 14 rfl rfl)
theorem dX0_lays_84 : decode cX0_lays 84 = .ok (.goto 4, 3) := dk_167 0 4 (dk_at dksX0_lays_3 15 rfl rfl)
theorem dX0_lays_87 : decode cX0_lays 87 = .ok (.lconst 0, 1) := dk_9 (dk_at dksX0_lays_3 18 rfl rfl)
theorem dX0_lays_88 : decode cX0_lays 88 = .ok (.lastore, 1) := dk_80 (dk_at dksX0_lays_3 19 rfl rfl)
theorem dX0_lays_89 : decode cX0_lays 89 = .ok (.iconst 0, 1) := dk_3 (dk_at dksX0_lays_3 20 rfl rfl)
theorem dX0_lays_90 : decode cX0_lays 90 = .ok (.istore_n 2, 1) := dk_61 (dk_at dksX0_lays_3 21 rfl rfl)
theorem dX0_lays_91 : decode cX0_lays 91 = .ok (.iload_n 2, 1) := dk_28 (dk_at dksX0_lays_3 22 rfl rfl)
theorem dX0_lays_92 : decode cX0_lays 92 = .ok (.aload_n 0, 1) := dk_42 (dk_at dksX0_lays_3 23 rfl rfl)
theorem dX0_lays_93 : decode cX0_lays 93 = .ok (.getfield 113, 3) := dk_180 0 113 (dk_at dksX0_lays_4 0 rfl rfl)
theorem dX0_lays_96 : decode cX0_lays 96 = .ok (.if_icmp .ge 65, 3) := dk_162 0 65 (dk_at dksX0_lays_4 3 rfl rfl)
theorem dX0_lays_99 : decode cX0_lays 99 = .ok (.aload_n 0, 1) := dk_42 (dk_at dksX0_lays_4 6 rfl rfl)
theorem dX0_lays_100 : decode cX0_lays 100 = .ok (.getfield 54, 3) := dk_180 0 54 (dk_at dksX0_lays_4 7 rfl rfl)
theorem dX0_lays_103 : decode cX0_lays 103 = .ok (.iload_n 1, 1) := dk_27 (dk_at dksX0_lays_4 10 rfl rfl)
theorem dX0_lays_104 : decode cX0_lays 104 = .ok (.aaload, 1) := dk_50 (dk_at dksX0_lays_4 11 rfl rfl)
theorem dX0_lays_105 : decode cX0_lays 105 = .ok (.iload_n 2, 1) := dk_28 (dk_at dksX0_lays_4 12 rfl rfl)
theorem dX0_lays_106 : decode cX0_lays 106 = .ok (.iload_n 1, 1) := dk_27 (dk_at dksX0_lays_4 13 rfl rfl)
theorem dX0_lays_107 : decode cX0_lays 107 = .ok (.iload_n 2, 1) := dk_28 (dk_at dksX0_lays_4 14 rfl rfl)
theorem dX0_lays_108 : decode cX0_lays 108 = .ok (.if_icmp .ne 15, 3) := dk_160 0 15 (dk_at dksX0_lays_4 15 rfl rfl)
theorem dX0_lays_111 : decode cX0_lays 111 = .ok (.aload_n 0, 1) := dk_42 (dk_at dksX0_lays_4 18 rfl rfl)
theorem dX0_lays_112 : decode cX0_lays 112 = .ok (.iload_n 1, 1) := dk_27 (dk_at dksX0_lays_4 19 rfl rfl)
theorem dX0_lays_113 : decode cX0_lays 113 = .ok (.invokevirtual 221, 3) := dk_182 0 221 (dk_at dksX0_lays_4 20 rfl rfl)
theorem dX0_lays_116 : decode cX0_lays 116 = .ok (.ifCond .eq 7, 3) := dk_153 0 7 (dk_at dksX0_lays_5 0 rfl rfl)
theorem dX0_lays_119 : decode cX0_lays 119 = .ok (.iconst 0, 1) := dk_3 (dk_at dksX0_lays_5 3 rfl rfl)
theorem dX0_lays_120 : decode cX0_lays 120 = .ok (.goto 34, 3) := dk_167 0 34 (dk_at dksX0_lays_5 4 rfl rfl)
theorem dX0_lays_123 : decode cX0_lays 123 = .ok (.aload_n 0, 1) := dk_42 (dk_at dksX0_lays_5 7 rfl rfl)
theorem dX0_lays_124 : decode cX0_lays 124 = .ok (.getfield 45, 3) := dk_180 0 45 (dk_at dksX0_lays_5 8 rfl rfl)
theorem dX0_lays_127 : decode cX0_lays 127 = .ok (.iload_n 1, 1) := dk_27 (dk_at dksX0_lays_5 11 rfl rfl)
theorem dX0_lays_128 : decode cX0_lays 128 = .ok (.aaload, 1) := dk_50 (dk_at dksX0_lays_5 12 rfl rfl)
theorem dX0_lays_129 : decode cX0_lays 129 = .ok (.iload_n 2, 1) := dk_28 (dk_at dksX0_lays_5 13 rfl rfl)
theorem dX0_lays_130 : decode cX0_lays 130 = .ok (.iaload, 1) := dk_46 (dk_at dksX0_lays_5 14 rfl rfl)
theorem dX0_lays_131 : decode cX0_lays 131 = .ok (.ldc 220, 2) := dk_18 220 (dk_at dksX0_lays_5 15 rfl rfl)
theorem dX0_lays_133 : decode cX0_lays 133 = .ok (.if_icmp .ne 8, 3) := dk_160 0 8 (dk_at dksX0_lays_5 17 rfl rfl)
theorem dX0_lays_136 : decode cX0_lays 136 = .ok (.ldc 220, 2) := dk_18 220 (dk_at dksX0_lays_5 20 rfl rfl)
theorem dX0_lays_138 : decode cX0_lays 138 = .ok (.goto 16, 3) := dk_167 0 16 (dk_at dksX0_lays_6 0 rfl rfl)
theorem dX0_lays_141 : decode cX0_lays 141 = .ok (.bipush 100, 2) := dk_16 100 (dk_at dksX0_lays_6 3 rfl rfl)
theorem dX0_lays_143 : decode cX0_lays 143 = .ok (.aload_n 0, 1) := dk_42 (dk_at dksX0_lays_6 5 rfl rfl)
theorem dX0_lays_144 : decode cX0_lays 144 = .ok (.getfield 45, 3) := dk_180 0 45 (dk_at dksX0_lays_6 6 rfl rfl)
theorem dX0_lays_147 : decode cX0_lays 147 = .ok (.iload_n 1, 1) := dk_27 (dk_at dksX0_lays_6 9 rfl rfl)
theorem dX0_lays_148 : decode cX0_lays 148 = .ok (.aaload, 1) := dk_50 (dk_at dksX0_lays_6 10 rfl rfl)
theorem dX0_lays_149 : decode cX0_lays 149 = .ok (.iload_n 2, 1) := dk_28 (dk_at dksX0_lays_6 11 rfl rfl)
theorem dX0_lays_150 : decode cX0_lays 150 = .ok (.iaload, 1) := dk_46 (dk_at dksX0_lays_6 12 rfl rfl)
theorem dX0_lays_151 : decode cX0_lays 151 = .ok (.imul, 1) := dk_104 (dk_at dksX0_lays_6 13 rfl rfl)
theorem dX0_lays_152 : decode cX0_lays 152 = .ok (.iconst 1, 1) := dk_4 (dk_at dksX0_lays_6 14 rfl rfl)
theorem dX0_lays_153 : decode cX0_lays 153 = .ok (.iadd, 1) := dk_96 (dk_at dksX0_lays_6 15 rfl rfl)
theorem dX0_lays_154 : decode cX0_lays 154 = .ok (.iastore, 1) := dk_79 (dk_at dksX0_lays_6 16 rfl rfl)
theorem dX0_lays_155 : decode cX0_lays 155 = .ok (.iinc 2 1, 3) := dk_132 2 1 (dk_at dksX0_lays_6 17 rfl rfl)
theorem dX0_lays_158 : decode cX0_lays 158 = .ok (.goto (-67), 3) := dk_167 255 189 (dk_at dksX0_lays_6 20 rfl rfl)
theorem dX0_lays_161 : decode cX0_lays 161 = .ok (.iinc 1 1, 3) := dk_132 1 1 (dk_at dksX0_lays_7 0 rfl rfl)
theorem dX0_lays_164 : decode cX0_lays 164 = .ok (.goto (-104), 3) := dk_167 255 152 (dk_at dksX0_lays_7 3 rfl rfl)
theorem dX0_lays_167 : decode cX0_lays 167 = .ok (.iconst 0, 1) := dk_3 (dk_at dksX0_lays_7 6 rfl rfl)
theorem dX0_lays_168 : decode cX0_lays 168 = .ok (.istore_n 1, 1) := dk_60 (dk_at dksX0_lays_7 7 rfl rfl)
theorem dX0_lays_169 : decode cX0_lays 169 = .ok (.iload_n 1, 1) := dk_27 (dk_at dksX0_lays_7 8 rfl rfl)
theorem dX0_lays_170 : decode cX0_lays 170 = .ok (.aload_n 0, 1) := dk_42 (dk_at dksX0_lays_7 9 rfl rfl)
theorem dX0_lays_171 : decode cX0_lays 171 = .ok (.getfield 113, 3) := dk_180 0 113 (dk_at dksX0_lays_7 10 rfl rfl)
theorem dX0_lays_174 : decode cX0_lays 174 = .ok (.if_icmp .ge 82, 3) := dk_162 0 82 (dk_at dksX0_lays_7 13 rfl rfl)
theorem dX0_lays_177 : decode cX0_lays 177 = .ok (.iconst 0, 1) := dk_3 (dk_at dksX0_lays_7 16 rfl rfl)
theorem dX0_lays_178 : decode cX0_lays 178 = .ok (.istore_n 2, 1) := dk_61 (dk_at dksX0_lays_7 17 rfl rfl)
theorem dX0_lays_179 : decode cX0_lays 179 = .ok (.iload_n 2, 1) := dk_28 (dk_at dksX0_lays_7 18 rfl rfl)
theorem dX0_lays_180 : decode cX0_lays 180 = .ok (.aload_n 0, 1) := dk_42 (dk_at dksX0_lays_7 19 rfl rfl)
theorem dX0_lays_181 : decode cX0_lays 181 = .ok (.getfield 113, 3) := dk_180 0 113 (dk_at dksX0_lays_7 20 rfl rfl)
theorem dX0_lays_184 : decode cX0_lays 184 = .ok (.if_icmp .ge 66, 3) := dk_162 0 66 (dk_at dksX0_lays_8 0 rfl rfl)
theorem dX0_lays_187 : decode cX0_lays 187 = .ok (.iconst 0, 1) := dk_3 (dk_at dksX0_lays_8 3 rfl rfl)
theorem dX0_lays_188 : decode cX0_lays 188 = .ok (.istore_n 3, 1) := dk_62 (dk_at dksX0_lays_8 4 rfl rfl)
theorem dX0_lays_189 : decode cX0_lays 189 = .ok (.iload_n 3, 1) := dk_29 (dk_at dksX0_lays_8 5 rfl rfl)
theorem dX0_lays_190 : decode cX0_lays 190 = .ok (.aload_n 0, 1) := dk_42 (dk_at dksX0_lays_8 6 rfl rfl)
theorem dX0_lays_191 : decode cX0_lays 191 = .ok (.getfield 113, 3) := dk_180 0 113 (dk_at dksX0_lays_8 7 rfl rfl)
theorem dX0_lays_194 : decode cX0_lays 194 = .ok (.if_icmp .ge 50, 3) := dk_162 0 50 (dk_at dksX0_lays_8 10 rfl rfl)
theorem dX0_lays_197 : decode cX0_lays 197 = .ok (.aload_n 0, 1) := dk_42 (dk_at dksX0_lays_8 13 rfl rfl)
theorem dX0_lays_198 : decode cX0_lays 198 = .ok (.getfield 54, 3) := dk_180 0 54 (dk_at dksX0_lays_8 14 rfl rfl)
theorem dX0_lays_201 : decode cX0_lays 201 = .ok (.iload_n 2, 1) := dk_28 (dk_at dksX0_lays_8 17 rfl rfl)
theorem dX0_lays_202 : decode cX0_lays 202 = .ok (.aaload, 1) := dk_50 (dk_at dksX0_lays_8 18 rfl rfl)
theorem dX0_lays_203 : decode cX0_lays 203 = .ok (.iload_n 3, 1) := dk_29 (dk_at dksX0_lays_8 19 rfl rfl)
theorem dX0_lays_204 : decode cX0_lays 204 = .ok (.aload_n 0, 1) := dk_42 (dk_at dksX0_lays_8 20 rfl rfl)
theorem dX0_lays_205 : decode cX0_lays 205 = .ok (.getfield 54, 3) := dk_180 0 54 (dk_at dksX0_lays_8 21 rfl rfl)
theorem dX0_lays_208 : decode cX0_lays 208 = .ok (.iload_n 2, 1) := dk_28 (dk_at dksX0_lays_9 0 rfl rfl)
theorem dX0_lays_209 : decode cX0_lays 209 = .ok (.aaload, 1) := dk_50 (dk_at dksX0_lays_9 1 rfl rfl)
theorem dX0_lays_210 : decode cX0_lays 210 = .ok (.iload_n 3, 1) := dk_29 (dk_at dksX0_lays_9 2 rfl rfl)
theorem dX0_lays_211 : decode cX0_lays 211 = .ok (.iaload, 1) := dk_46 (dk_at dksX0_lays_9 3 rfl rfl)
theorem dX0_lays_212 : decode cX0_lays 212 = .ok (.ldc 220, 2) := dk_18 220 (dk_at dksX0_lays_9 4 rfl rfl)
theorem dX0_lays_214 : decode cX0_lays 214 = .ok (.aload_n 0, 1) := dk_42 (dk_at dksX0_lays_9 6 rfl rfl)
theorem dX0_lays_215 : decode cX0_lays 215 = .ok (.getfield 54, 3) := dk_180 0 54 (dk_at dksX0_lays_9 7 rfl rfl)
theorem dX0_lays_218 : decode cX0_lays 218 = .ok (.iload_n 2, 1) := dk_28 (dk_at dksX0_lays_9 10 rfl rfl)
theorem dX0_lays_219 : decode cX0_lays 219 = .ok (.aaload, 1) := dk_50 (dk_at dksX0_lays_9 11 rfl rfl)
theorem dX0_lays_220 : decode cX0_lays 220 = .ok (.iload_n 1, 1) := dk_27 (dk_at dksX0_lays_9 12 rfl rfl)
theorem dX0_lays_221 : decode cX0_lays 221 = .ok (.iaload, 1) := dk_46 (dk_at dksX0_lays_9 13 rfl rfl)
theorem dX0_lays_222 : decode cX0_lays 222 = .ok (.aload_n 0, 1) := dk_42 (dk_at dksX0_lays_9 14 rfl rfl)
theorem dX0_lays_223 : decode cX0_lays 223 = .ok (.getfield 54, 3) := dk_180 0 54 (dk_at dksX0_lays_9 15 rfl rfl)
theorem dX0_lays_226 : decode cX0_lays 226 = .ok (.iload_n 1, 1) := dk_27 (dk_at dksX0_lays_9 18 rfl rfl)
theorem dX0_lays_227 : decode cX0_lays 227 = .ok (.aaload, 1) := dk_50 (dk_at dksX0_lays_9 19 rfl rfl)
theorem dX0_lays_228 : decode cX0_lays 228 = .ok (.iload_n 3, 1) := dk_29 (dk_at dksX0_lays_9 20 rfl rfl)
theorem dX0_lays_229 : decode cX0_lays 229 = .ok (.iaload, 1) := dk_46 (dk_at dksX0_lays_9 21 rfl rfl)
theorem dX0_lays_230 : decode cX0_lays 230 = .ok (.iadd, 1) := dk_96 (dk_at dksX0_lays_9 22 rfl rfl)
theorem dX0_lays_231 : decode cX0_lays 231 = .ok (.invokestatic 232, 3) := dk_184 0 232 (dk_at dksX0_lays_10 0 rfl rfl)
theorem dX0_lays_234 : decode cX0_lays 234 = .ok (.invokestatic 232, 3) := dk_184 0 232 (dk_at dksX0_lays_10 3 rfl rfl)
theorem dX0_lays_237 : decode cX0_lays 237 = .ok (.iastore, 1) := dk_79 (dk_at dksX0_lays_10 6 rfl rfl)
theorem dX0_lays_238 : decode cX0_lays 238 = .ok (.iinc 3 1, 3) := dk_132 3 1 (dk_at dksX0_lays_10 7 rfl rfl)
theorem dX0_lays_241 : decode cX0_lays 241 = .ok (.goto (-52), 3) := dk_167 255 204 (dk_at dksX0_lays_10 10 rfl rfl)
theorem dX0_lays_244 : decode cX0_lays 244 = .ok (.iinc 2 1, 3) := dk_132 2 1 (dk_at dksX0_lays_10 13 rfl rfl)
theorem dX0_lays_247 : decode cX0_lays 247 = .ok (.goto (-68), 3) := dk_167 255 188 (dk_at dksX0_lays_10 16 rfl rfl)
theorem dX0_lays_250 : decode cX0_lays 250 = .ok (.iinc 1 1, 3) := dk_132 1 1 (dk_at dksX0_lays_10 19 rfl rfl)
theorem dX0_lays_253 : decode cX0_lays 253 = .ok (.goto (-84), 3) := dk_167 255 172 (dk_at dksX0_lays_11 0 rfl rfl)
theorem dX0_lays_256 : decode cX0_lays 256 = .ok (.iconst 0, 1) := dk_3 (dk_at dksX0_lays_11 3 rfl rfl)
theorem dX0_lays_257 : decode cX0_lays 257 = .ok (.istore_n 1, 1) := dk_60 (dk_at dksX0_lays_11 4 rfl rfl)
theorem dX0_lays_258 : decode cX0_lays 258 = .ok (.iload_n 1, 1) := dk_27 (dk_at dksX0_lays_11 5 rfl rfl)
theorem dX0_lays_259 : decode cX0_lays 259 = .ok (.aload_n 0, 1) := dk_42 (dk_at dksX0_lays_11 6 rfl rfl)
theorem dX0_lays_260 : decode cX0_lays 260 = .ok (.getfield 113, 3) := dk_180 0 113 (dk_at dksX0_lays_11 7 rfl rfl)
theorem dX0_lays_263 : decode cX0_lays 263 = .ok (.if_icmp .ge 50, 3) := dk_162 0 50 (dk_at dksX0_lays_11 10 rfl rfl)
theorem dX0_lays_266 : decode cX0_lays 266 = .ok (.iconst 0, 1) := dk_3 (dk_at dksX0_lays_11 13 rfl rfl)
theorem dX0_lays_267 : decode cX0_lays 267 = .ok (.istore_n 2, 1) := dk_61 (dk_at dksX0_lays_11 14 rfl rfl)
theorem dX0_lays_268 : decode cX0_lays 268 = .ok (.iload_n 2, 1) := dk_28 (dk_at dksX0_lays_11 15 rfl rfl)
theorem dX0_lays_269 : decode cX0_lays 269 = .ok (.aload_n 0, 1) := dk_42 (dk_at dksX0_lays_11 16 rfl rfl)
theorem dX0_lays_270 : decode cX0_lays 270 = .ok (.getfield 113, 3) := dk_180 0 113 (dk_at dksX0_lays_11 17 rfl rfl)
theorem dX0_lays_273 : decode cX0_lays 273 = .ok (.if_icmp .ge 34, 3) := dk_162 0 34 (dk_at dksX0_lays_11 20 rfl rfl)
theorem dX0_lays_276 : decode cX0_lays 276 = .ok (.aload_n 0, 1) := dk_42 (dk_at dksX0_lays_11 23 rfl rfl)
theorem dX0_lays_277 : decode cX0_lays 277 = .ok (.getfield 54, 3) := dk_180 0 54 (dk_at dksX0_lays_12 0 rfl rfl)
theorem dX0_lays_280 : decode cX0_lays 280 = .ok (.iload_n 1, 1) := dk_27 (dk_at dksX0_lays_12 3 rfl rfl)
theorem dX0_lays_281 : decode cX0_lays 281 = .ok (.aaload, 1) := dk_50 (dk_at dksX0_lays_12 4 rfl rfl)
theorem dX0_lays_282 : decode cX0_lays 282 = .ok (.iload_n 2, 1) := dk_28 (dk_at dksX0_lays_12 5 rfl rfl)
theorem dX0_lays_283 : decode cX0_lays 283 = .ok (.iaload, 1) := dk_46 (dk_at dksX0_lays_12 6 rfl rfl)
theorem dX0_lays_284 : decode cX0_lays 284 = .ok (.ldc 220, 2) := dk_18 220 (dk_at dksX0_lays_12 7 rfl rfl)
theorem dX0_lays_286 : decode cX0_lays 286 = .ok (.if_icmp .ge 15, 3) := dk_162 0 15 (dk_at dksX0_lays_12 9 rfl rfl)
theorem dX0_lays_289 : decode cX0_lays 289 = .ok (.aload_n 0, 1) := dk_42 (dk_at dksX0_lays_12 12 rfl rfl)
theorem dX0_lays_290 : decode cX0_lays 290 = .ok (.getfield 57, 3) := dk_180 0 57 (dk_at dksX0_lays_12 13 rfl rfl)
theorem dX0_lays_293 : decode cX0_lays 293 = .ok (.iload_n 1, 1) := dk_27 (dk_at dksX0_lays_12 16 rfl rfl)
theorem dX0_lays_294 : decode cX0_lays 294 = .ok (.dup2, 1) := dk_92 (dk_at dksX0_lays_12 17 rfl rfl)
theorem dX0_lays_295 : decode cX0_lays 295 = .ok (.laload, 1) := dk_47 (dk_at dksX0_lays_12 18 rfl rfl)
theorem dX0_lays_296 : decode cX0_lays 296 = .ok (.lconst 1, 1) := dk_10 (dk_at dksX0_lays_12 19 rfl rfl)
theorem dX0_lays_297 : decode cX0_lays 297 = .ok (.iload_n 2, 1) := dk_28 (dk_at dksX0_lays_12 20 rfl rfl)
theorem dX0_lays_298 : decode cX0_lays 298 = .ok (.lshl, 1) := dk_121 (dk_at dksX0_lays_12 21 rfl rfl)
theorem dX0_lays_299 : decode cX0_lays 299 = .ok (.lor, 1) := dk_129 (dk_at dksX0_lays_12 22 rfl rfl)
theorem dX0_lays_300 : decode cX0_lays 300 = .ok (.lastore, 1) := dk_80 (dk_at dksX0_lays_12 23 rfl rfl)
theorem dX0_lays_301 : decode cX0_lays 301 = .ok (.iinc 2 1, 3) := dk_132 2 1 (dk_at dksX0_lays_13 0 rfl rfl)
theorem dX0_lays_304 : decode cX0_lays 304 = .ok (.goto (-36), 3) := dk_167 255 220 (dk_at dksX0_lays_13 3 rfl rfl)
theorem dX0_lays_307 : decode cX0_lays 307 = .ok (.iinc 1 1, 3) := dk_132 1 1 (dk_at dksX0_lays_13 6 rfl rfl)
theorem dX0_lays_310 : decode cX0_lays 310 = .ok (.goto (-52), 3) := dk_167 255 204 (dk_at dksX0_lays_13 9 rfl rfl)
theorem dX0_lays_313 : decode cX0_lays 313 = .ok (.return_, 1) := dk_177 (dk_at dksX0_lays_13 12 rfl rfl)
abbrev cX0_laysStep : ByteArray := prog_1_method_20_code
def yX0_laysStep : MethodName := ⟨RX0, "laysStep", "(II)V"⟩
def dkwX0_laysStep_8 : List UInt8 := [21, 5, 182, 0, 224, 132, 5, 1, 167, 255, 224, 177]
abbrev dktX0_laysStep_8 : List UInt8 := dkwX0_laysStep_8 ++ []
def dkwX0_laysStep_7 : List UInt8 := [21, 5, 45, 180, 0, 189, 162, 0, 29, 45, 21, 5, 25, 4, 182, 0, 205, 153, 0, 12, 42, 27, 28, 5]
abbrev dktX0_laysStep_7 : List UInt8 := dkwX0_laysStep_7 ++ dktX0_laysStep_8
def dkwX0_laysStep_6 : List UInt8 := [182, 0, 205, 153, 0, 12, 42, 27, 28, 4, 21, 5, 182, 0, 224, 132, 5, 1, 167, 255, 223, 3, 54, 5]
abbrev dktX0_laysStep_6 : List UInt8 := dkwX0_laysStep_6 ++ dktX0_laysStep_7
def dkwX0_laysStep_5 : List UInt8 := [180, 0, 194, 182, 0, 224, 3, 54, 5, 21, 5, 25, 4, 180, 0, 189, 162, 0, 29, 25, 4, 21, 5, 45]
abbrev dktX0_laysStep_5 : List UInt8 := dkwX0_laysStep_5 ++ dktX0_laysStep_6
def dkwX0_laysStep_4 : List UInt8 := [5, 160, 0, 28, 42, 45, 25, 4, 42, 180, 0, 194, 182, 0, 201, 153, 0, 14, 42, 27, 28, 6, 42]
abbrev dktX0_laysStep_4 : List UInt8 := dkwX0_laysStep_4 ++ dktX0_laysStep_5
def dkwX0_laysStep_3 : List UInt8 := [54, 5, 21, 5, 4, 160, 0, 17, 42, 27, 28, 3, 42, 180, 0, 194, 182, 0, 224, 167, 0, 34, 21, 5]
abbrev dktX0_laysStep_3 : List UInt8 := dkwX0_laysStep_3 ++ dktX0_laysStep_4
def dkwX0_laysStep_2 : List UInt8 := [180, 0, 148, 58, 4, 45, 180, 0, 189, 25, 4, 180, 0, 189, 160, 0, 63, 42, 45, 25, 4, 182, 0, 197]
abbrev dktX0_laysStep_2 : List UInt8 := dkwX0_laysStep_2 ++ dktX0_laysStep_3
def dkwX0_laysStep_1 : List UInt8 := [28, 182, 0, 221, 154, 0, 4, 177, 42, 180, 0, 11, 27, 50, 180, 0, 148, 78, 42, 180, 0, 11, 28, 50]
abbrev dktX0_laysStep_1 : List UInt8 := dkwX0_laysStep_1 ++ dktX0_laysStep_2
def dkwX0_laysStep_0 : List UInt8 := [42, 180, 0, 45, 27, 50, 28, 18, 220, 79, 27, 28, 159, 0, 19, 42, 27, 182, 0, 221, 153, 0, 11, 42]
abbrev dktX0_laysStep_0 : List UInt8 := dkwX0_laysStep_0 ++ dktX0_laysStep_1
theorem dksX0_laysStep_0 : cX0_laysStep.data.toList.drop 0 = dktX0_laysStep_0 := by decide +kernel
theorem dksX0_laysStep_1 : cX0_laysStep.data.toList.drop 24 = dktX0_laysStep_1 := dk_seg dksX0_laysStep_0 24 rfl rfl
theorem dksX0_laysStep_2 : cX0_laysStep.data.toList.drop 48 = dktX0_laysStep_2 := dk_seg dksX0_laysStep_1 24 rfl rfl
theorem dksX0_laysStep_3 : cX0_laysStep.data.toList.drop 72 = dktX0_laysStep_3 := dk_seg dksX0_laysStep_2 24 rfl rfl
theorem dksX0_laysStep_4 : cX0_laysStep.data.toList.drop 96 = dktX0_laysStep_4 := dk_seg dksX0_laysStep_3 24 rfl rfl
theorem dksX0_laysStep_5 : cX0_laysStep.data.toList.drop 119 = dktX0_laysStep_5 := dk_seg dksX0_laysStep_4 23 rfl rfl
theorem dksX0_laysStep_6 : cX0_laysStep.data.toList.drop 143 = dktX0_laysStep_6 := dk_seg dksX0_laysStep_5 24 rfl rfl
theorem dksX0_laysStep_7 : cX0_laysStep.data.toList.drop 167 = dktX0_laysStep_7 := dk_seg dksX0_laysStep_6 24 rfl rfl
theorem dksX0_laysStep_8 : cX0_laysStep.data.toList.drop 191 = dktX0_laysStep_8 := dk_seg dksX0_laysStep_7 24 rfl rfl
theorem dX0_laysStep_0 : decode cX0_laysStep 0 = .ok (.aload_n 0, 1) := dk_42 (dk_at dksX0_laysStep_0 0 rfl rfl)
theorem dX0_laysStep_1 : decode cX0_laysStep 1 = .ok (.getfield 45, 3) := dk_180 0 45 (dk_at dksX0_laysStep_0 1 rfl rfl)
theorem dX0_laysStep_4 : decode cX0_laysStep 4 = .ok (.iload_n 1, 1) := dk_27 (dk_at dksX0_laysStep_0 4 rfl rfl)
theorem dX0_laysStep_5 : decode cX0_laysStep 5 = .ok (.aaload, 1) := dk_50 (dk_at dksX0_laysStep_0 5 rfl rfl)
theorem dX0_laysStep_6 : decode cX0_laysStep 6 = .ok (.iload_n 2, 1) := dk_28 (dk_at dksX0_laysStep_0 6 rfl rfl)
theorem dX0_laysStep_7 : decode cX0_laysStep 7 = .ok (.ldc 220, 2) := dk_18 220 (dk_at dksX0_laysStep_0 7 rfl rfl)
theorem dX0_laysStep_9 : decode cX0_laysStep 9 = .ok (.iastore, 1) := dk_79 (dk_at dksX0_laysStep_0 9 rfl rfl)
theorem dX0_laysStep_10 : decode cX0_laysStep 10 = .ok (.iload_n 1, 1) := dk_27 (dk_at dksX0_laysStep_0 10 rfl rfl)
theorem dX0_laysStep_11 : decode cX0_laysStep 11 = .ok (.iload_n 2, 1) := dk_28 (dk_at dksX0_laysStep_0 11 rfl rfl)
theorem dX0_laysStep_12 : decode cX0_laysStep 12 = .ok (.if_icmp .eq 19, 3) := dk_159 0 19 (dk_at dksX0_laysStep_0 12 rfl rfl)
theorem dX0_laysStep_15 : decode cX0_laysStep 15 = .ok (.aload_n 0, 1) := dk_42 (dk_at dksX0_laysStep_0 15 rfl rfl)
theorem dX0_laysStep_16 : decode cX0_laysStep 16 = .ok (.iload_n 1, 1) := dk_27 (dk_at dksX0_laysStep_0 16 rfl rfl)
theorem dX0_laysStep_17 : decode cX0_laysStep 17 = .ok (.invokevirtual 221, 3) := dk_182 0 221 (dk_at dksX0_laysStep_0 17 rfl rfl)
theorem dX0_laysStep_20 : decode cX0_laysStep 20 = .ok (.ifCond .eq 11, 3) := dk_153 0 11 (dk_at dksX0_laysStep_0 20 rfl rfl)
theorem dX0_laysStep_23 : decode cX0_laysStep 23 = .ok (.aload_n 0, 1) := dk_42 (dk_at dksX0_laysStep_0 23 rfl rfl)
theorem dX0_laysStep_24 : decode cX0_laysStep 24 = .ok (.iload_n 2, 1) := dk_28 (dk_at dksX0_laysStep_1 0 rfl rfl)
theorem dX0_laysStep_25 : decode cX0_laysStep 25 = .ok (.invokevirtual 221, 3) := dk_182 0 221 (dk_at dksX0_laysStep_1 1 rfl rfl)
theorem dX0_laysStep_28 : decode cX0_laysStep 28 = .ok (.ifCond .ne 4, 3) := dk_154 0 4 (dk_at dksX0_laysStep_1 4 rfl rfl)
theorem dX0_laysStep_31 : decode cX0_laysStep 31 = .ok (.return_, 1) := dk_177 (dk_at dksX0_laysStep_1 7 rfl rfl)
theorem dX0_laysStep_32 : decode cX0_laysStep 32 = .ok (.aload_n 0, 1) := dk_42 (dk_at dksX0_laysStep_1 8 rfl rfl)
theorem dX0_laysStep_33 : decode cX0_laysStep 33 = .ok (.getfield 11, 3) := dk_180 0 11 (dk_at dksX0_laysStep_1 9 rfl rfl)
theorem dX0_laysStep_36 : decode cX0_laysStep 36 = .ok (.iload_n 1, 1) := dk_27 (dk_at dksX0_laysStep_1 12 rfl rfl)
theorem dX0_laysStep_37 : decode cX0_laysStep 37 = .ok (.aaload, 1) := dk_50 (dk_at dksX0_laysStep_1 13 rfl rfl)
theorem dX0_laysStep_38 : decode cX0_laysStep 38 = .ok (.getfield 148, 3) := dk_180 0 148 (dk_at dksX0_laysStep_1 14 rfl rfl)
theorem dX0_laysStep_41 : decode cX0_laysStep 41 = .ok (.astore_n 3, 1) := dk_78 (dk_at dksX0_laysStep_1 17 rfl rfl)
theorem dX0_laysStep_42 : decode cX0_laysStep 42 = .ok (.aload_n 0, 1) := dk_42 (dk_at dksX0_laysStep_1 18 rfl rfl)
theorem dX0_laysStep_43 : decode cX0_laysStep 43 = .ok (.getfield 11, 3) := dk_180 0 11 (dk_at dksX0_laysStep_1 19 rfl rfl)
theorem dX0_laysStep_46 : decode cX0_laysStep 46 = .ok (.iload_n 2, 1) := dk_28 (dk_at dksX0_laysStep_1 22 rfl rfl)
theorem dX0_laysStep_47 : decode cX0_laysStep 47 = .ok (.aaload, 1) := dk_50 (dk_at dksX0_laysStep_1 23 rfl rfl)
theorem dX0_laysStep_48 : decode cX0_laysStep 48 = .ok (.getfield 148, 3) := dk_180 0 148 (dk_at dksX0_laysStep_2 0 rfl rfl)
theorem dX0_laysStep_51 : decode cX0_laysStep 51 = .ok (.astore 4, 2) := dk_58 4 (dk_at dksX0_laysStep_2 3 rfl rfl)
theorem dX0_laysStep_53 : decode cX0_laysStep 53 = .ok (.aload_n 3, 1) := dk_45 (dk_at dksX0_laysStep_2 5 rfl rfl)
theorem dX0_laysStep_54 : decode cX0_laysStep 54 = .ok (.getfield 189, 3) := dk_180 0 189 (dk_at dksX0_laysStep_2 6 rfl rfl)
theorem dX0_laysStep_57 : decode cX0_laysStep 57 = .ok (.aload 4, 2) := dk_25 4 (dk_at dksX0_laysStep_2 9 rfl rfl)
theorem dX0_laysStep_59 : decode cX0_laysStep 59 = .ok (.getfield 189, 3) := dk_180 0 189 (dk_at dksX0_laysStep_2 11 rfl rfl)
theorem dX0_laysStep_62 : decode cX0_laysStep 62 = .ok (.if_icmp .ne 63, 3) := dk_160 0 63 (dk_at dksX0_laysStep_2 14 rfl rfl)
theorem dX0_laysStep_65 : decode cX0_laysStep 65 = .ok (.aload_n 0, 1) := dk_42 (dk_at dksX0_laysStep_2 17 rfl rfl)
theorem dX0_laysStep_66 : decode cX0_laysStep 66 = .ok (.aload_n 3, 1) := dk_45 (dk_at dksX0_laysStep_2 18 rfl rfl)
theorem dX0_laysStep_67 : decode cX0_laysStep 67 = .ok (.aload 4, 2) := dk_25 4 (dk_at dksX0_laysStep_2 19 rfl rfl)
theorem dX0_laysStep_69 : decode cX0_laysStep 69 = .ok (.invokevirtual 197, 3) := dk_182 0 197 (dk_at dksX0_laysStep_2 21 rfl rfl)
theorem dX0_laysStep_72 : decode cX0_laysStep 72 = .ok (.istore 5, 2) := dk_54 5 (dk_at dksX0_laysStep_3 0 rfl rfl)
theorem dX0_laysStep_74 : decode cX0_laysStep 74 = .ok (.iload 5, 2) := dk_21 5 (dk_at dksX0_laysStep_3 2 rfl rfl)
theorem dX0_laysStep_76 : decode cX0_laysStep 76 = .ok (.iconst 1, 1) := dk_4 (dk_at dksX0_laysStep_3 4 rfl rfl)
theorem dX0_laysStep_77 : decode cX0_laysStep 77 = .ok (.if_icmp .ne 17, 3) := dk_160 0 17 (dk_at dksX0_laysStep_3 5 rfl rfl)
theorem dX0_laysStep_80 : decode cX0_laysStep 80 = .ok (.aload_n 0, 1) := dk_42 (dk_at dksX0_laysStep_3 8 rfl rfl)
theorem dX0_laysStep_81 : decode cX0_laysStep 81 = .ok (.iload_n 1, 1) := dk_27 (dk_at dksX0_laysStep_3 9 rfl rfl)
theorem dX0_laysStep_82 : decode cX0_laysStep 82 = .ok (.iload_n 2, 1) := dk_28 (dk_at dksX0_laysStep_3 10 rfl rfl)
theorem dX0_laysStep_83 : decode cX0_laysStep 83 = .ok (.iconst 0, 1) := dk_3 (dk_at dksX0_laysStep_3 11 rfl rfl)
theorem dX0_laysStep_84 : decode cX0_laysStep 84 = .ok (.aload_n 0, 1) := dk_42 (dk_at dksX0_laysStep_3 12 rfl rfl)
theorem dX0_laysStep_85 : decode cX0_laysStep 85 = .ok (.getfield 194, 3) := dk_180 0 194 (dk_at dksX0_laysStep_3 13 rfl rfl)
theorem dX0_laysStep_88 : decode cX0_laysStep 88 = .ok (.invokevirtual 224, 3) := dk_182 0 224 (dk_at dksX0_laysStep_3 16 rfl rfl)
theorem dX0_laysStep_91 : decode cX0_laysStep 91 = .ok (.goto 34, 3) := dk_167 0 34 (dk_at dksX0_laysStep_3 19 rfl rfl)
theorem dX0_laysStep_94 : decode cX0_laysStep 94 = .ok (.iload 5, 2) := dk_21 5 (dk_at dksX0_laysStep_3 22 rfl rfl)
theorem dX0_laysStep_96 : decode cX0_laysStep 96 = .ok (.iconst 2, 1) := dk_5 (dk_at dksX0_laysStep_4 0 rfl rfl)
theorem dX0_laysStep_97 : decode cX0_laysStep 97 = .ok (.if_icmp .ne 28, 3) := dk_160 0 28 (dk_at dksX0_laysStep_4 1 rfl rfl)
theorem dX0_laysStep_100 : decode cX0_laysStep 100 = .ok (.aload_n 0, 1) := dk_42 (dk_at dksX0_laysStep_4 4 rfl rfl)
theorem dX0_laysStep_101 : decode cX0_laysStep 101 = .ok (.aload_n 3, 1) := dk_45 (dk_at dksX0_laysStep_4 5 rfl rfl)
theorem dX0_laysStep_102 : decode cX0_laysStep 102 = .ok (.aload 4, 2) := dk_25 4 (dk_at dksX0_laysStep_4 6 rfl rfl)
theorem dX0_laysStep_104 : decode cX0_laysStep 104 = .ok (.aload_n 0, 1) := dk_42 (dk_at dksX0_laysStep_4 8 rfl rfl)
theorem dX0_laysStep_105 : decode cX0_laysStep 105 = .ok (.getfield 194, 3) := dk_180 0 194 (dk_at dksX0_laysStep_4 9 rfl rfl)
theorem dX0_laysStep_108 : decode cX0_laysStep 108 = .ok (.invokevirtual 201, 3) := dk_182 0 201 (dk_at dksX0_laysStep_4 12 rfl rfl)
theorem dX0_laysStep_111 : decode cX0_laysStep 111 = .ok (.ifCond .eq 14, 3) := dk_153 0 14 (dk_at dksX0_laysStep_4 15 rfl rfl)
theorem dX0_laysStep_114 : decode cX0_laysStep 114 = .ok (.aload_n 0, 1) := dk_42 (dk_at dksX0_laysStep_4 18 rfl rfl)
theorem dX0_laysStep_115 : decode cX0_laysStep 115 = .ok (.iload_n 1, 1) := dk_27 (dk_at dksX0_laysStep_4 19 rfl rfl)
theorem dX0_laysStep_116 : decode cX0_laysStep 116 = .ok (.iload_n 2, 1) := dk_28 (dk_at dksX0_laysStep_4 20 rfl rfl)
theorem dX0_laysStep_117 : decode cX0_laysStep 117 = .ok (.iconst 3, 1) := dk_6 (dk_at dksX0_laysStep_4 21 rfl rfl)
theorem dX0_laysStep_118 : decode cX0_laysStep 118 = .ok (.aload_n 0, 1) := dk_42 (dk_at dksX0_laysStep_4 22 rfl rfl)
theorem dX0_laysStep_119 : decode cX0_laysStep 119 = .ok (.getfield 194, 3) := dk_180 0 194 (dk_at dksX0_laysStep_5 0 rfl rfl)
theorem dX0_laysStep_122 : decode cX0_laysStep 122 = .ok (.invokevirtual 224, 3) := dk_182 0 224 (dk_at dksX0_laysStep_5 3 rfl rfl)
theorem dX0_laysStep_125 : decode cX0_laysStep 125 = .ok (.iconst 0, 1) := dk_3 (dk_at dksX0_laysStep_5 6 rfl rfl)
theorem dX0_laysStep_126 : decode cX0_laysStep 126 = .ok (.istore 5, 2) := dk_54 5 (dk_at dksX0_laysStep_5 7 rfl rfl)
theorem dX0_laysStep_128 : decode cX0_laysStep 128 = .ok (.iload 5, 2) := dk_21 5 (dk_at dksX0_laysStep_5 9 rfl rfl)
theorem dX0_laysStep_130 : decode cX0_laysStep 130 = .ok (.aload 4, 2) := dk_25 4 (dk_at dksX0_laysStep_5 11 rfl rfl)
theorem dX0_laysStep_132 : decode cX0_laysStep 132 = .ok (.getfield 189, 3) := dk_180 0 189 (dk_at dksX0_laysStep_5 13 rfl rfl)
theorem dX0_laysStep_135 : decode cX0_laysStep 135 = .ok (.if_icmp .ge 29, 3) := dk_162 0 29 (dk_at dksX0_laysStep_5 16 rfl rfl)
theorem dX0_laysStep_138 : decode cX0_laysStep 138 = .ok (.aload 4, 2) := dk_25 4 (dk_at dksX0_laysStep_5 19 rfl rfl)
theorem dX0_laysStep_140 : decode cX0_laysStep 140 = .ok (.iload 5, 2) := dk_21 5 (dk_at dksX0_laysStep_5 21 rfl rfl)
theorem dX0_laysStep_142 : decode cX0_laysStep 142 = .ok (.aload_n 3, 1) := dk_45 (dk_at dksX0_laysStep_5 23 rfl rfl)
theorem dX0_laysStep_143 : decode cX0_laysStep 143 = .ok (.invokevirtual 205, 3) := dk_182 0 205 (dk_at dksX0_laysStep_6 0 rfl rfl)
theorem dX0_laysStep_146 : decode cX0_laysStep 146 = .ok (.ifCond .eq 12, 3) := dk_153 0 12 (dk_at dksX0_laysStep_6 3 rfl rfl)
theorem dX0_laysStep_149 : decode cX0_laysStep 149 = .ok (.aload_n 0, 1) := dk_42 (dk_at dksX0_laysStep_6 6 rfl rfl)
theorem dX0_laysStep_150 : decode cX0_laysStep 150 = .ok (.iload_n 1, 1) := dk_27 (dk_at dksX0_laysStep_6 7 rfl rfl)
theorem dX0_laysStep_151 : decode cX0_laysStep 151 = .ok (.iload_n 2, 1) := dk_28 (dk_at dksX0_laysStep_6 8 rfl rfl)
theorem dX0_laysStep_152 : decode cX0_laysStep 152 = .ok (.iconst 1, 1) := dk_4 (dk_at dksX0_laysStep_6 9 rfl rfl)
theorem dX0_laysStep_153 : decode cX0_laysStep 153 = .ok (.iload 5, 2) := dk_21 5 (dk_at dksX0_laysStep_6 10 rfl rfl)
theorem dX0_laysStep_155 : decode cX0_laysStep 155 = .ok (.invokevirtual 224, 3) := dk_182 0 224 (dk_at dksX0_laysStep_6 12 rfl rfl)
theorem dX0_laysStep_158 : decode cX0_laysStep 158 = .ok (.iinc 5 1, 3) := dk_132 5 1 (dk_at dksX0_laysStep_6 15 rfl rfl)
theorem dX0_laysStep_161 : decode cX0_laysStep 161 = .ok (.goto (-33), 3) := dk_167 255 223 (dk_at dksX0_laysStep_6 18 rfl rfl)
theorem dX0_laysStep_164 : decode cX0_laysStep 164 = .ok (.iconst 0, 1) := dk_3 (dk_at dksX0_laysStep_6 21 rfl rfl)
theorem dX0_laysStep_165 : decode cX0_laysStep 165 = .ok (.istore 5, 2) := dk_54 5 (dk_at dksX0_laysStep_6 22 rfl rfl)
theorem dX0_laysStep_167 : decode cX0_laysStep 167 = .ok (.iload 5, 2) := dk_21 5 (dk_at dksX0_laysStep_7 0 rfl rfl)
theorem dX0_laysStep_169 : decode cX0_laysStep 169 = .ok (.aload_n 3, 1) := dk_45 (dk_at dksX0_laysStep_7 2 rfl rfl)
theorem dX0_laysStep_170 : decode cX0_laysStep 170 = .ok (.getfield 189, 3) := dk_180 0 189 (dk_at dksX0_laysStep_7 3 rfl rfl)
theorem dX0_laysStep_173 : decode cX0_laysStep 173 = .ok (.if_icmp .ge 29, 3) := dk_162 0 29 (dk_at dksX0_laysStep_7 6 rfl rfl)
theorem dX0_laysStep_176 : decode cX0_laysStep 176 = .ok (.aload_n 3, 1) := dk_45 (dk_at dksX0_laysStep_7 9 rfl rfl)
theorem dX0_laysStep_177 : decode cX0_laysStep 177 = .ok (.iload 5, 2) := dk_21 5 (dk_at dksX0_laysStep_7 10 rfl rfl)
theorem dX0_laysStep_179 : decode cX0_laysStep 179 = .ok (.aload 4, 2) := dk_25 4 (dk_at dksX0_laysStep_7 12 rfl rfl)
theorem dX0_laysStep_181 : decode cX0_laysStep 181 = .ok (.invokevirtual 205, 3) := dk_182 0 205 (dk_at dksX0_laysStep_7 14 rfl rfl)
theorem dX0_laysStep_184 : decode cX0_laysStep 184 = .ok (.ifCond .eq 12, 3) := dk_153 0 12 (dk_at dksX0_laysStep_7 17 rfl rfl)
theorem dX0_laysStep_187 : decode cX0_laysStep 187 = .ok (.aload_n 0, 1) := dk_42 (dk_at dksX0_laysStep_7 20 rfl rfl)
theorem dX0_laysStep_188 : decode cX0_laysStep 188 = .ok (.iload_n 1, 1) := dk_27 (dk_at dksX0_laysStep_7 21 rfl rfl)
theorem dX0_laysStep_189 : decode cX0_laysStep 189 = .ok (.iload_n 2, 1) := dk_28 (dk_at dksX0_laysStep_7 22 rfl rfl)
theorem dX0_laysStep_190 : decode cX0_laysStep 190 = .ok (.iconst 2, 1) := dk_5 (dk_at dksX0_laysStep_7 23 rfl rfl)
theorem dX0_laysStep_191 : decode cX0_laysStep 191 = .ok (.iload 5, 2) := dk_21 5 (dk_at dksX0_laysStep_8 0 rfl rfl)
theorem dX0_laysStep_193 : decode cX0_laysStep 193 = .ok (.invokevirtual 224, 3) := dk_182 0 224 (dk_at dksX0_laysStep_8 2 rfl rfl)
theorem dX0_laysStep_196 : decode cX0_laysStep 196 = .ok (.iinc 5 1, 3) := dk_132 5 1 (dk_at dksX0_laysStep_8 5 rfl rfl)
theorem dX0_laysStep_199 : decode cX0_laysStep 199 = .ok (.goto (-32), 3) := dk_167 255 224 (dk_at dksX0_laysStep_8 8 rfl rfl)
theorem dX0_laysStep_202 : decode cX0_laysStep 202 = .ok (.return_, 1) := dk_177 (dk_at dksX0_laysStep_8 11 rfl rfl)
abbrev cX0_isUsed : ByteArray := prog_1_method_6_code
def yX0_isUsed : MethodName := ⟨RX0, "isUsed", "(I)Z"⟩
def dkwX0_isUsed_2 : List UInt8 := [4, 167, 0, 4, 3, 172]
abbrev dktX0_isUsed_2 : List UInt8 := dkwX0_isUsed_2 ++ []
def dkwX0_isUsed_1 : List UInt8 := [2, 159, 0, 23, 42, 180, 0, 11, 27, 50, 180, 0, 128, 133, 42, 180, 0, 26, 184, 0, 131, 153, 0, 7]
abbrev dktX0_isUsed_1 : List UInt8 := dkwX0_isUsed_1 ++ dktX0_isUsed_2
def dkwX0_isUsed_0 : List UInt8 := [42, 27, 182, 0, 120, 153, 0, 47, 42, 180, 0, 11, 27, 50, 180, 0, 124, 154, 0, 35, 42, 180, 0, 26]
abbrev dktX0_isUsed_0 : List UInt8 := dkwX0_isUsed_0 ++ dktX0_isUsed_1
theorem dksX0_isUsed_0 : cX0_isUsed.data.toList.drop 0 = dktX0_isUsed_0 := by decide +kernel
theorem dksX0_isUsed_1 : cX0_isUsed.data.toList.drop 24 = dktX0_isUsed_1 := dk_seg dksX0_isUsed_0 24 rfl rfl
theorem dksX0_isUsed_2 : cX0_isUsed.data.toList.drop 48 = dktX0_isUsed_2 := dk_seg dksX0_isUsed_1 24 rfl rfl
theorem dX0_isUsed_0 : decode cX0_isUsed 0 = .ok (.aload_n 0, 1) := dk_42 (dk_at dksX0_isUsed_0 0 rfl rfl)
theorem dX0_isUsed_1 : decode cX0_isUsed 1 = .ok (.iload_n 1, 1) := dk_27 (dk_at dksX0_isUsed_0 1 rfl rfl)
theorem dX0_isUsed_2 : decode cX0_isUsed 2 = .ok (.invokevirtual 120, 3) := dk_182 0 120 (dk_at dksX0_isUsed_0 2 rfl rfl)
theorem dX0_isUsed_5 : decode cX0_isUsed 5 = .ok (.ifCond .eq 47, 3) := dk_153 0 47 (dk_at dksX0_isUsed_0 5 rfl rfl)
theorem dX0_isUsed_8 : decode cX0_isUsed 8 = .ok (.aload_n 0, 1) := dk_42 (dk_at dksX0_isUsed_0 8 rfl rfl)
theorem dX0_isUsed_9 : decode cX0_isUsed 9 = .ok (.getfield 11, 3) := dk_180 0 11 (dk_at dksX0_isUsed_0 9 rfl rfl)
theorem dX0_isUsed_12 : decode cX0_isUsed 12 = .ok (.iload_n 1, 1) := dk_27 (dk_at dksX0_isUsed_0 12 rfl rfl)
theorem dX0_isUsed_13 : decode cX0_isUsed 13 = .ok (.aaload, 1) := dk_50 (dk_at dksX0_isUsed_0 13 rfl rfl)
theorem dX0_isUsed_14 : decode cX0_isUsed 14 = .ok (.getfield 124, 3) := dk_180 0 124 (dk_at dksX0_isUsed_0 14 rfl rfl)
theorem dX0_isUsed_17 : decode cX0_isUsed 17 = .ok (.ifCond .ne 35, 3) := dk_154 0 35 (dk_at dksX0_isUsed_0 17 rfl rfl)
theorem dX0_isUsed_20 : decode cX0_isUsed 20 = .ok (.aload_n 0, 1) := dk_42 (dk_at dksX0_isUsed_0 20 rfl rfl)
theorem dX0_isUsed_21 : decode cX0_isUsed 21 = .ok (.getfield 26, 3) := dk_180 0 26 (dk_at dksX0_isUsed_0 21 rfl rfl)
theorem dX0_isUsed_24 : decode cX0_isUsed 24 = .ok (.iconst (-1), 1) := dk_2 (dk_at dksX0_isUsed_1 0 rfl rfl)
theorem dX0_isUsed_25 : decode cX0_isUsed 25 = .ok (.if_icmp .eq 23, 3) := dk_159 0 23 (dk_at dksX0_isUsed_1 1 rfl rfl)
theorem dX0_isUsed_28 : decode cX0_isUsed 28 = .ok (.aload_n 0, 1) := dk_42 (dk_at dksX0_isUsed_1 4 rfl rfl)
theorem dX0_isUsed_29 : decode cX0_isUsed 29 = .ok (.getfield 11, 3) := dk_180 0 11 (dk_at dksX0_isUsed_1 5 rfl rfl)
theorem dX0_isUsed_32 : decode cX0_isUsed 32 = .ok (.iload_n 1, 1) := dk_27 (dk_at dksX0_isUsed_1 8 rfl rfl)
theorem dX0_isUsed_33 : decode cX0_isUsed 33 = .ok (.aaload, 1) := dk_50 (dk_at dksX0_isUsed_1 9 rfl rfl)
theorem dX0_isUsed_34 : decode cX0_isUsed 34 = .ok (.getfield 128, 3) := dk_180 0 128 (dk_at dksX0_isUsed_1 10 rfl rfl)
theorem dX0_isUsed_37 : decode cX0_isUsed 37 = .ok (.i2l, 1) := dk_133 (dk_at dksX0_isUsed_1 13 rfl rfl)
theorem dX0_isUsed_38 : decode cX0_isUsed 38 = .ok (.aload_n 0, 1) := dk_42 (dk_at dksX0_isUsed_1 14 rfl rfl)
theorem dX0_isUsed_39 : decode cX0_isUsed 39 = .ok (.getfield 26, 3) := dk_180 0 26 (dk_at dksX0_isUsed_1 15 rfl rfl)
theorem dX0_isUsed_42 : decode cX0_isUsed 42 = .ok (.invokestatic 131, 3) := dk_184 0 131 (dk_at dksX0_isUsed_1 18 rfl rfl)
theorem dX0_isUsed_45 : decode cX0_isUsed 45 = .ok (.ifCond .eq 7, 3) := dk_153 0 7 (dk_at dksX0_isUsed_1 21 rfl rfl)
theorem dX0_isUsed_48 : decode cX0_isUsed 48 = .ok (.iconst 1, 1) := dk_4 (dk_at dksX0_isUsed_2 0 rfl rfl)
theorem dX0_isUsed_49 : decode cX0_isUsed 49 = .ok (.goto 4, 3) := dk_167 0 4 (dk_at dksX0_isUsed_2 1 rfl rfl)
theorem dX0_isUsed_52 : decode cX0_isUsed 52 = .ok (.iconst 0, 1) := dk_3 (dk_at dksX0_isUsed_2 4 rfl rfl)
theorem dX0_isUsed_53 : decode cX0_isUsed 53 = .ok (.ireturn, 1) := dk_172 (dk_at dksX0_isUsed_2 5 rfl rfl)
abbrev cX0_has : ByteArray := prog_1_method_3_code
def yX0_has : MethodName := ⟨RX0, "has", "(JI)Z"⟩
def dkwX0_has_0 : List UInt8 := [30, 28, 123, 10, 127, 10, 148, 154, 0, 7, 4, 167, 0, 4, 3, 172]
abbrev dktX0_has_0 : List UInt8 := dkwX0_has_0 ++ []
theorem dksX0_has_0 : cX0_has.data.toList.drop 0 = dktX0_has_0 := by decide +kernel
theorem dX0_has_0 : decode cX0_has 0 = .ok (.lload_n 0, 1) := dk_30 (dk_at dksX0_has_0 0 rfl rfl)
theorem dX0_has_1 : decode cX0_has 1 = .ok (.iload_n 2, 1) := dk_28 (dk_at dksX0_has_0 1 rfl rfl)
theorem dX0_has_2 : decode cX0_has 2 = .ok (.lshr, 1) := dk_123 (dk_at dksX0_has_0 2 rfl rfl)
theorem dX0_has_3 : decode cX0_has 3 = .ok (.lconst 1, 1) := dk_10 (dk_at dksX0_has_0 3 rfl rfl)
theorem dX0_has_4 : decode cX0_has 4 = .ok (.land, 1) := dk_127 (dk_at dksX0_has_0 4 rfl rfl)
theorem dX0_has_5 : decode cX0_has 5 = .ok (.lconst 1, 1) := dk_10 (dk_at dksX0_has_0 5 rfl rfl)
theorem dX0_has_6 : decode cX0_has 6 = .ok (.lcmp, 1) := dk_148 (dk_at dksX0_has_0 6 rfl rfl)
theorem dX0_has_7 : decode cX0_has 7 = .ok (.ifCond .ne 7, 3) := dk_154 0 7 (dk_at dksX0_has_0 7 rfl rfl)
theorem dX0_has_10 : decode cX0_has 10 = .ok (.iconst 1, 1) := dk_4 (dk_at dksX0_has_0 10 rfl rfl)
theorem dX0_has_11 : decode cX0_has 11 = .ok (.goto 4, 3) := dk_167 0 4 (dk_at dksX0_has_0 11 rfl rfl)
theorem dX0_has_14 : decode cX0_has 14 = .ok (.iconst 0, 1) := dk_3 (dk_at dksX0_has_0 14 rfl rfl)
theorem dX0_has_15 : decode cX0_has 15 = .ok (.ireturn, 1) := dk_172 (dk_at dksX0_has_0 15 rfl rfl)
abbrev cX0_unlikeMany : ByteArray := prog_1_method_16_code
def yX0_unlikeMany : MethodName := ⟨RX0, "unlikeMany", "(LLetterHeaps$Line;LLetterHeaps$Line;)I"⟩
def dkwX0_unlikeMany_2 : List UInt8 := [167, 255, 219, 29, 172]
abbrev dktX0_unlikeMany_2 : List UInt8 := dkwX0_unlikeMany_2 ++ []
def dkwX0_unlikeMany_1 : List UInt8 := [180, 0, 191, 21, 4, 46, 160, 0, 6, 167, 0, 12, 132, 3, 1, 42, 21, 4, 181, 0, 194, 132, 4, 255]
abbrev dktX0_unlikeMany_1 : List UInt8 := dkwX0_unlikeMany_1 ++ dktX0_unlikeMany_2
def dkwX0_unlikeMany_0 : List UInt8 := [3, 62, 43, 180, 0, 189, 4, 100, 54, 4, 21, 4, 155, 0, 38, 43, 180, 0, 191, 21, 4, 46, 44]
abbrev dktX0_unlikeMany_0 : List UInt8 := dkwX0_unlikeMany_0 ++ dktX0_unlikeMany_1
theorem dksX0_unlikeMany_0 : cX0_unlikeMany.data.toList.drop 0 = dktX0_unlikeMany_0 := by decide +kernel
theorem dksX0_unlikeMany_1 : cX0_unlikeMany.data.toList.drop 23 = dktX0_unlikeMany_1 := dk_seg dksX0_unlikeMany_0 23 rfl rfl
theorem dksX0_unlikeMany_2 : cX0_unlikeMany.data.toList.drop 47 = dktX0_unlikeMany_2 := dk_seg dksX0_unlikeMany_1 24 rfl rfl
theorem dX0_unlikeMany_0 : decode cX0_unlikeMany 0 = .ok (.iconst 0, 1) := dk_3 (dk_at dksX0_unlikeMany_0 0 rfl rfl)
theorem dX0_unlikeMany_1 : decode cX0_unlikeMany 1 = .ok (.istore_n 3, 1) := dk_62 (dk_at dksX0_unlikeMany_0 1 rfl rfl)
theorem dX0_unlikeMany_2 : decode cX0_unlikeMany 2 = .ok (.aload_n 1, 1) := dk_43 (dk_at dksX0_unlikeMany_0 2 rfl rfl)
theorem dX0_unlikeMany_3 : decode cX0_unlikeMany 3 = .ok (.getfield 189, 3) := dk_180 0 189 (dk_at dksX0_unlikeMany_0 3 rfl rfl)
theorem dX0_unlikeMany_6 : decode cX0_unlikeMany 6 = .ok (.iconst 1, 1) := dk_4 (dk_at dksX0_unlikeMany_0 6 rfl rfl)
theorem dX0_unlikeMany_7 : decode cX0_unlikeMany 7 = .ok (.isub, 1) := dk_100 (dk_at dksX0_unlikeMany_0 7 rfl rfl)
theorem dX0_unlikeMany_8 : decode cX0_unlikeMany 8 = .ok (.istore 4, 2) := dk_54 4 (dk_at dksX0_unlikeMany_0 8 rfl rfl)
theorem dX0_unlikeMany_10 : decode cX0_unlikeMany 10 = .ok (.iload 4, 2) := dk_21 4 (dk_at dksX0_unlikeMany_0 10 rfl rfl)
theorem dX0_unlikeMany_12 : decode cX0_unlikeMany 12 = .ok (.ifCond .lt 38, 3) := dk_155 0 38 (dk_at dksX0_unlikeMany_0 12 rfl rfl)
theorem dX0_unlikeMany_15 : decode cX0_unlikeMany 15 = .ok (.aload_n 1, 1) := dk_43 (dk_at dksX0_unlikeMany_0 15 rfl rfl)
theorem dX0_unlikeMany_16 : decode cX0_unlikeMany 16 = .ok (.getfield 191, 3) := dk_180 0 191 (dk_at dksX0_unlikeMany_0 16 rfl rfl)
theorem dX0_unlikeMany_19 : decode cX0_unlikeMany 19 = .ok (.iload 4, 2) := dk_21 4 (dk_at dksX0_unlikeMany_0 19 rfl rfl)
theorem dX0_unlikeMany_21 : decode cX0_unlikeMany 21 = .ok (.iaload, 1) := dk_46 (dk_at dksX0_unlikeMany_0 21 rfl rfl)
theorem dX0_unlikeMany_22 : decode cX0_unlikeMany 22 = .ok (.aload_n 2, 1) := dk_44 (dk_at dksX0_unlikeMany_0 22 rfl rfl)
theorem dX0_unlikeMany_23 : decode cX0_unlikeMany 23 = .ok (.getfield 191, 3) := dk_180 0 191 (dk_at dksX0_unlikeMany_1 0 rfl rfl)
theorem dX0_unlikeMany_26 : decode cX0_unlikeMany 26 = .ok (.iload 4, 2) := dk_21 4 (dk_at dksX0_unlikeMany_1 3 rfl rfl)
theorem dX0_unlikeMany_28 : decode cX0_unlikeMany 28 = .ok (.iaload, 1) := dk_46 (dk_at dksX0_unlikeMany_1 5 rfl rfl)
theorem dX0_unlikeMany_29 : decode cX0_unlikeMany 29 = .ok (.if_icmp .ne 6, 3) := dk_160 0 6 (dk_at dksX0_unlikeMany_1 6 rfl rfl)
theorem dX0_unlikeMany_32 : decode cX0_unlikeMany 32 = .ok (.goto 12, 3) := dk_167 0 12 (dk_at dksX0_unlikeMany_1 9 rfl rfl)
theorem dX0_unlikeMany_35 : decode cX0_unlikeMany 35 = .ok (.iinc 3 1, 3) := dk_132 3 1 (dk_at dksX0_unlikeMany_1 12 rfl rfl)
theorem dX0_unlikeMany_38 : decode cX0_unlikeMany 38 = .ok (.aload_n 0, 1) := dk_42 (dk_at dksX0_unlikeMany_1 15 rfl rfl)
theorem dX0_unlikeMany_39 : decode cX0_unlikeMany 39 = .ok (.iload 4, 2) := dk_21 4 (dk_at dksX0_unlikeMany_1 16 rfl rfl)
theorem dX0_unlikeMany_41 : decode cX0_unlikeMany 41 = .ok (.putfield 194, 3) := dk_181 0 194 (dk_at dksX0_unlikeMany_1 18 rfl rfl)
theorem dX0_unlikeMany_44 : decode cX0_unlikeMany 44 = .ok (.iinc 4 (-1), 3) := dk_132 4 255 (dk_at dksX0_unlikeMany_1 21 rfl rfl)
theorem dX0_unlikeMany_47 : decode cX0_unlikeMany 47 = .ok (.goto (-37), 3) := dk_167 255 219 (dk_at dksX0_unlikeMany_2 0 rfl rfl)
theorem dX0_unlikeMany_50 : decode cX0_unlikeMany 50 = .ok (.iload_n 3, 1) := dk_29 (dk_at dksX0_unlikeMany_2 3 rfl rfl)
theorem dX0_unlikeMany_51 : decode cX0_unlikeMany 51 = .ok (.ireturn, 1) := dk_172 (dk_at dksX0_unlikeMany_2 4 rfl rfl)
abbrev cX0_tries : ByteArray := prog_1_method_19_code
def yX0_tries : MethodName := ⟨RX0, "tries", "(IIII)V"⟩
def dkwX0_tries_2 : List UInt8 := [182, 0, 217, 79, 42, 180, 0, 48, 27, 50, 28, 29, 79, 42, 180, 0, 51, 27, 50, 28, 21, 4, 79, 177]
abbrev dktX0_tries_2 : List UInt8 := dkwX0_tries_2 ++ []
def dkwX0_tries_1 : List UInt8 := [182, 0, 217, 42, 180, 0, 45, 27, 50, 28, 46, 161, 0, 4, 177, 42, 180, 0, 45, 27, 50, 28, 25, 5]
abbrev dktX0_tries_1 : List UInt8 := dkwX0_tries_1 ++ dktX0_tries_2
def dkwX0_tries_0 : List UInt8 := [42, 180, 0, 66, 27, 28, 29, 21, 4, 182, 0, 209, 58, 5, 25, 5, 182, 0, 213, 153, 0, 19, 25, 5]
abbrev dktX0_tries_0 : List UInt8 := dkwX0_tries_0 ++ dktX0_tries_1
theorem dksX0_tries_0 : cX0_tries.data.toList.drop 0 = dktX0_tries_0 := by decide +kernel
theorem dksX0_tries_1 : cX0_tries.data.toList.drop 24 = dktX0_tries_1 := dk_seg dksX0_tries_0 24 rfl rfl
theorem dksX0_tries_2 : cX0_tries.data.toList.drop 48 = dktX0_tries_2 := dk_seg dksX0_tries_1 24 rfl rfl
theorem dX0_tries_0 : decode cX0_tries 0 = .ok (.aload_n 0, 1) := dk_42 (dk_at dksX0_tries_0 0 rfl rfl)
theorem dX0_tries_1 : decode cX0_tries 1 = .ok (.getfield 66, 3) := dk_180 0 66 (dk_at dksX0_tries_0 1 rfl rfl)
theorem dX0_tries_4 : decode cX0_tries 4 = .ok (.iload_n 1, 1) := dk_27 (dk_at dksX0_tries_0 4 rfl rfl)
theorem dX0_tries_5 : decode cX0_tries 5 = .ok (.iload_n 2, 1) := dk_28 (dk_at dksX0_tries_0 5 rfl rfl)
theorem dX0_tries_6 : decode cX0_tries 6 = .ok (.iload_n 3, 1) := dk_29 (dk_at dksX0_tries_0 6 rfl rfl)
theorem dX0_tries_7 : decode cX0_tries 7 = .ok (.iload 4, 2) := dk_21 4 (dk_at dksX0_tries_0 7 rfl rfl)
theorem dX0_tries_9 : decode cX0_tries 9 = .ok (.invokevirtual 209, 3) := dk_182 0 209 (dk_at dksX0_tries_0 9 rfl rfl)
theorem dX0_tries_12 : decode cX0_tries 12 = .ok (.astore 5, 2) := dk_58 5 (dk_at dksX0_tries_0 12 rfl rfl)
theorem dX0_tries_14 : decode cX0_tries 14 = .ok (.aload 5, 2) := dk_25 5 (dk_at dksX0_tries_0 14 rfl rfl)
theorem dX0_tries_16 : decode cX0_tries 16 = .ok (.invokevirtual 213, 3) := dk_182 0 213 (dk_at dksX0_tries_0 16 rfl rfl)
theorem dX0_tries_19 : decode cX0_tries 19 = .ok (.ifCond .eq 19, 3) := dk_153 0 19 (dk_at dksX0_tries_0 19 rfl rfl)
theorem dX0_tries_22 : decode cX0_tries 22 = .ok (.aload 5, 2) := dk_25 5 (dk_at dksX0_tries_0 22 rfl rfl)
theorem dX0_tries_24 : decode cX0_tries 24 = .ok (.invokevirtual 217, 3) := dk_182 0 217 (dk_at dksX0_tries_1 0 rfl rfl)
theorem dX0_tries_27 : decode cX0_tries 27 = .ok (.aload_n 0, 1) := dk_42 (dk_at dksX0_tries_1 3 rfl rfl)
theorem dX0_tries_28 : decode cX0_tries 28 = .ok (.getfield 45, 3) := dk_180 0 45 (dk_at dksX0_tries_1 4 rfl rfl)
theorem dX0_tries_31 : decode cX0_tries 31 = .ok (.iload_n 1, 1) := dk_27 (dk_at dksX0_tries_1 7 rfl rfl)
theorem dX0_tries_32 : decode cX0_tries 32 = .ok (.aaload, 1) := dk_50 (dk_at dksX0_tries_1 8 rfl rfl)
theorem dX0_tries_33 : decode cX0_tries 33 = .ok (.iload_n 2, 1) := dk_28 (dk_at dksX0_tries_1 9 rfl rfl)
theorem dX0_tries_34 : decode cX0_tries 34 = .ok (.iaload, 1) := dk_46 (dk_at dksX0_tries_1 10 rfl rfl)
theorem dX0_tries_35 : decode cX0_tries 35 = .ok (.if_icmp .lt 4, 3) := dk_161 0 4 (dk_at dksX0_tries_1 11 rfl rfl)
theorem dX0_tries_38 : decode cX0_tries 38 = .ok (.return_, 1) := dk_177 (dk_at dksX0_tries_1 14 rfl rfl)
theorem dX0_tries_39 : decode cX0_tries 39 = .ok (.aload_n 0, 1) := dk_42 (dk_at dksX0_tries_1 15 rfl rfl)
theorem dX0_tries_40 : decode cX0_tries 40 = .ok (.getfield 45, 3) := dk_180 0 45 (dk_at dksX0_tries_1 16 rfl rfl)
theorem dX0_tries_43 : decode cX0_tries 43 = .ok (.iload_n 1, 1) := dk_27 (dk_at dksX0_tries_1 19 rfl rfl)
theorem dX0_tries_44 : decode cX0_tries 44 = .ok (.aaload, 1) := dk_50 (dk_at dksX0_tries_1 20 rfl rfl)
theorem dX0_tries_45 : decode cX0_tries 45 = .ok (.iload_n 2, 1) := dk_28 (dk_at dksX0_tries_1 21 rfl rfl)
theorem dX0_tries_46 : decode cX0_tries 46 = .ok (.aload 5, 2) := dk_25 5 (dk_at dksX0_tries_1 22 rfl rfl)
theorem dX0_tries_48 : decode cX0_tries 48 = .ok (.invokevirtual 217, 3) := dk_182 0 217 (dk_at dksX0_tries_2 0 rfl rfl)
theorem dX0_tries_51 : decode cX0_tries 51 = .ok (.iastore, 1) := dk_79 (dk_at dksX0_tries_2 3 rfl rfl)
theorem dX0_tries_52 : decode cX0_tries 52 = .ok (.aload_n 0, 1) := dk_42 (dk_at dksX0_tries_2 4 rfl rfl)
theorem dX0_tries_53 : decode cX0_tries 53 = .ok (.getfield 48, 3) := dk_180 0 48 (dk_at dksX0_tries_2 5 rfl rfl)
theorem dX0_tries_56 : decode cX0_tries 56 = .ok (.iload_n 1, 1) := dk_27 (dk_at dksX0_tries_2 8 rfl rfl)
theorem dX0_tries_57 : decode cX0_tries 57 = .ok (.aaload, 1) := dk_50 (dk_at dksX0_tries_2 9 rfl rfl)
theorem dX0_tries_58 : decode cX0_tries 58 = .ok (.iload_n 2, 1) := dk_28 (dk_at dksX0_tries_2 10 rfl rfl)
theorem dX0_tries_59 : decode cX0_tries 59 = .ok (.iload_n 3, 1) := dk_29 (dk_at dksX0_tries_2 11 rfl rfl)
theorem dX0_tries_60 : decode cX0_tries 60 = .ok (.iastore, 1) := dk_79 (dk_at dksX0_tries_2 12 rfl rfl)
theorem dX0_tries_61 : decode cX0_tries 61 = .ok (.aload_n 0, 1) := dk_42 (dk_at dksX0_tries_2 13 rfl rfl)
theorem dX0_tries_62 : decode cX0_tries 62 = .ok (.getfield 51, 3) := dk_180 0 51 (dk_at dksX0_tries_2 14 rfl rfl)
theorem dX0_tries_65 : decode cX0_tries 65 = .ok (.iload_n 1, 1) := dk_27 (dk_at dksX0_tries_2 17 rfl rfl)
theorem dX0_tries_66 : decode cX0_tries 66 = .ok (.aaload, 1) := dk_50 (dk_at dksX0_tries_2 18 rfl rfl)
theorem dX0_tries_67 : decode cX0_tries 67 = .ok (.iload_n 2, 1) := dk_28 (dk_at dksX0_tries_2 19 rfl rfl)
theorem dX0_tries_68 : decode cX0_tries 68 = .ok (.iload 4, 2) := dk_21 4 (dk_at dksX0_tries_2 20 rfl rfl)
theorem dX0_tries_70 : decode cX0_tries 70 = .ok (.iastore, 1) := dk_79 (dk_at dksX0_tries_2 22 rfl rfl)
theorem dX0_tries_71 : decode cX0_tries 71 = .ok (.return_, 1) := dk_177 (dk_at dksX0_tries_2 23 rfl rfl)
abbrev cX0_areChanged : ByteArray := prog_1_method_17_code
def yX0_areChanged : MethodName := ⟨RX0, "areChanged", "(LLetterHeaps$Line;LLetterHeaps$Line;I)Z"⟩
def dkwX0_areChanged_2 : List UInt8 := [3, 172]
abbrev dktX0_areChanged_2 : List UInt8 := dkwX0_areChanged_2 ++ []
def dkwX0_areChanged_1 : List UInt8 := [160, 0, 24, 43, 180, 0, 191, 29, 4, 96, 46, 44, 180, 0, 191, 29, 46, 160, 0, 7, 4, 167, 0, 4]
abbrev dktX0_areChanged_1 : List UInt8 := dkwX0_areChanged_1 ++ dktX0_areChanged_2
def dkwX0_areChanged_0 : List UInt8 := [29, 4, 96, 43, 180, 0, 189, 162, 0, 41, 43, 180, 0, 191, 29, 46, 44, 180, 0, 191, 29, 4, 96, 46]
abbrev dktX0_areChanged_0 : List UInt8 := dkwX0_areChanged_0 ++ dktX0_areChanged_1
theorem dksX0_areChanged_0 : cX0_areChanged.data.toList.drop 0 = dktX0_areChanged_0 := by decide +kernel
theorem dksX0_areChanged_1 : cX0_areChanged.data.toList.drop 24 = dktX0_areChanged_1 := dk_seg dksX0_areChanged_0 24 rfl rfl
theorem dksX0_areChanged_2 : cX0_areChanged.data.toList.drop 48 = dktX0_areChanged_2 := dk_seg dksX0_areChanged_1 24 rfl rfl
theorem dX0_areChanged_0 : decode cX0_areChanged 0 = .ok (.iload_n 3, 1) := dk_29 (dk_at dksX0_areChanged_0 0 rfl rfl)
theorem dX0_areChanged_1 : decode cX0_areChanged 1 = .ok (.iconst 1, 1) := dk_4 (dk_at dksX0_areChanged_0 1 rfl rfl)
theorem dX0_areChanged_2 : decode cX0_areChanged 2 = .ok (.iadd, 1) := dk_96 (dk_at dksX0_areChanged_0 2 rfl rfl)
theorem dX0_areChanged_3 : decode cX0_areChanged 3 = .ok (.aload_n 1, 1) := dk_43 (dk_at dksX0_areChanged_0 3 rfl rfl)
theorem dX0_areChanged_4 : decode cX0_areChanged 4 = .ok (.getfield 189, 3) := dk_180 0 189 (dk_at dksX0_areChanged_0 4 rfl rfl)
theorem dX0_areChanged_7 : decode cX0_areChanged 7 = .ok (.if_icmp .ge 41, 3) := dk_162 0 41 (dk_at dksX0_areChanged_0 7 rfl rfl)
theorem dX0_areChanged_10 : decode cX0_areChanged 10 = .ok (.aload_n 1, 1) := dk_43 (dk_at dksX0_areChanged_0 10 rfl rfl)
theorem dX0_areChanged_11 : decode cX0_areChanged 11 = .ok (.getfield 191, 3) := dk_180 0 191 (dk_at dksX0_areChanged_0 11 rfl rfl)
theorem dX0_areChanged_14 : decode cX0_areChanged 14 = .ok (.iload_n 3, 1) := dk_29 (dk_at dksX0_areChanged_0 14 rfl rfl)
theorem dX0_areChanged_15 : decode cX0_areChanged 15 = .ok (.iaload, 1) := dk_46 (dk_at dksX0_areChanged_0 15 rfl rfl)
theorem dX0_areChanged_16 : decode cX0_areChanged 16 = .ok (.aload_n 2, 1) := dk_44 (dk_at dksX0_areChanged_0 16 rfl rfl)
theorem dX0_areChanged_17 : decode cX0_areChanged 17 = .ok (.getfield 191, 3) := dk_180 0 191 (dk_at dksX0_areChanged_0 17 rfl rfl)
theorem dX0_areChanged_20 : decode cX0_areChanged 20 = .ok (.iload_n 3, 1) := dk_29 (dk_at dksX0_areChanged_0 20 rfl rfl)
theorem dX0_areChanged_21 : decode cX0_areChanged 21 = .ok (.iconst 1, 1) := dk_4 (dk_at dksX0_areChanged_0 21 rfl rfl)
theorem dX0_areChanged_22 : decode cX0_areChanged 22 = .ok (.iadd, 1) := dk_96 (dk_at dksX0_areChanged_0 22 rfl rfl)
theorem dX0_areChanged_23 : decode cX0_areChanged 23 = .ok (.iaload, 1) := dk_46 (dk_at dksX0_areChanged_0 23 rfl rfl)
theorem dX0_areChanged_24 : decode cX0_areChanged 24 = .ok (.if_icmp .ne 24, 3) := dk_160 0 24 (dk_at dksX0_areChanged_1 0 rfl rfl)
theorem dX0_areChanged_27 : decode cX0_areChanged 27 = .ok (.aload_n 1, 1) := dk_43 (dk_at dksX0_areChanged_1 3 rfl rfl)
theorem dX0_areChanged_28 : decode cX0_areChanged 28 = .ok (.getfield 191, 3) := dk_180 0 191 (dk_at dksX0_areChanged_1 4 rfl rfl)
theorem dX0_areChanged_31 : decode cX0_areChanged 31 = .ok (.iload_n 3, 1) := dk_29 (dk_at dksX0_areChanged_1 7 rfl rfl)
theorem dX0_areChanged_32 : decode cX0_areChanged 32 = .ok (.iconst 1, 1) := dk_4 (dk_at dksX0_areChanged_1 8 rfl rfl)
theorem dX0_areChanged_33 : decode cX0_areChanged 33 = .ok (.iadd, 1) := dk_96 (dk_at dksX0_areChanged_1 9 rfl rfl)
theorem dX0_areChanged_34 : decode cX0_areChanged 34 = .ok (.iaload, 1) := dk_46 (dk_at dksX0_areChanged_1 10 rfl rfl)
theorem dX0_areChanged_35 : decode cX0_areChanged 35 = .ok (.aload_n 2, 1) := dk_44 (dk_at dksX0_areChanged_1 11 rfl rfl)
theorem dX0_areChanged_36 : decode cX0_areChanged 36 = .ok (.getfield 191, 3) := dk_180 0 191 (dk_at dksX0_areChanged_1 12 rfl rfl)
theorem dX0_areChanged_39 : decode cX0_areChanged 39 = .ok (.iload_n 3, 1) := dk_29 (dk_at dksX0_areChanged_1 15 rfl rfl)
theorem dX0_areChanged_40 : decode cX0_areChanged 40 = .ok (.iaload, 1) := dk_46 (dk_at dksX0_areChanged_1 16 rfl rfl)
theorem dX0_areChanged_41 : decode cX0_areChanged 41 = .ok (.if_icmp .ne 7, 3) := dk_160 0 7 (dk_at dksX0_areChanged_1 17 rfl rfl)
theorem dX0_areChanged_44 : decode cX0_areChanged 44 = .ok (.iconst 1, 1) := dk_4 (dk_at dksX0_areChanged_1 20 rfl rfl)
theorem dX0_areChanged_45 : decode cX0_areChanged 45 = .ok (.goto 4, 3) := dk_167 0 4 (dk_at dksX0_areChanged_1 21 rfl rfl)
theorem dX0_areChanged_48 : decode cX0_areChanged 48 = .ok (.iconst 0, 1) := dk_3 (dk_at dksX0_areChanged_2 0 rfl rfl)
theorem dX0_areChanged_49 : decode cX0_areChanged 49 = .ok (.ireturn, 1) := dk_172 (dk_at dksX0_areChanged_2 1 rfl rfl)
abbrev cX0_isStep : ByteArray := prog_1_method_22_code
def yX0_isStep : MethodName := ⟨RX0, "isStep", "(II)Z"⟩
def dkwX0_isStep_0 : List UInt8 := [42, 180, 0, 45, 27, 50, 28, 46, 18, 220, 162, 0, 7, 4, 167, 0, 4, 3, 172]
abbrev dktX0_isStep_0 : List UInt8 := dkwX0_isStep_0 ++ []
theorem dksX0_isStep_0 : cX0_isStep.data.toList.drop 0 = dktX0_isStep_0 := by decide +kernel
theorem dX0_isStep_0 : decode cX0_isStep 0 = .ok (.aload_n 0, 1) := dk_42 (dk_at dksX0_isStep_0 0 rfl rfl)
theorem dX0_isStep_1 : decode cX0_isStep 1 = .ok (.getfield 45, 3) := dk_180 0 45 (dk_at dksX0_isStep_0 1 rfl rfl)
theorem dX0_isStep_4 : decode cX0_isStep 4 = .ok (.iload_n 1, 1) := dk_27 (dk_at dksX0_isStep_0 4 rfl rfl)
theorem dX0_isStep_5 : decode cX0_isStep 5 = .ok (.aaload, 1) := dk_50 (dk_at dksX0_isStep_0 5 rfl rfl)
theorem dX0_isStep_6 : decode cX0_isStep 6 = .ok (.iload_n 2, 1) := dk_28 (dk_at dksX0_isStep_0 6 rfl rfl)
theorem dX0_isStep_7 : decode cX0_isStep 7 = .ok (.iaload, 1) := dk_46 (dk_at dksX0_isStep_0 7 rfl rfl)
theorem dX0_isStep_8 : decode cX0_isStep 8 = .ok (.ldc 220, 2) := dk_18 220 (dk_at dksX0_isStep_0 8 rfl rfl)
theorem dX0_isStep_10 : decode cX0_isStep 10 = .ok (.if_icmp .ge 7, 3) := dk_162 0 7 (dk_at dksX0_isStep_0 10 rfl rfl)
theorem dX0_isStep_13 : decode cX0_isStep 13 = .ok (.iconst 1, 1) := dk_4 (dk_at dksX0_isStep_0 13 rfl rfl)
theorem dX0_isStep_14 : decode cX0_isStep 14 = .ok (.goto 4, 3) := dk_167 0 4 (dk_at dksX0_isStep_0 14 rfl rfl)
theorem dX0_isStep_17 : decode cX0_isStep 17 = .ok (.iconst 0, 1) := dk_3 (dk_at dksX0_isStep_0 17 rfl rfl)
theorem dX0_isStep_18 : decode cX0_isStep 18 = .ok (.ireturn, 1) := dk_172 (dk_at dksX0_isStep_0 18 rfl rfl)
abbrev cX0_least : ByteArray := prog_1_method_27_code
def yX0_least : MethodName := ⟨RX0, "least", "(III)I"⟩
def dkwX0_least_5 : List UInt8 := [132, 5, 1, 167, 255, 238, 21, 4, 172]
abbrev dktX0_least_5 : List UInt8 := dkwX0_least_5 ++ []
def dkwX0_least_4 : List UInt8 := [172, 27, 54, 4, 3, 54, 5, 21, 5, 29, 162, 0, 18, 42, 21, 4, 28, 182, 0, 250, 54, 4]
abbrev dktX0_least_4 : List UInt8 := dkwX0_least_4 ++ dktX0_least_5
def dkwX0_least_3 : List UInt8 := [27, 50, 28, 46, 16, 100, 112, 172, 29, 42, 180, 0, 54, 27, 50, 28, 46, 16, 100, 112, 164, 0, 5, 2]
abbrev dktX0_least_3 : List UInt8 := dkwX0_least_3 ++ dktX0_least_4
def dkwX0_least_2 : List UInt8 := [29, 16, 40, 160, 0, 29, 29, 2, 160, 0, 12, 42, 27, 28, 182, 0, 247, 167, 0, 14, 42, 180, 0, 54]
abbrev dktX0_least_2 : List UInt8 := dkwX0_least_2 ++ dktX0_least_3
def dkwX0_least_1 : List UInt8 := [182, 0, 241, 42, 180, 0, 54, 27, 50, 28, 46, 18, 220, 160, 0, 6, 16, 254, 172, 29, 2, 159, 0, 9]
abbrev dktX0_least_1 : List UInt8 := dkwX0_least_1 ++ dktX0_least_2
def dkwX0_least_0 : List UInt8 := [42, 27, 28, 182, 0, 238, 153, 0, 13, 29, 2, 16, 40, 184, 0, 155, 154, 0, 5, 2, 172, 42]
abbrev dktX0_least_0 : List UInt8 := dkwX0_least_0 ++ dktX0_least_1
theorem dksX0_least_0 : cX0_least.data.toList.drop 0 = dktX0_least_0 := by decide +kernel
theorem dksX0_least_1 : cX0_least.data.toList.drop 22 = dktX0_least_1 := dk_seg dksX0_least_0 22 rfl rfl
theorem dksX0_least_2 : cX0_least.data.toList.drop 46 = dktX0_least_2 := dk_seg dksX0_least_1 24 rfl rfl
theorem dksX0_least_3 : cX0_least.data.toList.drop 70 = dktX0_least_3 := dk_seg dksX0_least_2 24 rfl rfl
theorem dksX0_least_4 : cX0_least.data.toList.drop 94 = dktX0_least_4 := dk_seg dksX0_least_3 24 rfl rfl
theorem dksX0_least_5 : cX0_least.data.toList.drop 116 = dktX0_least_5 := dk_seg dksX0_least_4 22 rfl rfl
theorem dX0_least_0 : decode cX0_least 0 = .ok (.aload_n 0, 1) := dk_42 (dk_at dksX0_least_0 0 rfl rfl)
theorem dX0_least_1 : decode cX0_least 1 = .ok (.iload_n 1, 1) := dk_27 (dk_at dksX0_least_0 1 rfl rfl)
theorem dX0_least_2 : decode cX0_least 2 = .ok (.iload_n 2, 1) := dk_28 (dk_at dksX0_least_0 2 rfl rfl)
theorem dX0_least_3 : decode cX0_least 3 = .ok (.invokevirtual 238, 3) := dk_182 0 238 (dk_at dksX0_least_0 3 rfl rfl)
theorem dX0_least_6 : decode cX0_least 6 = .ok (.ifCond .eq 13, 3) := dk_153 0 13 (dk_at dksX0_least_0 6 rfl rfl)
theorem dX0_least_9 : decode cX0_least 9 = .ok (.iload_n 3, 1) := dk_29 (dk_at dksX0_least_0 9 rfl rfl)
theorem dX0_least_10 : decode cX0_least 10 = .ok (.iconst (-1), 1) := dk_2 (dk_at dksX0_least_0 10 rfl rfl)
theorem dX0_least_11 : decode cX0_least 11 = .ok (.bipush 40, 2) := dk_16 40 (dk_at dksX0_least_0 11 rfl rfl)
theorem dX0_least_13 : decode cX0_least 13 = .ok (.invokestatic 155, 3) := dk_184 0 155 (dk_at dksX0_least_0 13 rfl rfl)
theorem dX0_least_16 : decode cX0_least 16 = .ok (.ifCond .ne 5, 3) := dk_154 0 5 (dk_at dksX0_least_0 16 rfl rfl)
theorem dX0_least_19 : decode cX0_least 19 = .ok (.iconst (-1), 1) := dk_2 (dk_at dksX0_least_0 19 rfl rfl)
theorem dX0_least_20 : decode cX0_least 20 = .ok (.ireturn, 1) := dk_172 (dk_at dksX0_least_0 20 rfl rfl)
theorem dX0_least_21 : decode cX0_least 21 = .ok (.aload_n 0, 1) := dk_42 (dk_at dksX0_least_0 21 rfl rfl)
theorem dX0_least_22 : decode cX0_least 22 = .ok (.invokevirtual 241, 3) := dk_182 0 241 (dk_at dksX0_least_1 0 rfl rfl)
theorem dX0_least_25 : decode cX0_least 25 = .ok (.aload_n 0, 1) := dk_42 (dk_at dksX0_least_1 3 rfl rfl)
theorem dX0_least_26 : decode cX0_least 26 = .ok (.getfield 54, 3) := dk_180 0 54 (dk_at dksX0_least_1 4 rfl rfl)
theorem dX0_least_29 : decode cX0_least 29 = .ok (.iload_n 1, 1) := dk_27 (dk_at dksX0_least_1 7 rfl rfl)
theorem dX0_least_30 : decode cX0_least 30 = .ok (.aaload, 1) := dk_50 (dk_at dksX0_least_1 8 rfl rfl)
theorem dX0_least_31 : decode cX0_least 31 = .ok (.iload_n 2, 1) := dk_28 (dk_at dksX0_least_1 9 rfl rfl)
theorem dX0_least_32 : decode cX0_least 32 = .ok (.iaload, 1) := dk_46 (dk_at dksX0_least_1 10 rfl rfl)
theorem dX0_least_33 : decode cX0_least 33 = .ok (.ldc 220, 2) := dk_18 220 (dk_at dksX0_least_1 11 rfl rfl)
theorem dX0_least_35 : decode cX0_least 35 = .ok (.if_icmp .ne 6, 3) := dk_160 0 6 (dk_at dksX0_least_1 13 rfl rfl)
theorem dX0_least_38 : decode cX0_least 38 = .ok (.bipush (-2), 2) := dk_16 254 (dk_at dksX0_least_1 16 rfl rfl)
theorem dX0_least_40 : decode cX0_least 40 = .ok (.ireturn, 1) := dk_172 (dk_at dksX0_least_1 18 rfl rfl)
theorem dX0_least_41 : decode cX0_least 41 = .ok (.iload_n 3, 1) := dk_29 (dk_at dksX0_least_1 19 rfl rfl)
theorem dX0_least_42 : decode cX0_least 42 = .ok (.iconst (-1), 1) := dk_2 (dk_at dksX0_least_1 20 rfl rfl)
theorem dX0_least_43 : decode cX0_least 43 = .ok (.if_icmp .eq 9, 3) := dk_159 0 9 (dk_at dksX0_least_1 21 rfl rfl)
theorem dX0_least_46 : decode cX0_least 46 = .ok (.iload_n 3, 1) := dk_29 (dk_at dksX0_least_2 0 rfl rfl)
theorem dX0_least_47 : decode cX0_least 47 = .ok (.bipush 40, 2) := dk_16 40 (dk_at dksX0_least_2 1 rfl rfl)
theorem dX0_least_49 : decode cX0_least 49 = .ok (.if_icmp .ne 29, 3) := dk_160 0 29 (dk_at dksX0_least_2 3 rfl rfl)
theorem dX0_least_52 : decode cX0_least 52 = .ok (.iload_n 3, 1) := dk_29 (dk_at dksX0_least_2 6 rfl rfl)
theorem dX0_least_53 : decode cX0_least 53 = .ok (.iconst (-1), 1) := dk_2 (dk_at dksX0_least_2 7 rfl rfl)
theorem dX0_least_54 : decode cX0_least 54 = .ok (.if_icmp .ne 12, 3) := dk_160 0 12 (dk_at dksX0_least_2 8 rfl rfl)
theorem dX0_least_57 : decode cX0_least 57 = .ok (.aload_n 0, 1) := dk_42 (dk_at dksX0_least_2 11 rfl rfl)
theorem dX0_least_58 : decode cX0_least 58 = .ok (.iload_n 1, 1) := dk_27 (dk_at dksX0_least_2 12 rfl rfl)
theorem dX0_least_59 : decode cX0_least 59 = .ok (.iload_n 2, 1) := dk_28 (dk_at dksX0_least_2 13 rfl rfl)
theorem dX0_least_60 : decode cX0_least 60 = .ok (.invokevirtual 247, 3) := dk_182 0 247 (dk_at dksX0_least_2 14 rfl rfl)
theorem dX0_least_63 : decode cX0_least 63 = .ok (.goto 14, 3) := dk_167 0 14 (dk_at dksX0_least_2 17 rfl rfl)
theorem dX0_least_66 : decode cX0_least 66 = .ok (.aload_n 0, 1) := dk_42 (dk_at dksX0_least_2 20 rfl rfl)
theorem dX0_least_67 : decode cX0_least 67 = .ok (.getfield 54, 3) := dk_180 0 54 (dk_at dksX0_least_2 21 rfl rfl)
theorem dX0_least_70 : decode cX0_least 70 = .ok (.iload_n 1, 1) := dk_27 (dk_at dksX0_least_3 0 rfl rfl)
theorem dX0_least_71 : decode cX0_least 71 = .ok (.aaload, 1) := dk_50 (dk_at dksX0_least_3 1 rfl rfl)
theorem dX0_least_72 : decode cX0_least 72 = .ok (.iload_n 2, 1) := dk_28 (dk_at dksX0_least_3 2 rfl rfl)
theorem dX0_least_73 : decode cX0_least 73 = .ok (.iaload, 1) := dk_46 (dk_at dksX0_least_3 3 rfl rfl)
theorem dX0_least_74 : decode cX0_least 74 = .ok (.bipush 100, 2) := dk_16 100 (dk_at dksX0_least_3 4 rfl rfl)
theorem dX0_least_76 : decode cX0_least 76 = .ok (.irem, 1) := dk_112 (dk_at dksX0_least_3 6 rfl rfl)
theorem dX0_least_77 : decode cX0_least 77 = .ok (.ireturn, 1) := dk_172 (dk_at dksX0_least_3 7 rfl rfl)
theorem dX0_least_78 : decode cX0_least 78 = .ok (.iload_n 3, 1) := dk_29 (dk_at dksX0_least_3 8 rfl rfl)
theorem dX0_least_79 : decode cX0_least 79 = .ok (.aload_n 0, 1) := dk_42 (dk_at dksX0_least_3 9 rfl rfl)
theorem dX0_least_80 : decode cX0_least 80 = .ok (.getfield 54, 3) := dk_180 0 54 (dk_at dksX0_least_3 10 rfl rfl)
theorem dX0_least_83 : decode cX0_least 83 = .ok (.iload_n 1, 1) := dk_27 (dk_at dksX0_least_3 13 rfl rfl)
theorem dX0_least_84 : decode cX0_least 84 = .ok (.aaload, 1) := dk_50 (dk_at dksX0_least_3 14 rfl rfl)
theorem dX0_least_85 : decode cX0_least 85 = .ok (.iload_n 2, 1) := dk_28 (dk_at dksX0_least_3 15 rfl rfl)
theorem dX0_least_86 : decode cX0_least 86 = .ok (.iaload, 1) := dk_46 (dk_at dksX0_least_3 16 rfl rfl)
theorem dX0_least_87 : decode cX0_least 87 = .ok (.bipush 100, 2) := dk_16 100 (dk_at dksX0_least_3 17 rfl rfl)
theorem dX0_least_89 : decode cX0_least 89 = .ok (.irem, 1) := dk_112 (dk_at dksX0_least_3 19 rfl rfl)
theorem dX0_least_90 : decode cX0_least 90 = .ok (.if_icmp .le 5, 3) := dk_164 0 5 (dk_at dksX0_least_3 20 rfl rfl)
theorem dX0_least_93 : decode cX0_least 93 = .ok (.iconst (-1), 1) := dk_2 (dk_at dksX0_least_3 23 rfl rfl)
theorem dX0_least_94 : decode cX0_least 94 = .ok (.ireturn, 1) := dk_172 (dk_at dksX0_least_4 0 rfl rfl)
theorem dX0_least_95 : decode cX0_least 95 = .ok (.iload_n 1, 1) := dk_27 (dk_at dksX0_least_4 1 rfl rfl)
theorem dX0_least_96 : decode cX0_least 96 = .ok (.istore 4, 2) := dk_54 4 (dk_at dksX0_least_4 2 rfl rfl)
theorem dX0_least_98 : decode cX0_least 98 = .ok (.iconst 0, 1) := dk_3 (dk_at dksX0_least_4 4 rfl rfl)
theorem dX0_least_99 : decode cX0_least 99 = .ok (.istore 5, 2) := dk_54 5 (dk_at dksX0_least_4 5 rfl rfl)
theorem dX0_least_101 : decode cX0_least 101 = .ok (.iload 5, 2) := dk_21 5 (dk_at dksX0_least_4 7 rfl rfl)
theorem dX0_least_103 : decode cX0_least 103 = .ok (.iload_n 3, 1) := dk_29 (dk_at dksX0_least_4 9 rfl rfl)
theorem dX0_least_104 : decode cX0_least 104 = .ok (.if_icmp .ge 18, 3) := dk_162 0 18 (dk_at dksX0_least_4 10 rfl rfl)
theorem dX0_least_107 : decode cX0_least 107 = .ok (.aload_n 0, 1) := dk_42 (dk_at dksX0_least_4 13 rfl rfl)
theorem dX0_least_108 : decode cX0_least 108 = .ok (.iload 4, 2) := dk_21 4 (dk_at dksX0_least_4 14 rfl rfl)
theorem dX0_least_110 : decode cX0_least 110 = .ok (.iload_n 2, 1) := dk_28 (dk_at dksX0_least_4 16 rfl rfl)
theorem dX0_least_111 : decode cX0_least 111 = .ok (.invokevirtual 250, 3) := dk_182 0 250 (dk_at dksX0_least_4 17 rfl rfl)
theorem dX0_least_114 : decode cX0_least 114 = .ok (.istore 4, 2) := dk_54 4 (dk_at dksX0_least_4 20 rfl rfl)
theorem dX0_least_116 : decode cX0_least 116 = .ok (.iinc 5 1, 3) := dk_132 5 1 (dk_at dksX0_least_5 0 rfl rfl)
theorem dX0_least_119 : decode cX0_least 119 = .ok (.goto (-18), 3) := dk_167 255 238 (dk_at dksX0_least_5 3 rfl rfl)
theorem dX0_least_122 : decode cX0_least 122 = .ok (.iload 4, 2) := dk_21 4 (dk_at dksX0_least_5 6 rfl rfl)
theorem dX0_least_124 : decode cX0_least 124 = .ok (.ireturn, 1) := dk_172 (dk_at dksX0_least_5 8 rfl rfl)
abbrev cX0_costOf : ByteArray := prog_1_method_25_code
def yX0_costOf : MethodName := ⟨RX0, "costOf", "(II)I"⟩
def dkwX0_costOf_0 : List UInt8 := [42, 180, 0, 54, 27, 50, 28, 46, 16, 100, 108, 172]
abbrev dktX0_costOf_0 : List UInt8 := dkwX0_costOf_0 ++ []
theorem dksX0_costOf_0 : cX0_costOf.data.toList.drop 0 = dktX0_costOf_0 := by decide +kernel
theorem dX0_costOf_0 : decode cX0_costOf 0 = .ok (.aload_n 0, 1) := dk_42 (dk_at dksX0_costOf_0 0 rfl rfl)
theorem dX0_costOf_1 : decode cX0_costOf 1 = .ok (.getfield 54, 3) := dk_180 0 54 (dk_at dksX0_costOf_0 1 rfl rfl)
theorem dX0_costOf_4 : decode cX0_costOf 4 = .ok (.iload_n 1, 1) := dk_27 (dk_at dksX0_costOf_0 4 rfl rfl)
theorem dX0_costOf_5 : decode cX0_costOf 5 = .ok (.aaload, 1) := dk_50 (dk_at dksX0_costOf_0 5 rfl rfl)
theorem dX0_costOf_6 : decode cX0_costOf 6 = .ok (.iload_n 2, 1) := dk_28 (dk_at dksX0_costOf_0 6 rfl rfl)
theorem dX0_costOf_7 : decode cX0_costOf 7 = .ok (.iaload, 1) := dk_46 (dk_at dksX0_costOf_0 7 rfl rfl)
theorem dX0_costOf_8 : decode cX0_costOf 8 = .ok (.bipush 100, 2) := dk_16 100 (dk_at dksX0_costOf_0 8 rfl rfl)
theorem dX0_costOf_10 : decode cX0_costOf 10 = .ok (.idiv, 1) := dk_108 (dk_at dksX0_costOf_0 10 rfl rfl)
theorem dX0_costOf_11 : decode cX0_costOf 11 = .ok (.ireturn, 1) := dk_172 (dk_at dksX0_costOf_0 11 rfl rfl)
abbrev cX0_next : ByteArray := prog_1_method_26_code
def yX0_next : MethodName := ⟨RX0, "next", "(II)I"⟩
def dkwX0_next_2 : List UInt8 := [180, 0, 54, 27, 50, 28, 46, 159, 0, 9, 132, 3, 1, 167, 255, 198, 29, 172]
abbrev dktX0_next_2 : List UInt8 := dkwX0_next_2 ++ []
def dkwX0_next_1 : List UInt8 := [16, 100, 42, 180, 0, 45, 27, 50, 29, 46, 104, 4, 96, 42, 180, 0, 54, 29, 50, 28, 46, 96, 42]
abbrev dktX0_next_1 : List UInt8 := dkwX0_next_1 ++ dktX0_next_2
def dkwX0_next_0 : List UInt8 := [3, 62, 42, 27, 29, 182, 0, 244, 153, 0, 49, 42, 180, 0, 54, 29, 50, 28, 46, 18, 220, 159, 0, 36]
abbrev dktX0_next_0 : List UInt8 := dkwX0_next_0 ++ dktX0_next_1
theorem dksX0_next_0 : cX0_next.data.toList.drop 0 = dktX0_next_0 := by decide +kernel
theorem dksX0_next_1 : cX0_next.data.toList.drop 24 = dktX0_next_1 := dk_seg dksX0_next_0 24 rfl rfl
theorem dksX0_next_2 : cX0_next.data.toList.drop 47 = dktX0_next_2 := dk_seg dksX0_next_1 23 rfl rfl
theorem dX0_next_0 : decode cX0_next 0 = .ok (.iconst 0, 1) := dk_3 (dk_at dksX0_next_0 0 rfl rfl)
theorem dX0_next_1 : decode cX0_next 1 = .ok (.istore_n 3, 1) := dk_62 (dk_at dksX0_next_0 1 rfl rfl)
theorem dX0_next_2 : decode cX0_next 2 = .ok (.aload_n 0, 1) := dk_42 (dk_at dksX0_next_0 2 rfl rfl)
theorem dX0_next_3 : decode cX0_next 3 = .ok (.iload_n 1, 1) := dk_27 (dk_at dksX0_next_0 3 rfl rfl)
theorem dX0_next_4 : decode cX0_next 4 = .ok (.iload_n 3, 1) := dk_29 (dk_at dksX0_next_0 4 rfl rfl)
theorem dX0_next_5 : decode cX0_next 5 = .ok (.invokevirtual 244, 3) := dk_182 0 244 (dk_at dksX0_next_0 5 rfl rfl)
theorem dX0_next_8 : decode cX0_next 8 = .ok (.ifCond .eq 49, 3) := dk_153 0 49 (dk_at dksX0_next_0 8 rfl rfl)
theorem dX0_next_11 : decode cX0_next 11 = .ok (.aload_n 0, 1) := dk_42 (dk_at dksX0_next_0 11 rfl rfl)
theorem dX0_next_12 : decode cX0_next 12 = .ok (.getfield 54, 3) := dk_180 0 54 (dk_at dksX0_next_0 12 rfl rfl)
theorem dX0_next_15 : decode cX0_next 15 = .ok (.iload_n 3, 1) := dk_29 (dk_at dksX0_next_0 15 rfl rfl)
theorem dX0_next_16 : decode cX0_next 16 = .ok (.aaload, 1) := dk_50 (dk_at dksX0_next_0 16 rfl rfl)
theorem dX0_next_17 : decode cX0_next 17 = .ok (.iload_n 2, 1) := dk_28 (dk_at dksX0_next_0 17 rfl rfl)
theorem dX0_next_18 : decode cX0_next 18 = .ok (.iaload, 1) := dk_46 (dk_at dksX0_next_0 18 rfl rfl)
theorem dX0_next_19 : decode cX0_next 19 = .ok (.ldc 220, 2) := dk_18 220 (dk_at dksX0_next_0 19 rfl rfl)
theorem dX0_next_21 : decode cX0_next 21 = .ok (.if_icmp .eq 36, 3) := dk_159 0 36 (dk_at dksX0_next_0 21 rfl rfl)
theorem dX0_next_24 : decode cX0_next 24 = .ok (.bipush 100, 2) := dk_16 100 (dk_at dksX0_next_1 0 rfl rfl)
theorem dX0_next_26 : decode cX0_next 26 = .ok (.aload_n 0, 1) := dk_42 (dk_at dksX0_next_1 2 rfl rfl)
theorem dX0_next_27 : decode cX0_next 27 = .ok (.getfield 45, 3) := dk_180 0 45 (dk_at dksX0_next_1 3 rfl rfl)
theorem dX0_next_30 : decode cX0_next 30 = .ok (.iload_n 1, 1) := dk_27 (dk_at dksX0_next_1 6 rfl rfl)
theorem dX0_next_31 : decode cX0_next 31 = .ok (.aaload, 1) := dk_50 (dk_at dksX0_next_1 7 rfl rfl)
theorem dX0_next_32 : decode cX0_next 32 = .ok (.iload_n 3, 1) := dk_29 (dk_at dksX0_next_1 8 rfl rfl)
theorem dX0_next_33 : decode cX0_next 33 = .ok (.iaload, 1) := dk_46 (dk_at dksX0_next_1 9 rfl rfl)
theorem dX0_next_34 : decode cX0_next 34 = .ok (.imul, 1) := dk_104 (dk_at dksX0_next_1 10 rfl rfl)
theorem dX0_next_35 : decode cX0_next 35 = .ok (.iconst 1, 1) := dk_4 (dk_at dksX0_next_1 11 rfl rfl)
theorem dX0_next_36 : decode cX0_next 36 = .ok (.iadd, 1) := dk_96 (dk_at dksX0_next_1 12 rfl rfl)
theorem dX0_next_37 : decode cX0_next 37 = .ok (.aload_n 0, 1) := dk_42 (dk_at dksX0_next_1 13 rfl rfl)
theorem dX0_next_38 : decode cX0_next 38 = .ok (.getfield 54, 3) := dk_180 0 54 (dk_at dksX0_next_1 14 rfl rfl)
theorem dX0_next_41 : decode cX0_next 41 = .ok (.iload_n 3, 1) := dk_29 (dk_at dksX0_next_1 17 rfl rfl)
theorem dX0_next_42 : decode cX0_next 42 = .ok (.aaload, 1) := dk_50 (dk_at dksX0_next_1 18 rfl rfl)
theorem dX0_next_43 : decode cX0_next 43 = .ok (.iload_n 2, 1) := dk_28 (dk_at dksX0_next_1 19 rfl rfl)
theorem dX0_next_44 : decode cX0_next 44 = .ok (.iaload, 1) := dk_46 (dk_at dksX0_next_1 20 rfl rfl)
theorem dX0_next_45 : decode cX0_next 45 = .ok (.iadd, 1) := dk_96 (dk_at dksX0_next_1 21 rfl rfl)
theorem dX0_next_46 : decode cX0_next 46 = .ok (.aload_n 0, 1) := dk_42 (dk_at dksX0_next_1 22 rfl rfl)
theorem dX0_next_47 : decode cX0_next 47 = .ok (.getfield 54, 3) := dk_180 0 54 (dk_at dksX0_next_2 0 rfl rfl)
theorem dX0_next_50 : decode cX0_next 50 = .ok (.iload_n 1, 1) := dk_27 (dk_at dksX0_next_2 3 rfl rfl)
theorem dX0_next_51 : decode cX0_next 51 = .ok (.aaload, 1) := dk_50 (dk_at dksX0_next_2 4 rfl rfl)
theorem dX0_next_52 : decode cX0_next 52 = .ok (.iload_n 2, 1) := dk_28 (dk_at dksX0_next_2 5 rfl rfl)
theorem dX0_next_53 : decode cX0_next 53 = .ok (.iaload, 1) := dk_46 (dk_at dksX0_next_2 6 rfl rfl)
theorem dX0_next_54 : decode cX0_next 54 = .ok (.if_icmp .eq 9, 3) := dk_159 0 9 (dk_at dksX0_next_2 7 rfl rfl)
theorem dX0_next_57 : decode cX0_next 57 = .ok (.iinc 3 1, 3) := dk_132 3 1 (dk_at dksX0_next_2 10 rfl rfl)
theorem dX0_next_60 : decode cX0_next 60 = .ok (.goto (-58), 3) := dk_167 255 198 (dk_at dksX0_next_2 13 rfl rfl)
theorem dX0_next_63 : decode cX0_next 63 = .ok (.iload_n 3, 1) := dk_29 (dk_at dksX0_next_2 16 rfl rfl)
theorem dX0_next_64 : decode cX0_next 64 = .ok (.ireturn, 1) := dk_172 (dk_at dksX0_next_2 17 rfl rfl)
abbrev cX0_howMany : ByteArray := prog_1_method_29_code
def yX0_howMany : MethodName := ⟨RX0, "howMany", "(II)J"⟩
def dkwX0_howMany_2 : List UInt8 := [84, 132, 3, 1, 167, 255, 238, 42, 27, 28, 182, 0, 253, 173]
abbrev dktX0_howMany_2 : List UInt8 := dkwX0_howMany_2 ++ []
def dkwX0_howMany_1 : List UInt8 := [46, 18, 220, 160, 0, 5, 9, 173, 3, 62, 29, 42, 180, 0, 113, 162, 0, 16, 42, 180, 0, 73, 29, 3]
abbrev dktX0_howMany_1 : List UInt8 := dkwX0_howMany_1 ++ dktX0_howMany_2
def dkwX0_howMany_0 : List UInt8 := [42, 27, 28, 182, 0, 238, 154, 0, 7, 20, 1, 1, 173, 42, 182, 0, 241, 42, 180, 0, 54, 27, 50, 28]
abbrev dktX0_howMany_0 : List UInt8 := dkwX0_howMany_0 ++ dktX0_howMany_1
theorem dksX0_howMany_0 : cX0_howMany.data.toList.drop 0 = dktX0_howMany_0 := by decide +kernel
theorem dksX0_howMany_1 : cX0_howMany.data.toList.drop 24 = dktX0_howMany_1 := dk_seg dksX0_howMany_0 24 rfl rfl
theorem dksX0_howMany_2 : cX0_howMany.data.toList.drop 48 = dktX0_howMany_2 := dk_seg dksX0_howMany_1 24 rfl rfl
theorem dX0_howMany_0 : decode cX0_howMany 0 = .ok (.aload_n 0, 1) := dk_42 (dk_at dksX0_howMany_0 0 rfl rfl)
theorem dX0_howMany_1 : decode cX0_howMany 1 = .ok (.iload_n 1, 1) := dk_27 (dk_at dksX0_howMany_0 1 rfl rfl)
theorem dX0_howMany_2 : decode cX0_howMany 2 = .ok (.iload_n 2, 1) := dk_28 (dk_at dksX0_howMany_0 2 rfl rfl)
theorem dX0_howMany_3 : decode cX0_howMany 3 = .ok (.invokevirtual 238, 3) := dk_182 0 238 (dk_at dksX0_howMany_0 3 rfl rfl)
theorem dX0_howMany_6 : decode cX0_howMany 6 = .ok (.ifCond .ne 7, 3) := dk_154 0 7 (dk_at dksX0_howMany_0 6 rfl rfl)
theorem dX0_howMany_9 : decode cX0_howMany 9 = .ok (.ldc2_w 257, 3) := dk_20 1 1 (dk_at dksX0_howMany_0 9 rfl rfl)
theorem dX0_howMany_12 : decode cX0_howMany 12 = .ok (.lreturn, 1) := dk_173 (dk_at dksX0_howMany_0 12 rfl rfl)
theorem dX0_howMany_13 : decode cX0_howMany 13 = .ok (.aload_n 0, 1) := dk_42 (dk_at dksX0_howMany_0 13 rfl rfl)
theorem dX0_howMany_14 : decode cX0_howMany 14 = .ok (.invokevirtual 241, 3) := dk_182 0 241 (dk_at dksX0_howMany_0 14 rfl rfl)
theorem dX0_howMany_17 : decode cX0_howMany 17 = .ok (.aload_n 0, 1) := dk_42 (dk_at dksX0_howMany_0 17 rfl rfl)
theorem dX0_howMany_18 : decode cX0_howMany 18 = .ok (.getfield 54, 3) := dk_180 0 54 (dk_at dksX0_howMany_0 18 rfl rfl)
theorem dX0_howMany_21 : decode cX0_howMany 21 = .ok (.iload_n 1, 1) := dk_27 (dk_at dksX0_howMany_0 21 rfl rfl)
theorem dX0_howMany_22 : decode cX0_howMany 22 = .ok (.aaload, 1) := dk_50 (dk_at dksX0_howMany_0 22 rfl rfl)
theorem dX0_howMany_23 : decode cX0_howMany 23 = .ok (.iload_n 2, 1) := dk_28 (dk_at dksX0_howMany_0 23 rfl rfl)
theorem dX0_howMany_24 : decode cX0_howMany 24 = .ok (.iaload, 1) := dk_46 (dk_at dksX0_howMany_1 0 rfl rfl)
theorem dX0_howMany_25 : decode cX0_howMany 25 = .ok (.ldc 220, 2) := dk_18 220 (dk_at dksX0_howMany_1 1 rfl rfl)
theorem dX0_howMany_27 : decode cX0_howMany 27 = .ok (.if_icmp .ne 5, 3) := dk_160 0 5 (dk_at dksX0_howMany_1 3 rfl rfl)
theorem dX0_howMany_30 : decode cX0_howMany 30 = .ok (.lconst 0, 1) := dk_9 (dk_at dksX0_howMany_1 6 rfl rfl)
theorem dX0_howMany_31 : decode cX0_howMany 31 = .ok (.lreturn, 1) := dk_173 (dk_at dksX0_howMany_1 7 rfl rfl)
theorem dX0_howMany_32 : decode cX0_howMany 32 = .ok (.iconst 0, 1) := dk_3 (dk_at dksX0_howMany_1 8 rfl rfl)
theorem dX0_howMany_33 : decode cX0_howMany 33 = .ok (.istore_n 3, 1) := dk_62 (dk_at dksX0_howMany_1 9 rfl rfl)
theorem dX0_howMany_34 : decode cX0_howMany 34 = .ok (.iload_n 3, 1) := dk_29 (dk_at dksX0_howMany_1 10 rfl rfl)
theorem dX0_howMany_35 : decode cX0_howMany 35 = .ok (.aload_n 0, 1) := dk_42 (dk_at dksX0_howMany_1 11 rfl rfl)
theorem dX0_howMany_36 : decode cX0_howMany 36 = .ok (.getfield 113, 3) := dk_180 0 113 (dk_at dksX0_howMany_1 12 rfl rfl)
theorem dX0_howMany_39 : decode cX0_howMany 39 = .ok (.if_icmp .ge 16, 3) := dk_162 0 16 (dk_at dksX0_howMany_1 15 rfl rfl)
theorem dX0_howMany_42 : decode cX0_howMany 42 = .ok (.aload_n 0, 1) := dk_42 (dk_at dksX0_howMany_1 18 rfl rfl)
theorem dX0_howMany_43 : decode cX0_howMany 43 = .ok (.getfield 73, 3) := dk_180 0 73 (dk_at dksX0_howMany_1 19 rfl rfl)
theorem dX0_howMany_46 : decode cX0_howMany 46 = .ok (.iload_n 3, 1) := dk_29 (dk_at dksX0_howMany_1 22 rfl rfl)
theorem dX0_howMany_47 : decode cX0_howMany 47 = .ok (.iconst 0, 1) := dk_3 (dk_at dksX0_howMany_1 23 rfl rfl)
theorem dX0_howMany_48 : decode cX0_howMany 48 = .ok (.bastore, 1) := dk_84 (dk_at dksX0_howMany_2 0 rfl rfl)
theorem dX0_howMany_49 : decode cX0_howMany 49 = .ok (.iinc 3 1, 3) := dk_132 3 1 (dk_at dksX0_howMany_2 1 rfl rfl)
theorem dX0_howMany_52 : decode cX0_howMany 52 = .ok (.goto (-18), 3) := dk_167 255 238 (dk_at dksX0_howMany_2 4 rfl rfl)
theorem dX0_howMany_55 : decode cX0_howMany 55 = .ok (.aload_n 0, 1) := dk_42 (dk_at dksX0_howMany_2 7 rfl rfl)
theorem dX0_howMany_56 : decode cX0_howMany 56 = .ok (.iload_n 1, 1) := dk_27 (dk_at dksX0_howMany_2 8 rfl rfl)
theorem dX0_howMany_57 : decode cX0_howMany 57 = .ok (.iload_n 2, 1) := dk_28 (dk_at dksX0_howMany_2 9 rfl rfl)
theorem dX0_howMany_58 : decode cX0_howMany 58 = .ok (.invokevirtual 253, 3) := dk_182 0 253 (dk_at dksX0_howMany_2 10 rfl rfl)
theorem dX0_howMany_61 : decode cX0_howMany 61 = .ok (.lreturn, 1) := dk_173 (dk_at dksX0_howMany_2 13 rfl rfl)
abbrev cX0_rowsTo : ByteArray := prog_1_method_28_code
def yX0_rowsTo : MethodName := ⟨RX0, "rowsTo", "(II)J"⟩
def dkwX0_rowsTo_4 : List UInt8 := [97, 66, 132, 5, 1, 167, 255, 184, 42, 180, 0, 73, 27, 4, 84, 42, 180, 0, 70, 27, 33, 80, 33, 173]
abbrev dktX0_rowsTo_4 : List UInt8 := dkwX0_rowsTo_4 ++ []
def dkwX0_rowsTo_3 : List UInt8 := [21, 5, 28, 182, 0, 247, 96, 42, 27, 28, 182, 0, 247, 160, 0, 13, 33, 42, 21, 5, 28, 182, 0, 253]
abbrev dktX0_rowsTo_3 : List UInt8 := dkwX0_rowsTo_3 ++ dktX0_rowsTo_4
def dkwX0_rowsTo_2 : List UInt8 := [180, 0, 54, 21, 5, 50, 28, 46, 18, 220, 162, 0, 39, 42, 180, 0, 45, 27, 50, 21, 5, 46, 42]
abbrev dktX0_rowsTo_2 : List UInt8 := dkwX0_rowsTo_2 ++ dktX0_rowsTo_3
def dkwX0_rowsTo_1 : List UInt8 := [66, 3, 54, 5, 21, 5, 42, 180, 0, 113, 162, 0, 69, 42, 27, 21, 5, 182, 0, 244, 153, 0, 53, 42]
abbrev dktX0_rowsTo_1 : List UInt8 := dkwX0_rowsTo_1 ++ dktX0_rowsTo_2
def dkwX0_rowsTo_0 : List UInt8 := [27, 28, 160, 0, 5, 10, 173, 42, 180, 0, 73, 27, 51, 153, 0, 10, 42, 180, 0, 70, 27, 47, 173, 9]
abbrev dktX0_rowsTo_0 : List UInt8 := dkwX0_rowsTo_0 ++ dktX0_rowsTo_1
theorem dksX0_rowsTo_0 : cX0_rowsTo.data.toList.drop 0 = dktX0_rowsTo_0 := by decide +kernel
theorem dksX0_rowsTo_1 : cX0_rowsTo.data.toList.drop 24 = dktX0_rowsTo_1 := dk_seg dksX0_rowsTo_0 24 rfl rfl
theorem dksX0_rowsTo_2 : cX0_rowsTo.data.toList.drop 48 = dktX0_rowsTo_2 := dk_seg dksX0_rowsTo_1 24 rfl rfl
theorem dksX0_rowsTo_3 : cX0_rowsTo.data.toList.drop 71 = dktX0_rowsTo_3 := dk_seg dksX0_rowsTo_2 23 rfl rfl
theorem dksX0_rowsTo_4 : cX0_rowsTo.data.toList.drop 95 = dktX0_rowsTo_4 := dk_seg dksX0_rowsTo_3 24 rfl rfl
theorem dX0_rowsTo_0 : decode cX0_rowsTo 0 = .ok (.iload_n 1, 1) := dk_27 (dk_at dksX0_rowsTo_0 0 rfl rfl)
theorem dX0_rowsTo_1 : decode cX0_rowsTo 1 = .ok (.iload_n 2, 1) := dk_28 (dk_at dksX0_rowsTo_0 1 rfl rfl)
theorem dX0_rowsTo_2 : decode cX0_rowsTo 2 = .ok (.if_icmp .ne 5, 3) := dk_160 0 5 (dk_at dksX0_rowsTo_0 2 rfl rfl)
theorem dX0_rowsTo_5 : decode cX0_rowsTo 5 = .ok (.lconst 1, 1) := dk_10 (dk_at dksX0_rowsTo_0 5 rfl rfl)
theorem dX0_rowsTo_6 : decode cX0_rowsTo 6 = .ok (.lreturn, 1) := dk_173 (dk_at dksX0_rowsTo_0 6 rfl rfl)
theorem dX0_rowsTo_7 : decode cX0_rowsTo 7 = .ok (.aload_n 0, 1) := dk_42 (dk_at dksX0_rowsTo_0 7 rfl rfl)
theorem dX0_rowsTo_8 : decode cX0_rowsTo 8 = .ok (.getfield 73, 3) := dk_180 0 73 (dk_at dksX0_rowsTo_0 8 rfl rfl)
theorem dX0_rowsTo_11 : decode cX0_rowsTo 11 = .ok (.iload_n 1, 1) := dk_27 (dk_at dksX0_rowsTo_0 11 rfl rfl)
theorem dX0_rowsTo_12 : decode cX0_rowsTo 12 = .ok (.baload, 1) := dk_51 (dk_at dksX0_rowsTo_0 12 rfl rfl)
theorem dX0_rowsTo_13 : decode cX0_rowsTo 13 = .ok (.ifCond .eq 10, 3) := dk_153 0 10 (dk_at dksX0_rowsTo_0 13 rfl rfl)
theorem dX0_rowsTo_16 : decode cX0_rowsTo 16 = .ok (.aload_n 0, 1) := dk_42 (dk_at dksX0_rowsTo_0 16 rfl rfl)
theorem dX0_rowsTo_17 : decode cX0_rowsTo 17 = .ok (.getfield 70, 3) := dk_180 0 70 (dk_at dksX0_rowsTo_0 17 rfl rfl)
theorem dX0_rowsTo_20 : decode cX0_rowsTo 20 = .ok (.iload_n 1, 1) := dk_27 (dk_at dksX0_rowsTo_0 20 rfl rfl)
theorem dX0_rowsTo_21 : decode cX0_rowsTo 21 = .ok (.laload, 1) := dk_47 (dk_at dksX0_rowsTo_0 21 rfl rfl)
theorem dX0_rowsTo_22 : decode cX0_rowsTo 22 = .ok (.lreturn, 1) := dk_173 (dk_at dksX0_rowsTo_0 22 rfl rfl)
theorem dX0_rowsTo_23 : decode cX0_rowsTo 23 = .ok (.lconst 0, 1) := dk_9 (dk_at dksX0_rowsTo_0 23 rfl rfl)
theorem dX0_rowsTo_24 : decode cX0_rowsTo 24 = .ok (.lstore_n 3, 1) := dk_66 (dk_at dksX0_rowsTo_1 0 rfl rfl)
theorem dX0_rowsTo_25 : decode cX0_rowsTo 25 = .ok (.iconst 0, 1) := dk_3 (dk_at dksX0_rowsTo_1 1 rfl rfl)
theorem dX0_rowsTo_26 : decode cX0_rowsTo 26 = .ok (.istore 5, 2) := dk_54 5 (dk_at dksX0_rowsTo_1 2 rfl rfl)
theorem dX0_rowsTo_28 : decode cX0_rowsTo 28 = .ok (.iload 5, 2) := dk_21 5 (dk_at dksX0_rowsTo_1 4 rfl rfl)
theorem dX0_rowsTo_30 : decode cX0_rowsTo 30 = .ok (.aload_n 0, 1) := dk_42 (dk_at dksX0_rowsTo_1 6 rfl rfl)
theorem dX0_rowsTo_31 : decode cX0_rowsTo 31 = .ok (.getfield 113, 3) := dk_180 0 113 (dk_at dksX0_rowsTo_1 7 rfl rfl)
theorem dX0_rowsTo_34 : decode cX0_rowsTo 34 = .ok (.if_icmp .ge 69, 3) := dk_162 0 69 (dk_at dksX0_rowsTo_1 10 rfl rfl)
theorem dX0_rowsTo_37 : decode cX0_rowsTo 37 = .ok (.aload_n 0, 1) := dk_42 (dk_at dksX0_rowsTo_1 13 rfl rfl)
theorem dX0_rowsTo_38 : decode cX0_rowsTo 38 = .ok (.iload_n 1, 1) := dk_27 (dk_at dksX0_rowsTo_1 14 rfl rfl)
theorem dX0_rowsTo_39 : decode cX0_rowsTo 39 = .ok (.iload 5, 2) := dk_21 5 (dk_at dksX0_rowsTo_1 15 rfl rfl)
theorem dX0_rowsTo_41 : decode cX0_rowsTo 41 = .ok (.invokevirtual 244, 3) := dk_182 0 244 (dk_at dksX0_rowsTo_1 17 rfl rfl)
theorem dX0_rowsTo_44 : decode cX0_rowsTo 44 = .ok (.ifCond .eq 53, 3) := dk_153 0 53 (dk_at dksX0_rowsTo_1 20 rfl rfl)
theorem dX0_rowsTo_47 : decode cX0_rowsTo 47 = .ok (.aload_n 0, 1) := dk_42 (dk_at dksX0_rowsTo_1 23 rfl rfl)
theorem dX0_rowsTo_48 : decode cX0_rowsTo 48 = .ok (.getfield 54, 3) := dk_180 0 54 (dk_at dksX0_rowsTo_2 0 rfl rfl)
theorem dX0_rowsTo_51 : decode cX0_rowsTo 51 = .ok (.iload 5, 2) := dk_21 5 (dk_at dksX0_rowsTo_2 3 rfl rfl)
theorem dX0_rowsTo_53 : decode cX0_rowsTo 53 = .ok (.aaload, 1) := dk_50 (dk_at dksX0_rowsTo_2 5 rfl rfl)
theorem dX0_rowsTo_54 : decode cX0_rowsTo 54 = .ok (.iload_n 2, 1) := dk_28 (dk_at dksX0_rowsTo_2 6 rfl rfl)
theorem dX0_rowsTo_55 : decode cX0_rowsTo 55 = .ok (.iaload, 1) := dk_46 (dk_at dksX0_rowsTo_2 7 rfl rfl)
theorem dX0_rowsTo_56 : decode cX0_rowsTo 56 = .ok (.ldc 220, 2) := dk_18 220 (dk_at dksX0_rowsTo_2 8 rfl rfl)
theorem dX0_rowsTo_58 : decode cX0_rowsTo 58 = .ok (.if_icmp .ge 39, 3) := dk_162 0 39 (dk_at dksX0_rowsTo_2 10 rfl rfl)
theorem dX0_rowsTo_61 : decode cX0_rowsTo 61 = .ok (.aload_n 0, 1) := dk_42 (dk_at dksX0_rowsTo_2 13 rfl rfl)
theorem dX0_rowsTo_62 : decode cX0_rowsTo 62 = .ok (.getfield 45, 3) := dk_180 0 45 (dk_at dksX0_rowsTo_2 14 rfl rfl)
theorem dX0_rowsTo_65 : decode cX0_rowsTo 65 = .ok (.iload_n 1, 1) := dk_27 (dk_at dksX0_rowsTo_2 17 rfl rfl)
theorem dX0_rowsTo_66 : decode cX0_rowsTo 66 = .ok (.aaload, 1) := dk_50 (dk_at dksX0_rowsTo_2 18 rfl rfl)
theorem dX0_rowsTo_67 : decode cX0_rowsTo 67 = .ok (.iload 5, 2) := dk_21 5 (dk_at dksX0_rowsTo_2 19 rfl rfl)
theorem dX0_rowsTo_69 : decode cX0_rowsTo 69 = .ok (.iaload, 1) := dk_46 (dk_at dksX0_rowsTo_2 21 rfl rfl)
theorem dX0_rowsTo_70 : decode cX0_rowsTo 70 = .ok (.aload_n 0, 1) := dk_42 (dk_at dksX0_rowsTo_2 22 rfl rfl)
theorem dX0_rowsTo_71 : decode cX0_rowsTo 71 = .ok (.iload 5, 2) := dk_21 5 (dk_at dksX0_rowsTo_3 0 rfl rfl)
theorem dX0_rowsTo_73 : decode cX0_rowsTo 73 = .ok (.iload_n 2, 1) := dk_28 (dk_at dksX0_rowsTo_3 2 rfl rfl)
theorem dX0_rowsTo_74 : decode cX0_rowsTo 74 = .ok (.invokevirtual 247, 3) := dk_182 0 247 (dk_at dksX0_rowsTo_3 3 rfl rfl)
theorem dX0_rowsTo_77 : decode cX0_rowsTo 77 = .ok (.iadd, 1) := dk_96 (dk_at dksX0_rowsTo_3 6 rfl rfl)
theorem dX0_rowsTo_78 : decode cX0_rowsTo 78 = .ok (.aload_n 0, 1) := dk_42 (dk_at dksX0_rowsTo_3 7 rfl rfl)
theorem dX0_rowsTo_79 : decode cX0_rowsTo 79 = .ok (.iload_n 1, 1) := dk_27 (dk_at dksX0_rowsTo_3 8 rfl rfl)
theorem dX0_rowsTo_80 : decode cX0_rowsTo 80 = .ok (.iload_n 2, 1) := dk_28 (dk_at dksX0_rowsTo_3 9 rfl rfl)
theorem dX0_rowsTo_81 : decode cX0_rowsTo 81 = .ok (.invokevirtual 247, 3) := dk_182 0 247 (dk_at dksX0_rowsTo_3 10 rfl rfl)
theorem dX0_rowsTo_84 : decode cX0_rowsTo 84 = .ok (.if_icmp .ne 13, 3) := dk_160 0 13 (dk_at dksX0_rowsTo_3 13 rfl rfl)
theorem dX0_rowsTo_87 : decode cX0_rowsTo 87 = .ok (.lload_n 3, 1) := dk_33 (dk_at dksX0_rowsTo_3 16 rfl rfl)
theorem dX0_rowsTo_88 : decode cX0_rowsTo 88 = .ok (.aload_n 0, 1) := dk_42 (dk_at dksX0_rowsTo_3 17 rfl rfl)
theorem dX0_rowsTo_89 : decode cX0_rowsTo 89 = .ok (.iload 5, 2) := dk_21 5 (dk_at dksX0_rowsTo_3 18 rfl rfl)
theorem dX0_rowsTo_91 : decode cX0_rowsTo 91 = .ok (.iload_n 2, 1) := dk_28 (dk_at dksX0_rowsTo_3 20 rfl rfl)
theorem dX0_rowsTo_92 : decode cX0_rowsTo 92 = .ok (.invokevirtual 253, 3) := dk_182 0 253 (dk_at dksX0_rowsTo_3 21 rfl rfl)
theorem dX0_rowsTo_95 : decode cX0_rowsTo 95 = .ok (.ladd, 1) := dk_97 (dk_at dksX0_rowsTo_4 0 rfl rfl)
theorem dX0_rowsTo_96 : decode cX0_rowsTo 96 = .ok (.lstore_n 3, 1) := dk_66 (dk_at dksX0_rowsTo_4 1 rfl rfl)
theorem dX0_rowsTo_97 : decode cX0_rowsTo 97 = .ok (.iinc 5 1, 3) := dk_132 5 1 (dk_at dksX0_rowsTo_4 2 rfl rfl)
theorem dX0_rowsTo_100 : decode cX0_rowsTo 100 = .ok (.goto (-72), 3) := dk_167 255 184 (dk_at dksX0_rowsTo_4 5 rfl rfl)
theorem dX0_rowsTo_103 : decode cX0_rowsTo 103 = .ok (.aload_n 0, 1) := dk_42 (dk_at dksX0_rowsTo_4 8 rfl rfl)
theorem dX0_rowsTo_104 : decode cX0_rowsTo 104 = .ok (.getfield 73, 3) := dk_180 0 73 (dk_at dksX0_rowsTo_4 9 rfl rfl)
theorem dX0_rowsTo_107 : decode cX0_rowsTo 107 = .ok (.iload_n 1, 1) := dk_27 (dk_at dksX0_rowsTo_4 12 rfl rfl)
theorem dX0_rowsTo_108 : decode cX0_rowsTo 108 = .ok (.iconst 1, 1) := dk_4 (dk_at dksX0_rowsTo_4 13 rfl rfl)
theorem dX0_rowsTo_109 : decode cX0_rowsTo 109 = .ok (.bastore, 1) := dk_84 (dk_at dksX0_rowsTo_4 14 rfl rfl)
theorem dX0_rowsTo_110 : decode cX0_rowsTo 110 = .ok (.aload_n 0, 1) := dk_42 (dk_at dksX0_rowsTo_4 15 rfl rfl)
theorem dX0_rowsTo_111 : decode cX0_rowsTo 111 = .ok (.getfield 70, 3) := dk_180 0 70 (dk_at dksX0_rowsTo_4 16 rfl rfl)
theorem dX0_rowsTo_114 : decode cX0_rowsTo 114 = .ok (.iload_n 1, 1) := dk_27 (dk_at dksX0_rowsTo_4 19 rfl rfl)
theorem dX0_rowsTo_115 : decode cX0_rowsTo 115 = .ok (.lload_n 3, 1) := dk_33 (dk_at dksX0_rowsTo_4 20 rfl rfl)
theorem dX0_rowsTo_116 : decode cX0_rowsTo 116 = .ok (.lastore, 1) := dk_80 (dk_at dksX0_rowsTo_4 21 rfl rfl)
theorem dX0_rowsTo_117 : decode cX0_rowsTo 117 = .ok (.lload_n 3, 1) := dk_33 (dk_at dksX0_rowsTo_4 22 rfl rfl)
theorem dX0_rowsTo_118 : decode cX0_rowsTo 118 = .ok (.lreturn, 1) := dk_173 (dk_at dksX0_rowsTo_4 23 rfl rfl)
abbrev cX0_without : ByteArray := prog_1_method_31_code
def yX0_without : MethodName := ⟨RX0, "without", "(II)J"⟩
def dkwX0_without_4 : List UInt8 := [167, 255, 202, 33, 173]
abbrev dktX0_without_4 : List UInt8 := dkwX0_without_4 ++ []
def dkwX0_without_3 : List UInt8 := [21, 5, 182, 1, 5, 28, 184, 0, 131, 154, 0, 10, 33, 10, 21, 5, 121, 129, 66, 132, 5, 1]
abbrev dktX0_without_3 : List UInt8 := dkwX0_without_3 ++ dktX0_without_4
def dkwX0_without_2 : List UInt8 := [21, 5, 27, 159, 0, 39, 21, 5, 28, 159, 0, 33, 42, 21, 5, 182, 0, 221, 153, 0, 24, 42, 27]
abbrev dktX0_without_2 : List UInt8 := dkwX0_without_2 ++ dktX0_without_3
def dkwX0_without_1 : List UInt8 := [46, 18, 220, 160, 0, 7, 20, 1, 3, 173, 9, 66, 3, 54, 5, 21, 5, 42, 180, 0, 113, 162, 0, 51]
abbrev dktX0_without_1 : List UInt8 := dkwX0_without_1 ++ dktX0_without_2
def dkwX0_without_0 : List UInt8 := [42, 27, 28, 182, 0, 238, 154, 0, 7, 20, 1, 1, 173, 42, 182, 0, 241, 42, 180, 0, 54, 27, 50, 28]
abbrev dktX0_without_0 : List UInt8 := dkwX0_without_0 ++ dktX0_without_1
theorem dksX0_without_0 : cX0_without.data.toList.drop 0 = dktX0_without_0 := by decide +kernel
theorem dksX0_without_1 : cX0_without.data.toList.drop 24 = dktX0_without_1 := dk_seg dksX0_without_0 24 rfl rfl
theorem dksX0_without_2 : cX0_without.data.toList.drop 48 = dktX0_without_2 := dk_seg dksX0_without_1 24 rfl rfl
theorem dksX0_without_3 : cX0_without.data.toList.drop 71 = dktX0_without_3 := dk_seg dksX0_without_2 23 rfl rfl
theorem dksX0_without_4 : cX0_without.data.toList.drop 93 = dktX0_without_4 := dk_seg dksX0_without_3 22 rfl rfl
theorem dX0_without_0 : decode cX0_without 0 = .ok (.aload_n 0, 1) := dk_42 (dk_at dksX0_without_0 0 rfl rfl)
theorem dX0_without_1 : decode cX0_without 1 = .ok (.iload_n 1, 1) := dk_27 (dk_at dksX0_without_0 1 rfl rfl)
theorem dX0_without_2 : decode cX0_without 2 = .ok (.iload_n 2, 1) := dk_28 (dk_at dksX0_without_0 2 rfl rfl)
theorem dX0_without_3 : decode cX0_without 3 = .ok (.invokevirtual 238, 3) := dk_182 0 238 (dk_at dksX0_without_0 3 rfl rfl)
theorem dX0_without_6 : decode cX0_without 6 = .ok (.ifCond .ne 7, 3) := dk_154 0 7 (dk_at dksX0_without_0 6 rfl rfl)
theorem dX0_without_9 : decode cX0_without 9 = .ok (.ldc2_w 257, 3) := dk_20 1 1 (dk_at dksX0_without_0 9 rfl rfl)
theorem dX0_without_12 : decode cX0_without 12 = .ok (.lreturn, 1) := dk_173 (dk_at dksX0_without_0 12 rfl rfl)
theorem dX0_without_13 : decode cX0_without 13 = .ok (.aload_n 0, 1) := dk_42 (dk_at dksX0_without_0 13 rfl rfl)
theorem dX0_without_14 : decode cX0_without 14 = .ok (.invokevirtual 241, 3) := dk_182 0 241 (dk_at dksX0_without_0 14 rfl rfl)
theorem dX0_without_17 : decode cX0_without 17 = .ok (.aload_n 0, 1) := dk_42 (dk_at dksX0_without_0 17 rfl rfl)
theorem dX0_without_18 : decode cX0_without 18 = .ok (.getfield 54, 3) := dk_180 0 54 (dk_at dksX0_without_0 18 rfl rfl)
theorem dX0_without_21 : decode cX0_without 21 = .ok (.iload_n 1, 1) := dk_27 (dk_at dksX0_without_0 21 rfl rfl)
theorem dX0_without_22 : decode cX0_without 22 = .ok (.aaload, 1) := dk_50 (dk_at dksX0_without_0 22 rfl rfl)
theorem dX0_without_23 : decode cX0_without 23 = .ok (.iload_n 2, 1) := dk_28 (dk_at dksX0_without_0 23 rfl rfl)
theorem dX0_without_24 : decode cX0_without 24 = .ok (.iaload, 1) := dk_46 (dk_at dksX0_without_1 0 rfl rfl)
theorem dX0_without_25 : decode cX0_without 25 = .ok (.ldc 220, 2) := dk_18 220 (dk_at dksX0_without_1 1 rfl rfl)
theorem dX0_without_27 : decode cX0_without 27 = .ok (.if_icmp .ne 7, 3) := dk_160 0 7 (dk_at dksX0_without_1 3 rfl rfl)
theorem dX0_without_30 : decode cX0_without 30 = .ok (.ldc2_w 259, 3) := dk_20 1 3 (dk_at dksX0_without_1 6 rfl rfl)
theorem dX0_without_33 : decode cX0_without 33 = .ok (.lreturn, 1) := dk_173 (dk_at dksX0_without_1 9 rfl rfl)
theorem dX0_without_34 : decode cX0_without 34 = .ok (.lconst 0, 1) := dk_9 (dk_at dksX0_without_1 10 rfl rfl)
theorem dX0_without_35 : decode cX0_without 35 = .ok (.lstore_n 3, 1) := dk_66 (dk_at dksX0_without_1 11 rfl rfl)
theorem dX0_without_36 : decode cX0_without 36 = .ok (.iconst 0, 1) := dk_3 (dk_at dksX0_without_1 12 rfl rfl)
theorem dX0_without_37 : decode cX0_without 37 = .ok (.istore 5, 2) := dk_54 5 (dk_at dksX0_without_1 13 rfl rfl)
theorem dX0_without_39 : decode cX0_without 39 = .ok (.iload 5, 2) := dk_21 5 (dk_at dksX0_without_1 15 rfl rfl)
theorem dX0_without_41 : decode cX0_without 41 = .ok (.aload_n 0, 1) := dk_42 (dk_at dksX0_without_1 17 rfl rfl)
theorem dX0_without_42 : decode cX0_without 42 = .ok (.getfield 113, 3) := dk_180 0 113 (dk_at dksX0_without_1 18 rfl rfl)
theorem dX0_without_45 : decode cX0_without 45 = .ok (.if_icmp .ge 51, 3) := dk_162 0 51 (dk_at dksX0_without_1 21 rfl rfl)
theorem dX0_without_48 : decode cX0_without 48 = .ok (.iload 5, 2) := dk_21 5 (dk_at dksX0_without_2 0 rfl rfl)
theorem dX0_without_50 : decode cX0_without 50 = .ok (.iload_n 1, 1) := dk_27 (dk_at dksX0_without_2 2 rfl rfl)
theorem dX0_without_51 : decode cX0_without 51 = .ok (.if_icmp .eq 39, 3) := dk_159 0 39 (dk_at dksX0_without_2 3 rfl rfl)
theorem dX0_without_54 : decode cX0_without 54 = .ok (.iload 5, 2) := dk_21 5 (dk_at dksX0_without_2 6 rfl rfl)
theorem dX0_without_56 : decode cX0_without 56 = .ok (.iload_n 2, 1) := dk_28 (dk_at dksX0_without_2 8 rfl rfl)
theorem dX0_without_57 : decode cX0_without 57 = .ok (.if_icmp .eq 33, 3) := dk_159 0 33 (dk_at dksX0_without_2 9 rfl rfl)
theorem dX0_without_60 : decode cX0_without 60 = .ok (.aload_n 0, 1) := dk_42 (dk_at dksX0_without_2 12 rfl rfl)
theorem dX0_without_61 : decode cX0_without 61 = .ok (.iload 5, 2) := dk_21 5 (dk_at dksX0_without_2 13 rfl rfl)
theorem dX0_without_63 : decode cX0_without 63 = .ok (.invokevirtual 221, 3) := dk_182 0 221 (dk_at dksX0_without_2 15 rfl rfl)
theorem dX0_without_66 : decode cX0_without 66 = .ok (.ifCond .eq 24, 3) := dk_153 0 24 (dk_at dksX0_without_2 18 rfl rfl)
theorem dX0_without_69 : decode cX0_without 69 = .ok (.aload_n 0, 1) := dk_42 (dk_at dksX0_without_2 21 rfl rfl)
theorem dX0_without_70 : decode cX0_without 70 = .ok (.iload_n 1, 1) := dk_27 (dk_at dksX0_without_2 22 rfl rfl)
theorem dX0_without_71 : decode cX0_without 71 = .ok (.iload 5, 2) := dk_21 5 (dk_at dksX0_without_3 0 rfl rfl)
theorem dX0_without_73 : decode cX0_without 73 = .ok (.invokevirtual 261, 3) := dk_182 1 5 (dk_at dksX0_without_3 2 rfl rfl)
theorem dX0_without_76 : decode cX0_without 76 = .ok (.iload_n 2, 1) := dk_28 (dk_at dksX0_without_3 5 rfl rfl)
theorem dX0_without_77 : decode cX0_without 77 = .ok (.invokestatic 131, 3) := dk_184 0 131 (dk_at dksX0_without_3 6 rfl rfl)
theorem dX0_without_80 : decode cX0_without 80 = .ok (.ifCond .ne 10, 3) := dk_154 0 10 (dk_at dksX0_without_3 9 rfl rfl)
theorem dX0_without_83 : decode cX0_without 83 = .ok (.lload_n 3, 1) := dk_33 (dk_at dksX0_without_3 12 rfl rfl)
theorem dX0_without_84 : decode cX0_without 84 = .ok (.lconst 1, 1) := dk_10 (dk_at dksX0_without_3 13 rfl rfl)
theorem dX0_without_85 : decode cX0_without 85 = .ok (.iload 5, 2) := dk_21 5 (dk_at dksX0_without_3 14 rfl rfl)
theorem dX0_without_87 : decode cX0_without 87 = .ok (.lshl, 1) := dk_121 (dk_at dksX0_without_3 16 rfl rfl)
theorem dX0_without_88 : decode cX0_without 88 = .ok (.lor, 1) := dk_129 (dk_at dksX0_without_3 17 rfl rfl)
theorem dX0_without_89 : decode cX0_without 89 = .ok (.lstore_n 3, 1) := dk_66 (dk_at dksX0_without_3 18 rfl rfl)
theorem dX0_without_90 : decode cX0_without 90 = .ok (.iinc 5 1, 3) := dk_132 5 1 (dk_at dksX0_without_3 19 rfl rfl)
theorem dX0_without_93 : decode cX0_without 93 = .ok (.goto (-54), 3) := dk_167 255 202 (dk_at dksX0_without_4 0 rfl rfl)
theorem dX0_without_96 : decode cX0_without 96 = .ok (.lload_n 3, 1) := dk_33 (dk_at dksX0_without_4 3 rfl rfl)
theorem dX0_without_97 : decode cX0_without 97 = .ok (.lreturn, 1) := dk_173 (dk_at dksX0_without_4 4 rfl rfl)
abbrev cX0_reachWithout : ByteArray := prog_1_method_30_code
def yX0_reachWithout : MethodName := ⟨RX0, "reachWithout", "(II)J"⟩
def dkwX0_reachWithout_3 : List UInt8 := [10, 21, 8, 121, 129, 66, 132, 8, 1, 167, 255, 210, 132, 7, 1, 167, 255, 192, 167, 255, 176, 33, 173]
abbrev dktX0_reachWithout_3 : List UInt8 := dkwX0_reachWithout_3 ++ []
def dkwX0_reachWithout_2 : List UInt8 := [184, 0, 131, 153, 0, 33, 21, 8, 28, 159, 0, 21, 42, 21, 7, 21, 8, 182, 0, 244, 153, 0, 10, 33]
abbrev dktX0_reachWithout_2 : List UInt8 := dkwX0_reachWithout_2 ++ dktX0_reachWithout_3
def dkwX0_reachWithout_1 : List UInt8 := [180, 0, 113, 162, 0, 61, 3, 54, 8, 21, 8, 42, 180, 0, 113, 162, 0, 43, 22, 5, 21, 7]
abbrev dktX0_reachWithout_1 : List UInt8 := dkwX0_reachWithout_1 ++ dktX0_reachWithout_2
def dkwX0_reachWithout_0 : List UInt8 := [10, 27, 121, 66, 9, 55, 5, 33, 22, 5, 148, 153, 0, 79, 33, 55, 5, 3, 54, 7, 21, 7, 42]
abbrev dktX0_reachWithout_0 : List UInt8 := dkwX0_reachWithout_0 ++ dktX0_reachWithout_1
theorem dksX0_reachWithout_0 : cX0_reachWithout.data.toList.drop 0 = dktX0_reachWithout_0 := by decide +kernel
theorem dksX0_reachWithout_1 : cX0_reachWithout.data.toList.drop 23 = dktX0_reachWithout_1 := dk_seg dksX0_reachWithout_0 23 rfl rfl
theorem dksX0_reachWithout_2 : cX0_reachWithout.data.toList.drop 45 = dktX0_reachWithout_2 := dk_seg dksX0_reachWithout_1 22 rfl rfl
theorem dksX0_reachWithout_3 : cX0_reachWithout.data.toList.drop 69 = dktX0_reachWithout_3 := dk_seg dksX0_reachWithout_2 24 rfl rfl
theorem dX0_reachWithout_0 : decode cX0_reachWithout 0 = .ok (.lconst 1, 1) := dk_10 (dk_at dksX0_reachWithout_0 0 rfl rfl)
theorem dX0_reachWithout_1 : decode cX0_reachWithout 1 = .ok (.iload_n 1, 1) := dk_27 (dk_at dksX0_reachWithout_0 1 rfl rfl)
theorem dX0_reachWithout_2 : decode cX0_reachWithout 2 = .ok (.lshl, 1) := dk_121 (dk_at dksX0_reachWithout_0 2 rfl rfl)
theorem dX0_reachWithout_3 : decode cX0_reachWithout 3 = .ok (.lstore_n 3, 1) := dk_66 (dk_at dksX0_reachWithout_0 3 rfl rfl)
theorem dX0_reachWithout_4 : decode cX0_reachWithout 4 = .ok (.lconst 0, 1) := dk_9 (dk_at dksX0_reachWithout_0 4 rfl rfl)
theorem dX0_reachWithout_5 : decode cX0_reachWithout 5 = .ok (.lstore 5, 2) := dk_55 5 (dk_at dksX0_reachWithout_0 5 rfl rfl)
theorem dX0_reachWithout_7 : decode cX0_reachWithout 7 = .ok (.lload_n 3, 1) := dk_33 (dk_at dksX0_reachWithout_0 7 rfl rfl)
theorem dX0_reachWithout_8 : decode cX0_reachWithout 8 = .ok (.lload 5, 2) := dk_22 5 (dk_at dksX0_reachWithout_0 8 rfl rfl)
theorem dX0_reachWithout_10 : decode cX0_reachWithout 10 = .ok (.lcmp, 1) := dk_148 (dk_at dksX0_reachWithout_0 10 rfl rfl)
theorem dX0_reachWithout_11 : decode cX0_reachWithout 11 = .ok (.ifCond .eq 79, 3) := dk_153 0 79 (dk_at dksX0_reachWithout_0 11 rfl rfl)
theorem dX0_reachWithout_14 : decode cX0_reachWithout 14 = .ok (.lload_n 3, 1) := dk_33 (dk_at dksX0_reachWithout_0 14 rfl rfl)
theorem dX0_reachWithout_15 : decode cX0_reachWithout 15 = .ok (.lstore 5, 2) := dk_55 5 (dk_at dksX0_reachWithout_0 15 rfl rfl)
theorem dX0_reachWithout_17 : decode cX0_reachWithout 17 = .ok (.iconst 0, 1) := dk_3 (dk_at dksX0_reachWithout_0 17 rfl rfl)
theorem dX0_reachWithout_18 : decode cX0_reachWithout 18 = .ok (.istore 7, 2) := dk_54 7 (dk_at dksX0_reachWithout_0 18 rfl rfl)
theorem dX0_reachWithout_20 : decode cX0_reachWithout 20 = .ok (.iload 7, 2) := dk_21 7 (dk_at dksX0_reachWithout_0 20 rfl rfl)
theorem dX0_reachWithout_22 : decode cX0_reachWithout 22 = .ok (.aload_n 0, 1) := dk_42 (dk_at dksX0_reachWithout_0 22 rfl rfl)
theorem dX0_reachWithout_23 : decode cX0_reachWithout 23 = .ok (.getfield 113, 3) := dk_180 0 113 (dk_at dksX0_reachWithout_1 0 rfl rfl)
theorem dX0_reachWithout_26 : decode cX0_reachWithout 26 = .ok (.if_icmp .ge 61, 3) := dk_162 0 61 (dk_at dksX0_reachWithout_1 3 rfl rfl)
theorem dX0_reachWithout_29 : decode cX0_reachWithout 29 = .ok (.iconst 0, 1) := dk_3 (dk_at dksX0_reachWithout_1 6 rfl rfl)
theorem dX0_reachWithout_30 : decode cX0_reachWithout 30 = .ok (.istore 8, 2) := dk_54 8 (dk_at dksX0_reachWithout_1 7 rfl rfl)
theorem dX0_reachWithout_32 : decode cX0_reachWithout 32 = .ok (.iload 8, 2) := dk_21 8 (dk_at dksX0_reachWithout_1 9 rfl rfl)
theorem dX0_reachWithout_34 : decode cX0_reachWithout 34 = .ok (.aload_n 0, 1) := dk_42 (dk_at dksX0_reachWithout_1 11 rfl rfl)
theorem dX0_reachWithout_35 : decode cX0_reachWithout 35 = .ok (.getfield 113, 3) := dk_180 0 113 (dk_at dksX0_reachWithout_1 12 rfl rfl)
theorem dX0_reachWithout_38 : decode cX0_reachWithout 38 = .ok (.if_icmp .ge 43, 3) := dk_162 0 43 (dk_at dksX0_reachWithout_1 15 rfl rfl)
theorem dX0_reachWithout_41 : decode cX0_reachWithout 41 = .ok (.lload 5, 2) := dk_22 5 (dk_at dksX0_reachWithout_1 18 rfl rfl)
theorem dX0_reachWithout_43 : decode cX0_reachWithout 43 = .ok (.iload 7, 2) := dk_21 7 (dk_at dksX0_reachWithout_1 20 rfl rfl)
theorem dX0_reachWithout_45 : decode cX0_reachWithout 45 = .ok (.invokestatic 131, 3) := dk_184 0 131 (dk_at dksX0_reachWithout_2 0 rfl rfl)
theorem dX0_reachWithout_48 : decode cX0_reachWithout 48 = .ok (.ifCond .eq 33, 3) := dk_153 0 33 (dk_at dksX0_reachWithout_2 3 rfl rfl)
theorem dX0_reachWithout_51 : decode cX0_reachWithout 51 = .ok (.iload 8, 2) := dk_21 8 (dk_at dksX0_reachWithout_2 6 rfl rfl)
theorem dX0_reachWithout_53 : decode cX0_reachWithout 53 = .ok (.iload_n 2, 1) := dk_28 (dk_at dksX0_reachWithout_2 8 rfl rfl)
theorem dX0_reachWithout_54 : decode cX0_reachWithout 54 = .ok (.if_icmp .eq 21, 3) := dk_159 0 21 (dk_at dksX0_reachWithout_2 9 rfl rfl)
theorem dX0_reachWithout_57 : decode cX0_reachWithout 57 = .ok (.aload_n 0, 1) := dk_42 (dk_at dksX0_reachWithout_2 12 rfl rfl)
theorem dX0_reachWithout_58 : decode cX0_reachWithout 58 = .ok (.iload 7, 2) := dk_21 7 (dk_at dksX0_reachWithout_2 13 rfl rfl)
theorem dX0_reachWithout_60 : decode cX0_reachWithout 60 = .ok (.iload 8, 2) := dk_21 8 (dk_at dksX0_reachWithout_2 15 rfl rfl)
theorem dX0_reachWithout_62 : decode cX0_reachWithout 62 = .ok (.invokevirtual 244, 3) := dk_182 0 244 (dk_at dksX0_reachWithout_2 17 rfl rfl)
theorem dX0_reachWithout_65 : decode cX0_reachWithout 65 = .ok (.ifCond .eq 10, 3) := dk_153 0 10 (dk_at dksX0_reachWithout_2 20 rfl rfl)
theorem dX0_reachWithout_68 : decode cX0_reachWithout 68 = .ok (.lload_n 3, 1) := dk_33 (dk_at dksX0_reachWithout_2 23 rfl rfl)
theorem dX0_reachWithout_69 : decode cX0_reachWithout 69 = .ok (.lconst 1, 1) := dk_10 (dk_at dksX0_reachWithout_3 0 rfl rfl)
theorem dX0_reachWithout_70 : decode cX0_reachWithout 70 = .ok (.iload 8, 2) := dk_21 8 (dk_at dksX0_reachWithout_3 1 rfl rfl)
theorem dX0_reachWithout_72 : decode cX0_reachWithout 72 = .ok (.lshl, 1) := dk_121 (dk_at dksX0_reachWithout_3 3 rfl rfl)
theorem dX0_reachWithout_73 : decode cX0_reachWithout 73 = .ok (.lor, 1) := dk_129 (dk_at dksX0_reachWithout_3 4 rfl rfl)
theorem dX0_reachWithout_74 : decode cX0_reachWithout 74 = .ok (.lstore_n 3, 1) := dk_66 (dk_at dksX0_reachWithout_3 5 rfl rfl)
theorem dX0_reachWithout_75 : decode cX0_reachWithout 75 = .ok (.iinc 8 1, 3) := dk_132 8 1 (dk_at dksX0_reachWithout_3 6 rfl rfl)
theorem dX0_reachWithout_78 : decode cX0_reachWithout 78 = .ok (.goto (-46), 3) := dk_167 255 210 (dk_at dksX0_reachWithout_3 9 rfl rfl)
theorem dX0_reachWithout_81 : decode cX0_reachWithout 81 = .ok (.iinc 7 1, 3) := dk_132 7 1 (dk_at dksX0_reachWithout_3 12 rfl rfl)
theorem dX0_reachWithout_84 : decode cX0_reachWithout 84 = .ok (.goto (-64), 3) := dk_167 255 192 (dk_at dksX0_reachWithout_3 15 rfl rfl)
theorem dX0_reachWithout_87 : decode cX0_reachWithout 87 = .ok (.goto (-80), 3) := dk_167 255 176 (dk_at dksX0_reachWithout_3 18 rfl rfl)
theorem dX0_reachWithout_90 : decode cX0_reachWithout 90 = .ok (.lload_n 3, 1) := dk_33 (dk_at dksX0_reachWithout_3 21 rfl rfl)
theorem dX0_reachWithout_91 : decode cX0_reachWithout 91 = .ok (.lreturn, 1) := dk_173 (dk_at dksX0_reachWithout_3 22 rfl rfl)
abbrev cX0_heap : ByteArray := prog_1_method_33_code
def yX0_heap : MethodName := ⟨RX0, "heap", "(I)I"⟩
def dkwX0_heap_1 : List UInt8 := [182, 1, 8, 167, 0, 5, 16, 254, 172]
abbrev dktX0_heap_1 : List UInt8 := dkwX0_heap_1 ++ []
def dkwX0_heap_0 : List UInt8 := [42, 27, 182, 0, 120, 154, 0, 5, 2, 172, 42, 182, 0, 241, 42, 27, 182, 0, 221, 153, 0, 11, 42, 27]
abbrev dktX0_heap_0 : List UInt8 := dkwX0_heap_0 ++ dktX0_heap_1
theorem dksX0_heap_0 : cX0_heap.data.toList.drop 0 = dktX0_heap_0 := by decide +kernel
theorem dksX0_heap_1 : cX0_heap.data.toList.drop 24 = dktX0_heap_1 := dk_seg dksX0_heap_0 24 rfl rfl
theorem dX0_heap_0 : decode cX0_heap 0 = .ok (.aload_n 0, 1) := dk_42 (dk_at dksX0_heap_0 0 rfl rfl)
theorem dX0_heap_1 : decode cX0_heap 1 = .ok (.iload_n 1, 1) := dk_27 (dk_at dksX0_heap_0 1 rfl rfl)
theorem dX0_heap_2 : decode cX0_heap 2 = .ok (.invokevirtual 120, 3) := dk_182 0 120 (dk_at dksX0_heap_0 2 rfl rfl)
theorem dX0_heap_5 : decode cX0_heap 5 = .ok (.ifCond .ne 5, 3) := dk_154 0 5 (dk_at dksX0_heap_0 5 rfl rfl)
theorem dX0_heap_8 : decode cX0_heap 8 = .ok (.iconst (-1), 1) := dk_2 (dk_at dksX0_heap_0 8 rfl rfl)
theorem dX0_heap_9 : decode cX0_heap 9 = .ok (.ireturn, 1) := dk_172 (dk_at dksX0_heap_0 9 rfl rfl)
theorem dX0_heap_10 : decode cX0_heap 10 = .ok (.aload_n 0, 1) := dk_42 (dk_at dksX0_heap_0 10 rfl rfl)
theorem dX0_heap_11 : decode cX0_heap 11 = .ok (.invokevirtual 241, 3) := dk_182 0 241 (dk_at dksX0_heap_0 11 rfl rfl)
theorem dX0_heap_14 : decode cX0_heap 14 = .ok (.aload_n 0, 1) := dk_42 (dk_at dksX0_heap_0 14 rfl rfl)
theorem dX0_heap_15 : decode cX0_heap 15 = .ok (.iload_n 1, 1) := dk_27 (dk_at dksX0_heap_0 15 rfl rfl)
theorem dX0_heap_16 : decode cX0_heap 16 = .ok (.invokevirtual 221, 3) := dk_182 0 221 (dk_at dksX0_heap_0 16 rfl rfl)
theorem dX0_heap_19 : decode cX0_heap 19 = .ok (.ifCond .eq 11, 3) := dk_153 0 11 (dk_at dksX0_heap_0 19 rfl rfl)
theorem dX0_heap_22 : decode cX0_heap 22 = .ok (.aload_n 0, 1) := dk_42 (dk_at dksX0_heap_0 22 rfl rfl)
theorem dX0_heap_23 : decode cX0_heap 23 = .ok (.iload_n 1, 1) := dk_27 (dk_at dksX0_heap_0 23 rfl rfl)
theorem dX0_heap_24 : decode cX0_heap 24 = .ok (.invokevirtual 264, 3) := dk_182 1 8 (dk_at dksX0_heap_1 0 rfl rfl)
theorem dX0_heap_27 : decode cX0_heap 27 = .ok (.goto 5, 3) := dk_167 0 5 (dk_at dksX0_heap_1 3 rfl rfl)
theorem dX0_heap_30 : decode cX0_heap 30 = .ok (.bipush (-2), 2) := dk_16 254 (dk_at dksX0_heap_1 6 rfl rfl)
theorem dX0_heap_32 : decode cX0_heap 32 = .ok (.ireturn, 1) := dk_172 (dk_at dksX0_heap_1 8 rfl rfl)
abbrev cX0_heapOf : ByteArray := prog_1_method_32_code
def yX0_heapOf : MethodName := ⟨RX0, "heapOf", "(I)I"⟩
def dkwX0_heapOf_1 : List UInt8 := [184, 0, 131, 154, 0, 9, 132, 2, 1, 167, 255, 227, 28, 172]
abbrev dktX0_heapOf_1 : List UInt8 := dkwX0_heapOf_1 ++ []
def dkwX0_heapOf_0 : List UInt8 := [3, 61, 42, 180, 0, 57, 27, 47, 28, 184, 0, 131, 153, 0, 16, 42, 180, 0, 57, 28, 47, 27]
abbrev dktX0_heapOf_0 : List UInt8 := dkwX0_heapOf_0 ++ dktX0_heapOf_1
theorem dksX0_heapOf_0 : cX0_heapOf.data.toList.drop 0 = dktX0_heapOf_0 := by decide +kernel
theorem dksX0_heapOf_1 : cX0_heapOf.data.toList.drop 22 = dktX0_heapOf_1 := dk_seg dksX0_heapOf_0 22 rfl rfl
theorem dX0_heapOf_0 : decode cX0_heapOf 0 = .ok (.iconst 0, 1) := dk_3 (dk_at dksX0_heapOf_0 0 rfl rfl)
theorem dX0_heapOf_1 : decode cX0_heapOf 1 = .ok (.istore_n 2, 1) := dk_61 (dk_at dksX0_heapOf_0 1 rfl rfl)
theorem dX0_heapOf_2 : decode cX0_heapOf 2 = .ok (.aload_n 0, 1) := dk_42 (dk_at dksX0_heapOf_0 2 rfl rfl)
theorem dX0_heapOf_3 : decode cX0_heapOf 3 = .ok (.getfield 57, 3) := dk_180 0 57 (dk_at dksX0_heapOf_0 3 rfl rfl)
theorem dX0_heapOf_6 : decode cX0_heapOf 6 = .ok (.iload_n 1, 1) := dk_27 (dk_at dksX0_heapOf_0 6 rfl rfl)
theorem dX0_heapOf_7 : decode cX0_heapOf 7 = .ok (.laload, 1) := dk_47 (dk_at dksX0_heapOf_0 7 rfl rfl)
theorem dX0_heapOf_8 : decode cX0_heapOf 8 = .ok (.iload_n 2, 1) := dk_28 (dk_at dksX0_heapOf_0 8 rfl rfl)
theorem dX0_heapOf_9 : decode cX0_heapOf 9 = .ok (.invokestatic 131, 3) := dk_184 0 131 (dk_at dksX0_heapOf_0 9 rfl rfl)
theorem dX0_heapOf_12 : decode cX0_heapOf 12 = .ok (.ifCond .eq 16, 3) := dk_153 0 16 (dk_at dksX0_heapOf_0 12 rfl rfl)
theorem dX0_heapOf_15 : decode cX0_heapOf 15 = .ok (.aload_n 0, 1) := dk_42 (dk_at dksX0_heapOf_0 15 rfl rfl)
theorem dX0_heapOf_16 : decode cX0_heapOf 16 = .ok (.getfield 57, 3) := dk_180 0 57 (dk_at dksX0_heapOf_0 16 rfl rfl)
theorem dX0_heapOf_19 : decode cX0_heapOf 19 = .ok (.iload_n 2, 1) := dk_28 (dk_at dksX0_heapOf_0 19 rfl rfl)
theorem dX0_heapOf_20 : decode cX0_heapOf 20 = .ok (.laload, 1) := dk_47 (dk_at dksX0_heapOf_0 20 rfl rfl)
theorem dX0_heapOf_21 : decode cX0_heapOf 21 = .ok (.iload_n 1, 1) := dk_27 (dk_at dksX0_heapOf_0 21 rfl rfl)
theorem dX0_heapOf_22 : decode cX0_heapOf 22 = .ok (.invokestatic 131, 3) := dk_184 0 131 (dk_at dksX0_heapOf_1 0 rfl rfl)
theorem dX0_heapOf_25 : decode cX0_heapOf 25 = .ok (.ifCond .ne 9, 3) := dk_154 0 9 (dk_at dksX0_heapOf_1 3 rfl rfl)
theorem dX0_heapOf_28 : decode cX0_heapOf 28 = .ok (.iinc 2 1, 3) := dk_132 2 1 (dk_at dksX0_heapOf_1 6 rfl rfl)
theorem dX0_heapOf_31 : decode cX0_heapOf 31 = .ok (.goto (-29), 3) := dk_167 255 227 (dk_at dksX0_heapOf_1 9 rfl rfl)
theorem dX0_heapOf_34 : decode cX0_heapOf 34 = .ok (.iload_n 2, 1) := dk_28 (dk_at dksX0_heapOf_1 12 rfl rfl)
theorem dX0_heapOf_35 : decode cX0_heapOf 35 = .ok (.ireturn, 1) := dk_172 (dk_at dksX0_heapOf_1 13 rfl rfl)
abbrev cX0_heaps : ByteArray := prog_1_method_34_code
def yX0_heaps : MethodName := ⟨RX0, "heaps", "()I"⟩
def dkwX0_heaps_2 : List UInt8 := [167, 255, 220, 27, 172]
abbrev dktX0_heaps_2 : List UInt8 := dkwX0_heaps_2 ++ []
def dkwX0_heaps_1 : List UInt8 := [153, 0, 16, 42, 28, 182, 1, 8, 28, 160, 0, 7, 4, 167, 0, 4, 3, 96, 60, 132, 2, 1]
abbrev dktX0_heaps_1 : List UInt8 := dkwX0_heaps_1 ++ dktX0_heaps_2
def dkwX0_heaps_0 : List UInt8 := [42, 182, 0, 241, 3, 60, 3, 61, 28, 42, 180, 0, 113, 162, 0, 34, 27, 42, 28, 182, 0, 221]
abbrev dktX0_heaps_0 : List UInt8 := dkwX0_heaps_0 ++ dktX0_heaps_1
theorem dksX0_heaps_0 : cX0_heaps.data.toList.drop 0 = dktX0_heaps_0 := by decide +kernel
theorem dksX0_heaps_1 : cX0_heaps.data.toList.drop 22 = dktX0_heaps_1 := dk_seg dksX0_heaps_0 22 rfl rfl
theorem dksX0_heaps_2 : cX0_heaps.data.toList.drop 44 = dktX0_heaps_2 := dk_seg dksX0_heaps_1 22 rfl rfl
theorem dX0_heaps_0 : decode cX0_heaps 0 = .ok (.aload_n 0, 1) := dk_42 (dk_at dksX0_heaps_0 0 rfl rfl)
theorem dX0_heaps_1 : decode cX0_heaps 1 = .ok (.invokevirtual 241, 3) := dk_182 0 241 (dk_at dksX0_heaps_0 1 rfl rfl)
theorem dX0_heaps_4 : decode cX0_heaps 4 = .ok (.iconst 0, 1) := dk_3 (dk_at dksX0_heaps_0 4 rfl rfl)
theorem dX0_heaps_5 : decode cX0_heaps 5 = .ok (.istore_n 1, 1) := dk_60 (dk_at dksX0_heaps_0 5 rfl rfl)
theorem dX0_heaps_6 : decode cX0_heaps 6 = .ok (.iconst 0, 1) := dk_3 (dk_at dksX0_heaps_0 6 rfl rfl)
theorem dX0_heaps_7 : decode cX0_heaps 7 = .ok (.istore_n 2, 1) := dk_61 (dk_at dksX0_heaps_0 7 rfl rfl)
theorem dX0_heaps_8 : decode cX0_heaps 8 = .ok (.iload_n 2, 1) := dk_28 (dk_at dksX0_heaps_0 8 rfl rfl)
theorem dX0_heaps_9 : decode cX0_heaps 9 = .ok (.aload_n 0, 1) := dk_42 (dk_at dksX0_heaps_0 9 rfl rfl)
theorem dX0_heaps_10 : decode cX0_heaps 10 = .ok (.getfield 113, 3) := dk_180 0 113 (dk_at dksX0_heaps_0 10 rfl rfl)
theorem dX0_heaps_13 : decode cX0_heaps 13 = .ok (.if_icmp .ge 34, 3) := dk_162 0 34 (dk_at dksX0_heaps_0 13 rfl rfl)
theorem dX0_heaps_16 : decode cX0_heaps 16 = .ok (.iload_n 1, 1) := dk_27 (dk_at dksX0_heaps_0 16 rfl rfl)
theorem dX0_heaps_17 : decode cX0_heaps 17 = .ok (.aload_n 0, 1) := dk_42 (dk_at dksX0_heaps_0 17 rfl rfl)
theorem dX0_heaps_18 : decode cX0_heaps 18 = .ok (.iload_n 2, 1) := dk_28 (dk_at dksX0_heaps_0 18 rfl rfl)
theorem dX0_heaps_19 : decode cX0_heaps 19 = .ok (.invokevirtual 221, 3) := dk_182 0 221 (dk_at dksX0_heaps_0 19 rfl rfl)
theorem dX0_heaps_22 : decode cX0_heaps 22 = .ok (.ifCond .eq 16, 3) := dk_153 0 16 (dk_at dksX0_heaps_1 0 rfl rfl)
theorem dX0_heaps_25 : decode cX0_heaps 25 = .ok (.aload_n 0, 1) := dk_42 (dk_at dksX0_heaps_1 3 rfl rfl)
theorem dX0_heaps_26 : decode cX0_heaps 26 = .ok (.iload_n 2, 1) := dk_28 (dk_at dksX0_heaps_1 4 rfl rfl)
theorem dX0_heaps_27 : decode cX0_heaps 27 = .ok (.invokevirtual 264, 3) := dk_182 1 8 (dk_at dksX0_heaps_1 5 rfl rfl)
theorem dX0_heaps_30 : decode cX0_heaps 30 = .ok (.iload_n 2, 1) := dk_28 (dk_at dksX0_heaps_1 8 rfl rfl)
theorem dX0_heaps_31 : decode cX0_heaps 31 = .ok (.if_icmp .ne 7, 3) := dk_160 0 7 (dk_at dksX0_heaps_1 9 rfl rfl)
theorem dX0_heaps_34 : decode cX0_heaps 34 = .ok (.iconst 1, 1) := dk_4 (dk_at dksX0_heaps_1 12 rfl rfl)
theorem dX0_heaps_35 : decode cX0_heaps 35 = .ok (.goto 4, 3) := dk_167 0 4 (dk_at dksX0_heaps_1 13 rfl rfl)
theorem dX0_heaps_38 : decode cX0_heaps 38 = .ok (.iconst 0, 1) := dk_3 (dk_at dksX0_heaps_1 16 rfl rfl)
theorem dX0_heaps_39 : decode cX0_heaps 39 = .ok (.iadd, 1) := dk_96 (dk_at dksX0_heaps_1 17 rfl rfl)
theorem dX0_heaps_40 : decode cX0_heaps 40 = .ok (.istore_n 1, 1) := dk_60 (dk_at dksX0_heaps_1 18 rfl rfl)
theorem dX0_heaps_41 : decode cX0_heaps 41 = .ok (.iinc 2 1, 3) := dk_132 2 1 (dk_at dksX0_heaps_1 19 rfl rfl)
theorem dX0_heaps_44 : decode cX0_heaps 44 = .ok (.goto (-36), 3) := dk_167 255 220 (dk_at dksX0_heaps_2 0 rfl rfl)
theorem dX0_heaps_47 : decode cX0_heaps 47 = .ok (.iload_n 1, 1) := dk_27 (dk_at dksX0_heaps_2 3 rfl rfl)
theorem dX0_heaps_48 : decode cX0_heaps 48 = .ok (.ireturn, 1) := dk_172 (dk_at dksX0_heaps_2 4 rfl rfl)
abbrev cX0_far : ByteArray := prog_1_method_35_code
def yX0_far : MethodName := ⟨RX0, "far", "(I)I"⟩
def dkwX0_far_5 : List UInt8 := [21, 4, 167, 0, 13, 27, 4, 160, 0, 7, 28, 167, 0, 4, 29, 172]
abbrev dktX0_far_5 : List UInt8 := dkwX0_far_5 ++ []
def dkwX0_far_4 : List UInt8 := [21, 6, 182, 0, 247, 54, 4, 132, 6, 1, 167, 255, 190, 132, 5, 1, 167, 255, 172, 27, 154, 0, 8]
abbrev dktX0_far_4 : List UInt8 := dkwX0_far_4 ++ dktX0_far_5
def dkwX0_far_3 : List UInt8 := [21, 5, 21, 6, 182, 0, 247, 21, 4, 163, 0, 6, 167, 0, 19, 21, 5, 61, 21, 6, 62, 42, 21, 5]
abbrev dktX0_far_3 : List UInt8 := dkwX0_far_3 ++ dktX0_far_4
def dkwX0_far_2 : List UInt8 := [21, 5, 21, 6, 159, 0, 50, 42, 180, 0, 54, 21, 5, 50, 21, 6, 46, 18, 220, 159, 0, 35, 42]
abbrev dktX0_far_2 : List UInt8 := dkwX0_far_2 ++ dktX0_far_3
def dkwX0_far_1 : List UInt8 := [3, 54, 5, 21, 5, 42, 180, 0, 113, 162, 0, 81, 3, 54, 6, 21, 6, 42, 180, 0, 113, 162, 0, 63]
abbrev dktX0_far_1 : List UInt8 := dkwX0_far_1 ++ dktX0_far_2
def dkwX0_far_0 : List UInt8 := [27, 6, 184, 0, 116, 154, 0, 5, 2, 172, 42, 182, 0, 241, 16, 254, 61, 16, 254, 62, 16, 254, 54, 4]
abbrev dktX0_far_0 : List UInt8 := dkwX0_far_0 ++ dktX0_far_1
theorem dksX0_far_0 : cX0_far.data.toList.drop 0 = dktX0_far_0 := by decide +kernel
theorem dksX0_far_1 : cX0_far.data.toList.drop 24 = dktX0_far_1 := dk_seg dksX0_far_0 24 rfl rfl
theorem dksX0_far_2 : cX0_far.data.toList.drop 48 = dktX0_far_2 := dk_seg dksX0_far_1 24 rfl rfl
theorem dksX0_far_3 : cX0_far.data.toList.drop 71 = dktX0_far_3 := dk_seg dksX0_far_2 23 rfl rfl
theorem dksX0_far_4 : cX0_far.data.toList.drop 95 = dktX0_far_4 := dk_seg dksX0_far_3 24 rfl rfl
theorem dksX0_far_5 : cX0_far.data.toList.drop 118 = dktX0_far_5 := dk_seg dksX0_far_4 23 rfl rfl
theorem dX0_far_0 : decode cX0_far 0 = .ok (.iload_n 1, 1) := dk_27 (dk_at dksX0_far_0 0 rfl rfl)
theorem dX0_far_1 : decode cX0_far 1 = .ok (.iconst 3, 1) := dk_6 (dk_at dksX0_far_0 1 rfl rfl)
theorem dX0_far_2 : decode cX0_far 2 = .ok (.invokestatic 116, 3) := dk_184 0 116 (dk_at dksX0_far_0 2 rfl rfl)
theorem dX0_far_5 : decode cX0_far 5 = .ok (.ifCond .ne 5, 3) := dk_154 0 5 (dk_at dksX0_far_0 5 rfl rfl)
theorem dX0_far_8 : decode cX0_far 8 = .ok (.iconst (-1), 1) := dk_2 (dk_at dksX0_far_0 8 rfl rfl)
theorem dX0_far_9 : decode cX0_far 9 = .ok (.ireturn, 1) := dk_172 (dk_at dksX0_far_0 9 rfl rfl)
theorem dX0_far_10 : decode cX0_far 10 = .ok (.aload_n 0, 1) := dk_42 (dk_at dksX0_far_0 10 rfl rfl)
theorem dX0_far_11 : decode cX0_far 11 = .ok (.invokevirtual 241, 3) := dk_182 0 241 (dk_at dksX0_far_0 11 rfl rfl)
theorem dX0_far_14 : decode cX0_far 14 = .ok (.bipush (-2), 2) := dk_16 254 (dk_at dksX0_far_0 14 rfl rfl)
theorem dX0_far_16 : decode cX0_far 16 = .ok (.istore_n 2, 1) := dk_61 (dk_at dksX0_far_0 16 rfl rfl)
theorem dX0_far_17 : decode cX0_far 17 = .ok (.bipush (-2), 2) := dk_16 254 (dk_at dksX0_far_0 17 rfl rfl)
theorem dX0_far_19 : decode cX0_far 19 = .ok (.istore_n 3, 1) := dk_62 (dk_at dksX0_far_0 19 rfl rfl)
theorem dX0_far_20 : decode cX0_far 20 = .ok (.bipush (-2), 2) := dk_16 254 (dk_at dksX0_far_0 20 rfl rfl)
theorem dX0_far_22 : decode cX0_far 22 = .ok (.istore 4, 2) := dk_54 4 (dk_at dksX0_far_0 22 rfl rfl)
theorem dX0_far_24 : decode cX0_far 24 = .ok (.iconst 0, 1) := dk_3 (dk_at dksX0_far_1 0 rfl rfl)
theorem dX0_far_25 : decode cX0_far 25 = .ok (.istore 5, 2) := dk_54 5 (dk_at dksX0_far_1 1 rfl rfl)
theorem dX0_far_27 : decode cX0_far 27 = .ok (.iload 5, 2) := dk_21 5 (dk_at dksX0_far_1 3 rfl rfl)
theorem dX0_far_29 : decode cX0_far 29 = .ok (.aload_n 0, 1) := dk_42 (dk_at dksX0_far_1 5 rfl rfl)
theorem dX0_far_30 : decode cX0_far 30 = .ok (.getfield 113, 3) := dk_180 0 113 (dk_at dksX0_far_1 6 rfl rfl)
theorem dX0_far_33 : decode cX0_far 33 = .ok (.if_icmp .ge 81, 3) := dk_162 0 81 (dk_at dksX0_far_1 9 rfl rfl)
theorem dX0_far_36 : decode cX0_far 36 = .ok (.iconst 0, 1) := dk_3 (dk_at dksX0_far_1 12 rfl rfl)
theorem dX0_far_37 : decode cX0_far 37 = .ok (.istore 6, 2) := dk_54 6 (dk_at dksX0_far_1 13 rfl rfl)
theorem dX0_far_39 : decode cX0_far 39 = .ok (.iload 6, 2) := dk_21 6 (dk_at dksX0_far_1 15 rfl rfl)
theorem dX0_far_41 : decode cX0_far 41 = .ok (.aload_n 0, 1) := dk_42 (dk_at dksX0_far_1 17 rfl rfl)
theorem dX0_far_42 : decode cX0_far 42 = .ok (.getfield 113, 3) := dk_180 0 113 (dk_at dksX0_far_1 18 rfl rfl)
theorem dX0_far_45 : decode cX0_far 45 = .ok (.if_icmp .ge 63, 3) := dk_162 0 63 (dk_at dksX0_far_1 21 rfl rfl)
theorem dX0_far_48 : decode cX0_far 48 = .ok (.iload 5, 2) := dk_21 5 (dk_at dksX0_far_2 0 rfl rfl)
theorem dX0_far_50 : decode cX0_far 50 = .ok (.iload 6, 2) := dk_21 6 (dk_at dksX0_far_2 2 rfl rfl)
theorem dX0_far_52 : decode cX0_far 52 = .ok (.if_icmp .eq 50, 3) := dk_159 0 50 (dk_at dksX0_far_2 4 rfl rfl)
theorem dX0_far_55 : decode cX0_far 55 = .ok (.aload_n 0, 1) := dk_42 (dk_at dksX0_far_2 7 rfl rfl)
theorem dX0_far_56 : decode cX0_far 56 = .ok (.getfield 54, 3) := dk_180 0 54 (dk_at dksX0_far_2 8 rfl rfl)
theorem dX0_far_59 : decode cX0_far 59 = .ok (.iload 5, 2) := dk_21 5 (dk_at dksX0_far_2 11 rfl rfl)
theorem dX0_far_61 : decode cX0_far 61 = .ok (.aaload, 1) := dk_50 (dk_at dksX0_far_2 13 rfl rfl)
theorem dX0_far_62 : decode cX0_far 62 = .ok (.iload 6, 2) := dk_21 6 (dk_at dksX0_far_2 14 rfl rfl)
theorem dX0_far_64 : decode cX0_far 64 = .ok (.iaload, 1) := dk_46 (dk_at dksX0_far_2 16 rfl rfl)
theorem dX0_far_65 : decode cX0_far 65 = .ok (.ldc 220, 2) := dk_18 220 (dk_at dksX0_far_2 17 rfl rfl)
theorem dX0_far_67 : decode cX0_far 67 = .ok (.if_icmp .eq 35, 3) := dk_159 0 35 (dk_at dksX0_far_2 19 rfl rfl)
theorem dX0_far_70 : decode cX0_far 70 = .ok (.aload_n 0, 1) := dk_42 (dk_at dksX0_far_2 22 rfl rfl)
theorem dX0_far_71 : decode cX0_far 71 = .ok (.iload 5, 2) := dk_21 5 (dk_at dksX0_far_3 0 rfl rfl)
theorem dX0_far_73 : decode cX0_far 73 = .ok (.iload 6, 2) := dk_21 6 (dk_at dksX0_far_3 2 rfl rfl)
theorem dX0_far_75 : decode cX0_far 75 = .ok (.invokevirtual 247, 3) := dk_182 0 247 (dk_at dksX0_far_3 4 rfl rfl)
theorem dX0_far_78 : decode cX0_far 78 = .ok (.iload 4, 2) := dk_21 4 (dk_at dksX0_far_3 7 rfl rfl)
theorem dX0_far_80 : decode cX0_far 80 = .ok (.if_icmp .gt 6, 3) := dk_163 0 6 (dk_at dksX0_far_3 9 rfl rfl)
theorem dX0_far_83 : decode cX0_far 83 = .ok (.goto 19, 3) := dk_167 0 19 (dk_at dksX0_far_3 12 rfl rfl)
theorem dX0_far_86 : decode cX0_far 86 = .ok (.iload 5, 2) := dk_21 5 (dk_at dksX0_far_3 15 rfl rfl)
theorem dX0_far_88 : decode cX0_far 88 = .ok (.istore_n 2, 1) := dk_61 (dk_at dksX0_far_3 17 rfl rfl)
theorem dX0_far_89 : decode cX0_far 89 = .ok (.iload 6, 2) := dk_21 6 (dk_at dksX0_far_3 18 rfl rfl)
theorem dX0_far_91 : decode cX0_far 91 = .ok (.istore_n 3, 1) := dk_62 (dk_at dksX0_far_3 20 rfl rfl)
theorem dX0_far_92 : decode cX0_far 92 = .ok (.aload_n 0, 1) := dk_42 (dk_at dksX0_far_3 21 rfl rfl)
theorem dX0_far_93 : decode cX0_far 93 = .ok (.iload 5, 2) := dk_21 5 (dk_at dksX0_far_3 22 rfl rfl)
theorem dX0_far_95 : decode cX0_far 95 = .ok (.iload 6, 2) := dk_21 6 (dk_at dksX0_far_4 0 rfl rfl)
theorem dX0_far_97 : decode cX0_far 97 = .ok (.invokevirtual 247, 3) := dk_182 0 247 (dk_at dksX0_far_4 2 rfl rfl)
theorem dX0_far_100 : decode cX0_far 100 = .ok (.istore 4, 2) := dk_54 4 (dk_at dksX0_far_4 5 rfl rfl)
theorem dX0_far_102 : decode cX0_far 102 = .ok (.iinc 6 1, 3) := dk_132 6 1 (dk_at dksX0_far_4 7 rfl rfl)
theorem dX0_far_105 : decode cX0_far 105 = .ok (.goto (-66), 3) := dk_167 255 190 (dk_at dksX0_far_4 10 rfl rfl)
theorem dX0_far_108 : decode cX0_far 108 = .ok (.iinc 5 1, 3) := dk_132 5 1 (dk_at dksX0_far_4 13 rfl rfl)
theorem dX0_far_111 : decode cX0_far 111 = .ok (.goto (-84), 3) := dk_167 255 172 (dk_at dksX0_far_4 16 rfl rfl)
theorem dX0_far_114 : decode cX0_far 114 = .ok (.iload_n 1, 1) := dk_27 (dk_at dksX0_far_4 19 rfl rfl)
theorem dX0_far_115 : decode cX0_far 115 = .ok (.ifCond .ne 8, 3) := dk_154 0 8 (dk_at dksX0_far_4 20 rfl rfl)
theorem dX0_far_118 : decode cX0_far 118 = .ok (.iload 4, 2) := dk_21 4 (dk_at dksX0_far_5 0 rfl rfl)
theorem dX0_far_120 : decode cX0_far 120 = .ok (.goto 13, 3) := dk_167 0 13 (dk_at dksX0_far_5 2 rfl rfl)
theorem dX0_far_123 : decode cX0_far 123 = .ok (.iload_n 1, 1) := dk_27 (dk_at dksX0_far_5 5 rfl rfl)
theorem dX0_far_124 : decode cX0_far 124 = .ok (.iconst 1, 1) := dk_4 (dk_at dksX0_far_5 6 rfl rfl)
theorem dX0_far_125 : decode cX0_far 125 = .ok (.if_icmp .ne 7, 3) := dk_160 0 7 (dk_at dksX0_far_5 7 rfl rfl)
theorem dX0_far_128 : decode cX0_far 128 = .ok (.iload_n 2, 1) := dk_28 (dk_at dksX0_far_5 10 rfl rfl)
theorem dX0_far_129 : decode cX0_far 129 = .ok (.goto 4, 3) := dk_167 0 4 (dk_at dksX0_far_5 11 rfl rfl)
theorem dX0_far_132 : decode cX0_far 132 = .ok (.iload_n 3, 1) := dk_29 (dk_at dksX0_far_5 14 rfl rfl)
theorem dX0_far_133 : decode cX0_far 133 = .ok (.ireturn, 1) := dk_172 (dk_at dksX0_far_5 15 rfl rfl)
abbrev cX0_between : ByteArray := prog_1_method_37_code
def yX0_between : MethodName := ⟨RX0, "between", "(I)I"⟩
def dkwX0_between_3 : List UInt8 := [154, 0, 7, 28, 167, 0, 4, 29, 172]
abbrev dktX0_between_3 : List UInt8 := dkwX0_between_3 ++ []
def dkwX0_between_2 : List UInt8 := [29, 163, 0, 6, 167, 0, 13, 21, 4, 61, 42, 21, 4, 182, 1, 12, 62, 132, 4, 1, 167, 255, 212, 27]
abbrev dktX0_between_2 : List UInt8 := dkwX0_between_2 ++ dktX0_between_3
def dkwX0_between_1 : List UInt8 := [21, 4, 42, 180, 0, 113, 162, 0, 41, 42, 21, 4, 182, 0, 221, 153, 0, 26, 42, 21, 4, 182, 1, 12]
abbrev dktX0_between_1 : List UInt8 := dkwX0_between_1 ++ dktX0_between_2
def dkwX0_between_0 : List UInt8 := [27, 5, 184, 0, 116, 154, 0, 5, 2, 172, 42, 182, 0, 241, 16, 254, 61, 16, 254, 62, 3, 54, 4]
abbrev dktX0_between_0 : List UInt8 := dkwX0_between_0 ++ dktX0_between_1
theorem dksX0_between_0 : cX0_between.data.toList.drop 0 = dktX0_between_0 := by decide +kernel
theorem dksX0_between_1 : cX0_between.data.toList.drop 23 = dktX0_between_1 := dk_seg dksX0_between_0 23 rfl rfl
theorem dksX0_between_2 : cX0_between.data.toList.drop 47 = dktX0_between_2 := dk_seg dksX0_between_1 24 rfl rfl
theorem dksX0_between_3 : cX0_between.data.toList.drop 71 = dktX0_between_3 := dk_seg dksX0_between_2 24 rfl rfl
theorem dX0_between_0 : decode cX0_between 0 = .ok (.iload_n 1, 1) := dk_27 (dk_at dksX0_between_0 0 rfl rfl)
theorem dX0_between_1 : decode cX0_between 1 = .ok (.iconst 2, 1) := dk_5 (dk_at dksX0_between_0 1 rfl rfl)
theorem dX0_between_2 : decode cX0_between 2 = .ok (.invokestatic 116, 3) := dk_184 0 116 (dk_at dksX0_between_0 2 rfl rfl)
theorem dX0_between_5 : decode cX0_between 5 = .ok (.ifCond .ne 5, 3) := dk_154 0 5 (dk_at dksX0_between_0 5 rfl rfl)
theorem dX0_between_8 : decode cX0_between 8 = .ok (.iconst (-1), 1) := dk_2 (dk_at dksX0_between_0 8 rfl rfl)
theorem dX0_between_9 : decode cX0_between 9 = .ok (.ireturn, 1) := dk_172 (dk_at dksX0_between_0 9 rfl rfl)
theorem dX0_between_10 : decode cX0_between 10 = .ok (.aload_n 0, 1) := dk_42 (dk_at dksX0_between_0 10 rfl rfl)
theorem dX0_between_11 : decode cX0_between 11 = .ok (.invokevirtual 241, 3) := dk_182 0 241 (dk_at dksX0_between_0 11 rfl rfl)
theorem dX0_between_14 : decode cX0_between 14 = .ok (.bipush (-2), 2) := dk_16 254 (dk_at dksX0_between_0 14 rfl rfl)
theorem dX0_between_16 : decode cX0_between 16 = .ok (.istore_n 2, 1) := dk_61 (dk_at dksX0_between_0 16 rfl rfl)
theorem dX0_between_17 : decode cX0_between 17 = .ok (.bipush (-2), 2) := dk_16 254 (dk_at dksX0_between_0 17 rfl rfl)
theorem dX0_between_19 : decode cX0_between 19 = .ok (.istore_n 3, 1) := dk_62 (dk_at dksX0_between_0 19 rfl rfl)
theorem dX0_between_20 : decode cX0_between 20 = .ok (.iconst 0, 1) := dk_3 (dk_at dksX0_between_0 20 rfl rfl)
theorem dX0_between_21 : decode cX0_between 21 = .ok (.istore 4, 2) := dk_54 4 (dk_at dksX0_between_0 21 rfl rfl)
theorem dX0_between_23 : decode cX0_between 23 = .ok (.iload 4, 2) := dk_21 4 (dk_at dksX0_between_1 0 rfl rfl)
theorem dX0_between_25 : decode cX0_between 25 = .ok (.aload_n 0, 1) := dk_42 (dk_at dksX0_between_1 2 rfl rfl)
theorem dX0_between_26 : decode cX0_between 26 = .ok (.getfield 113, 3) := dk_180 0 113 (dk_at dksX0_between_1 3 rfl rfl)
theorem dX0_between_29 : decode cX0_between 29 = .ok (.if_icmp .ge 41, 3) := dk_162 0 41 (dk_at dksX0_between_1 6 rfl rfl)
theorem dX0_between_32 : decode cX0_between 32 = .ok (.aload_n 0, 1) := dk_42 (dk_at dksX0_between_1 9 rfl rfl)
theorem dX0_between_33 : decode cX0_between 33 = .ok (.iload 4, 2) := dk_21 4 (dk_at dksX0_between_1 10 rfl rfl)
theorem dX0_between_35 : decode cX0_between 35 = .ok (.invokevirtual 221, 3) := dk_182 0 221 (dk_at dksX0_between_1 12 rfl rfl)
theorem dX0_between_38 : decode cX0_between 38 = .ok (.ifCond .eq 26, 3) := dk_153 0 26 (dk_at dksX0_between_1 15 rfl rfl)
theorem dX0_between_41 : decode cX0_between 41 = .ok (.aload_n 0, 1) := dk_42 (dk_at dksX0_between_1 18 rfl rfl)
theorem dX0_between_42 : decode cX0_between 42 = .ok (.iload 4, 2) := dk_21 4 (dk_at dksX0_between_1 19 rfl rfl)
theorem dX0_between_44 : decode cX0_between 44 = .ok (.invokevirtual 268, 3) := dk_182 1 12 (dk_at dksX0_between_1 21 rfl rfl)
theorem dX0_between_47 : decode cX0_between 47 = .ok (.iload_n 3, 1) := dk_29 (dk_at dksX0_between_2 0 rfl rfl)
theorem dX0_between_48 : decode cX0_between 48 = .ok (.if_icmp .gt 6, 3) := dk_163 0 6 (dk_at dksX0_between_2 1 rfl rfl)
theorem dX0_between_51 : decode cX0_between 51 = .ok (.goto 13, 3) := dk_167 0 13 (dk_at dksX0_between_2 4 rfl rfl)
theorem dX0_between_54 : decode cX0_between 54 = .ok (.iload 4, 2) := dk_21 4 (dk_at dksX0_between_2 7 rfl rfl)
theorem dX0_between_56 : decode cX0_between 56 = .ok (.istore_n 2, 1) := dk_61 (dk_at dksX0_between_2 9 rfl rfl)
theorem dX0_between_57 : decode cX0_between 57 = .ok (.aload_n 0, 1) := dk_42 (dk_at dksX0_between_2 10 rfl rfl)
theorem dX0_between_58 : decode cX0_between 58 = .ok (.iload 4, 2) := dk_21 4 (dk_at dksX0_between_2 11 rfl rfl)
theorem dX0_between_60 : decode cX0_between 60 = .ok (.invokevirtual 268, 3) := dk_182 1 12 (dk_at dksX0_between_2 13 rfl rfl)
theorem dX0_between_63 : decode cX0_between 63 = .ok (.istore_n 3, 1) := dk_62 (dk_at dksX0_between_2 16 rfl rfl)
theorem dX0_between_64 : decode cX0_between 64 = .ok (.iinc 4 1, 3) := dk_132 4 1 (dk_at dksX0_between_2 17 rfl rfl)
theorem dX0_between_67 : decode cX0_between 67 = .ok (.goto (-44), 3) := dk_167 255 212 (dk_at dksX0_between_2 20 rfl rfl)
theorem dX0_between_70 : decode cX0_between 70 = .ok (.iload_n 1, 1) := dk_27 (dk_at dksX0_between_2 23 rfl rfl)
theorem dX0_between_71 : decode cX0_between 71 = .ok (.ifCond .ne 7, 3) := dk_154 0 7 (dk_at dksX0_between_3 0 rfl rfl)
theorem dX0_between_74 : decode cX0_between 74 = .ok (.iload_n 2, 1) := dk_28 (dk_at dksX0_between_3 3 rfl rfl)
theorem dX0_between_75 : decode cX0_between 75 = .ok (.goto 4, 3) := dk_167 0 4 (dk_at dksX0_between_3 4 rfl rfl)
theorem dX0_between_78 : decode cX0_between 78 = .ok (.iload_n 3, 1) := dk_29 (dk_at dksX0_between_3 7 rfl rfl)
theorem dX0_between_79 : decode cX0_between 79 = .ok (.ireturn, 1) := dk_172 (dk_at dksX0_between_3 8 rfl rfl)
abbrev cX0_twosBy : ByteArray := prog_1_method_36_code
def yX0_twosBy : MethodName := ⟨RX0, "twosBy", "(I)I"⟩
def dkwX0_twosBy_4 : List UInt8 := [4, 167, 0, 4, 3, 96, 61, 132, 4, 1, 167, 255, 165, 132, 3, 1, 167, 255, 148, 28, 172]
abbrev dktX0_twosBy_4 : List UInt8 := dkwX0_twosBy_4 ++ []
def dkwX0_twosBy_3 : List UInt8 := [42, 29, 27, 182, 0, 247, 42, 27, 21, 4, 182, 0, 247, 96, 42, 29, 21, 4, 182, 0, 247, 160, 0, 7]
abbrev dktX0_twosBy_3 : List UInt8 := dkwX0_twosBy_3 ++ dktX0_twosBy_4
def dkwX0_twosBy_2 : List UInt8 := [46, 18, 220, 159, 0, 52, 42, 180, 0, 54, 27, 50, 21, 4, 46, 18, 220, 160, 0, 6, 167, 0, 35, 28]
abbrev dktX0_twosBy_2 : List UInt8 := dkwX0_twosBy_2 ++ dktX0_twosBy_3
def dkwX0_twosBy_1 : List UInt8 := [29, 21, 4, 159, 0, 76, 29, 27, 159, 0, 71, 21, 4, 27, 159, 0, 65, 42, 180, 0, 54, 29, 50, 27]
abbrev dktX0_twosBy_1 : List UInt8 := dkwX0_twosBy_1 ++ dktX0_twosBy_2
def dkwX0_twosBy_0 : List UInt8 := [3, 61, 3, 62, 29, 42, 180, 0, 113, 162, 0, 106, 3, 54, 4, 21, 4, 42, 180, 0, 113, 162, 0, 88]
abbrev dktX0_twosBy_0 : List UInt8 := dkwX0_twosBy_0 ++ dktX0_twosBy_1
theorem dksX0_twosBy_0 : cX0_twosBy.data.toList.drop 0 = dktX0_twosBy_0 := by decide +kernel
theorem dksX0_twosBy_1 : cX0_twosBy.data.toList.drop 24 = dktX0_twosBy_1 := dk_seg dksX0_twosBy_0 24 rfl rfl
theorem dksX0_twosBy_2 : cX0_twosBy.data.toList.drop 48 = dktX0_twosBy_2 := dk_seg dksX0_twosBy_1 24 rfl rfl
theorem dksX0_twosBy_3 : cX0_twosBy.data.toList.drop 72 = dktX0_twosBy_3 := dk_seg dksX0_twosBy_2 24 rfl rfl
theorem dksX0_twosBy_4 : cX0_twosBy.data.toList.drop 96 = dktX0_twosBy_4 := dk_seg dksX0_twosBy_3 24 rfl rfl
theorem dX0_twosBy_0 : decode cX0_twosBy 0 = .ok (.iconst 0, 1) := dk_3 (dk_at dksX0_twosBy_0 0 rfl rfl)
theorem dX0_twosBy_1 : decode cX0_twosBy 1 = .ok (.istore_n 2, 1) := dk_61 (dk_at dksX0_twosBy_0 1 rfl rfl)
theorem dX0_twosBy_2 : decode cX0_twosBy 2 = .ok (.iconst 0, 1) := dk_3 (dk_at dksX0_twosBy_0 2 rfl rfl)
theorem dX0_twosBy_3 : decode cX0_twosBy 3 = .ok (.istore_n 3, 1) := dk_62 (dk_at dksX0_twosBy_0 3 rfl rfl)
theorem dX0_twosBy_4 : decode cX0_twosBy 4 = .ok (.iload_n 3, 1) := dk_29 (dk_at dksX0_twosBy_0 4 rfl rfl)
theorem dX0_twosBy_5 : decode cX0_twosBy 5 = .ok (.aload_n 0, 1) := dk_42 (dk_at dksX0_twosBy_0 5 rfl rfl)
theorem dX0_twosBy_6 : decode cX0_twosBy 6 = .ok (.getfield 113, 3) := dk_180 0 113 (dk_at dksX0_twosBy_0 6 rfl rfl)
theorem dX0_twosBy_9 : decode cX0_twosBy 9 = .ok (.if_icmp .ge 106, 3) := dk_162 0 106 (dk_at dksX0_twosBy_0 9 rfl rfl)
theorem dX0_twosBy_12 : decode cX0_twosBy 12 = .ok (.iconst 0, 1) := dk_3 (dk_at dksX0_twosBy_0 12 rfl rfl)
theorem dX0_twosBy_13 : decode cX0_twosBy 13 = .ok (.istore 4, 2) := dk_54 4 (dk_at dksX0_twosBy_0 13 rfl rfl)
theorem dX0_twosBy_15 : decode cX0_twosBy 15 = .ok (.iload 4, 2) := dk_21 4 (dk_at dksX0_twosBy_0 15 rfl rfl)
theorem dX0_twosBy_17 : decode cX0_twosBy 17 = .ok (.aload_n 0, 1) := dk_42 (dk_at dksX0_twosBy_0 17 rfl rfl)
theorem dX0_twosBy_18 : decode cX0_twosBy 18 = .ok (.getfield 113, 3) := dk_180 0 113 (dk_at dksX0_twosBy_0 18 rfl rfl)
theorem dX0_twosBy_21 : decode cX0_twosBy 21 = .ok (.if_icmp .ge 88, 3) := dk_162 0 88 (dk_at dksX0_twosBy_0 21 rfl rfl)
theorem dX0_twosBy_24 : decode cX0_twosBy 24 = .ok (.iload_n 3, 1) := dk_29 (dk_at dksX0_twosBy_1 0 rfl rfl)
theorem dX0_twosBy_25 : decode cX0_twosBy 25 = .ok (.iload 4, 2) := dk_21 4 (dk_at dksX0_twosBy_1 1 rfl rfl)
theorem dX0_twosBy_27 : decode cX0_twosBy 27 = .ok (.if_icmp .eq 76, 3) := dk_159 0 76 (dk_at dksX0_twosBy_1 3 rfl rfl)
theorem dX0_twosBy_30 : decode cX0_twosBy 30 = .ok (.iload_n 3, 1) := dk_29 (dk_at dksX0_twosBy_1 6 rfl rfl)
theorem dX0_twosBy_31 : decode cX0_twosBy 31 = .ok (.iload_n 1, 1) := dk_27 (dk_at dksX0_twosBy_1 7 rfl rfl)
theorem dX0_twosBy_32 : decode cX0_twosBy 32 = .ok (.if_icmp .eq 71, 3) := dk_159 0 71 (dk_at dksX0_twosBy_1 8 rfl rfl)
theorem dX0_twosBy_35 : decode cX0_twosBy 35 = .ok (.iload 4, 2) := dk_21 4 (dk_at dksX0_twosBy_1 11 rfl rfl)
theorem dX0_twosBy_37 : decode cX0_twosBy 37 = .ok (.iload_n 1, 1) := dk_27 (dk_at dksX0_twosBy_1 13 rfl rfl)
theorem dX0_twosBy_38 : decode cX0_twosBy 38 = .ok (.if_icmp .eq 65, 3) := dk_159 0 65 (dk_at dksX0_twosBy_1 14 rfl rfl)
theorem dX0_twosBy_41 : decode cX0_twosBy 41 = .ok (.aload_n 0, 1) := dk_42 (dk_at dksX0_twosBy_1 17 rfl rfl)
theorem dX0_twosBy_42 : decode cX0_twosBy 42 = .ok (.getfield 54, 3) := dk_180 0 54 (dk_at dksX0_twosBy_1 18 rfl rfl)
theorem dX0_twosBy_45 : decode cX0_twosBy 45 = .ok (.iload_n 3, 1) := dk_29 (dk_at dksX0_twosBy_1 21 rfl rfl)
theorem dX0_twosBy_46 : decode cX0_twosBy 46 = .ok (.aaload, 1) := dk_50 (dk_at dksX0_twosBy_1 22 rfl rfl)
theorem dX0_twosBy_47 : decode cX0_twosBy 47 = .ok (.iload_n 1, 1) := dk_27 (dk_at dksX0_twosBy_1 23 rfl rfl)
theorem dX0_twosBy_48 : decode cX0_twosBy 48 = .ok (.iaload, 1) := dk_46 (dk_at dksX0_twosBy_2 0 rfl rfl)
theorem dX0_twosBy_49 : decode cX0_twosBy 49 = .ok (.ldc 220, 2) := dk_18 220 (dk_at dksX0_twosBy_2 1 rfl rfl)
theorem dX0_twosBy_51 : decode cX0_twosBy 51 = .ok (.if_icmp .eq 52, 3) := dk_159 0 52 (dk_at dksX0_twosBy_2 3 rfl rfl)
theorem dX0_twosBy_54 : decode cX0_twosBy 54 = .ok (.aload_n 0, 1) := dk_42 (dk_at dksX0_twosBy_2 6 rfl rfl)
theorem dX0_twosBy_55 : decode cX0_twosBy 55 = .ok (.getfield 54, 3) := dk_180 0 54 (dk_at dksX0_twosBy_2 7 rfl rfl)
theorem dX0_twosBy_58 : decode cX0_twosBy 58 = .ok (.iload_n 1, 1) := dk_27 (dk_at dksX0_twosBy_2 10 rfl rfl)
theorem dX0_twosBy_59 : decode cX0_twosBy 59 = .ok (.aaload, 1) := dk_50 (dk_at dksX0_twosBy_2 11 rfl rfl)
theorem dX0_twosBy_60 : decode cX0_twosBy 60 = .ok (.iload 4, 2) := dk_21 4 (dk_at dksX0_twosBy_2 12 rfl rfl)
theorem dX0_twosBy_62 : decode cX0_twosBy 62 = .ok (.iaload, 1) := dk_46 (dk_at dksX0_twosBy_2 14 rfl rfl)
theorem dX0_twosBy_63 : decode cX0_twosBy 63 = .ok (.ldc 220, 2) := dk_18 220 (dk_at dksX0_twosBy_2 15 rfl rfl)
theorem dX0_twosBy_65 : decode cX0_twosBy 65 = .ok (.if_icmp .ne 6, 3) := dk_160 0 6 (dk_at dksX0_twosBy_2 17 rfl rfl)
theorem dX0_twosBy_68 : decode cX0_twosBy 68 = .ok (.goto 35, 3) := dk_167 0 35 (dk_at dksX0_twosBy_2 20 rfl rfl)
theorem dX0_twosBy_71 : decode cX0_twosBy 71 = .ok (.iload_n 2, 1) := dk_28 (dk_at dksX0_twosBy_2 23 rfl rfl)
theorem dX0_twosBy_72 : decode cX0_twosBy 72 = .ok (.aload_n 0, 1) := dk_42 (dk_at dksX0_twosBy_3 0 rfl rfl)
theorem dX0_twosBy_73 : decode cX0_twosBy 73 = .ok (.iload_n 3, 1) := dk_29 (dk_at dksX0_twosBy_3 1 rfl rfl)
theorem dX0_twosBy_74 : decode cX0_twosBy 74 = .ok (.iload_n 1, 1) := dk_27 (dk_at dksX0_twosBy_3 2 rfl rfl)
theorem dX0_twosBy_75 : decode cX0_twosBy 75 = .ok (.invokevirtual 247, 3) := dk_182 0 247 (dk_at dksX0_twosBy_3 3 rfl rfl)
theorem dX0_twosBy_78 : decode cX0_twosBy 78 = .ok (.aload_n 0, 1) := dk_42 (dk_at dksX0_twosBy_3 6 rfl rfl)
theorem dX0_twosBy_79 : decode cX0_twosBy 79 = .ok (.iload_n 1, 1) := dk_27 (dk_at dksX0_twosBy_3 7 rfl rfl)
theorem dX0_twosBy_80 : decode cX0_twosBy 80 = .ok (.iload 4, 2) := dk_21 4 (dk_at dksX0_twosBy_3 8 rfl rfl)
theorem dX0_twosBy_82 : decode cX0_twosBy 82 = .ok (.invokevirtual 247, 3) := dk_182 0 247 (dk_at dksX0_twosBy_3 10 rfl rfl)
theorem dX0_twosBy_85 : decode cX0_twosBy 85 = .ok (.iadd, 1) := dk_96 (dk_at dksX0_twosBy_3 13 rfl rfl)
theorem dX0_twosBy_86 : decode cX0_twosBy 86 = .ok (.aload_n 0, 1) := dk_42 (dk_at dksX0_twosBy_3 14 rfl rfl)
theorem dX0_twosBy_87 : decode cX0_twosBy 87 = .ok (.iload_n 3, 1) := dk_29 (dk_at dksX0_twosBy_3 15 rfl rfl)
theorem dX0_twosBy_88 : decode cX0_twosBy 88 = .ok (.iload 4, 2) := dk_21 4 (dk_at dksX0_twosBy_3 16 rfl rfl)
theorem dX0_twosBy_90 : decode cX0_twosBy 90 = .ok (.invokevirtual 247, 3) := dk_182 0 247 (dk_at dksX0_twosBy_3 18 rfl rfl)
theorem dX0_twosBy_93 : decode cX0_twosBy 93 = .ok (.if_icmp .ne 7, 3) := dk_160 0 7 (dk_at dksX0_twosBy_3 21 rfl rfl)
theorem dX0_twosBy_96 : decode cX0_twosBy 96 = .ok (.iconst 1, 1) := dk_4 (dk_at dksX0_twosBy_4 0 rfl rfl)
theorem dX0_twosBy_97 : decode cX0_twosBy 97 = .ok (.goto 4, 3) := dk_167 0 4 (dk_at dksX0_twosBy_4 1 rfl rfl)
theorem dX0_twosBy_100 : decode cX0_twosBy 100 = .ok (.iconst 0, 1) := dk_3 (dk_at dksX0_twosBy_4 4 rfl rfl)
theorem dX0_twosBy_101 : decode cX0_twosBy 101 = .ok (.iadd, 1) := dk_96 (dk_at dksX0_twosBy_4 5 rfl rfl)
theorem dX0_twosBy_102 : decode cX0_twosBy 102 = .ok (.istore_n 2, 1) := dk_61 (dk_at dksX0_twosBy_4 6 rfl rfl)
theorem dX0_twosBy_103 : decode cX0_twosBy 103 = .ok (.iinc 4 1, 3) := dk_132 4 1 (dk_at dksX0_twosBy_4 7 rfl rfl)
theorem dX0_twosBy_106 : decode cX0_twosBy 106 = .ok (.goto (-91), 3) := dk_167 255 165 (dk_at dksX0_twosBy_4 10 rfl rfl)
theorem dX0_twosBy_109 : decode cX0_twosBy 109 = .ok (.iinc 3 1, 3) := dk_132 3 1 (dk_at dksX0_twosBy_4 13 rfl rfl)
theorem dX0_twosBy_112 : decode cX0_twosBy 112 = .ok (.goto (-108), 3) := dk_167 255 148 (dk_at dksX0_twosBy_4 16 rfl rfl)
theorem dX0_twosBy_115 : decode cX0_twosBy 115 = .ok (.iload_n 2, 1) := dk_28 (dk_at dksX0_twosBy_4 19 rfl rfl)
theorem dX0_twosBy_116 : decode cX0_twosBy 116 = .ok (.ireturn, 1) := dk_172 (dk_at dksX0_twosBy_4 20 rfl rfl)
abbrev cX0_newWord : ByteArray := prog_1_method_42_code
def yX0_newWord : MethodName := ⟨RX0, "newWord", "(I)I"⟩
def dkwX0_newWord_9 : List UInt8 := [180, 0, 80, 180, 0, 191, 27, 16, 10, 100, 46, 167, 0, 4, 2, 172]
abbrev dktX0_newWord_9 : List UInt8 := dkwX0_newWord_9 ++ []
def dkwX0_newWord_8 : List UInt8 := [180, 0, 80, 180, 0, 189, 167, 0, 33, 27, 16, 10, 100, 42, 180, 0, 80, 180, 0, 189, 162, 0, 18, 42]
abbrev dktX0_newWord_8 : List UInt8 := dkwX0_newWord_8 ++ dktX0_newWord_9
def dkwX0_newWord_7 : List UInt8 := [180, 1, 25, 167, 0, 60, 27, 4, 160, 0, 10, 42, 180, 1, 28, 167, 0, 48, 27, 5, 160, 0, 13, 42]
abbrev dktX0_newWord_7 : List UInt8 := dkwX0_newWord_7 ++ dktX0_newWord_8
def dkwX0_newWord_6 : List UInt8 := [167, 255, 191, 132, 2, 1, 167, 255, 153, 42, 180, 1, 25, 154, 0, 6, 16, 254, 172, 27, 154, 0, 10, 42]
abbrev dktX0_newWord_6 : List UInt8 := dkwX0_newWord_6 ++ dktX0_newWord_7
def dkwX0_newWord_5 : List UInt8 := [182, 1, 41, 21, 4, 4, 96, 45, 180, 0, 189, 162, 0, 10, 42, 45, 21, 4, 182, 1, 45, 132, 4, 1]
abbrev dktX0_newWord_5 : List UInt8 := dkwX0_newWord_5 ++ dktX0_newWord_6
def dkwX0_newWord_4 : List UInt8 := [21, 4, 45, 180, 0, 189, 160, 0, 6, 167, 0, 36, 42, 45, 21, 4, 3, 182, 1, 37, 42, 45, 21, 4]
abbrev dktX0_newWord_4 : List UInt8 := dkwX0_newWord_4 ++ dktX0_newWord_5
def dkwX0_newWord_3 : List UInt8 := [180, 0, 148, 78, 3, 54, 4, 21, 4, 45, 180, 0, 189, 163, 0, 62, 42, 45, 21, 4, 4, 182, 1, 37]
abbrev dktX0_newWord_3 : List UInt8 := dkwX0_newWord_3 ++ dktX0_newWord_4
def dkwX0_newWord_2 : List UInt8 := [180, 0, 113, 162, 0, 101, 42, 28, 182, 0, 221, 154, 0, 6, 167, 0, 84, 42, 180, 0, 11, 28, 50]
abbrev dktX0_newWord_2 : List UInt8 := dkwX0_newWord_2 ++ dktX0_newWord_3
def dkwX0_newWord_1 : List UInt8 := [182, 0, 241, 42, 3, 181, 1, 25, 42, 3, 181, 1, 28, 42, 180, 0, 80, 182, 0, 142, 3, 61, 28, 42]
abbrev dktX0_newWord_1 : List UInt8 := dkwX0_newWord_1 ++ dktX0_newWord_2
def dkwX0_newWord_0 : List UInt8 := [27, 6, 184, 0, 116, 154, 0, 17, 27, 16, 10, 100, 16, 8, 184, 0, 116, 154, 0, 5, 2, 172, 42]
abbrev dktX0_newWord_0 : List UInt8 := dkwX0_newWord_0 ++ dktX0_newWord_1
theorem dksX0_newWord_0 : cX0_newWord.data.toList.drop 0 = dktX0_newWord_0 := by decide +kernel
theorem dksX0_newWord_1 : cX0_newWord.data.toList.drop 23 = dktX0_newWord_1 := dk_seg dksX0_newWord_0 23 rfl rfl
theorem dksX0_newWord_2 : cX0_newWord.data.toList.drop 47 = dktX0_newWord_2 := dk_seg dksX0_newWord_1 24 rfl rfl
theorem dksX0_newWord_3 : cX0_newWord.data.toList.drop 70 = dktX0_newWord_3 := dk_seg dksX0_newWord_2 23 rfl rfl
theorem dksX0_newWord_4 : cX0_newWord.data.toList.drop 94 = dktX0_newWord_4 := dk_seg dksX0_newWord_3 24 rfl rfl
theorem dksX0_newWord_5 : cX0_newWord.data.toList.drop 118 = dktX0_newWord_5 := dk_seg dksX0_newWord_4 24 rfl rfl
theorem dksX0_newWord_6 : cX0_newWord.data.toList.drop 142 = dktX0_newWord_6 := dk_seg dksX0_newWord_5 24 rfl rfl
theorem dksX0_newWord_7 : cX0_newWord.data.toList.drop 166 = dktX0_newWord_7 := dk_seg dksX0_newWord_6 24 rfl rfl
theorem dksX0_newWord_8 : cX0_newWord.data.toList.drop 190 = dktX0_newWord_8 := dk_seg dksX0_newWord_7 24 rfl rfl
theorem dksX0_newWord_9 : cX0_newWord.data.toList.drop 214 = dktX0_newWord_9 := dk_seg dksX0_newWord_8 24 rfl rfl
theorem dX0_newWord_0 : decode cX0_newWord 0 = .ok (.iload_n 1, 1) := dk_27 (dk_at dksX0_newWord_0 0 rfl rfl)
theorem dX0_newWord_1 : decode cX0_newWord 1 = .ok (.iconst 3, 1) := dk_6 (dk_at dksX0_newWord_0 1 rfl rfl)
theorem dX0_newWord_2 : decode cX0_newWord 2 = .ok (.invokestatic 116, 3) := dk_184 0 116 (dk_at dksX0_newWord_0 2 rfl rfl)
theorem dX0_newWord_5 : decode cX0_newWord 5 = .ok (.ifCond .ne 17, 3) := dk_154 0 17 (dk_at dksX0_newWord_0 5 rfl rfl)
theorem dX0_newWord_8 : decode cX0_newWord 8 = .ok (.iload_n 1, 1) := dk_27 (dk_at dksX0_newWord_0 8 rfl rfl)
theorem dX0_newWord_9 : decode cX0_newWord 9 = .ok (.bipush 10, 2) := dk_16 10 (dk_at dksX0_newWord_0 9 rfl rfl)
theorem dX0_newWord_11 : decode cX0_newWord 11 = .ok (.isub, 1) := dk_100 (dk_at dksX0_newWord_0 11 rfl rfl)
theorem dX0_newWord_12 : decode cX0_newWord 12 = .ok (.bipush 8, 2) := dk_16 8 (dk_at dksX0_newWord_0 12 rfl rfl)
theorem dX0_newWord_14 : decode cX0_newWord 14 = .ok (.invokestatic 116, 3) := dk_184 0 116 (dk_at dksX0_newWord_0 14 rfl rfl)
theorem dX0_newWord_17 : decode cX0_newWord 17 = .ok (.ifCond .ne 5, 3) := dk_154 0 5 (dk_at dksX0_newWord_0 17 rfl rfl)
theorem dX0_newWord_20 : decode cX0_newWord 20 = .ok (.iconst (-1), 1) := dk_2 (dk_at dksX0_newWord_0 20 rfl rfl)
theorem dX0_newWord_21 : decode cX0_newWord 21 = .ok (.ireturn, 1) := dk_172 (dk_at dksX0_newWord_0 21 rfl rfl)
theorem dX0_newWord_22 : decode cX0_newWord 22 = .ok (.aload_n 0, 1) := dk_42 (dk_at dksX0_newWord_0 22 rfl rfl)
theorem dX0_newWord_23 : decode cX0_newWord 23 = .ok (.invokevirtual 241, 3) := dk_182 0 241 (dk_at dksX0_newWord_1 0 rfl rfl)
theorem dX0_newWord_26 : decode cX0_newWord 26 = .ok (.aload_n 0, 1) := dk_42 (dk_at dksX0_newWord_1 3 rfl rfl)
theorem dX0_newWord_27 : decode cX0_newWord 27 = .ok (.iconst 0, 1) := dk_3 (dk_at dksX0_newWord_1 4 rfl rfl)
theorem dX0_newWord_28 : decode cX0_newWord 28 = .ok (.putfield 281, 3) := dk_181 1 25 (dk_at dksX0_newWord_1 5 rfl rfl)
theorem dX0_newWord_31 : decode cX0_newWord 31 = .ok (.aload_n 0, 1) := dk_42 (dk_at dksX0_newWord_1 8 rfl rfl)
theorem dX0_newWord_32 : decode cX0_newWord 32 = .ok (.iconst 0, 1) := dk_3 (dk_at dksX0_newWord_1 9 rfl rfl)
theorem dX0_newWord_33 : decode cX0_newWord 33 = .ok (.putfield 284, 3) := dk_181 1 28 (dk_at dksX0_newWord_1 10 rfl rfl)
theorem dX0_newWord_36 : decode cX0_newWord 36 = .ok (.aload_n 0, 1) := dk_42 (dk_at dksX0_newWord_1 13 rfl rfl)
theorem dX0_newWord_37 : decode cX0_newWord 37 = .ok (.getfield 80, 3) := dk_180 0 80 (dk_at dksX0_newWord_1 14 rfl rfl)
theorem dX0_newWord_40 : decode cX0_newWord 40 = .ok (.invokevirtual 142, 3) := dk_182 0 142 (dk_at dksX0_newWord_1 17 rfl rfl)
theorem dX0_newWord_43 : decode cX0_newWord 43 = .ok (.iconst 0, 1) := dk_3 (dk_at dksX0_newWord_1 20 rfl rfl)
theorem dX0_newWord_44 : decode cX0_newWord 44 = .ok (.istore_n 2, 1) := dk_61 (dk_at dksX0_newWord_1 21 rfl rfl)
theorem dX0_newWord_45 : decode cX0_newWord 45 = .ok (.iload_n 2, 1) := dk_28 (dk_at dksX0_newWord_1 22 rfl rfl)
theorem dX0_newWord_46 : decode cX0_newWord 46 = .ok (.aload_n 0, 1) := dk_42 (dk_at dksX0_newWord_1 23 rfl rfl)
theorem dX0_newWord_47 : decode cX0_newWord 47 = .ok (.getfield 113, 3) := dk_180 0 113 (dk_at dksX0_newWord_2 0 rfl rfl)
theorem dX0_newWord_50 : decode cX0_newWord 50 = .ok (.if_icmp .ge 101, 3) := dk_162 0 101 (dk_at dksX0_newWord_2 3 rfl rfl)
theorem dX0_newWord_53 : decode cX0_newWord 53 = .ok (.aload_n 0, 1) := dk_42 (dk_at dksX0_newWord_2 6 rfl rfl)
theorem dX0_newWord_54 : decode cX0_newWord 54 = .ok (.iload_n 2, 1) := dk_28 (dk_at dksX0_newWord_2 7 rfl rfl)
theorem dX0_newWord_55 : decode cX0_newWord 55 = .ok (.invokevirtual 221, 3) := dk_182 0 221 (dk_at dksX0_newWord_2 8 rfl rfl)
theorem dX0_newWord_58 : decode cX0_newWord 58 = .ok (.ifCond .ne 6, 3) := dk_154 0 6 (dk_at dksX0_newWord_2 11 rfl rfl)
theorem dX0_newWord_61 : decode cX0_newWord 61 = .ok (.goto 84, 3) := dk_167 0 84 (dk_at dksX0_newWord_2 14 rfl rfl)
theorem dX0_newWord_64 : decode cX0_newWord 64 = .ok (.aload_n 0, 1) := dk_42 (dk_at dksX0_newWord_2 17 rfl rfl)
theorem dX0_newWord_65 : decode cX0_newWord 65 = .ok (.getfield 11, 3) := dk_180 0 11 (dk_at dksX0_newWord_2 18 rfl rfl)
theorem dX0_newWord_68 : decode cX0_newWord 68 = .ok (.iload_n 2, 1) := dk_28 (dk_at dksX0_newWord_2 21 rfl rfl)
theorem dX0_newWord_69 : decode cX0_newWord 69 = .ok (.aaload, 1) := dk_50 (dk_at dksX0_newWord_2 22 rfl rfl)
theorem dX0_newWord_70 : decode cX0_newWord 70 = .ok (.getfield 148, 3) := dk_180 0 148 (dk_at dksX0_newWord_3 0 rfl rfl)
theorem dX0_newWord_73 : decode cX0_newWord 73 = .ok (.astore_n 3, 1) := dk_78 (dk_at dksX0_newWord_3 3 rfl rfl)
theorem dX0_newWord_74 : decode cX0_newWord 74 = .ok (.iconst 0, 1) := dk_3 (dk_at dksX0_newWord_3 4 rfl rfl)
theorem dX0_newWord_75 : decode cX0_newWord 75 = .ok (.istore 4, 2) := dk_54 4 (dk_at dksX0_newWord_3 5 rfl rfl)
theorem dX0_newWord_77 : decode cX0_newWord 77 = .ok (.iload 4, 2) := dk_21 4 (dk_at dksX0_newWord_3 7 rfl rfl)
theorem dX0_newWord_79 : decode cX0_newWord 79 = .ok (.aload_n 3, 1) := dk_45 (dk_at dksX0_newWord_3 9 rfl rfl)
theorem dX0_newWord_80 : decode cX0_newWord 80 = .ok (.getfield 189, 3) := dk_180 0 189 (dk_at dksX0_newWord_3 10 rfl rfl)
theorem dX0_newWord_83 : decode cX0_newWord 83 = .ok (.if_icmp .gt 62, 3) := dk_163 0 62 (dk_at dksX0_newWord_3 13 rfl rfl)
theorem dX0_newWord_86 : decode cX0_newWord 86 = .ok (.aload_n 0, 1) := dk_42 (dk_at dksX0_newWord_3 16 rfl rfl)
theorem dX0_newWord_87 : decode cX0_newWord 87 = .ok (.aload_n 3, 1) := dk_45 (dk_at dksX0_newWord_3 17 rfl rfl)
theorem dX0_newWord_88 : decode cX0_newWord 88 = .ok (.iload 4, 2) := dk_21 4 (dk_at dksX0_newWord_3 18 rfl rfl)
theorem dX0_newWord_90 : decode cX0_newWord 90 = .ok (.iconst 1, 1) := dk_4 (dk_at dksX0_newWord_3 20 rfl rfl)
theorem dX0_newWord_91 : decode cX0_newWord 91 = .ok (.invokevirtual 293, 3) := dk_182 1 37 (dk_at dksX0_newWord_3 21 rfl rfl)
theorem dX0_newWord_94 : decode cX0_newWord 94 = .ok (.iload 4, 2) := dk_21 4 (dk_at dksX0_newWord_4 0 rfl rfl)
theorem dX0_newWord_96 : decode cX0_newWord 96 = .ok (.aload_n 3, 1) := dk_45 (dk_at dksX0_newWord_4 2 rfl rfl)
theorem dX0_newWord_97 : decode cX0_newWord 97 = .ok (.getfield 189, 3) := dk_180 0 189 (dk_at dksX0_newWord_4 3 rfl rfl)
theorem dX0_newWord_100 : decode cX0_newWord 100 = .ok (.if_icmp .ne 6, 3) := dk_160 0 6 (dk_at dksX0_newWord_4 6 rfl rfl)
theorem dX0_newWord_103 : decode cX0_newWord 103 = .ok (.goto 36, 3) := dk_167 0 36 (dk_at dksX0_newWord_4 9 rfl rfl)
theorem dX0_newWord_106 : decode cX0_newWord 106 = .ok (.aload_n 0, 1) := dk_42 (dk_at dksX0_newWord_4 12 rfl rfl)
theorem dX0_newWord_107 : decode cX0_newWord 107 = .ok (.aload_n 3, 1) := dk_45 (dk_at dksX0_newWord_4 13 rfl rfl)
theorem dX0_newWord_108 : decode cX0_newWord 108 = .ok (.iload 4, 2) := dk_21 4 (dk_at dksX0_newWord_4 14 rfl rfl)
theorem dX0_newWord_110 : decode cX0_newWord 110 = .ok (.iconst 0, 1) := dk_3 (dk_at dksX0_newWord_4 16 rfl rfl)
theorem dX0_newWord_111 : decode cX0_newWord 111 = .ok (.invokevirtual 293, 3) := dk_182 1 37 (dk_at dksX0_newWord_4 17 rfl rfl)
theorem dX0_newWord_114 : decode cX0_newWord 114 = .ok (.aload_n 0, 1) := dk_42 (dk_at dksX0_newWord_4 20 rfl rfl)
theorem dX0_newWord_115 : decode cX0_newWord 115 = .ok (.aload_n 3, 1) := dk_45 (dk_at dksX0_newWord_4 21 rfl rfl)
theorem dX0_newWord_116 : decode cX0_newWord 116 = .ok (.iload 4, 2) := dk_21 4 (dk_at dksX0_newWord_4 22 rfl rfl)
theorem dX0_newWord_118 : decode cX0_newWord 118 = .ok (.invokevirtual 297, 3) := dk_182 1 41 (dk_at dksX0_newWord_5 0 rfl rfl)
theorem dX0_newWord_121 : decode cX0_newWord 121 = .ok (.iload 4, 2) := dk_21 4 (dk_at dksX0_newWord_5 3 rfl rfl)
theorem dX0_newWord_123 : decode cX0_newWord 123 = .ok (.iconst 1, 1) := dk_4 (dk_at dksX0_newWord_5 5 rfl rfl)
theorem dX0_newWord_124 : decode cX0_newWord 124 = .ok (.iadd, 1) := dk_96 (dk_at dksX0_newWord_5 6 rfl rfl)
theorem dX0_newWord_125 : decode cX0_newWord 125 = .ok (.aload_n 3, 1) := dk_45 (dk_at dksX0_newWord_5 7 rfl rfl)
theorem dX0_newWord_126 : decode cX0_newWord 126 = .ok (.getfield 189, 3) := dk_180 0 189 (dk_at dksX0_newWord_5 8 rfl rfl)
theorem dX0_newWord_129 : decode cX0_newWord 129 = .ok (.if_icmp .ge 10, 3) := dk_162 0 10 (dk_at dksX0_newWord_5 11 rfl rfl)
theorem dX0_newWord_132 : decode cX0_newWord 132 = .ok (.aload_n 0, 1) := dk_42 (dk_at dksX0_newWord_5 14 rfl rfl)
theorem dX0_newWord_133 : decode cX0_newWord 133 = .ok (.aload_n 3, 1) := dk_45 (dk_at dksX0_newWord_5 15 rfl rfl)
theorem dX0_newWord_134 : decode cX0_newWord 134 = .ok (.iload 4, 2) := dk_21 4 (dk_at dksX0_newWord_5 16 rfl rfl)
theorem dX0_newWord_136 : decode cX0_newWord 136 = .ok (.invokevirtual 301, 3) := dk_182 1 45 (dk_at dksX0_newWord_5 18 rfl rfl)
theorem dX0_newWord_139 : decode cX0_newWord 139 = .ok (.iinc 4 1, 3) := dk_132 4 1 (dk_at dksX0_newWord_5 21 rfl rfl)
theorem dX0_newWord_142 : decode cX0_newWord 142 = .ok (.goto (-65), 3) := dk_167 255 191 (dk_at dksX0_newWord_6 0 rfl rfl)
theorem dX0_newWord_145 : decode cX0_newWord 145 = .ok (.iinc 2 1, 3) := dk_132 2 1 (dk_at dksX0_newWord_6 3 rfl rfl)
theorem dX0_newWord_148 : decode cX0_newWord 148 = .ok (.goto (-103), 3) := dk_167 255 153 (dk_at dksX0_newWord_6 6 rfl rfl)
theorem dX0_newWord_151 : decode cX0_newWord 151 = .ok (.aload_n 0, 1) := dk_42 (dk_at dksX0_newWord_6 9 rfl rfl)
theorem dX0_newWord_152 : decode cX0_newWord 152 = .ok (.getfield 281, 3) := dk_180 1 25 (dk_at dksX0_newWord_6 10 rfl rfl)
theorem dX0_newWord_155 : decode cX0_newWord 155 = .ok (.ifCond .ne 6, 3) := dk_154 0 6 (dk_at dksX0_newWord_6 13 rfl rfl)
theorem dX0_newWord_158 : decode cX0_newWord 158 = .ok (.bipush (-2), 2) := dk_16 254 (dk_at dksX0_newWord_6 16 rfl rfl)
theorem dX0_newWord_160 : decode cX0_newWord 160 = .ok (.ireturn, 1) := dk_172 (dk_at dksX0_newWord_6 18 rfl rfl)
theorem dX0_newWord_161 : decode cX0_newWord 161 = .ok (.iload_n 1, 1) := dk_27 (dk_at dksX0_newWord_6 19 rfl rfl)
theorem dX0_newWord_162 : decode cX0_newWord 162 = .ok (.ifCond .ne 10, 3) := dk_154 0 10 (dk_at dksX0_newWord_6 20 rfl rfl)
theorem dX0_newWord_165 : decode cX0_newWord 165 = .ok (.aload_n 0, 1) := dk_42 (dk_at dksX0_newWord_6 23 rfl rfl)
theorem dX0_newWord_166 : decode cX0_newWord 166 = .ok (.getfield 281, 3) := dk_180 1 25 (dk_at dksX0_newWord_7 0 rfl rfl)
theorem dX0_newWord_169 : decode cX0_newWord 169 = .ok (.goto 60, 3) := dk_167 0 60 (dk_at dksX0_newWord_7 3 rfl rfl)
theorem dX0_newWord_172 : decode cX0_newWord 172 = .ok (.iload_n 1, 1) := dk_27 (dk_at dksX0_newWord_7 6 rfl rfl)
theorem dX0_newWord_173 : decode cX0_newWord 173 = .ok (.iconst 1, 1) := dk_4 (dk_at dksX0_newWord_7 7 rfl rfl)
theorem dX0_newWord_174 : decode cX0_newWord 174 = .ok (.if_icmp .ne 10, 3) := dk_160 0 10 (dk_at dksX0_newWord_7 8 rfl rfl)
theorem dX0_newWord_177 : decode cX0_newWord 177 = .ok (.aload_n 0, 1) := dk_42 (dk_at dksX0_newWord_7 11 rfl rfl)
theorem dX0_newWord_178 : decode cX0_newWord 178 = .ok (.getfield 284, 3) := dk_180 1 28 (dk_at dksX0_newWord_7 12 rfl rfl)
theorem dX0_newWord_181 : decode cX0_newWord 181 = .ok (.goto 48, 3) := dk_167 0 48 (dk_at dksX0_newWord_7 15 rfl rfl)
theorem dX0_newWord_184 : decode cX0_newWord 184 = .ok (.iload_n 1, 1) := dk_27 (dk_at dksX0_newWord_7 18 rfl rfl)
theorem dX0_newWord_185 : decode cX0_newWord 185 = .ok (.iconst 2, 1) := dk_5 (dk_at dksX0_newWord_7 19 rfl rfl)
theorem dX0_newWord_186 : decode cX0_newWord 186 = .ok (.if_icmp .ne 13, 3) := dk_160 0 13 (dk_at dksX0_newWord_7 20 rfl rfl)
theorem dX0_newWord_189 : decode cX0_newWord 189 = .ok (.aload_n 0, 1) := dk_42 (dk_at dksX0_newWord_7 23 rfl rfl)
theorem dX0_newWord_190 : decode cX0_newWord 190 = .ok (.getfield 80, 3) := dk_180 0 80 (dk_at dksX0_newWord_8 0 rfl rfl)
theorem dX0_newWord_193 : decode cX0_newWord 193 = .ok (.getfield 189, 3) := dk_180 0 189 (dk_at dksX0_newWord_8 3 rfl rfl)
theorem dX0_newWord_196 : decode cX0_newWord 196 = .ok (.goto 33, 3) := dk_167 0 33 (dk_at dksX0_newWord_8 6 rfl rfl)
theorem dX0_newWord_199 : decode cX0_newWord 199 = .ok (.iload_n 1, 1) := dk_27 (dk_at dksX0_newWord_8 9 rfl rfl)
theorem dX0_newWord_200 : decode cX0_newWord 200 = .ok (.bipush 10, 2) := dk_16 10 (dk_at dksX0_newWord_8 10 rfl rfl)
theorem dX0_newWord_202 : decode cX0_newWord 202 = .ok (.isub, 1) := dk_100 (dk_at dksX0_newWord_8 12 rfl rfl)
theorem dX0_newWord_203 : decode cX0_newWord 203 = .ok (.aload_n 0, 1) := dk_42 (dk_at dksX0_newWord_8 13 rfl rfl)
theorem dX0_newWord_204 : decode cX0_newWord 204 = .ok (.getfield 80, 3) := dk_180 0 80 (dk_at dksX0_newWord_8 14 rfl rfl)
theorem dX0_newWord_207 : decode cX0_newWord 207 = .ok (.getfield 189, 3) := dk_180 0 189 (dk_at dksX0_newWord_8 17 rfl rfl)
theorem dX0_newWord_210 : decode cX0_newWord 210 = .ok (.if_icmp .ge 18, 3) := dk_162 0 18 (dk_at dksX0_newWord_8 20 rfl rfl)
theorem dX0_newWord_213 : decode cX0_newWord 213 = .ok (.aload_n 0, 1) := dk_42 (dk_at dksX0_newWord_8 23 rfl rfl)
theorem dX0_newWord_214 : decode cX0_newWord 214 = .ok (.getfield 80, 3) := dk_180 0 80 (dk_at dksX0_newWord_9 0 rfl rfl)
theorem dX0_newWord_217 : decode cX0_newWord 217 = .ok (.getfield 191, 3) := dk_180 0 191 (dk_at dksX0_newWord_9 3 rfl rfl)
theorem dX0_newWord_220 : decode cX0_newWord 220 = .ok (.iload_n 1, 1) := dk_27 (dk_at dksX0_newWord_9 6 rfl rfl)
theorem dX0_newWord_221 : decode cX0_newWord 221 = .ok (.bipush 10, 2) := dk_16 10 (dk_at dksX0_newWord_9 7 rfl rfl)
theorem dX0_newWord_223 : decode cX0_newWord 223 = .ok (.isub, 1) := dk_100 (dk_at dksX0_newWord_9 9 rfl rfl)
theorem dX0_newWord_224 : decode cX0_newWord 224 = .ok (.iaload, 1) := dk_46 (dk_at dksX0_newWord_9 10 rfl rfl)
theorem dX0_newWord_225 : decode cX0_newWord 225 = .ok (.goto 4, 3) := dk_167 0 4 (dk_at dksX0_newWord_9 11 rfl rfl)
theorem dX0_newWord_228 : decode cX0_newWord 228 = .ok (.iconst (-1), 1) := dk_2 (dk_at dksX0_newWord_9 14 rfl rfl)
theorem dX0_newWord_229 : decode cX0_newWord 229 = .ok (.ireturn, 1) := dk_172 (dk_at dksX0_newWord_9 15 rfl rfl)
abbrev cX0_triesLetters : ByteArray := prog_1_method_39_code
def yX0_triesLetters : MethodName := ⟨RX0, "triesLetters", "(LLetterHeaps$Line;IZ)V"⟩
def dkwX0_triesLetters_4 : List UInt8 := [167, 255, 165, 177]
abbrev dktX0_triesLetters_4 : List UInt8 := dkwX0_triesLetters_4 ++ []
def dkwX0_triesLetters_3 : List UInt8 := [4, 100, 167, 0, 5, 21, 5, 46, 182, 0, 145, 132, 5, 1, 167, 255, 192, 42, 182, 1, 34, 132, 4, 1]
abbrev dktX0_triesLetters_3 : List UInt8 := dkwX0_triesLetters_3 ++ dktX0_triesLetters_4
def dkwX0_triesLetters_2 : List UInt8 := [160, 0, 8, 21, 4, 167, 0, 27, 43, 180, 0, 191, 29, 153, 0, 16, 21, 5, 28, 164, 0, 10, 21, 5]
abbrev dktX0_triesLetters_2 : List UInt8 := dkwX0_triesLetters_2 ++ dktX0_triesLetters_3
def dkwX0_triesLetters_1 : List UInt8 := [180, 0, 189, 29, 153, 0, 7, 4, 167, 0, 4, 3, 96, 162, 0, 51, 42, 180, 0, 77, 21, 5, 28]
abbrev dktX0_triesLetters_1 : List UInt8 := dkwX0_triesLetters_1 ++ dktX0_triesLetters_2
def dkwX0_triesLetters_0 : List UInt8 := [3, 54, 4, 21, 4, 16, 26, 162, 0, 90, 42, 180, 0, 77, 182, 0, 142, 3, 54, 5, 21, 5, 43]
abbrev dktX0_triesLetters_0 : List UInt8 := dkwX0_triesLetters_0 ++ dktX0_triesLetters_1
theorem dksX0_triesLetters_0 : cX0_triesLetters.data.toList.drop 0 = dktX0_triesLetters_0 := by decide +kernel
theorem dksX0_triesLetters_1 : cX0_triesLetters.data.toList.drop 23 = dktX0_triesLetters_1 := dk_seg dksX0_triesLetters_0 23 rfl rfl
theorem dksX0_triesLetters_2 : cX0_triesLetters.data.toList.drop 46 = dktX0_triesLetters_2 := dk_seg dksX0_triesLetters_1 23 rfl rfl
theorem dksX0_triesLetters_3 : cX0_triesLetters.data.toList.drop 70 = dktX0_triesLetters_3 := dk_seg dksX0_triesLetters_2 24 rfl rfl
theorem dksX0_triesLetters_4 : cX0_triesLetters.data.toList.drop 94 = dktX0_triesLetters_4 := dk_seg dksX0_triesLetters_3 24 rfl rfl
theorem dX0_triesLetters_0 : decode cX0_triesLetters 0 = .ok (.iconst 0, 1) := dk_3 (dk_at dksX0_triesLetters_0 0 rfl rfl)
theorem dX0_triesLetters_1 : decode cX0_triesLetters 1 = .ok (.istore 4, 2) := dk_54 4 (dk_at dksX0_triesLetters_0 1 rfl rfl)
theorem dX0_triesLetters_3 : decode cX0_triesLetters 3 = .ok (.iload 4, 2) := dk_21 4 (dk_at dksX0_triesLetters_0 3 rfl rfl)
theorem dX0_triesLetters_5 : decode cX0_triesLetters 5 = .ok (.bipush 26, 2) := dk_16 26 (dk_at dksX0_triesLetters_0 5 rfl rfl)
theorem dX0_triesLetters_7 : decode cX0_triesLetters 7 = .ok (.if_icmp .ge 90, 3) := dk_162 0 90 (dk_at dksX0_triesLetters_0 7 rfl rfl)
theorem dX0_triesLetters_10 : decode cX0_triesLetters 10 = .ok (.aload_n 0, 1) := dk_42 (dk_at dksX0_triesLetters_0 10 rfl rfl)
theorem dX0_triesLetters_11 : decode cX0_triesLetters 11 = .ok (.getfield 77, 3) := dk_180 0 77 (dk_at dksX0_triesLetters_0 11 rfl rfl)
theorem dX0_triesLetters_14 : decode cX0_triesLetters 14 = .ok (.invokevirtual 142, 3) := dk_182 0 142 (dk_at dksX0_triesLetters_0 14 rfl rfl)
theorem dX0_triesLetters_17 : decode cX0_triesLetters 17 = .ok (.iconst 0, 1) := dk_3 (dk_at dksX0_triesLetters_0 17 rfl rfl)
theorem dX0_triesLetters_18 : decode cX0_triesLetters 18 = .ok (.istore 5, 2) := dk_54 5 (dk_at dksX0_triesLetters_0 18 rfl rfl)
theorem dX0_triesLetters_20 : decode cX0_triesLetters 20 = .ok (.iload 5, 2) := dk_21 5 (dk_at dksX0_triesLetters_0 20 rfl rfl)
theorem dX0_triesLetters_22 : decode cX0_triesLetters 22 = .ok (.aload_n 1, 1) := dk_43 (dk_at dksX0_triesLetters_0 22 rfl rfl)
theorem dX0_triesLetters_23 : decode cX0_triesLetters 23 = .ok (.getfield 189, 3) := dk_180 0 189 (dk_at dksX0_triesLetters_1 0 rfl rfl)
theorem dX0_triesLetters_26 : decode cX0_triesLetters 26 = .ok (.iload_n 3, 1) := dk_29 (dk_at dksX0_triesLetters_1 3 rfl rfl)
theorem dX0_triesLetters_27 : decode cX0_triesLetters 27 = .ok (.ifCond .eq 7, 3) := dk_153 0 7 (dk_at dksX0_triesLetters_1 4 rfl rfl)
theorem dX0_triesLetters_30 : decode cX0_triesLetters 30 = .ok (.iconst 1, 1) := dk_4 (dk_at dksX0_triesLetters_1 7 rfl rfl)
theorem dX0_triesLetters_31 : decode cX0_triesLetters 31 = .ok (.goto 4, 3) := dk_167 0 4 (dk_at dksX0_triesLetters_1 8 rfl rfl)
theorem dX0_triesLetters_34 : decode cX0_triesLetters 34 = .ok (.iconst 0, 1) := dk_3 (dk_at dksX0_triesLetters_1 11 rfl rfl)
theorem dX0_triesLetters_35 : decode cX0_triesLetters 35 = .ok (.iadd, 1) := dk_96 (dk_at dksX0_triesLetters_1 12 rfl rfl)
theorem dX0_triesLetters_36 : decode cX0_triesLetters 36 = .ok (.if_icmp .ge 51, 3) := dk_162 0 51 (dk_at dksX0_triesLetters_1 13 rfl rfl)
theorem dX0_triesLetters_39 : decode cX0_triesLetters 39 = .ok (.aload_n 0, 1) := dk_42 (dk_at dksX0_triesLetters_1 16 rfl rfl)
theorem dX0_triesLetters_40 : decode cX0_triesLetters 40 = .ok (.getfield 77, 3) := dk_180 0 77 (dk_at dksX0_triesLetters_1 17 rfl rfl)
theorem dX0_triesLetters_43 : decode cX0_triesLetters 43 = .ok (.iload 5, 2) := dk_21 5 (dk_at dksX0_triesLetters_1 20 rfl rfl)
theorem dX0_triesLetters_45 : decode cX0_triesLetters 45 = .ok (.iload_n 2, 1) := dk_28 (dk_at dksX0_triesLetters_1 22 rfl rfl)
theorem dX0_triesLetters_46 : decode cX0_triesLetters 46 = .ok (.if_icmp .ne 8, 3) := dk_160 0 8 (dk_at dksX0_triesLetters_2 0 rfl rfl)
theorem dX0_triesLetters_49 : decode cX0_triesLetters 49 = .ok (.iload 4, 2) := dk_21 4 (dk_at dksX0_triesLetters_2 3 rfl rfl)
theorem dX0_triesLetters_51 : decode cX0_triesLetters 51 = .ok (.goto 27, 3) := dk_167 0 27 (dk_at dksX0_triesLetters_2 5 rfl rfl)
theorem dX0_triesLetters_54 : decode cX0_triesLetters 54 = .ok (.aload_n 1, 1) := dk_43 (dk_at dksX0_triesLetters_2 8 rfl rfl)
theorem dX0_triesLetters_55 : decode cX0_triesLetters 55 = .ok (.getfield 191, 3) := dk_180 0 191 (dk_at dksX0_triesLetters_2 9 rfl rfl)
theorem dX0_triesLetters_58 : decode cX0_triesLetters 58 = .ok (.iload_n 3, 1) := dk_29 (dk_at dksX0_triesLetters_2 12 rfl rfl)
theorem dX0_triesLetters_59 : decode cX0_triesLetters 59 = .ok (.ifCond .eq 16, 3) := dk_153 0 16 (dk_at dksX0_triesLetters_2 13 rfl rfl)
theorem dX0_triesLetters_62 : decode cX0_triesLetters 62 = .ok (.iload 5, 2) := dk_21 5 (dk_at dksX0_triesLetters_2 16 rfl rfl)
theorem dX0_triesLetters_64 : decode cX0_triesLetters 64 = .ok (.iload_n 2, 1) := dk_28 (dk_at dksX0_triesLetters_2 18 rfl rfl)
theorem dX0_triesLetters_65 : decode cX0_triesLetters 65 = .ok (.if_icmp .le 10, 3) := dk_164 0 10 (dk_at dksX0_triesLetters_2 19 rfl rfl)
theorem dX0_triesLetters_68 : decode cX0_triesLetters 68 = .ok (.iload 5, 2) := dk_21 5 (dk_at dksX0_triesLetters_2 22 rfl rfl)
theorem dX0_triesLetters_70 : decode cX0_triesLetters 70 = .ok (.iconst 1, 1) := dk_4 (dk_at dksX0_triesLetters_3 0 rfl rfl)
theorem dX0_triesLetters_71 : decode cX0_triesLetters 71 = .ok (.isub, 1) := dk_100 (dk_at dksX0_triesLetters_3 1 rfl rfl)
theorem dX0_triesLetters_72 : decode cX0_triesLetters 72 = .ok (.goto 5, 3) := dk_167 0 5 (dk_at dksX0_triesLetters_3 2 rfl rfl)
theorem dX0_triesLetters_75 : decode cX0_triesLetters 75 = .ok (.iload 5, 2) := dk_21 5 (dk_at dksX0_triesLetters_3 5 rfl rfl)
theorem dX0_triesLetters_77 : decode cX0_triesLetters 77 = .ok (.iaload, 1) := dk_46 (dk_at dksX0_triesLetters_3 7 rfl rfl)
theorem dX0_triesLetters_78 : decode cX0_triesLetters 78 = .ok (.invokevirtual 145, 3) := dk_182 0 145 (dk_at dksX0_triesLetters_3 8 rfl rfl)
theorem dX0_triesLetters_81 : decode cX0_triesLetters 81 = .ok (.iinc 5 1, 3) := dk_132 5 1 (dk_at dksX0_triesLetters_3 11 rfl rfl)
theorem dX0_triesLetters_84 : decode cX0_triesLetters 84 = .ok (.goto (-64), 3) := dk_167 255 192 (dk_at dksX0_triesLetters_3 14 rfl rfl)
theorem dX0_triesLetters_87 : decode cX0_triesLetters 87 = .ok (.aload_n 0, 1) := dk_42 (dk_at dksX0_triesLetters_3 17 rfl rfl)
theorem dX0_triesLetters_88 : decode cX0_triesLetters 88 = .ok (.invokevirtual 290, 3) := dk_182 1 34 (dk_at dksX0_triesLetters_3 18 rfl rfl)
theorem dX0_triesLetters_91 : decode cX0_triesLetters 91 = .ok (.iinc 4 1, 3) := dk_132 4 1 (dk_at dksX0_triesLetters_3 21 rfl rfl)
theorem dX0_triesLetters_94 : decode cX0_triesLetters 94 = .ok (.goto (-91), 3) := dk_167 255 165 (dk_at dksX0_triesLetters_4 0 rfl rfl)
theorem dX0_triesLetters_97 : decode cX0_triesLetters 97 = .ok (.return_, 1) := dk_177 (dk_at dksX0_triesLetters_4 3 rfl rfl)
abbrev cX0_triesNew : ByteArray := prog_1_method_38_code
def yX0_triesNew : MethodName := ⟨RX0, "triesNew", "()V"⟩
def dkwX0_triesNew_7 : List UInt8 := [180, 0, 80, 42, 180, 0, 77, 182, 0, 167, 177]
abbrev dktX0_triesNew_7 : List UInt8 := dkwX0_triesNew_7 ++ []
def dkwX0_triesNew_6 : List UInt8 := [180, 0, 80, 182, 1, 31, 154, 0, 4, 177, 42, 21, 4, 181, 1, 25, 42, 29, 181, 1, 28, 42]
abbrev dktX0_triesNew_6 : List UInt8 := dkwX0_triesNew_6 ++ dktX0_triesNew_7
def dkwX0_triesNew_5 : List UInt8 := [160, 0, 34, 29, 42, 180, 1, 28, 161, 0, 25, 29, 42, 180, 1, 28, 160, 0, 18, 42, 180, 0, 77, 42]
abbrev dktX0_triesNew_5 : List UInt8 := dkwX0_triesNew_5 ++ dktX0_triesNew_6
def dkwX0_triesNew_4 : List UInt8 := [167, 255, 197, 31, 184, 1, 19, 54, 4, 21, 4, 42, 180, 1, 25, 161, 0, 42, 21, 4, 42, 180, 1, 25]
abbrev dktX0_triesNew_4 : List UInt8 := dkwX0_triesNew_4 ++ dktX0_triesNew_5
def dkwX0_triesNew_3 : List UInt8 := [154, 0, 6, 167, 0, 17, 31, 10, 42, 21, 4, 182, 1, 8, 121, 129, 64, 132, 3, 1, 132, 4, 1]
abbrev dktX0_triesNew_3 : List UInt8 := dkwX0_triesNew_3 ++ dktX0_triesNew_4
def dkwX0_triesNew_2 : List UInt8 := [182, 0, 221, 153, 0, 41, 42, 42, 180, 0, 77, 42, 180, 0, 11, 21, 4, 50, 180, 0, 148, 182, 1, 15]
abbrev dktX0_triesNew_2 : List UInt8 := dkwX0_triesNew_2 ++ dktX0_triesNew_3
def dkwX0_triesNew_1 : List UInt8 := [2, 159, 0, 4, 177, 9, 64, 3, 62, 3, 54, 4, 21, 4, 42, 180, 0, 113, 162, 0, 56, 42, 21, 4]
abbrev dktX0_triesNew_1 : List UInt8 := dkwX0_triesNew_1 ++ dktX0_triesNew_2
def dkwX0_triesNew_0 : List UInt8 := [42, 180, 0, 77, 180, 0, 189, 4, 16, 8, 184, 0, 155, 153, 0, 15, 42, 42, 180, 0, 77, 182, 0, 163]
abbrev dktX0_triesNew_0 : List UInt8 := dkwX0_triesNew_0 ++ dktX0_triesNew_1
theorem dksX0_triesNew_0 : cX0_triesNew.data.toList.drop 0 = dktX0_triesNew_0 := by decide +kernel
theorem dksX0_triesNew_1 : cX0_triesNew.data.toList.drop 24 = dktX0_triesNew_1 := dk_seg dksX0_triesNew_0 24 rfl rfl
theorem dksX0_triesNew_2 : cX0_triesNew.data.toList.drop 48 = dktX0_triesNew_2 := dk_seg dksX0_triesNew_1 24 rfl rfl
theorem dksX0_triesNew_3 : cX0_triesNew.data.toList.drop 72 = dktX0_triesNew_3 := dk_seg dksX0_triesNew_2 24 rfl rfl
theorem dksX0_triesNew_4 : cX0_triesNew.data.toList.drop 95 = dktX0_triesNew_4 := dk_seg dksX0_triesNew_3 23 rfl rfl
theorem dksX0_triesNew_5 : cX0_triesNew.data.toList.drop 119 = dktX0_triesNew_5 := dk_seg dksX0_triesNew_4 24 rfl rfl
theorem dksX0_triesNew_6 : cX0_triesNew.data.toList.drop 143 = dktX0_triesNew_6 := dk_seg dksX0_triesNew_5 24 rfl rfl
theorem dksX0_triesNew_7 : cX0_triesNew.data.toList.drop 165 = dktX0_triesNew_7 := dk_seg dksX0_triesNew_6 22 rfl rfl
theorem dX0_triesNew_0 : decode cX0_triesNew 0 = .ok (.aload_n 0, 1) := dk_42 (dk_at dksX0_triesNew_0 0 rfl rfl)
theorem dX0_triesNew_1 : decode cX0_triesNew 1 = .ok (.getfield 77, 3) := dk_180 0 77 (dk_at dksX0_triesNew_0 1 rfl rfl)
theorem dX0_triesNew_4 : decode cX0_triesNew 4 = .ok (.getfield 189, 3) := dk_180 0 189 (dk_at dksX0_triesNew_0 4 rfl rfl)
theorem dX0_triesNew_7 : decode cX0_triesNew 7 = .ok (.iconst 1, 1) := dk_4 (dk_at dksX0_triesNew_0 7 rfl rfl)
theorem dX0_triesNew_8 : decode cX0_triesNew 8 = .ok (.bipush 8, 2) := dk_16 8 (dk_at dksX0_triesNew_0 8 rfl rfl)
theorem dX0_triesNew_10 : decode cX0_triesNew 10 = .ok (.invokestatic 155, 3) := dk_184 0 155 (dk_at dksX0_triesNew_0 10 rfl rfl)
theorem dX0_triesNew_13 : decode cX0_triesNew 13 = .ok (.ifCond .eq 15, 3) := dk_153 0 15 (dk_at dksX0_triesNew_0 13 rfl rfl)
theorem dX0_triesNew_16 : decode cX0_triesNew 16 = .ok (.aload_n 0, 1) := dk_42 (dk_at dksX0_triesNew_0 16 rfl rfl)
theorem dX0_triesNew_17 : decode cX0_triesNew 17 = .ok (.aload_n 0, 1) := dk_42 (dk_at dksX0_triesNew_0 17 rfl rfl)
theorem dX0_triesNew_18 : decode cX0_triesNew 18 = .ok (.getfield 77, 3) := dk_180 0 77 (dk_at dksX0_triesNew_0 18 rfl rfl)
theorem dX0_triesNew_21 : decode cX0_triesNew 21 = .ok (.invokevirtual 163, 3) := dk_182 0 163 (dk_at dksX0_triesNew_0 21 rfl rfl)
theorem dX0_triesNew_24 : decode cX0_triesNew 24 = .ok (.iconst (-1), 1) := dk_2 (dk_at dksX0_triesNew_1 0 rfl rfl)
theorem dX0_triesNew_25 : decode cX0_triesNew 25 = .ok (.if_icmp .eq 4, 3) := dk_159 0 4 (dk_at dksX0_triesNew_1 1 rfl rfl)
theorem dX0_triesNew_28 : decode cX0_triesNew 28 = .ok (.return_, 1) := dk_177 (dk_at dksX0_triesNew_1 4 rfl rfl)
theorem dX0_triesNew_29 : decode cX0_triesNew 29 = .ok (.lconst 0, 1) := dk_9 (dk_at dksX0_triesNew_1 5 rfl rfl)
theorem dX0_triesNew_30 : decode cX0_triesNew 30 = .ok (.lstore_n 1, 1) := dk_64 (dk_at dksX0_triesNew_1 6 rfl rfl)
theorem dX0_triesNew_31 : decode cX0_triesNew 31 = .ok (.iconst 0, 1) := dk_3 (dk_at dksX0_triesNew_1 7 rfl rfl)
theorem dX0_triesNew_32 : decode cX0_triesNew 32 = .ok (.istore_n 3, 1) := dk_62 (dk_at dksX0_triesNew_1 8 rfl rfl)
theorem dX0_triesNew_33 : decode cX0_triesNew 33 = .ok (.iconst 0, 1) := dk_3 (dk_at dksX0_triesNew_1 9 rfl rfl)
theorem dX0_triesNew_34 : decode cX0_triesNew 34 = .ok (.istore 4, 2) := dk_54 4 (dk_at dksX0_triesNew_1 10 rfl rfl)
theorem dX0_triesNew_36 : decode cX0_triesNew 36 = .ok (.iload 4, 2) := dk_21 4 (dk_at dksX0_triesNew_1 12 rfl rfl)
theorem dX0_triesNew_38 : decode cX0_triesNew 38 = .ok (.aload_n 0, 1) := dk_42 (dk_at dksX0_triesNew_1 14 rfl rfl)
theorem dX0_triesNew_39 : decode cX0_triesNew 39 = .ok (.getfield 113, 3) := dk_180 0 113 (dk_at dksX0_triesNew_1 15 rfl rfl)
theorem dX0_triesNew_42 : decode cX0_triesNew 42 = .ok (.if_icmp .ge 56, 3) := dk_162 0 56 (dk_at dksX0_triesNew_1 18 rfl rfl)
theorem dX0_triesNew_45 : decode cX0_triesNew 45 = .ok (.aload_n 0, 1) := dk_42 (dk_at dksX0_triesNew_1 21 rfl rfl)
theorem dX0_triesNew_46 : decode cX0_triesNew 46 = .ok (.iload 4, 2) := dk_21 4 (dk_at dksX0_triesNew_1 22 rfl rfl)
theorem dX0_triesNew_48 : decode cX0_triesNew 48 = .ok (.invokevirtual 221, 3) := dk_182 0 221 (dk_at dksX0_triesNew_2 0 rfl rfl)
theorem dX0_triesNew_51 : decode cX0_triesNew 51 = .ok (.ifCond .eq 41, 3) := dk_153 0 41 (dk_at dksX0_triesNew_2 3 rfl rfl)
theorem dX0_triesNew_54 : decode cX0_triesNew 54 = .ok (.aload_n 0, 1) := dk_42 (dk_at dksX0_triesNew_2 6 rfl rfl)
theorem dX0_triesNew_55 : decode cX0_triesNew 55 = .ok (.aload_n 0, 1) := dk_42 (dk_at dksX0_triesNew_2 7 rfl rfl)
theorem dX0_triesNew_56 : decode cX0_triesNew 56 = .ok (.getfield 77, 3) := dk_180 0 77 (dk_at dksX0_triesNew_2 8 rfl rfl)
theorem dX0_triesNew_59 : decode cX0_triesNew 59 = .ok (.aload_n 0, 1) := dk_42 (dk_at dksX0_triesNew_2 11 rfl rfl)
theorem dX0_triesNew_60 : decode cX0_triesNew 60 = .ok (.getfield 11, 3) := dk_180 0 11 (dk_at dksX0_triesNew_2 12 rfl rfl)
theorem dX0_triesNew_63 : decode cX0_triesNew 63 = .ok (.iload 4, 2) := dk_21 4 (dk_at dksX0_triesNew_2 15 rfl rfl)
theorem dX0_triesNew_65 : decode cX0_triesNew 65 = .ok (.aaload, 1) := dk_50 (dk_at dksX0_triesNew_2 17 rfl rfl)
theorem dX0_triesNew_66 : decode cX0_triesNew 66 = .ok (.getfield 148, 3) := dk_180 0 148 (dk_at dksX0_triesNew_2 18 rfl rfl)
theorem dX0_triesNew_69 : decode cX0_triesNew 69 = .ok (.invokevirtual 271, 3) := dk_182 1 15 (dk_at dksX0_triesNew_2 21 rfl rfl)
theorem dX0_triesNew_72 : decode cX0_triesNew 72 = .ok (.ifCond .ne 6, 3) := dk_154 0 6 (dk_at dksX0_triesNew_3 0 rfl rfl)
theorem dX0_triesNew_75 : decode cX0_triesNew 75 = .ok (.goto 17, 3) := dk_167 0 17 (dk_at dksX0_triesNew_3 3 rfl rfl)
theorem dX0_triesNew_78 : decode cX0_triesNew 78 = .ok (.lload_n 1, 1) := dk_31 (dk_at dksX0_triesNew_3 6 rfl rfl)
theorem dX0_triesNew_79 : decode cX0_triesNew 79 = .ok (.lconst 1, 1) := dk_10 (dk_at dksX0_triesNew_3 7 rfl rfl)
theorem dX0_triesNew_80 : decode cX0_triesNew 80 = .ok (.aload_n 0, 1) := dk_42 (dk_at dksX0_triesNew_3 8 rfl rfl)
theorem dX0_triesNew_81 : decode cX0_triesNew 81 = .ok (.iload 4, 2) := dk_21 4 (dk_at dksX0_triesNew_3 9 rfl rfl)
theorem dX0_triesNew_83 : decode cX0_triesNew 83 = .ok (.invokevirtual 264, 3) := dk_182 1 8 (dk_at dksX0_triesNew_3 11 rfl rfl)
theorem dX0_triesNew_86 : decode cX0_triesNew 86 = .ok (.lshl, 1) := dk_121 (dk_at dksX0_triesNew_3 14 rfl rfl)
theorem dX0_triesNew_87 : decode cX0_triesNew 87 = .ok (.lor, 1) := dk_129 (dk_at dksX0_triesNew_3 15 rfl rfl)
theorem dX0_triesNew_88 : decode cX0_triesNew 88 = .ok (.lstore_n 1, 1) := dk_64 (dk_at dksX0_triesNew_3 16 rfl rfl)
theorem dX0_triesNew_89 : decode cX0_triesNew 89 = .ok (.iinc 3 1, 3) := dk_132 3 1 (dk_at dksX0_triesNew_3 17 rfl rfl)
theorem dX0_triesNew_92 : decode cX0_triesNew 92 = .ok (.iinc 4 1, 3) := dk_132 4 1 (dk_at dksX0_triesNew_3 20 rfl rfl)
theorem dX0_triesNew_95 : decode cX0_triesNew 95 = .ok (.goto (-59), 3) := dk_167 255 197 (dk_at dksX0_triesNew_4 0 rfl rfl)
theorem dX0_triesNew_98 : decode cX0_triesNew 98 = .ok (.lload_n 1, 1) := dk_31 (dk_at dksX0_triesNew_4 3 rfl rfl)
theorem dX0_triesNew_99 : decode cX0_triesNew 99 = .ok (.invokestatic 275, 3) := dk_184 1 19 (dk_at dksX0_triesNew_4 4 rfl rfl)
theorem dX0_triesNew_102 : decode cX0_triesNew 102 = .ok (.istore 4, 2) := dk_54 4 (dk_at dksX0_triesNew_4 7 rfl rfl)
theorem dX0_triesNew_104 : decode cX0_triesNew 104 = .ok (.iload 4, 2) := dk_21 4 (dk_at dksX0_triesNew_4 9 rfl rfl)
theorem dX0_triesNew_106 : decode cX0_triesNew 106 = .ok (.aload_n 0, 1) := dk_42 (dk_at dksX0_triesNew_4 11 rfl rfl)
theorem dX0_triesNew_107 : decode cX0_triesNew 107 = .ok (.getfield 281, 3) := dk_180 1 25 (dk_at dksX0_triesNew_4 12 rfl rfl)
theorem dX0_triesNew_110 : decode cX0_triesNew 110 = .ok (.if_icmp .lt 42, 3) := dk_161 0 42 (dk_at dksX0_triesNew_4 15 rfl rfl)
theorem dX0_triesNew_113 : decode cX0_triesNew 113 = .ok (.iload 4, 2) := dk_21 4 (dk_at dksX0_triesNew_4 18 rfl rfl)
theorem dX0_triesNew_115 : decode cX0_triesNew 115 = .ok (.aload_n 0, 1) := dk_42 (dk_at dksX0_triesNew_4 20 rfl rfl)
theorem dX0_triesNew_116 : decode cX0_triesNew 116 = .ok (.getfield 281, 3) := dk_180 1 25 (dk_at dksX0_triesNew_4 21 rfl rfl)
theorem dX0_triesNew_119 : decode cX0_triesNew 119 = .ok (.if_icmp .ne 34, 3) := dk_160 0 34 (dk_at dksX0_triesNew_5 0 rfl rfl)
theorem dX0_triesNew_122 : decode cX0_triesNew 122 = .ok (.iload_n 3, 1) := dk_29 (dk_at dksX0_triesNew_5 3 rfl rfl)
theorem dX0_triesNew_123 : decode cX0_triesNew 123 = .ok (.aload_n 0, 1) := dk_42 (dk_at dksX0_triesNew_5 4 rfl rfl)
theorem dX0_triesNew_124 : decode cX0_triesNew 124 = .ok (.getfield 284, 3) := dk_180 1 28 (dk_at dksX0_triesNew_5 5 rfl rfl)
theorem dX0_triesNew_127 : decode cX0_triesNew 127 = .ok (.if_icmp .lt 25, 3) := dk_161 0 25 (dk_at dksX0_triesNew_5 8 rfl rfl)
theorem dX0_triesNew_130 : decode cX0_triesNew 130 = .ok (.iload_n 3, 1) := dk_29 (dk_at dksX0_triesNew_5 11 rfl rfl)
theorem dX0_triesNew_131 : decode cX0_triesNew 131 = .ok (.aload_n 0, 1) := dk_42 (dk_at dksX0_triesNew_5 12 rfl rfl)
theorem dX0_triesNew_132 : decode cX0_triesNew 132 = .ok (.getfield 284, 3) := dk_180 1 28 (dk_at dksX0_triesNew_5 13 rfl rfl)
theorem dX0_triesNew_135 : decode cX0_triesNew 135 = .ok (.if_icmp .ne 18, 3) := dk_160 0 18 (dk_at dksX0_triesNew_5 16 rfl rfl)
theorem dX0_triesNew_138 : decode cX0_triesNew 138 = .ok (.aload_n 0, 1) := dk_42 (dk_at dksX0_triesNew_5 19 rfl rfl)
theorem dX0_triesNew_139 : decode cX0_triesNew 139 = .ok (.getfield 77, 3) := dk_180 0 77 (dk_at dksX0_triesNew_5 20 rfl rfl)
theorem dX0_triesNew_142 : decode cX0_triesNew 142 = .ok (.aload_n 0, 1) := dk_42 (dk_at dksX0_triesNew_5 23 rfl rfl)
theorem dX0_triesNew_143 : decode cX0_triesNew 143 = .ok (.getfield 80, 3) := dk_180 0 80 (dk_at dksX0_triesNew_6 0 rfl rfl)
theorem dX0_triesNew_146 : decode cX0_triesNew 146 = .ok (.invokevirtual 287, 3) := dk_182 1 31 (dk_at dksX0_triesNew_6 3 rfl rfl)
theorem dX0_triesNew_149 : decode cX0_triesNew 149 = .ok (.ifCond .ne 4, 3) := dk_154 0 4 (dk_at dksX0_triesNew_6 6 rfl rfl)
theorem dX0_triesNew_152 : decode cX0_triesNew 152 = .ok (.return_, 1) := dk_177 (dk_at dksX0_triesNew_6 9 rfl rfl)
theorem dX0_triesNew_153 : decode cX0_triesNew 153 = .ok (.aload_n 0, 1) := dk_42 (dk_at dksX0_triesNew_6 10 rfl rfl)
theorem dX0_triesNew_154 : decode cX0_triesNew 154 = .ok (.iload 4, 2) := dk_21 4 (dk_at dksX0_triesNew_6 11 rfl rfl)
theorem dX0_triesNew_156 : decode cX0_triesNew 156 = .ok (.putfield 281, 3) := dk_181 1 25 (dk_at dksX0_triesNew_6 13 rfl rfl)
theorem dX0_triesNew_159 : decode cX0_triesNew 159 = .ok (.aload_n 0, 1) := dk_42 (dk_at dksX0_triesNew_6 16 rfl rfl)
theorem dX0_triesNew_160 : decode cX0_triesNew 160 = .ok (.iload_n 3, 1) := dk_29 (dk_at dksX0_triesNew_6 17 rfl rfl)
theorem dX0_triesNew_161 : decode cX0_triesNew 161 = .ok (.putfield 284, 3) := dk_181 1 28 (dk_at dksX0_triesNew_6 18 rfl rfl)
theorem dX0_triesNew_164 : decode cX0_triesNew 164 = .ok (.aload_n 0, 1) := dk_42 (dk_at dksX0_triesNew_6 21 rfl rfl)
theorem dX0_triesNew_165 : decode cX0_triesNew 165 = .ok (.getfield 80, 3) := dk_180 0 80 (dk_at dksX0_triesNew_7 0 rfl rfl)
theorem dX0_triesNew_168 : decode cX0_triesNew 168 = .ok (.aload_n 0, 1) := dk_42 (dk_at dksX0_triesNew_7 3 rfl rfl)
theorem dX0_triesNew_169 : decode cX0_triesNew 169 = .ok (.getfield 77, 3) := dk_180 0 77 (dk_at dksX0_triesNew_7 4 rfl rfl)
theorem dX0_triesNew_172 : decode cX0_triesNew 172 = .ok (.invokevirtual 167, 3) := dk_182 0 167 (dk_at dksX0_triesNew_7 7 rfl rfl)
theorem dX0_triesNew_175 : decode cX0_triesNew 175 = .ok (.return_, 1) := dk_177 (dk_at dksX0_triesNew_7 10 rfl rfl)
abbrev cX0_areOneOff : ByteArray := prog_1_method_18_code
def yX0_areOneOff : MethodName := ⟨RX0, "areOneOff", "(LLetterHeaps$Line;LLetterHeaps$Line;)Z"⟩
def dkwX0_areOneOff_4 : List UInt8 := [21, 5, 25, 4, 182, 0, 205, 153, 0, 5, 4, 172, 132, 5, 1, 167, 255, 231, 3, 172]
abbrev dktX0_areOneOff_4 : List UInt8 := dkwX0_areOneOff_4 ++ []
def dkwX0_areOneOff_3 : List UInt8 := [164, 0, 7, 44, 167, 0, 4, 43, 58, 4, 3, 54, 5, 21, 5, 45, 180, 0, 189, 162, 0, 22, 45]
abbrev dktX0_areOneOff_3 : List UInt8 := dkwX0_areOneOff_3 ++ dktX0_areOneOff_4
def dkwX0_areOneOff_2 : List UInt8 := [180, 0, 189, 44, 180, 0, 189, 164, 0, 7, 43, 167, 0, 4, 44, 78, 43, 180, 0, 189, 44, 180, 0, 189]
abbrev dktX0_areOneOff_2 : List UInt8 := dkwX0_areOneOff_2 ++ dktX0_areOneOff_3
def dkwX0_areOneOff_1 : List UInt8 := [5, 160, 0, 20, 42, 43, 44, 42, 180, 0, 194, 182, 0, 201, 153, 0, 7, 4, 167, 0, 4, 3, 172, 43]
abbrev dktX0_areOneOff_1 : List UInt8 := dkwX0_areOneOff_1 ++ dktX0_areOneOff_2
def dkwX0_areOneOff_0 : List UInt8 := [43, 180, 0, 189, 44, 180, 0, 189, 160, 0, 39, 42, 43, 44, 182, 0, 197, 62, 29, 4, 159, 0, 21, 29]
abbrev dktX0_areOneOff_0 : List UInt8 := dkwX0_areOneOff_0 ++ dktX0_areOneOff_1
theorem dksX0_areOneOff_0 : cX0_areOneOff.data.toList.drop 0 = dktX0_areOneOff_0 := by decide +kernel
theorem dksX0_areOneOff_1 : cX0_areOneOff.data.toList.drop 24 = dktX0_areOneOff_1 := dk_seg dksX0_areOneOff_0 24 rfl rfl
theorem dksX0_areOneOff_2 : cX0_areOneOff.data.toList.drop 48 = dktX0_areOneOff_2 := dk_seg dksX0_areOneOff_1 24 rfl rfl
theorem dksX0_areOneOff_3 : cX0_areOneOff.data.toList.drop 72 = dktX0_areOneOff_3 := dk_seg dksX0_areOneOff_2 24 rfl rfl
theorem dksX0_areOneOff_4 : cX0_areOneOff.data.toList.drop 95 = dktX0_areOneOff_4 := dk_seg dksX0_areOneOff_3 23 rfl rfl
theorem dX0_areOneOff_0 : decode cX0_areOneOff 0 = .ok (.aload_n 1, 1) := dk_43 (dk_at dksX0_areOneOff_0 0 rfl rfl)
theorem dX0_areOneOff_1 : decode cX0_areOneOff 1 = .ok (.getfield 189, 3) := dk_180 0 189 (dk_at dksX0_areOneOff_0 1 rfl rfl)
theorem dX0_areOneOff_4 : decode cX0_areOneOff 4 = .ok (.aload_n 2, 1) := dk_44 (dk_at dksX0_areOneOff_0 4 rfl rfl)
theorem dX0_areOneOff_5 : decode cX0_areOneOff 5 = .ok (.getfield 189, 3) := dk_180 0 189 (dk_at dksX0_areOneOff_0 5 rfl rfl)
theorem dX0_areOneOff_8 : decode cX0_areOneOff 8 = .ok (.if_icmp .ne 39, 3) := dk_160 0 39 (dk_at dksX0_areOneOff_0 8 rfl rfl)
theorem dX0_areOneOff_11 : decode cX0_areOneOff 11 = .ok (.aload_n 0, 1) := dk_42 (dk_at dksX0_areOneOff_0 11 rfl rfl)
theorem dX0_areOneOff_12 : decode cX0_areOneOff 12 = .ok (.aload_n 1, 1) := dk_43 (dk_at dksX0_areOneOff_0 12 rfl rfl)
theorem dX0_areOneOff_13 : decode cX0_areOneOff 13 = .ok (.aload_n 2, 1) := dk_44 (dk_at dksX0_areOneOff_0 13 rfl rfl)
theorem dX0_areOneOff_14 : decode cX0_areOneOff 14 = .ok (.invokevirtual 197, 3) := dk_182 0 197 (dk_at dksX0_areOneOff_0 14 rfl rfl)
theorem dX0_areOneOff_17 : decode cX0_areOneOff 17 = .ok (.istore_n 3, 1) := dk_62 (dk_at dksX0_areOneOff_0 17 rfl rfl)
theorem dX0_areOneOff_18 : decode cX0_areOneOff 18 = .ok (.iload_n 3, 1) := dk_29 (dk_at dksX0_areOneOff_0 18 rfl rfl)
theorem dX0_areOneOff_19 : decode cX0_areOneOff 19 = .ok (.iconst 1, 1) := dk_4 (dk_at dksX0_areOneOff_0 19 rfl rfl)
theorem dX0_areOneOff_20 : decode cX0_areOneOff 20 = .ok (.if_icmp .eq 21, 3) := dk_159 0 21 (dk_at dksX0_areOneOff_0 20 rfl rfl)
theorem dX0_areOneOff_23 : decode cX0_areOneOff 23 = .ok (.iload_n 3, 1) := dk_29 (dk_at dksX0_areOneOff_0 23 rfl rfl)
theorem dX0_areOneOff_24 : decode cX0_areOneOff 24 = .ok (.iconst 2, 1) := dk_5 (dk_at dksX0_areOneOff_1 0 rfl rfl)
theorem dX0_areOneOff_25 : decode cX0_areOneOff 25 = .ok (.if_icmp .ne 20, 3) := dk_160 0 20 (dk_at dksX0_areOneOff_1 1 rfl rfl)
theorem dX0_areOneOff_28 : decode cX0_areOneOff 28 = .ok (.aload_n 0, 1) := dk_42 (dk_at dksX0_areOneOff_1 4 rfl rfl)
theorem dX0_areOneOff_29 : decode cX0_areOneOff 29 = .ok (.aload_n 1, 1) := dk_43 (dk_at dksX0_areOneOff_1 5 rfl rfl)
theorem dX0_areOneOff_30 : decode cX0_areOneOff 30 = .ok (.aload_n 2, 1) := dk_44 (dk_at dksX0_areOneOff_1 6 rfl rfl)
theorem dX0_areOneOff_31 : decode cX0_areOneOff 31 = .ok (.aload_n 0, 1) := dk_42 (dk_at dksX0_areOneOff_1 7 rfl rfl)
theorem dX0_areOneOff_32 : decode cX0_areOneOff 32 = .ok (.getfield 194, 3) := dk_180 0 194 (dk_at dksX0_areOneOff_1 8 rfl rfl)
theorem dX0_areOneOff_35 : decode cX0_areOneOff 35 = .ok (.invokevirtual 201, 3) := dk_182 0 201 (dk_at dksX0_areOneOff_1 11 rfl rfl)
theorem dX0_areOneOff_38 : decode cX0_areOneOff 38 = .ok (.ifCond .eq 7, 3) := dk_153 0 7 (dk_at dksX0_areOneOff_1 14 rfl rfl)
theorem dX0_areOneOff_41 : decode cX0_areOneOff 41 = .ok (.iconst 1, 1) := dk_4 (dk_at dksX0_areOneOff_1 17 rfl rfl)
theorem dX0_areOneOff_42 : decode cX0_areOneOff 42 = .ok (.goto 4, 3) := dk_167 0 4 (dk_at dksX0_areOneOff_1 18 rfl rfl)
theorem dX0_areOneOff_45 : decode cX0_areOneOff 45 = .ok (.iconst 0, 1) := dk_3 (dk_at dksX0_areOneOff_1 21 rfl rfl)
theorem dX0_areOneOff_46 : decode cX0_areOneOff 46 = .ok (.ireturn, 1) := dk_172 (dk_at dksX0_areOneOff_1 22 rfl rfl)
theorem dX0_areOneOff_47 : decode cX0_areOneOff 47 = .ok (.aload_n 1, 1) := dk_43 (dk_at dksX0_areOneOff_1 23 rfl rfl)
theorem dX0_areOneOff_48 : decode cX0_areOneOff 48 = .ok (.getfield 189, 3) := dk_180 0 189 (dk_at dksX0_areOneOff_2 0 rfl rfl)
theorem dX0_areOneOff_51 : decode cX0_areOneOff 51 = .ok (.aload_n 2, 1) := dk_44 (dk_at dksX0_areOneOff_2 3 rfl rfl)
theorem dX0_areOneOff_52 : decode cX0_areOneOff 52 = .ok (.getfield 189, 3) := dk_180 0 189 (dk_at dksX0_areOneOff_2 4 rfl rfl)
theorem dX0_areOneOff_55 : decode cX0_areOneOff 55 = .ok (.if_icmp .le 7, 3) := dk_164 0 7 (dk_at dksX0_areOneOff_2 7 rfl rfl)
theorem dX0_areOneOff_58 : decode cX0_areOneOff 58 = .ok (.aload_n 1, 1) := dk_43 (dk_at dksX0_areOneOff_2 10 rfl rfl)
theorem dX0_areOneOff_59 : decode cX0_areOneOff 59 = .ok (.goto 4, 3) := dk_167 0 4 (dk_at dksX0_areOneOff_2 11 rfl rfl)
theorem dX0_areOneOff_62 : decode cX0_areOneOff 62 = .ok (.aload_n 2, 1) := dk_44 (dk_at dksX0_areOneOff_2 14 rfl rfl)
theorem dX0_areOneOff_63 : decode cX0_areOneOff 63 = .ok (.astore_n 3, 1) := dk_78 (dk_at dksX0_areOneOff_2 15 rfl rfl)
theorem dX0_areOneOff_64 : decode cX0_areOneOff 64 = .ok (.aload_n 1, 1) := dk_43 (dk_at dksX0_areOneOff_2 16 rfl rfl)
theorem dX0_areOneOff_65 : decode cX0_areOneOff 65 = .ok (.getfield 189, 3) := dk_180 0 189 (dk_at dksX0_areOneOff_2 17 rfl rfl)
theorem dX0_areOneOff_68 : decode cX0_areOneOff 68 = .ok (.aload_n 2, 1) := dk_44 (dk_at dksX0_areOneOff_2 20 rfl rfl)
theorem dX0_areOneOff_69 : decode cX0_areOneOff 69 = .ok (.getfield 189, 3) := dk_180 0 189 (dk_at dksX0_areOneOff_2 21 rfl rfl)
theorem dX0_areOneOff_72 : decode cX0_areOneOff 72 = .ok (.if_icmp .le 7, 3) := dk_164 0 7 (dk_at dksX0_areOneOff_3 0 rfl rfl)
theorem dX0_areOneOff_75 : decode cX0_areOneOff 75 = .ok (.aload_n 2, 1) := dk_44 (dk_at dksX0_areOneOff_3 3 rfl rfl)
theorem dX0_areOneOff_76 : decode cX0_areOneOff 76 = .ok (.goto 4, 3) := dk_167 0 4 (dk_at dksX0_areOneOff_3 4 rfl rfl)
theorem dX0_areOneOff_79 : decode cX0_areOneOff 79 = .ok (.aload_n 1, 1) := dk_43 (dk_at dksX0_areOneOff_3 7 rfl rfl)
theorem dX0_areOneOff_80 : decode cX0_areOneOff 80 = .ok (.astore 4, 2) := dk_58 4 (dk_at dksX0_areOneOff_3 8 rfl rfl)
theorem dX0_areOneOff_82 : decode cX0_areOneOff 82 = .ok (.iconst 0, 1) := dk_3 (dk_at dksX0_areOneOff_3 10 rfl rfl)
theorem dX0_areOneOff_83 : decode cX0_areOneOff 83 = .ok (.istore 5, 2) := dk_54 5 (dk_at dksX0_areOneOff_3 11 rfl rfl)
theorem dX0_areOneOff_85 : decode cX0_areOneOff 85 = .ok (.iload 5, 2) := dk_21 5 (dk_at dksX0_areOneOff_3 13 rfl rfl)
theorem dX0_areOneOff_87 : decode cX0_areOneOff 87 = .ok (.aload_n 3, 1) := dk_45 (dk_at dksX0_areOneOff_3 15 rfl rfl)
theorem dX0_areOneOff_88 : decode cX0_areOneOff 88 = .ok (.getfield 189, 3) := dk_180 0 189 (dk_at dksX0_areOneOff_3 16 rfl rfl)
theorem dX0_areOneOff_91 : decode cX0_areOneOff 91 = .ok (.if_icmp .ge 22, 3) := dk_162 0 22 (dk_at dksX0_areOneOff_3 19 rfl rfl)
theorem dX0_areOneOff_94 : decode cX0_areOneOff 94 = .ok (.aload_n 3, 1) := dk_45 (dk_at dksX0_areOneOff_3 22 rfl rfl)
theorem dX0_areOneOff_95 : decode cX0_areOneOff 95 = .ok (.iload 5, 2) := dk_21 5 (dk_at dksX0_areOneOff_4 0 rfl rfl)
theorem dX0_areOneOff_97 : decode cX0_areOneOff 97 = .ok (.aload 4, 2) := dk_25 4 (dk_at dksX0_areOneOff_4 2 rfl rfl)
theorem dX0_areOneOff_99 : decode cX0_areOneOff 99 = .ok (.invokevirtual 205, 3) := dk_182 0 205 (dk_at dksX0_areOneOff_4 4 rfl rfl)
theorem dX0_areOneOff_102 : decode cX0_areOneOff 102 = .ok (.ifCond .eq 5, 3) := dk_153 0 5 (dk_at dksX0_areOneOff_4 7 rfl rfl)
theorem dX0_areOneOff_105 : decode cX0_areOneOff 105 = .ok (.iconst 1, 1) := dk_4 (dk_at dksX0_areOneOff_4 10 rfl rfl)
theorem dX0_areOneOff_106 : decode cX0_areOneOff 106 = .ok (.ireturn, 1) := dk_172 (dk_at dksX0_areOneOff_4 11 rfl rfl)
theorem dX0_areOneOff_107 : decode cX0_areOneOff 107 = .ok (.iinc 5 1, 3) := dk_132 5 1 (dk_at dksX0_areOneOff_4 12 rfl rfl)
theorem dX0_areOneOff_110 : decode cX0_areOneOff 110 = .ok (.goto (-25), 3) := dk_167 255 231 (dk_at dksX0_areOneOff_4 15 rfl rfl)
theorem dX0_areOneOff_113 : decode cX0_areOneOff 113 = .ok (.iconst 0, 1) := dk_3 (dk_at dksX0_areOneOff_4 18 rfl rfl)
theorem dX0_areOneOff_114 : decode cX0_areOneOff 114 = .ok (.ireturn, 1) := dk_172 (dk_at dksX0_areOneOff_4 19 rfl rfl)
abbrev cX0_triesFewer : ByteArray := prog_1_method_40_code
def yX0_triesFewer : MethodName := ⟨RX0, "triesFewer", "(LLetterHeaps$Line;I)V"⟩
def dkwX0_triesFewer_1 : List UInt8 := [180, 0, 77, 43, 180, 0, 191, 29, 46, 182, 0, 145, 132, 3, 1, 167, 255, 227, 42, 182, 1, 34, 177]
abbrev dktX0_triesFewer_1 : List UInt8 := dkwX0_triesFewer_1 ++ []
def dkwX0_triesFewer_0 : List UInt8 := [42, 180, 0, 77, 182, 0, 142, 3, 62, 29, 43, 180, 0, 189, 162, 0, 27, 29, 28, 159, 0, 16, 42]
abbrev dktX0_triesFewer_0 : List UInt8 := dkwX0_triesFewer_0 ++ dktX0_triesFewer_1
theorem dksX0_triesFewer_0 : cX0_triesFewer.data.toList.drop 0 = dktX0_triesFewer_0 := by decide +kernel
theorem dksX0_triesFewer_1 : cX0_triesFewer.data.toList.drop 23 = dktX0_triesFewer_1 := dk_seg dksX0_triesFewer_0 23 rfl rfl
theorem dX0_triesFewer_0 : decode cX0_triesFewer 0 = .ok (.aload_n 0, 1) := dk_42 (dk_at dksX0_triesFewer_0 0 rfl rfl)
theorem dX0_triesFewer_1 : decode cX0_triesFewer 1 = .ok (.getfield 77, 3) := dk_180 0 77 (dk_at dksX0_triesFewer_0 1 rfl rfl)
theorem dX0_triesFewer_4 : decode cX0_triesFewer 4 = .ok (.invokevirtual 142, 3) := dk_182 0 142 (dk_at dksX0_triesFewer_0 4 rfl rfl)
theorem dX0_triesFewer_7 : decode cX0_triesFewer 7 = .ok (.iconst 0, 1) := dk_3 (dk_at dksX0_triesFewer_0 7 rfl rfl)
theorem dX0_triesFewer_8 : decode cX0_triesFewer 8 = .ok (.istore_n 3, 1) := dk_62 (dk_at dksX0_triesFewer_0 8 rfl rfl)
theorem dX0_triesFewer_9 : decode cX0_triesFewer 9 = .ok (.iload_n 3, 1) := dk_29 (dk_at dksX0_triesFewer_0 9 rfl rfl)
theorem dX0_triesFewer_10 : decode cX0_triesFewer 10 = .ok (.aload_n 1, 1) := dk_43 (dk_at dksX0_triesFewer_0 10 rfl rfl)
theorem dX0_triesFewer_11 : decode cX0_triesFewer 11 = .ok (.getfield 189, 3) := dk_180 0 189 (dk_at dksX0_triesFewer_0 11 rfl rfl)
theorem dX0_triesFewer_14 : decode cX0_triesFewer 14 = .ok (.if_icmp .ge 27, 3) := dk_162 0 27 (dk_at dksX0_triesFewer_0 14 rfl rfl)
theorem dX0_triesFewer_17 : decode cX0_triesFewer 17 = .ok (.iload_n 3, 1) := dk_29 (dk_at dksX0_triesFewer_0 17 rfl rfl)
theorem dX0_triesFewer_18 : decode cX0_triesFewer 18 = .ok (.iload_n 2, 1) := dk_28 (dk_at dksX0_triesFewer_0 18 rfl rfl)
theorem dX0_triesFewer_19 : decode cX0_triesFewer 19 = .ok (.if_icmp .eq 16, 3) := dk_159 0 16 (dk_at dksX0_triesFewer_0 19 rfl rfl)
theorem dX0_triesFewer_22 : decode cX0_triesFewer 22 = .ok (.aload_n 0, 1) := dk_42 (dk_at dksX0_triesFewer_0 22 rfl rfl)
theorem dX0_triesFewer_23 : decode cX0_triesFewer 23 = .ok (.getfield 77, 3) := dk_180 0 77 (dk_at dksX0_triesFewer_1 0 rfl rfl)
theorem dX0_triesFewer_26 : decode cX0_triesFewer 26 = .ok (.aload_n 1, 1) := dk_43 (dk_at dksX0_triesFewer_1 3 rfl rfl)
theorem dX0_triesFewer_27 : decode cX0_triesFewer 27 = .ok (.getfield 191, 3) := dk_180 0 191 (dk_at dksX0_triesFewer_1 4 rfl rfl)
theorem dX0_triesFewer_30 : decode cX0_triesFewer 30 = .ok (.iload_n 3, 1) := dk_29 (dk_at dksX0_triesFewer_1 7 rfl rfl)
theorem dX0_triesFewer_31 : decode cX0_triesFewer 31 = .ok (.iaload, 1) := dk_46 (dk_at dksX0_triesFewer_1 8 rfl rfl)
theorem dX0_triesFewer_32 : decode cX0_triesFewer 32 = .ok (.invokevirtual 145, 3) := dk_182 0 145 (dk_at dksX0_triesFewer_1 9 rfl rfl)
theorem dX0_triesFewer_35 : decode cX0_triesFewer 35 = .ok (.iinc 3 1, 3) := dk_132 3 1 (dk_at dksX0_triesFewer_1 12 rfl rfl)
theorem dX0_triesFewer_38 : decode cX0_triesFewer 38 = .ok (.goto (-29), 3) := dk_167 255 227 (dk_at dksX0_triesFewer_1 15 rfl rfl)
theorem dX0_triesFewer_41 : decode cX0_triesFewer 41 = .ok (.aload_n 0, 1) := dk_42 (dk_at dksX0_triesFewer_1 18 rfl rfl)
theorem dX0_triesFewer_42 : decode cX0_triesFewer 42 = .ok (.invokevirtual 290, 3) := dk_182 1 34 (dk_at dksX0_triesFewer_1 19 rfl rfl)
theorem dX0_triesFewer_45 : decode cX0_triesFewer 45 = .ok (.return_, 1) := dk_177 (dk_at dksX0_triesFewer_1 22 rfl rfl)
abbrev cX0_triesAbout : ByteArray := prog_1_method_41_code
def yX0_triesAbout : MethodName := ⟨RX0, "triesAbout", "(LLetterHeaps$Line;I)V"⟩
def dkwX0_triesAbout_1 : List UInt8 := [79, 42, 180, 0, 77, 180, 0, 191, 28, 4, 96, 43, 180, 0, 191, 28, 46, 79, 42, 182, 1, 34, 177]
abbrev dktX0_triesAbout_1 : List UInt8 := dkwX0_triesAbout_1 ++ []
def dkwX0_triesAbout_0 : List UInt8 := [42, 180, 0, 77, 43, 182, 0, 167, 42, 180, 0, 77, 180, 0, 191, 28, 43, 180, 0, 191, 28, 4, 96, 46]
abbrev dktX0_triesAbout_0 : List UInt8 := dkwX0_triesAbout_0 ++ dktX0_triesAbout_1
theorem dksX0_triesAbout_0 : cX0_triesAbout.data.toList.drop 0 = dktX0_triesAbout_0 := by decide +kernel
theorem dksX0_triesAbout_1 : cX0_triesAbout.data.toList.drop 24 = dktX0_triesAbout_1 := dk_seg dksX0_triesAbout_0 24 rfl rfl
theorem dX0_triesAbout_0 : decode cX0_triesAbout 0 = .ok (.aload_n 0, 1) := dk_42 (dk_at dksX0_triesAbout_0 0 rfl rfl)
theorem dX0_triesAbout_1 : decode cX0_triesAbout 1 = .ok (.getfield 77, 3) := dk_180 0 77 (dk_at dksX0_triesAbout_0 1 rfl rfl)
theorem dX0_triesAbout_4 : decode cX0_triesAbout 4 = .ok (.aload_n 1, 1) := dk_43 (dk_at dksX0_triesAbout_0 4 rfl rfl)
theorem dX0_triesAbout_5 : decode cX0_triesAbout 5 = .ok (.invokevirtual 167, 3) := dk_182 0 167 (dk_at dksX0_triesAbout_0 5 rfl rfl)
theorem dX0_triesAbout_8 : decode cX0_triesAbout 8 = .ok (.aload_n 0, 1) := dk_42 (dk_at dksX0_triesAbout_0 8 rfl rfl)
theorem dX0_triesAbout_9 : decode cX0_triesAbout 9 = .ok (.getfield 77, 3) := dk_180 0 77 (dk_at dksX0_triesAbout_0 9 rfl rfl)
theorem dX0_triesAbout_12 : decode cX0_triesAbout 12 = .ok (.getfield 191, 3) := dk_180 0 191 (dk_at dksX0_triesAbout_0 12 rfl rfl)
theorem dX0_triesAbout_15 : decode cX0_triesAbout 15 = .ok (.iload_n 2, 1) := dk_28 (dk_at dksX0_triesAbout_0 15 rfl rfl)
theorem dX0_triesAbout_16 : decode cX0_triesAbout 16 = .ok (.aload_n 1, 1) := dk_43 (dk_at dksX0_triesAbout_0 16 rfl rfl)
theorem dX0_triesAbout_17 : decode cX0_triesAbout 17 = .ok (.getfield 191, 3) := dk_180 0 191 (dk_at dksX0_triesAbout_0 17 rfl rfl)
theorem dX0_triesAbout_20 : decode cX0_triesAbout 20 = .ok (.iload_n 2, 1) := dk_28 (dk_at dksX0_triesAbout_0 20 rfl rfl)
theorem dX0_triesAbout_21 : decode cX0_triesAbout 21 = .ok (.iconst 1, 1) := dk_4 (dk_at dksX0_triesAbout_0 21 rfl rfl)
theorem dX0_triesAbout_22 : decode cX0_triesAbout 22 = .ok (.iadd, 1) := dk_96 (dk_at dksX0_triesAbout_0 22 rfl rfl)
theorem dX0_triesAbout_23 : decode cX0_triesAbout 23 = .ok (.iaload, 1) := dk_46 (dk_at dksX0_triesAbout_0 23 rfl rfl)
theorem dX0_triesAbout_24 : decode cX0_triesAbout 24 = .ok (.iastore, 1) := dk_79 (dk_at dksX0_triesAbout_1 0 rfl rfl)
theorem dX0_triesAbout_25 : decode cX0_triesAbout 25 = .ok (.aload_n 0, 1) := dk_42 (dk_at dksX0_triesAbout_1 1 rfl rfl)
theorem dX0_triesAbout_26 : decode cX0_triesAbout 26 = .ok (.getfield 77, 3) := dk_180 0 77 (dk_at dksX0_triesAbout_1 2 rfl rfl)
theorem dX0_triesAbout_29 : decode cX0_triesAbout 29 = .ok (.getfield 191, 3) := dk_180 0 191 (dk_at dksX0_triesAbout_1 5 rfl rfl)
theorem dX0_triesAbout_32 : decode cX0_triesAbout 32 = .ok (.iload_n 2, 1) := dk_28 (dk_at dksX0_triesAbout_1 8 rfl rfl)
theorem dX0_triesAbout_33 : decode cX0_triesAbout 33 = .ok (.iconst 1, 1) := dk_4 (dk_at dksX0_triesAbout_1 9 rfl rfl)
theorem dX0_triesAbout_34 : decode cX0_triesAbout 34 = .ok (.iadd, 1) := dk_96 (dk_at dksX0_triesAbout_1 10 rfl rfl)
theorem dX0_triesAbout_35 : decode cX0_triesAbout 35 = .ok (.aload_n 1, 1) := dk_43 (dk_at dksX0_triesAbout_1 11 rfl rfl)
theorem dX0_triesAbout_36 : decode cX0_triesAbout 36 = .ok (.getfield 191, 3) := dk_180 0 191 (dk_at dksX0_triesAbout_1 12 rfl rfl)
theorem dX0_triesAbout_39 : decode cX0_triesAbout 39 = .ok (.iload_n 2, 1) := dk_28 (dk_at dksX0_triesAbout_1 15 rfl rfl)
theorem dX0_triesAbout_40 : decode cX0_triesAbout 40 = .ok (.iaload, 1) := dk_46 (dk_at dksX0_triesAbout_1 16 rfl rfl)
theorem dX0_triesAbout_41 : decode cX0_triesAbout 41 = .ok (.iastore, 1) := dk_79 (dk_at dksX0_triesAbout_1 17 rfl rfl)
theorem dX0_triesAbout_42 : decode cX0_triesAbout 42 = .ok (.aload_n 0, 1) := dk_42 (dk_at dksX0_triesAbout_1 18 rfl rfl)
theorem dX0_triesAbout_43 : decode cX0_triesAbout 43 = .ok (.invokevirtual 290, 3) := dk_182 1 34 (dk_at dksX0_triesAbout_1 19 rfl rfl)
theorem dX0_triesAbout_46 : decode cX0_triesAbout 46 = .ok (.return_, 1) := dk_177 (dk_at dksX0_triesAbout_1 22 rfl rfl)
abbrev cX0_walks : ByteArray := prog_1_method_43_code
def yX0_walks : MethodName := ⟨RX0, "walks", "(III)J"⟩
def dkwX0_walks_9 : List UInt8 := [50, 28, 47, 167, 0, 4, 9, 173]
abbrev dktX0_walks_9 : List UInt8 := dkwX0_walks_9 ++ []
def dkwX0_walks_8 : List UInt8 := [167, 255, 202, 132, 4, 1, 167, 255, 139, 42, 28, 182, 0, 221, 153, 0, 16, 42, 180, 0, 85, 29, 5, 112]
abbrev dktX0_walks_8 : List UInt8 := dkwX0_walks_8 ++ dktX0_walks_9
def dkwX0_walks_7 : List UInt8 := [25, 6, 21, 8, 92, 47, 25, 5, 21, 7, 47, 97, 80, 132, 8, 1, 167, 255, 220, 132, 7, 1]
abbrev dktX0_walks_7 : List UInt8 := dkwX0_walks_7 ++ dktX0_walks_8
def dkwX0_walks_6 : List UInt8 := [3, 54, 8, 21, 8, 42, 180, 0, 113, 162, 0, 33, 42, 21, 7, 21, 8, 182, 0, 244, 153, 0, 16]
abbrev dktX0_walks_6 : List UInt8 := dkwX0_walks_6 ++ dktX0_walks_7
def dkwX0_walks_5 : List UInt8 := [25, 6, 21, 7, 9, 80, 132, 7, 1, 167, 255, 238, 3, 54, 7, 21, 7, 42, 180, 0, 113, 162, 0, 51]
abbrev dktX0_walks_5 : List UInt8 := dkwX0_walks_5 ++ dktX0_walks_6
def dkwX0_walks_4 : List UInt8 := [180, 0, 85, 4, 21, 4, 5, 112, 100, 50, 58, 6, 3, 54, 7, 21, 7, 42, 180, 0, 113, 162, 0, 15]
abbrev dktX0_walks_4 : List UInt8 := dkwX0_walks_4 ++ dktX0_walks_5
def dkwX0_walks_3 : List UInt8 := [167, 255, 216, 3, 54, 4, 21, 4, 29, 162, 0, 117, 42, 180, 0, 85, 21, 4, 5, 112, 50, 58, 5, 42]
abbrev dktX0_walks_3 : List UInt8 := dkwX0_walks_3 ++ dktX0_walks_4
def dkwX0_walks_2 : List UInt8 := [21, 4, 27, 160, 0, 15, 42, 27, 182, 0, 221, 153, 0, 7, 10, 167, 0, 4, 9, 80, 132, 4, 1]
abbrev dktX0_walks_2 : List UInt8 := dkwX0_walks_2 ++ dktX0_walks_3
def dkwX0_walks_1 : List UInt8 := [182, 0, 241, 3, 54, 4, 21, 4, 42, 180, 0, 113, 162, 0, 37, 42, 180, 0, 85, 3, 50, 21, 4]
abbrev dktX0_walks_1 : List UInt8 := dkwX0_walks_1 ++ dktX0_walks_2
def dkwX0_walks_0 : List UInt8 := [42, 27, 28, 182, 0, 238, 153, 0, 13, 29, 3, 16, 10, 184, 0, 155, 154, 0, 7, 20, 1, 1, 173, 42]
abbrev dktX0_walks_0 : List UInt8 := dkwX0_walks_0 ++ dktX0_walks_1
theorem dksX0_walks_0 : cX0_walks.data.toList.drop 0 = dktX0_walks_0 := by decide +kernel
theorem dksX0_walks_1 : cX0_walks.data.toList.drop 24 = dktX0_walks_1 := dk_seg dksX0_walks_0 24 rfl rfl
theorem dksX0_walks_2 : cX0_walks.data.toList.drop 47 = dktX0_walks_2 := dk_seg dksX0_walks_1 23 rfl rfl
theorem dksX0_walks_3 : cX0_walks.data.toList.drop 70 = dktX0_walks_3 := dk_seg dksX0_walks_2 23 rfl rfl
theorem dksX0_walks_4 : cX0_walks.data.toList.drop 94 = dktX0_walks_4 := dk_seg dksX0_walks_3 24 rfl rfl
theorem dksX0_walks_5 : cX0_walks.data.toList.drop 118 = dktX0_walks_5 := dk_seg dksX0_walks_4 24 rfl rfl
theorem dksX0_walks_6 : cX0_walks.data.toList.drop 142 = dktX0_walks_6 := dk_seg dksX0_walks_5 24 rfl rfl
theorem dksX0_walks_7 : cX0_walks.data.toList.drop 165 = dktX0_walks_7 := dk_seg dksX0_walks_6 23 rfl rfl
theorem dksX0_walks_8 : cX0_walks.data.toList.drop 187 = dktX0_walks_8 := dk_seg dksX0_walks_7 22 rfl rfl
theorem dksX0_walks_9 : cX0_walks.data.toList.drop 211 = dktX0_walks_9 := dk_seg dksX0_walks_8 24 rfl rfl
theorem dX0_walks_0 : decode cX0_walks 0 = .ok (.aload_n 0, 1) := dk_42 (dk_at dksX0_walks_0 0 rfl rfl)
theorem dX0_walks_1 : decode cX0_walks 1 = .ok (.iload_n 1, 1) := dk_27 (dk_at dksX0_walks_0 1 rfl rfl)
theorem dX0_walks_2 : decode cX0_walks 2 = .ok (.iload_n 2, 1) := dk_28 (dk_at dksX0_walks_0 2 rfl rfl)
theorem dX0_walks_3 : decode cX0_walks 3 = .ok (.invokevirtual 238, 3) := dk_182 0 238 (dk_at dksX0_walks_0 3 rfl rfl)
theorem dX0_walks_6 : decode cX0_walks 6 = .ok (.ifCond .eq 13, 3) := dk_153 0 13 (dk_at dksX0_walks_0 6 rfl rfl)
theorem dX0_walks_9 : decode cX0_walks 9 = .ok (.iload_n 3, 1) := dk_29 (dk_at dksX0_walks_0 9 rfl rfl)
theorem dX0_walks_10 : decode cX0_walks 10 = .ok (.iconst 0, 1) := dk_3 (dk_at dksX0_walks_0 10 rfl rfl)
theorem dX0_walks_11 : decode cX0_walks 11 = .ok (.bipush 10, 2) := dk_16 10 (dk_at dksX0_walks_0 11 rfl rfl)
theorem dX0_walks_13 : decode cX0_walks 13 = .ok (.invokestatic 155, 3) := dk_184 0 155 (dk_at dksX0_walks_0 13 rfl rfl)
theorem dX0_walks_16 : decode cX0_walks 16 = .ok (.ifCond .ne 7, 3) := dk_154 0 7 (dk_at dksX0_walks_0 16 rfl rfl)
theorem dX0_walks_19 : decode cX0_walks 19 = .ok (.ldc2_w 257, 3) := dk_20 1 1 (dk_at dksX0_walks_0 19 rfl rfl)
theorem dX0_walks_22 : decode cX0_walks 22 = .ok (.lreturn, 1) := dk_173 (dk_at dksX0_walks_0 22 rfl rfl)
theorem dX0_walks_23 : decode cX0_walks 23 = .ok (.aload_n 0, 1) := dk_42 (dk_at dksX0_walks_0 23 rfl rfl)
theorem dX0_walks_24 : decode cX0_walks 24 = .ok (.invokevirtual 241, 3) := dk_182 0 241 (dk_at dksX0_walks_1 0 rfl rfl)
theorem dX0_walks_27 : decode cX0_walks 27 = .ok (.iconst 0, 1) := dk_3 (dk_at dksX0_walks_1 3 rfl rfl)
theorem dX0_walks_28 : decode cX0_walks 28 = .ok (.istore 4, 2) := dk_54 4 (dk_at dksX0_walks_1 4 rfl rfl)
theorem dX0_walks_30 : decode cX0_walks 30 = .ok (.iload 4, 2) := dk_21 4 (dk_at dksX0_walks_1 6 rfl rfl)
theorem dX0_walks_32 : decode cX0_walks 32 = .ok (.aload_n 0, 1) := dk_42 (dk_at dksX0_walks_1 8 rfl rfl)
theorem dX0_walks_33 : decode cX0_walks 33 = .ok (.getfield 113, 3) := dk_180 0 113 (dk_at dksX0_walks_1 9 rfl rfl)
theorem dX0_walks_36 : decode cX0_walks 36 = .ok (.if_icmp .ge 37, 3) := dk_162 0 37 (dk_at dksX0_walks_1 12 rfl rfl)
theorem dX0_walks_39 : decode cX0_walks 39 = .ok (.aload_n 0, 1) := dk_42 (dk_at dksX0_walks_1 15 rfl rfl)
theorem dX0_walks_40 : decode cX0_walks 40 = .ok (.getfield 85, 3) := dk_180 0 85 (dk_at dksX0_walks_1 16 rfl rfl)
theorem dX0_walks_43 : decode cX0_walks 43 = .ok (.iconst 0, 1) := dk_3 (dk_at dksX0_walks_1 19 rfl rfl)
theorem dX0_walks_44 : decode cX0_walks 44 = .ok (.aaload, 1) := dk_50 (dk_at dksX0_walks_1 20 rfl rfl)
theorem dX0_walks_45 : decode cX0_walks 45 = .ok (.iload 4, 2) := dk_21 4 (dk_at dksX0_walks_1 21 rfl rfl)
theorem dX0_walks_47 : decode cX0_walks 47 = .ok (.iload 4, 2) := dk_21 4 (dk_at dksX0_walks_2 0 rfl rfl)
theorem dX0_walks_49 : decode cX0_walks 49 = .ok (.iload_n 1, 1) := dk_27 (dk_at dksX0_walks_2 2 rfl rfl)
theorem dX0_walks_50 : decode cX0_walks 50 = .ok (.if_icmp .ne 15, 3) := dk_160 0 15 (dk_at dksX0_walks_2 3 rfl rfl)
theorem dX0_walks_53 : decode cX0_walks 53 = .ok (.aload_n 0, 1) := dk_42 (dk_at dksX0_walks_2 6 rfl rfl)
theorem dX0_walks_54 : decode cX0_walks 54 = .ok (.iload_n 1, 1) := dk_27 (dk_at dksX0_walks_2 7 rfl rfl)
theorem dX0_walks_55 : decode cX0_walks 55 = .ok (.invokevirtual 221, 3) := dk_182 0 221 (dk_at dksX0_walks_2 8 rfl rfl)
theorem dX0_walks_58 : decode cX0_walks 58 = .ok (.ifCond .eq 7, 3) := dk_153 0 7 (dk_at dksX0_walks_2 11 rfl rfl)
theorem dX0_walks_61 : decode cX0_walks 61 = .ok (.lconst 1, 1) := dk_10 (dk_at dksX0_walks_2 14 rfl rfl)
theorem dX0_walks_62 : decode cX0_walks 62 = .ok (.goto 4, 3) := dk_167 0 4 (dk_at dksX0_walks_2 15 rfl rfl)
theorem dX0_walks_65 : decode cX0_walks 65 = .ok (.lconst 0, 1) := dk_9 (dk_at dksX0_walks_2 18 rfl rfl)
theorem dX0_walks_66 : decode cX0_walks 66 = .ok (.lastore, 1) := dk_80 (dk_at dksX0_walks_2 19 rfl rfl)
theorem dX0_walks_67 : decode cX0_walks 67 = .ok (.iinc 4 1, 3) := dk_132 4 1 (dk_at dksX0_walks_2 20 rfl rfl)
theorem dX0_walks_70 : decode cX0_walks 70 = .ok (.goto (-40), 3) := dk_167 255 216 (dk_at dksX0_walks_3 0 rfl rfl)
theorem dX0_walks_73 : decode cX0_walks 73 = .ok (.iconst 0, 1) := dk_3 (dk_at dksX0_walks_3 3 rfl rfl)
theorem dX0_walks_74 : decode cX0_walks 74 = .ok (.istore 4, 2) := dk_54 4 (dk_at dksX0_walks_3 4 rfl rfl)
theorem dX0_walks_76 : decode cX0_walks 76 = .ok (.iload 4, 2) := dk_21 4 (dk_at dksX0_walks_3 6 rfl rfl)
theorem dX0_walks_78 : decode cX0_walks 78 = .ok (.iload_n 3, 1) := dk_29 (dk_at dksX0_walks_3 8 rfl rfl)
theorem dX0_walks_79 : decode cX0_walks 79 = .ok (.if_icmp .ge 117, 3) := dk_162 0 117 (dk_at dksX0_walks_3 9 rfl rfl)
theorem dX0_walks_82 : decode cX0_walks 82 = .ok (.aload_n 0, 1) := dk_42 (dk_at dksX0_walks_3 12 rfl rfl)
theorem dX0_walks_83 : decode cX0_walks 83 = .ok (.getfield 85, 3) := dk_180 0 85 (dk_at dksX0_walks_3 13 rfl rfl)
theorem dX0_walks_86 : decode cX0_walks 86 = .ok (.iload 4, 2) := dk_21 4 (dk_at dksX0_walks_3 16 rfl rfl)
theorem dX0_walks_88 : decode cX0_walks 88 = .ok (.iconst 2, 1) := dk_5 (dk_at dksX0_walks_3 18 rfl rfl)
theorem dX0_walks_89 : decode cX0_walks 89 = .ok (.irem, 1) := dk_112 (dk_at dksX0_walks_3 19 rfl rfl)
theorem dX0_walks_90 : decode cX0_walks 90 = .ok (.aaload, 1) := dk_50 (dk_at dksX0_walks_3 20 rfl rfl)
theorem dX0_walks_91 : decode cX0_walks 91 = .ok (.astore 5, 2) := dk_58 5 (dk_at dksX0_walks_3 21 rfl rfl)
theorem dX0_walks_93 : decode cX0_walks 93 = .ok (.aload_n 0, 1) := dk_42 (dk_at dksX0_walks_3 23 rfl rfl)
theorem dX0_walks_94 : decode cX0_walks 94 = .ok (.getfield 85, 3) := dk_180 0 85 (dk_at dksX0_walks_4 0 rfl rfl)
theorem dX0_walks_97 : decode cX0_walks 97 = .ok (.iconst 1, 1) := dk_4 (dk_at dksX0_walks_4 3 rfl rfl)
theorem dX0_walks_98 : decode cX0_walks 98 = .ok (.iload 4, 2) := dk_21 4 (dk_at dksX0_walks_4 4 rfl rfl)
theorem dX0_walks_100 : decode cX0_walks 100 = .ok (.iconst 2, 1) := dk_5 (dk_at dksX0_walks_4 6 rfl rfl)
theorem dX0_walks_101 : decode cX0_walks 101 = .ok (.irem, 1) := dk_112 (dk_at dksX0_walks_4 7 rfl rfl)
theorem dX0_walks_102 : decode cX0_walks 102 = .ok (.isub, 1) := dk_100 (dk_at dksX0_walks_4 8 rfl rfl)
theorem dX0_walks_103 : decode cX0_walks 103 = .ok (.aaload, 1) := dk_50 (dk_at dksX0_walks_4 9 rfl rfl)
theorem dX0_walks_104 : decode cX0_walks 104 = .ok (.astore 6, 2) := dk_58 6 (dk_at dksX0_walks_4 10 rfl rfl)
theorem dX0_walks_106 : decode cX0_walks 106 = .ok (.iconst 0, 1) := dk_3 (dk_at dksX0_walks_4 12 rfl rfl)
theorem dX0_walks_107 : decode cX0_walks 107 = .ok (.istore 7, 2) := dk_54 7 (dk_at dksX0_walks_4 13 rfl rfl)
theorem dX0_walks_109 : decode cX0_walks 109 = .ok (.iload 7, 2) := dk_21 7 (dk_at dksX0_walks_4 15 rfl rfl)
theorem dX0_walks_111 : decode cX0_walks 111 = .ok (.aload_n 0, 1) := dk_42 (dk_at dksX0_walks_4 17 rfl rfl)
theorem dX0_walks_112 : decode cX0_walks 112 = .ok (.getfield 113, 3) := dk_180 0 113 (dk_at dksX0_walks_4 18 rfl rfl)
theorem dX0_walks_115 : decode cX0_walks 115 = .ok (.if_icmp .ge 15, 3) := dk_162 0 15 (dk_at dksX0_walks_4 21 rfl rfl)
theorem dX0_walks_118 : decode cX0_walks 118 = .ok (.aload 6, 2) := dk_25 6 (dk_at dksX0_walks_5 0 rfl rfl)
theorem dX0_walks_120 : decode cX0_walks 120 = .ok (.iload 7, 2) := dk_21 7 (dk_at dksX0_walks_5 2 rfl rfl)
theorem dX0_walks_122 : decode cX0_walks 122 = .ok (.lconst 0, 1) := dk_9 (dk_at dksX0_walks_5 4 rfl rfl)
theorem dX0_walks_123 : decode cX0_walks 123 = .ok (.lastore, 1) := dk_80 (dk_at dksX0_walks_5 5 rfl rfl)
theorem dX0_walks_124 : decode cX0_walks 124 = .ok (.iinc 7 1, 3) := dk_132 7 1 (dk_at dksX0_walks_5 6 rfl rfl)
theorem dX0_walks_127 : decode cX0_walks 127 = .ok (.goto (-18), 3) := dk_167 255 238 (dk_at dksX0_walks_5 9 rfl rfl)
theorem dX0_walks_130 : decode cX0_walks 130 = .ok (.iconst 0, 1) := dk_3 (dk_at dksX0_walks_5 12 rfl rfl)
theorem dX0_walks_131 : decode cX0_walks 131 = .ok (.istore 7, 2) := dk_54 7 (dk_at dksX0_walks_5 13 rfl rfl)
theorem dX0_walks_133 : decode cX0_walks 133 = .ok (.iload 7, 2) := dk_21 7 (dk_at dksX0_walks_5 15 rfl rfl)
theorem dX0_walks_135 : decode cX0_walks 135 = .ok (.aload_n 0, 1) := dk_42 (dk_at dksX0_walks_5 17 rfl rfl)
theorem dX0_walks_136 : decode cX0_walks 136 = .ok (.getfield 113, 3) := dk_180 0 113 (dk_at dksX0_walks_5 18 rfl rfl)
theorem dX0_walks_139 : decode cX0_walks 139 = .ok (.if_icmp .ge 51, 3) := dk_162 0 51 (dk_at dksX0_walks_5 21 rfl rfl)
theorem dX0_walks_142 : decode cX0_walks 142 = .ok (.iconst 0, 1) := dk_3 (dk_at dksX0_walks_6 0 rfl rfl)
theorem dX0_walks_143 : decode cX0_walks 143 = .ok (.istore 8, 2) := dk_54 8 (dk_at dksX0_walks_6 1 rfl rfl)
theorem dX0_walks_145 : decode cX0_walks 145 = .ok (.iload 8, 2) := dk_21 8 (dk_at dksX0_walks_6 3 rfl rfl)
theorem dX0_walks_147 : decode cX0_walks 147 = .ok (.aload_n 0, 1) := dk_42 (dk_at dksX0_walks_6 5 rfl rfl)
theorem dX0_walks_148 : decode cX0_walks 148 = .ok (.getfield 113, 3) := dk_180 0 113 (dk_at dksX0_walks_6 6 rfl rfl)
theorem dX0_walks_151 : decode cX0_walks 151 = .ok (.if_icmp .ge 33, 3) := dk_162 0 33 (dk_at dksX0_walks_6 9 rfl rfl)
theorem dX0_walks_154 : decode cX0_walks 154 = .ok (.aload_n 0, 1) := dk_42 (dk_at dksX0_walks_6 12 rfl rfl)
theorem dX0_walks_155 : decode cX0_walks 155 = .ok (.iload 7, 2) := dk_21 7 (dk_at dksX0_walks_6 13 rfl rfl)
theorem dX0_walks_157 : decode cX0_walks 157 = .ok (.iload 8, 2) := dk_21 8 (dk_at dksX0_walks_6 15 rfl rfl)
theorem dX0_walks_159 : decode cX0_walks 159 = .ok (.invokevirtual 244, 3) := dk_182 0 244 (dk_at dksX0_walks_6 17 rfl rfl)
theorem dX0_walks_162 : decode cX0_walks 162 = .ok (.ifCond .eq 16, 3) := dk_153 0 16 (dk_at dksX0_walks_6 20 rfl rfl)
theorem dX0_walks_165 : decode cX0_walks 165 = .ok (.aload 6, 2) := dk_25 6 (dk_at dksX0_walks_7 0 rfl rfl)
theorem dX0_walks_167 : decode cX0_walks 167 = .ok (.iload 8, 2) := dk_21 8 (dk_at dksX0_walks_7 2 rfl rfl)
theorem dX0_walks_169 : decode cX0_walks 169 = .ok (.dup2, 1) := dk_92 (dk_at dksX0_walks_7 4 rfl rfl)
theorem dX0_walks_170 : decode cX0_walks 170 = .ok (.laload, 1) := dk_47 (dk_at dksX0_walks_7 5 rfl rfl)
theorem dX0_walks_171 : decode cX0_walks 171 = .ok (.aload 5, 2) := dk_25 5 (dk_at dksX0_walks_7 6 rfl rfl)
theorem dX0_walks_173 : decode cX0_walks 173 = .ok (.iload 7, 2) := dk_21 7 (dk_at dksX0_walks_7 8 rfl rfl)
theorem dX0_walks_175 : decode cX0_walks 175 = .ok (.laload, 1) := dk_47 (dk_at dksX0_walks_7 10 rfl rfl)
theorem dX0_walks_176 : decode cX0_walks 176 = .ok (.ladd, 1) := dk_97 (dk_at dksX0_walks_7 11 rfl rfl)
theorem dX0_walks_177 : decode cX0_walks 177 = .ok (.lastore, 1) := dk_80 (dk_at dksX0_walks_7 12 rfl rfl)
theorem dX0_walks_178 : decode cX0_walks 178 = .ok (.iinc 8 1, 3) := dk_132 8 1 (dk_at dksX0_walks_7 13 rfl rfl)
theorem dX0_walks_181 : decode cX0_walks 181 = .ok (.goto (-36), 3) := dk_167 255 220 (dk_at dksX0_walks_7 16 rfl rfl)
theorem dX0_walks_184 : decode cX0_walks 184 = .ok (.iinc 7 1, 3) := dk_132 7 1 (dk_at dksX0_walks_7 19 rfl rfl)
theorem dX0_walks_187 : decode cX0_walks 187 = .ok (.goto (-54), 3) := dk_167 255 202 (dk_at dksX0_walks_8 0 rfl rfl)
theorem dX0_walks_190 : decode cX0_walks 190 = .ok (.iinc 4 1, 3) := dk_132 4 1 (dk_at dksX0_walks_8 3 rfl rfl)
theorem dX0_walks_193 : decode cX0_walks 193 = .ok (.goto (-117), 3) := dk_167 255 139 (dk_at dksX0_walks_8 6 rfl rfl)
theorem dX0_walks_196 : decode cX0_walks 196 = .ok (.aload_n 0, 1) := dk_42 (dk_at dksX0_walks_8 9 rfl rfl)
theorem dX0_walks_197 : decode cX0_walks 197 = .ok (.iload_n 2, 1) := dk_28 (dk_at dksX0_walks_8 10 rfl rfl)
theorem dX0_walks_198 : decode cX0_walks 198 = .ok (.invokevirtual 221, 3) := dk_182 0 221 (dk_at dksX0_walks_8 11 rfl rfl)
theorem dX0_walks_201 : decode cX0_walks 201 = .ok (.ifCond .eq 16, 3) := dk_153 0 16 (dk_at dksX0_walks_8 14 rfl rfl)
theorem dX0_walks_204 : decode cX0_walks 204 = .ok (.aload_n 0, 1) := dk_42 (dk_at dksX0_walks_8 17 rfl rfl)
theorem dX0_walks_205 : decode cX0_walks 205 = .ok (.getfield 85, 3) := dk_180 0 85 (dk_at dksX0_walks_8 18 rfl rfl)
theorem dX0_walks_208 : decode cX0_walks 208 = .ok (.iload_n 3, 1) := dk_29 (dk_at dksX0_walks_8 21 rfl rfl)
theorem dX0_walks_209 : decode cX0_walks 209 = .ok (.iconst 2, 1) := dk_5 (dk_at dksX0_walks_8 22 rfl rfl)
theorem dX0_walks_210 : decode cX0_walks 210 = .ok (.irem, 1) := dk_112 (dk_at dksX0_walks_8 23 rfl rfl)
theorem dX0_walks_211 : decode cX0_walks 211 = .ok (.aaload, 1) := dk_50 (dk_at dksX0_walks_9 0 rfl rfl)
theorem dX0_walks_212 : decode cX0_walks 212 = .ok (.iload_n 2, 1) := dk_28 (dk_at dksX0_walks_9 1 rfl rfl)
theorem dX0_walks_213 : decode cX0_walks 213 = .ok (.laload, 1) := dk_47 (dk_at dksX0_walks_9 2 rfl rfl)
theorem dX0_walks_214 : decode cX0_walks 214 = .ok (.goto 4, 3) := dk_167 0 4 (dk_at dksX0_walks_9 3 rfl rfl)
theorem dX0_walks_217 : decode cX0_walks 217 = .ok (.lconst 0, 1) := dk_9 (dk_at dksX0_walks_9 6 rfl rfl)
theorem dX0_walks_218 : decode cX0_walks 218 = .ok (.lreturn, 1) := dk_173 (dk_at dksX0_walks_9 7 rfl rfl)
abbrev cX0_row : ByteArray := prog_1_method_49_code
def yX0_row : MethodName := ⟨RX0, "row", "(II)I"⟩
def dkwX0_row_10 : List UInt8 := [21, 6, 46, 172]
abbrev dktX0_row_10 : List UInt8 := dkwX0_row_10 ++ []
def dkwX0_row_9 : List UInt8 := [21, 5, 4, 21, 9, 120, 128, 54, 5, 21, 9, 54, 6, 132, 7, 1, 167, 255, 189, 42, 180, 0, 88]
abbrev dktX0_row_9 : List UInt8 := dkwX0_row_9 ++ dktX0_row_10
def dkwX0_row_8 : List UInt8 := [154, 0, 18, 42, 21, 5, 21, 6, 21, 9, 182, 1, 54, 21, 8, 159, 0, 9, 132, 9, 1, 167, 255, 227]
abbrev dktX0_row_8 : List UInt8 := dkwX0_row_8 ++ dktX0_row_9
def dkwX0_row_7 : List UInt8 := [163, 0, 67, 42, 21, 5, 21, 6, 182, 1, 64, 54, 8, 3, 54, 9, 21, 5, 133, 21, 9, 184, 0, 131]
abbrev dktX0_row_7 : List UInt8 := dkwX0_row_7 ++ dktX0_row_8
def dkwX0_row_6 : List UInt8 := [16, 254, 172, 28, 2, 160, 0, 6, 21, 4, 172, 3, 54, 5, 3, 54, 6, 3, 54, 7, 21, 7, 28]
abbrev dktX0_row_6 : List UInt8 := dkwX0_row_6 ++ dktX0_row_7
def dkwX0_row_5 : List UInt8 := [167, 255, 208, 132, 4, 255, 167, 255, 194, 42, 3, 3, 182, 1, 64, 54, 4, 21, 4, 18, 220, 160, 0, 6]
abbrev dktX0_row_5 : List UInt8 := dkwX0_row_5 ++ dktX0_row_6
def dkwX0_row_4 : List UInt8 := [21, 4, 29, 160, 0, 7, 3, 167, 0, 11, 42, 21, 4, 21, 5, 182, 1, 64, 79, 132, 5, 1]
abbrev dktX0_row_4 : List UInt8 := dkwX0_row_4 ++ dktX0_row_5
def dkwX0_row_3 : List UInt8 := [162, 0, 48, 21, 4, 133, 21, 5, 184, 0, 131, 153, 0, 31, 42, 180, 0, 92, 21, 4, 50, 21, 5]
abbrev dktX0_row_3 : List UInt8 := dkwX0_row_3 ++ dktX0_row_4
def dkwX0_row_2 : List UInt8 := [182, 1, 61, 4, 27, 120, 4, 100, 62, 29, 54, 4, 21, 4, 158, 0, 63, 3, 54, 5, 21, 5, 27]
abbrev dktX0_row_2 : List UInt8 := dkwX0_row_2 ++ dktX0_row_3
def dkwX0_row_1 : List UInt8 := [180, 0, 135, 164, 0, 5, 2, 172, 42, 27, 182, 1, 58, 154, 0, 6, 16, 253, 172, 42, 182, 0, 241, 42]
abbrev dktX0_row_1 : List UInt8 := dkwX0_row_1 ++ dktX0_row_2
def dkwX0_row_0 : List UInt8 := [27, 5, 16, 10, 184, 0, 155, 153, 0, 22, 28, 2, 27, 4, 100, 184, 0, 155, 153, 0, 11, 27, 42]
abbrev dktX0_row_0 : List UInt8 := dkwX0_row_0 ++ dktX0_row_1
theorem dksX0_row_0 : cX0_row.data.toList.drop 0 = dktX0_row_0 := by decide +kernel
theorem dksX0_row_1 : cX0_row.data.toList.drop 23 = dktX0_row_1 := dk_seg dksX0_row_0 23 rfl rfl
theorem dksX0_row_2 : cX0_row.data.toList.drop 47 = dktX0_row_2 := dk_seg dksX0_row_1 24 rfl rfl
theorem dksX0_row_3 : cX0_row.data.toList.drop 70 = dktX0_row_3 := dk_seg dksX0_row_2 23 rfl rfl
theorem dksX0_row_4 : cX0_row.data.toList.drop 93 = dktX0_row_4 := dk_seg dksX0_row_3 23 rfl rfl
theorem dksX0_row_5 : cX0_row.data.toList.drop 115 = dktX0_row_5 := dk_seg dksX0_row_4 22 rfl rfl
theorem dksX0_row_6 : cX0_row.data.toList.drop 139 = dktX0_row_6 := dk_seg dksX0_row_5 24 rfl rfl
theorem dksX0_row_7 : cX0_row.data.toList.drop 162 = dktX0_row_7 := dk_seg dksX0_row_6 23 rfl rfl
theorem dksX0_row_8 : cX0_row.data.toList.drop 186 = dktX0_row_8 := dk_seg dksX0_row_7 24 rfl rfl
theorem dksX0_row_9 : cX0_row.data.toList.drop 210 = dktX0_row_9 := dk_seg dksX0_row_8 24 rfl rfl
theorem dksX0_row_10 : cX0_row.data.toList.drop 233 = dktX0_row_10 := dk_seg dksX0_row_9 23 rfl rfl
theorem dX0_row_0 : decode cX0_row 0 = .ok (.iload_n 1, 1) := dk_27 (dk_at dksX0_row_0 0 rfl rfl)
theorem dX0_row_1 : decode cX0_row 1 = .ok (.iconst 2, 1) := dk_5 (dk_at dksX0_row_0 1 rfl rfl)
theorem dX0_row_2 : decode cX0_row 2 = .ok (.bipush 10, 2) := dk_16 10 (dk_at dksX0_row_0 2 rfl rfl)
theorem dX0_row_4 : decode cX0_row 4 = .ok (.invokestatic 155, 3) := dk_184 0 155 (dk_at dksX0_row_0 4 rfl rfl)
theorem dX0_row_7 : decode cX0_row 7 = .ok (.ifCond .eq 22, 3) := dk_153 0 22 (dk_at dksX0_row_0 7 rfl rfl)
theorem dX0_row_10 : decode cX0_row 10 = .ok (.iload_n 2, 1) := dk_28 (dk_at dksX0_row_0 10 rfl rfl)
theorem dX0_row_11 : decode cX0_row 11 = .ok (.iconst (-1), 1) := dk_2 (dk_at dksX0_row_0 11 rfl rfl)
theorem dX0_row_12 : decode cX0_row 12 = .ok (.iload_n 1, 1) := dk_27 (dk_at dksX0_row_0 12 rfl rfl)
theorem dX0_row_13 : decode cX0_row 13 = .ok (.iconst 1, 1) := dk_4 (dk_at dksX0_row_0 13 rfl rfl)
theorem dX0_row_14 : decode cX0_row 14 = .ok (.isub, 1) := dk_100 (dk_at dksX0_row_0 14 rfl rfl)
theorem dX0_row_15 : decode cX0_row 15 = .ok (.invokestatic 155, 3) := dk_184 0 155 (dk_at dksX0_row_0 15 rfl rfl)
theorem dX0_row_18 : decode cX0_row 18 = .ok (.ifCond .eq 11, 3) := dk_153 0 11 (dk_at dksX0_row_0 18 rfl rfl)
theorem dX0_row_21 : decode cX0_row 21 = .ok (.iload_n 1, 1) := dk_27 (dk_at dksX0_row_0 21 rfl rfl)
theorem dX0_row_22 : decode cX0_row 22 = .ok (.aload_n 0, 1) := dk_42 (dk_at dksX0_row_0 22 rfl rfl)
theorem dX0_row_23 : decode cX0_row 23 = .ok (.getfield 135, 3) := dk_180 0 135 (dk_at dksX0_row_1 0 rfl rfl)
theorem dX0_row_26 : decode cX0_row 26 = .ok (.if_icmp .le 5, 3) := dk_164 0 5 (dk_at dksX0_row_1 3 rfl rfl)
theorem dX0_row_29 : decode cX0_row 29 = .ok (.iconst (-1), 1) := dk_2 (dk_at dksX0_row_1 6 rfl rfl)
theorem dX0_row_30 : decode cX0_row 30 = .ok (.ireturn, 1) := dk_172 (dk_at dksX0_row_1 7 rfl rfl)
theorem dX0_row_31 : decode cX0_row 31 = .ok (.aload_n 0, 1) := dk_42 (dk_at dksX0_row_1 8 rfl rfl)
theorem dX0_row_32 : decode cX0_row 32 = .ok (.iload_n 1, 1) := dk_27 (dk_at dksX0_row_1 9 rfl rfl)
theorem dX0_row_33 : decode cX0_row 33 = .ok (.invokevirtual 314, 3) := dk_182 1 58 (dk_at dksX0_row_1 10 rfl rfl)
theorem dX0_row_36 : decode cX0_row 36 = .ok (.ifCond .ne 6, 3) := dk_154 0 6 (dk_at dksX0_row_1 13 rfl rfl)
theorem dX0_row_39 : decode cX0_row 39 = .ok (.bipush (-3), 2) := dk_16 253 (dk_at dksX0_row_1 16 rfl rfl)
theorem dX0_row_41 : decode cX0_row 41 = .ok (.ireturn, 1) := dk_172 (dk_at dksX0_row_1 18 rfl rfl)
theorem dX0_row_42 : decode cX0_row 42 = .ok (.aload_n 0, 1) := dk_42 (dk_at dksX0_row_1 19 rfl rfl)
theorem dX0_row_43 : decode cX0_row 43 = .ok (.invokevirtual 241, 3) := dk_182 0 241 (dk_at dksX0_row_1 20 rfl rfl)
theorem dX0_row_46 : decode cX0_row 46 = .ok (.aload_n 0, 1) := dk_42 (dk_at dksX0_row_1 23 rfl rfl)
theorem dX0_row_47 : decode cX0_row 47 = .ok (.invokevirtual 317, 3) := dk_182 1 61 (dk_at dksX0_row_2 0 rfl rfl)
theorem dX0_row_50 : decode cX0_row 50 = .ok (.iconst 1, 1) := dk_4 (dk_at dksX0_row_2 3 rfl rfl)
theorem dX0_row_51 : decode cX0_row 51 = .ok (.iload_n 1, 1) := dk_27 (dk_at dksX0_row_2 4 rfl rfl)
theorem dX0_row_52 : decode cX0_row 52 = .ok (.ishl, 1) := dk_120 (dk_at dksX0_row_2 5 rfl rfl)
theorem dX0_row_53 : decode cX0_row 53 = .ok (.iconst 1, 1) := dk_4 (dk_at dksX0_row_2 6 rfl rfl)
theorem dX0_row_54 : decode cX0_row 54 = .ok (.isub, 1) := dk_100 (dk_at dksX0_row_2 7 rfl rfl)
theorem dX0_row_55 : decode cX0_row 55 = .ok (.istore_n 3, 1) := dk_62 (dk_at dksX0_row_2 8 rfl rfl)
theorem dX0_row_56 : decode cX0_row 56 = .ok (.iload_n 3, 1) := dk_29 (dk_at dksX0_row_2 9 rfl rfl)
theorem dX0_row_57 : decode cX0_row 57 = .ok (.istore 4, 2) := dk_54 4 (dk_at dksX0_row_2 10 rfl rfl)
theorem dX0_row_59 : decode cX0_row 59 = .ok (.iload 4, 2) := dk_21 4 (dk_at dksX0_row_2 12 rfl rfl)
theorem dX0_row_61 : decode cX0_row 61 = .ok (.ifCond .le 63, 3) := dk_158 0 63 (dk_at dksX0_row_2 14 rfl rfl)
theorem dX0_row_64 : decode cX0_row 64 = .ok (.iconst 0, 1) := dk_3 (dk_at dksX0_row_2 17 rfl rfl)
theorem dX0_row_65 : decode cX0_row 65 = .ok (.istore 5, 2) := dk_54 5 (dk_at dksX0_row_2 18 rfl rfl)
theorem dX0_row_67 : decode cX0_row 67 = .ok (.iload 5, 2) := dk_21 5 (dk_at dksX0_row_2 20 rfl rfl)
theorem dX0_row_69 : decode cX0_row 69 = .ok (.iload_n 1, 1) := dk_27 (dk_at dksX0_row_2 22 rfl rfl)
theorem dX0_row_70 : decode cX0_row 70 = .ok (.if_icmp .ge 48, 3) := dk_162 0 48 (dk_at dksX0_row_3 0 rfl rfl)
theorem dX0_row_73 : decode cX0_row 73 = .ok (.iload 4, 2) := dk_21 4 (dk_at dksX0_row_3 3 rfl rfl)
theorem dX0_row_75 : decode cX0_row 75 = .ok (.i2l, 1) := dk_133 (dk_at dksX0_row_3 5 rfl rfl)
theorem dX0_row_76 : decode cX0_row 76 = .ok (.iload 5, 2) := dk_21 5 (dk_at dksX0_row_3 6 rfl rfl)
theorem dX0_row_78 : decode cX0_row 78 = .ok (.invokestatic 131, 3) := dk_184 0 131 (dk_at dksX0_row_3 8 rfl rfl)
theorem dX0_row_81 : decode cX0_row 81 = .ok (.ifCond .eq 31, 3) := dk_153 0 31 (dk_at dksX0_row_3 11 rfl rfl)
theorem dX0_row_84 : decode cX0_row 84 = .ok (.aload_n 0, 1) := dk_42 (dk_at dksX0_row_3 14 rfl rfl)
theorem dX0_row_85 : decode cX0_row 85 = .ok (.getfield 92, 3) := dk_180 0 92 (dk_at dksX0_row_3 15 rfl rfl)
theorem dX0_row_88 : decode cX0_row 88 = .ok (.iload 4, 2) := dk_21 4 (dk_at dksX0_row_3 18 rfl rfl)
theorem dX0_row_90 : decode cX0_row 90 = .ok (.aaload, 1) := dk_50 (dk_at dksX0_row_3 20 rfl rfl)
theorem dX0_row_91 : decode cX0_row 91 = .ok (.iload 5, 2) := dk_21 5 (dk_at dksX0_row_3 21 rfl rfl)
theorem dX0_row_93 : decode cX0_row 93 = .ok (.iload 4, 2) := dk_21 4 (dk_at dksX0_row_4 0 rfl rfl)
theorem dX0_row_95 : decode cX0_row 95 = .ok (.iload_n 3, 1) := dk_29 (dk_at dksX0_row_4 2 rfl rfl)
theorem dX0_row_96 : decode cX0_row 96 = .ok (.if_icmp .ne 7, 3) := dk_160 0 7 (dk_at dksX0_row_4 3 rfl rfl)
theorem dX0_row_99 : decode cX0_row 99 = .ok (.iconst 0, 1) := dk_3 (dk_at dksX0_row_4 6 rfl rfl)
theorem dX0_row_100 : decode cX0_row 100 = .ok (.goto 11, 3) := dk_167 0 11 (dk_at dksX0_row_4 7 rfl rfl)
theorem dX0_row_103 : decode cX0_row 103 = .ok (.aload_n 0, 1) := dk_42 (dk_at dksX0_row_4 10 rfl rfl)
theorem dX0_row_104 : decode cX0_row 104 = .ok (.iload 4, 2) := dk_21 4 (dk_at dksX0_row_4 11 rfl rfl)
theorem dX0_row_106 : decode cX0_row 106 = .ok (.iload 5, 2) := dk_21 5 (dk_at dksX0_row_4 13 rfl rfl)
theorem dX0_row_108 : decode cX0_row 108 = .ok (.invokevirtual 320, 3) := dk_182 1 64 (dk_at dksX0_row_4 15 rfl rfl)
theorem dX0_row_111 : decode cX0_row 111 = .ok (.iastore, 1) := dk_79 (dk_at dksX0_row_4 18 rfl rfl)
theorem dX0_row_112 : decode cX0_row 112 = .ok (.iinc 5 1, 3) := dk_132 5 1 (dk_at dksX0_row_4 19 rfl rfl)
theorem dX0_row_115 : decode cX0_row 115 = .ok (.goto (-48), 3) := dk_167 255 208 (dk_at dksX0_row_5 0 rfl rfl)
theorem dX0_row_118 : decode cX0_row 118 = .ok (.iinc 4 (-1), 3) := dk_132 4 255 (dk_at dksX0_row_5 3 rfl rfl)
theorem dX0_row_121 : decode cX0_row 121 = .ok (.goto (-62), 3) := dk_167 255 194 (dk_at dksX0_row_5 6 rfl rfl)
theorem dX0_row_124 : decode cX0_row 124 = .ok (.aload_n 0, 1) := dk_42 (dk_at dksX0_row_5 9 rfl rfl)
theorem dX0_row_125 : decode cX0_row 125 = .ok (.iconst 0, 1) := dk_3 (dk_at dksX0_row_5 10 rfl rfl)
theorem dX0_row_126 : decode cX0_row 126 = .ok (.iconst 0, 1) := dk_3 (dk_at dksX0_row_5 11 rfl rfl)
theorem dX0_row_127 : decode cX0_row 127 = .ok (.invokevirtual 320, 3) := dk_182 1 64 (dk_at dksX0_row_5 12 rfl rfl)
theorem dX0_row_130 : decode cX0_row 130 = .ok (.istore 4, 2) := dk_54 4 (dk_at dksX0_row_5 15 rfl rfl)
theorem dX0_row_132 : decode cX0_row 132 = .ok (.iload 4, 2) := dk_21 4 (dk_at dksX0_row_5 17 rfl rfl)
theorem dX0_row_134 : decode cX0_row 134 = .ok (.ldc 220, 2) := dk_18 220 (dk_at dksX0_row_5 19 rfl rfl)
theorem dX0_row_136 : decode cX0_row 136 = .ok (.if_icmp .ne 6, 3) := dk_160 0 6 (dk_at dksX0_row_5 21 rfl rfl)
theorem dX0_row_139 : decode cX0_row 139 = .ok (.bipush (-2), 2) := dk_16 254 (dk_at dksX0_row_6 0 rfl rfl)
theorem dX0_row_141 : decode cX0_row 141 = .ok (.ireturn, 1) := dk_172 (dk_at dksX0_row_6 2 rfl rfl)
theorem dX0_row_142 : decode cX0_row 142 = .ok (.iload_n 2, 1) := dk_28 (dk_at dksX0_row_6 3 rfl rfl)
theorem dX0_row_143 : decode cX0_row 143 = .ok (.iconst (-1), 1) := dk_2 (dk_at dksX0_row_6 4 rfl rfl)
theorem dX0_row_144 : decode cX0_row 144 = .ok (.if_icmp .ne 6, 3) := dk_160 0 6 (dk_at dksX0_row_6 5 rfl rfl)
theorem dX0_row_147 : decode cX0_row 147 = .ok (.iload 4, 2) := dk_21 4 (dk_at dksX0_row_6 8 rfl rfl)
theorem dX0_row_149 : decode cX0_row 149 = .ok (.ireturn, 1) := dk_172 (dk_at dksX0_row_6 10 rfl rfl)
theorem dX0_row_150 : decode cX0_row 150 = .ok (.iconst 0, 1) := dk_3 (dk_at dksX0_row_6 11 rfl rfl)
theorem dX0_row_151 : decode cX0_row 151 = .ok (.istore 5, 2) := dk_54 5 (dk_at dksX0_row_6 12 rfl rfl)
theorem dX0_row_153 : decode cX0_row 153 = .ok (.iconst 0, 1) := dk_3 (dk_at dksX0_row_6 14 rfl rfl)
theorem dX0_row_154 : decode cX0_row 154 = .ok (.istore 6, 2) := dk_54 6 (dk_at dksX0_row_6 15 rfl rfl)
theorem dX0_row_156 : decode cX0_row 156 = .ok (.iconst 0, 1) := dk_3 (dk_at dksX0_row_6 17 rfl rfl)
theorem dX0_row_157 : decode cX0_row 157 = .ok (.istore 7, 2) := dk_54 7 (dk_at dksX0_row_6 18 rfl rfl)
theorem dX0_row_159 : decode cX0_row 159 = .ok (.iload 7, 2) := dk_21 7 (dk_at dksX0_row_6 20 rfl rfl)
theorem dX0_row_161 : decode cX0_row 161 = .ok (.iload_n 2, 1) := dk_28 (dk_at dksX0_row_6 22 rfl rfl)
theorem dX0_row_162 : decode cX0_row 162 = .ok (.if_icmp .gt 67, 3) := dk_163 0 67 (dk_at dksX0_row_7 0 rfl rfl)
theorem dX0_row_165 : decode cX0_row 165 = .ok (.aload_n 0, 1) := dk_42 (dk_at dksX0_row_7 3 rfl rfl)
theorem dX0_row_166 : decode cX0_row 166 = .ok (.iload 5, 2) := dk_21 5 (dk_at dksX0_row_7 4 rfl rfl)
theorem dX0_row_168 : decode cX0_row 168 = .ok (.iload 6, 2) := dk_21 6 (dk_at dksX0_row_7 6 rfl rfl)
theorem dX0_row_170 : decode cX0_row 170 = .ok (.invokevirtual 320, 3) := dk_182 1 64 (dk_at dksX0_row_7 8 rfl rfl)
theorem dX0_row_173 : decode cX0_row 173 = .ok (.istore 8, 2) := dk_54 8 (dk_at dksX0_row_7 11 rfl rfl)
theorem dX0_row_175 : decode cX0_row 175 = .ok (.iconst 0, 1) := dk_3 (dk_at dksX0_row_7 13 rfl rfl)
theorem dX0_row_176 : decode cX0_row 176 = .ok (.istore 9, 2) := dk_54 9 (dk_at dksX0_row_7 14 rfl rfl)
theorem dX0_row_178 : decode cX0_row 178 = .ok (.iload 5, 2) := dk_21 5 (dk_at dksX0_row_7 16 rfl rfl)
theorem dX0_row_180 : decode cX0_row 180 = .ok (.i2l, 1) := dk_133 (dk_at dksX0_row_7 18 rfl rfl)
theorem dX0_row_181 : decode cX0_row 181 = .ok (.iload 9, 2) := dk_21 9 (dk_at dksX0_row_7 19 rfl rfl)
theorem dX0_row_183 : decode cX0_row 183 = .ok (.invokestatic 131, 3) := dk_184 0 131 (dk_at dksX0_row_7 21 rfl rfl)
theorem dX0_row_186 : decode cX0_row 186 = .ok (.ifCond .ne 18, 3) := dk_154 0 18 (dk_at dksX0_row_8 0 rfl rfl)
theorem dX0_row_189 : decode cX0_row 189 = .ok (.aload_n 0, 1) := dk_42 (dk_at dksX0_row_8 3 rfl rfl)
theorem dX0_row_190 : decode cX0_row 190 = .ok (.iload 5, 2) := dk_21 5 (dk_at dksX0_row_8 4 rfl rfl)
theorem dX0_row_192 : decode cX0_row 192 = .ok (.iload 6, 2) := dk_21 6 (dk_at dksX0_row_8 6 rfl rfl)
theorem dX0_row_194 : decode cX0_row 194 = .ok (.iload 9, 2) := dk_21 9 (dk_at dksX0_row_8 8 rfl rfl)
theorem dX0_row_196 : decode cX0_row 196 = .ok (.invokevirtual 310, 3) := dk_182 1 54 (dk_at dksX0_row_8 10 rfl rfl)
theorem dX0_row_199 : decode cX0_row 199 = .ok (.iload 8, 2) := dk_21 8 (dk_at dksX0_row_8 13 rfl rfl)
theorem dX0_row_201 : decode cX0_row 201 = .ok (.if_icmp .eq 9, 3) := dk_159 0 9 (dk_at dksX0_row_8 15 rfl rfl)
theorem dX0_row_204 : decode cX0_row 204 = .ok (.iinc 9 1, 3) := dk_132 9 1 (dk_at dksX0_row_8 18 rfl rfl)
theorem dX0_row_207 : decode cX0_row 207 = .ok (.goto (-29), 3) := dk_167 255 227 (dk_at dksX0_row_8 21 rfl rfl)
theorem dX0_row_210 : decode cX0_row 210 = .ok (.iload 5, 2) := dk_21 5 (dk_at dksX0_row_9 0 rfl rfl)
theorem dX0_row_212 : decode cX0_row 212 = .ok (.iconst 1, 1) := dk_4 (dk_at dksX0_row_9 2 rfl rfl)
theorem dX0_row_213 : decode cX0_row 213 = .ok (.iload 9, 2) := dk_21 9 (dk_at dksX0_row_9 3 rfl rfl)
theorem dX0_row_215 : decode cX0_row 215 = .ok (.ishl, 1) := dk_120 (dk_at dksX0_row_9 5 rfl rfl)
theorem dX0_row_216 : decode cX0_row 216 = .ok (.ior, 1) := dk_128 (dk_at dksX0_row_9 6 rfl rfl)
theorem dX0_row_217 : decode cX0_row 217 = .ok (.istore 5, 2) := dk_54 5 (dk_at dksX0_row_9 7 rfl rfl)
theorem dX0_row_219 : decode cX0_row 219 = .ok (.iload 9, 2) := dk_21 9 (dk_at dksX0_row_9 9 rfl rfl)
theorem dX0_row_221 : decode cX0_row 221 = .ok (.istore 6, 2) := dk_54 6 (dk_at dksX0_row_9 11 rfl rfl)
theorem dX0_row_223 : decode cX0_row 223 = .ok (.iinc 7 1, 3) := dk_132 7 1 (dk_at dksX0_row_9 13 rfl rfl)
theorem dX0_row_226 : decode cX0_row 226 = .ok (.goto (-67), 3) := dk_167 255 189 (dk_at dksX0_row_9 16 rfl rfl)
theorem dX0_row_229 : decode cX0_row 229 = .ok (.aload_n 0, 1) := dk_42 (dk_at dksX0_row_9 19 rfl rfl)
theorem dX0_row_230 : decode cX0_row 230 = .ok (.getfield 88, 3) := dk_180 0 88 (dk_at dksX0_row_9 20 rfl rfl)
theorem dX0_row_233 : decode cX0_row 233 = .ok (.iload 6, 2) := dk_21 6 (dk_at dksX0_row_10 0 rfl rfl)
theorem dX0_row_235 : decode cX0_row 235 = .ok (.iaload, 1) := dk_46 (dk_at dksX0_row_10 2 rfl rfl)
theorem dX0_row_236 : decode cX0_row 236 = .ok (.ireturn, 1) := dk_172 (dk_at dksX0_row_10 3 rfl rfl)
abbrev cX0_takesUsed : ByteArray := prog_1_method_45_code
def yX0_takesUsed : MethodName := ⟨RX0, "takesUsed", "(I)Z"⟩
def dkwX0_takesUsed_1 : List UInt8 := [182, 0, 221, 154, 0, 5, 3, 172, 132, 2, 1, 167, 255, 233, 4, 172]
abbrev dktX0_takesUsed_1 : List UInt8 := dkwX0_takesUsed_1 ++ []
def dkwX0_takesUsed_0 : List UInt8 := [42, 27, 182, 1, 51, 154, 0, 5, 3, 172, 3, 61, 28, 27, 162, 0, 24, 42, 42, 180, 0, 88, 28, 46]
abbrev dktX0_takesUsed_0 : List UInt8 := dkwX0_takesUsed_0 ++ dktX0_takesUsed_1
theorem dksX0_takesUsed_0 : cX0_takesUsed.data.toList.drop 0 = dktX0_takesUsed_0 := by decide +kernel
theorem dksX0_takesUsed_1 : cX0_takesUsed.data.toList.drop 24 = dktX0_takesUsed_1 := dk_seg dksX0_takesUsed_0 24 rfl rfl
theorem dX0_takesUsed_0 : decode cX0_takesUsed 0 = .ok (.aload_n 0, 1) := dk_42 (dk_at dksX0_takesUsed_0 0 rfl rfl)
theorem dX0_takesUsed_1 : decode cX0_takesUsed 1 = .ok (.iload_n 1, 1) := dk_27 (dk_at dksX0_takesUsed_0 1 rfl rfl)
theorem dX0_takesUsed_2 : decode cX0_takesUsed 2 = .ok (.invokevirtual 307, 3) := dk_182 1 51 (dk_at dksX0_takesUsed_0 2 rfl rfl)
theorem dX0_takesUsed_5 : decode cX0_takesUsed 5 = .ok (.ifCond .ne 5, 3) := dk_154 0 5 (dk_at dksX0_takesUsed_0 5 rfl rfl)
theorem dX0_takesUsed_8 : decode cX0_takesUsed 8 = .ok (.iconst 0, 1) := dk_3 (dk_at dksX0_takesUsed_0 8 rfl rfl)
theorem dX0_takesUsed_9 : decode cX0_takesUsed 9 = .ok (.ireturn, 1) := dk_172 (dk_at dksX0_takesUsed_0 9 rfl rfl)
theorem dX0_takesUsed_10 : decode cX0_takesUsed 10 = .ok (.iconst 0, 1) := dk_3 (dk_at dksX0_takesUsed_0 10 rfl rfl)
theorem dX0_takesUsed_11 : decode cX0_takesUsed 11 = .ok (.istore_n 2, 1) := dk_61 (dk_at dksX0_takesUsed_0 11 rfl rfl)
theorem dX0_takesUsed_12 : decode cX0_takesUsed 12 = .ok (.iload_n 2, 1) := dk_28 (dk_at dksX0_takesUsed_0 12 rfl rfl)
theorem dX0_takesUsed_13 : decode cX0_takesUsed 13 = .ok (.iload_n 1, 1) := dk_27 (dk_at dksX0_takesUsed_0 13 rfl rfl)
theorem dX0_takesUsed_14 : decode cX0_takesUsed 14 = .ok (.if_icmp .ge 24, 3) := dk_162 0 24 (dk_at dksX0_takesUsed_0 14 rfl rfl)
theorem dX0_takesUsed_17 : decode cX0_takesUsed 17 = .ok (.aload_n 0, 1) := dk_42 (dk_at dksX0_takesUsed_0 17 rfl rfl)
theorem dX0_takesUsed_18 : decode cX0_takesUsed 18 = .ok (.aload_n 0, 1) := dk_42 (dk_at dksX0_takesUsed_0 18 rfl rfl)
theorem dX0_takesUsed_19 : decode cX0_takesUsed 19 = .ok (.getfield 88, 3) := dk_180 0 88 (dk_at dksX0_takesUsed_0 19 rfl rfl)
theorem dX0_takesUsed_22 : decode cX0_takesUsed 22 = .ok (.iload_n 2, 1) := dk_28 (dk_at dksX0_takesUsed_0 22 rfl rfl)
theorem dX0_takesUsed_23 : decode cX0_takesUsed 23 = .ok (.iaload, 1) := dk_46 (dk_at dksX0_takesUsed_0 23 rfl rfl)
theorem dX0_takesUsed_24 : decode cX0_takesUsed 24 = .ok (.invokevirtual 221, 3) := dk_182 0 221 (dk_at dksX0_takesUsed_1 0 rfl rfl)
theorem dX0_takesUsed_27 : decode cX0_takesUsed 27 = .ok (.ifCond .ne 5, 3) := dk_154 0 5 (dk_at dksX0_takesUsed_1 3 rfl rfl)
theorem dX0_takesUsed_30 : decode cX0_takesUsed 30 = .ok (.iconst 0, 1) := dk_3 (dk_at dksX0_takesUsed_1 6 rfl rfl)
theorem dX0_takesUsed_31 : decode cX0_takesUsed 31 = .ok (.ireturn, 1) := dk_172 (dk_at dksX0_takesUsed_1 7 rfl rfl)
theorem dX0_takesUsed_32 : decode cX0_takesUsed 32 = .ok (.iinc 2 1, 3) := dk_132 2 1 (dk_at dksX0_takesUsed_1 8 rfl rfl)
theorem dX0_takesUsed_35 : decode cX0_takesUsed 35 = .ok (.goto (-23), 3) := dk_167 255 233 (dk_at dksX0_takesUsed_1 11 rfl rfl)
theorem dX0_takesUsed_38 : decode cX0_takesUsed 38 = .ok (.iconst 1, 1) := dk_4 (dk_at dksX0_takesUsed_1 14 rfl rfl)
theorem dX0_takesUsed_39 : decode cX0_takesUsed 39 = .ok (.ireturn, 1) := dk_172 (dk_at dksX0_takesUsed_1 15 rfl rfl)
abbrev cX0_takesWords : ByteArray := prog_1_method_44_code
def yX0_takesWords : MethodName := ⟨RX0, "takesWords", "(I)Z"⟩
def dkwX0_takesWords_3 : List UInt8 := [180, 0, 88, 21, 4, 46, 121, 129, 65, 132, 4, 1, 167, 255, 191, 4, 172]
abbrev dktX0_takesWords_3 : List UInt8 := dkwX0_takesWords_3 ++ []
def dkwX0_takesWords_2 : List UInt8 := [153, 0, 17, 32, 42, 180, 0, 88, 21, 4, 46, 184, 0, 131, 153, 0, 5, 3, 172, 32, 10, 42]
abbrev dktX0_takesWords_2 : List UInt8 := dkwX0_takesWords_2 ++ dktX0_takesWords_3
def dkwX0_takesWords_1 : List UInt8 := [180, 0, 88, 21, 4, 42, 180, 0, 15, 21, 4, 51, 79, 42, 42, 180, 0, 88, 21, 4, 46, 182, 0, 120]
abbrev dktX0_takesWords_1 : List UInt8 := dkwX0_takesWords_1 ++ dktX0_takesWords_2
def dkwX0_takesWords_0 : List UInt8 := [42, 3, 181, 0, 135, 42, 27, 181, 1, 48, 9, 65, 3, 54, 4, 21, 4, 27, 162, 0, 65, 42]
abbrev dktX0_takesWords_0 : List UInt8 := dkwX0_takesWords_0 ++ dktX0_takesWords_1
theorem dksX0_takesWords_0 : cX0_takesWords.data.toList.drop 0 = dktX0_takesWords_0 := by decide +kernel
theorem dksX0_takesWords_1 : cX0_takesWords.data.toList.drop 22 = dktX0_takesWords_1 := dk_seg dksX0_takesWords_0 22 rfl rfl
theorem dksX0_takesWords_2 : cX0_takesWords.data.toList.drop 46 = dktX0_takesWords_2 := dk_seg dksX0_takesWords_1 24 rfl rfl
theorem dksX0_takesWords_3 : cX0_takesWords.data.toList.drop 68 = dktX0_takesWords_3 := dk_seg dksX0_takesWords_2 22 rfl rfl
theorem dX0_takesWords_0 : decode cX0_takesWords 0 = .ok (.aload_n 0, 1) := dk_42 (dk_at dksX0_takesWords_0 0 rfl rfl)
theorem dX0_takesWords_1 : decode cX0_takesWords 1 = .ok (.iconst 0, 1) := dk_3 (dk_at dksX0_takesWords_0 1 rfl rfl)
theorem dX0_takesWords_2 : decode cX0_takesWords 2 = .ok (.putfield 135, 3) := dk_181 0 135 (dk_at dksX0_takesWords_0 2 rfl rfl)
theorem dX0_takesWords_5 : decode cX0_takesWords 5 = .ok (.aload_n 0, 1) := dk_42 (dk_at dksX0_takesWords_0 5 rfl rfl)
theorem dX0_takesWords_6 : decode cX0_takesWords 6 = .ok (.iload_n 1, 1) := dk_27 (dk_at dksX0_takesWords_0 6 rfl rfl)
theorem dX0_takesWords_7 : decode cX0_takesWords 7 = .ok (.putfield 304, 3) := dk_181 1 48 (dk_at dksX0_takesWords_0 7 rfl rfl)
theorem dX0_takesWords_10 : decode cX0_takesWords 10 = .ok (.lconst 0, 1) := dk_9 (dk_at dksX0_takesWords_0 10 rfl rfl)
theorem dX0_takesWords_11 : decode cX0_takesWords 11 = .ok (.lstore_n 2, 1) := dk_65 (dk_at dksX0_takesWords_0 11 rfl rfl)
theorem dX0_takesWords_12 : decode cX0_takesWords 12 = .ok (.iconst 0, 1) := dk_3 (dk_at dksX0_takesWords_0 12 rfl rfl)
theorem dX0_takesWords_13 : decode cX0_takesWords 13 = .ok (.istore 4, 2) := dk_54 4 (dk_at dksX0_takesWords_0 13 rfl rfl)
theorem dX0_takesWords_15 : decode cX0_takesWords 15 = .ok (.iload 4, 2) := dk_21 4 (dk_at dksX0_takesWords_0 15 rfl rfl)
theorem dX0_takesWords_17 : decode cX0_takesWords 17 = .ok (.iload_n 1, 1) := dk_27 (dk_at dksX0_takesWords_0 17 rfl rfl)
theorem dX0_takesWords_18 : decode cX0_takesWords 18 = .ok (.if_icmp .ge 65, 3) := dk_162 0 65 (dk_at dksX0_takesWords_0 18 rfl rfl)
theorem dX0_takesWords_21 : decode cX0_takesWords 21 = .ok (.aload_n 0, 1) := dk_42 (dk_at dksX0_takesWords_0 21 rfl rfl)
theorem dX0_takesWords_22 : decode cX0_takesWords 22 = .ok (.getfield 88, 3) := dk_180 0 88 (dk_at dksX0_takesWords_1 0 rfl rfl)
theorem dX0_takesWords_25 : decode cX0_takesWords 25 = .ok (.iload 4, 2) := dk_21 4 (dk_at dksX0_takesWords_1 3 rfl rfl)
theorem dX0_takesWords_27 : decode cX0_takesWords 27 = .ok (.aload_n 0, 1) := dk_42 (dk_at dksX0_takesWords_1 5 rfl rfl)
theorem dX0_takesWords_28 : decode cX0_takesWords 28 = .ok (.getfield 15, 3) := dk_180 0 15 (dk_at dksX0_takesWords_1 6 rfl rfl)
theorem dX0_takesWords_31 : decode cX0_takesWords 31 = .ok (.iload 4, 2) := dk_21 4 (dk_at dksX0_takesWords_1 9 rfl rfl)
theorem dX0_takesWords_33 : decode cX0_takesWords 33 = .ok (.baload, 1) := dk_51 (dk_at dksX0_takesWords_1 11 rfl rfl)
theorem dX0_takesWords_34 : decode cX0_takesWords 34 = .ok (.iastore, 1) := dk_79 (dk_at dksX0_takesWords_1 12 rfl rfl)
theorem dX0_takesWords_35 : decode cX0_takesWords 35 = .ok (.aload_n 0, 1) := dk_42 (dk_at dksX0_takesWords_1 13 rfl rfl)
theorem dX0_takesWords_36 : decode cX0_takesWords 36 = .ok (.aload_n 0, 1) := dk_42 (dk_at dksX0_takesWords_1 14 rfl rfl)
theorem dX0_takesWords_37 : decode cX0_takesWords 37 = .ok (.getfield 88, 3) := dk_180 0 88 (dk_at dksX0_takesWords_1 15 rfl rfl)
theorem dX0_takesWords_40 : decode cX0_takesWords 40 = .ok (.iload 4, 2) := dk_21 4 (dk_at dksX0_takesWords_1 18 rfl rfl)
theorem dX0_takesWords_42 : decode cX0_takesWords 42 = .ok (.iaload, 1) := dk_46 (dk_at dksX0_takesWords_1 20 rfl rfl)
theorem dX0_takesWords_43 : decode cX0_takesWords 43 = .ok (.invokevirtual 120, 3) := dk_182 0 120 (dk_at dksX0_takesWords_1 21 rfl rfl)
theorem dX0_takesWords_46 : decode cX0_takesWords 46 = .ok (.ifCond .eq 17, 3) := dk_153 0 17 (dk_at dksX0_takesWords_2 0 rfl rfl)
theorem dX0_takesWords_49 : decode cX0_takesWords 49 = .ok (.lload_n 2, 1) := dk_32 (dk_at dksX0_takesWords_2 3 rfl rfl)
theorem dX0_takesWords_50 : decode cX0_takesWords 50 = .ok (.aload_n 0, 1) := dk_42 (dk_at dksX0_takesWords_2 4 rfl rfl)
theorem dX0_takesWords_51 : decode cX0_takesWords 51 = .ok (.getfield 88, 3) := dk_180 0 88 (dk_at dksX0_takesWords_2 5 rfl rfl)
theorem dX0_takesWords_54 : decode cX0_takesWords 54 = .ok (.iload 4, 2) := dk_21 4 (dk_at dksX0_takesWords_2 8 rfl rfl)
theorem dX0_takesWords_56 : decode cX0_takesWords 56 = .ok (.iaload, 1) := dk_46 (dk_at dksX0_takesWords_2 10 rfl rfl)
theorem dX0_takesWords_57 : decode cX0_takesWords 57 = .ok (.invokestatic 131, 3) := dk_184 0 131 (dk_at dksX0_takesWords_2 11 rfl rfl)
theorem dX0_takesWords_60 : decode cX0_takesWords 60 = .ok (.ifCond .eq 5, 3) := dk_153 0 5 (dk_at dksX0_takesWords_2 14 rfl rfl)
theorem dX0_takesWords_63 : decode cX0_takesWords 63 = .ok (.iconst 0, 1) := dk_3 (dk_at dksX0_takesWords_2 17 rfl rfl)
theorem dX0_takesWords_64 : decode cX0_takesWords 64 = .ok (.ireturn, 1) := dk_172 (dk_at dksX0_takesWords_2 18 rfl rfl)
theorem dX0_takesWords_65 : decode cX0_takesWords 65 = .ok (.lload_n 2, 1) := dk_32 (dk_at dksX0_takesWords_2 19 rfl rfl)
theorem dX0_takesWords_66 : decode cX0_takesWords 66 = .ok (.lconst 1, 1) := dk_10 (dk_at dksX0_takesWords_2 20 rfl rfl)
theorem dX0_takesWords_67 : decode cX0_takesWords 67 = .ok (.aload_n 0, 1) := dk_42 (dk_at dksX0_takesWords_2 21 rfl rfl)
theorem dX0_takesWords_68 : decode cX0_takesWords 68 = .ok (.getfield 88, 3) := dk_180 0 88 (dk_at dksX0_takesWords_3 0 rfl rfl)
theorem dX0_takesWords_71 : decode cX0_takesWords 71 = .ok (.iload 4, 2) := dk_21 4 (dk_at dksX0_takesWords_3 3 rfl rfl)
theorem dX0_takesWords_73 : decode cX0_takesWords 73 = .ok (.iaload, 1) := dk_46 (dk_at dksX0_takesWords_3 5 rfl rfl)
theorem dX0_takesWords_74 : decode cX0_takesWords 74 = .ok (.lshl, 1) := dk_121 (dk_at dksX0_takesWords_3 6 rfl rfl)
theorem dX0_takesWords_75 : decode cX0_takesWords 75 = .ok (.lor, 1) := dk_129 (dk_at dksX0_takesWords_3 7 rfl rfl)
theorem dX0_takesWords_76 : decode cX0_takesWords 76 = .ok (.lstore_n 2, 1) := dk_65 (dk_at dksX0_takesWords_3 8 rfl rfl)
theorem dX0_takesWords_77 : decode cX0_takesWords 77 = .ok (.iinc 4 1, 3) := dk_132 4 1 (dk_at dksX0_takesWords_3 9 rfl rfl)
theorem dX0_takesWords_80 : decode cX0_takesWords 80 = .ok (.goto (-65), 3) := dk_167 255 191 (dk_at dksX0_takesWords_3 12 rfl rfl)
theorem dX0_takesWords_83 : decode cX0_takesWords 83 = .ok (.iconst 1, 1) := dk_4 (dk_at dksX0_takesWords_3 15 rfl rfl)
theorem dX0_takesWords_84 : decode cX0_takesWords 84 = .ok (.ireturn, 1) := dk_172 (dk_at dksX0_takesWords_3 16 rfl rfl)
abbrev cX0_sorts : ByteArray := prog_1_method_46_code
def yX0_sorts : MethodName := ⟨RX0, "sorts", "()V"⟩
def dkwX0_sorts_3 : List UInt8 := [132, 1, 1, 167, 255, 186, 177]
abbrev dktX0_sorts_3 : List UInt8 := dkwX0_sorts_3 ++ []
def dkwX0_sorts_2 : List UInt8 := [180, 0, 88, 28, 4, 100, 46, 79, 42, 180, 0, 88, 28, 4, 100, 29, 79, 132, 2, 255, 167, 255, 202]
abbrev dktX0_sorts_2 : List UInt8 := dkwX0_sorts_2 ++ dktX0_sorts_3
def dkwX0_sorts_1 : List UInt8 := [42, 180, 0, 88, 28, 46, 164, 0, 39, 42, 180, 0, 88, 28, 46, 62, 42, 180, 0, 88, 28, 42]
abbrev dktX0_sorts_1 : List UInt8 := dkwX0_sorts_1 ++ dktX0_sorts_2
def dkwX0_sorts_0 : List UInt8 := [4, 60, 27, 42, 180, 1, 48, 162, 0, 68, 27, 61, 28, 158, 0, 56, 42, 180, 0, 88, 28, 4, 100, 46]
abbrev dktX0_sorts_0 : List UInt8 := dkwX0_sorts_0 ++ dktX0_sorts_1
theorem dksX0_sorts_0 : cX0_sorts.data.toList.drop 0 = dktX0_sorts_0 := by decide +kernel
theorem dksX0_sorts_1 : cX0_sorts.data.toList.drop 24 = dktX0_sorts_1 := dk_seg dksX0_sorts_0 24 rfl rfl
theorem dksX0_sorts_2 : cX0_sorts.data.toList.drop 46 = dktX0_sorts_2 := dk_seg dksX0_sorts_1 22 rfl rfl
theorem dksX0_sorts_3 : cX0_sorts.data.toList.drop 69 = dktX0_sorts_3 := dk_seg dksX0_sorts_2 23 rfl rfl
theorem dX0_sorts_0 : decode cX0_sorts 0 = .ok (.iconst 1, 1) := dk_4 (dk_at dksX0_sorts_0 0 rfl rfl)
theorem dX0_sorts_1 : decode cX0_sorts 1 = .ok (.istore_n 1, 1) := dk_60 (dk_at dksX0_sorts_0 1 rfl rfl)
theorem dX0_sorts_2 : decode cX0_sorts 2 = .ok (.iload_n 1, 1) := dk_27 (dk_at dksX0_sorts_0 2 rfl rfl)
theorem dX0_sorts_3 : decode cX0_sorts 3 = .ok (.aload_n 0, 1) := dk_42 (dk_at dksX0_sorts_0 3 rfl rfl)
theorem dX0_sorts_4 : decode cX0_sorts 4 = .ok (.getfield 304, 3) := dk_180 1 48 (dk_at dksX0_sorts_0 4 rfl rfl)
theorem dX0_sorts_7 : decode cX0_sorts 7 = .ok (.if_icmp .ge 68, 3) := dk_162 0 68 (dk_at dksX0_sorts_0 7 rfl rfl)
theorem dX0_sorts_10 : decode cX0_sorts 10 = .ok (.iload_n 1, 1) := dk_27 (dk_at dksX0_sorts_0 10 rfl rfl)
theorem dX0_sorts_11 : decode cX0_sorts 11 = .ok (.istore_n 2, 1) := dk_61 (dk_at dksX0_sorts_0 11 rfl rfl)
theorem dX0_sorts_12 : decode cX0_sorts 12 = .ok (.iload_n 2, 1) := dk_28 (dk_at dksX0_sorts_0 12 rfl rfl)
theorem dX0_sorts_13 : decode cX0_sorts 13 = .ok (.ifCond .le 56, 3) := dk_158 0 56 (dk_at dksX0_sorts_0 13 rfl rfl)
theorem dX0_sorts_16 : decode cX0_sorts 16 = .ok (.aload_n 0, 1) := dk_42 (dk_at dksX0_sorts_0 16 rfl rfl)
theorem dX0_sorts_17 : decode cX0_sorts 17 = .ok (.getfield 88, 3) := dk_180 0 88 (dk_at dksX0_sorts_0 17 rfl rfl)
theorem dX0_sorts_20 : decode cX0_sorts 20 = .ok (.iload_n 2, 1) := dk_28 (dk_at dksX0_sorts_0 20 rfl rfl)
theorem dX0_sorts_21 : decode cX0_sorts 21 = .ok (.iconst 1, 1) := dk_4 (dk_at dksX0_sorts_0 21 rfl rfl)
theorem dX0_sorts_22 : decode cX0_sorts 22 = .ok (.isub, 1) := dk_100 (dk_at dksX0_sorts_0 22 rfl rfl)
theorem dX0_sorts_23 : decode cX0_sorts 23 = .ok (.iaload, 1) := dk_46 (dk_at dksX0_sorts_0 23 rfl rfl)
theorem dX0_sorts_24 : decode cX0_sorts 24 = .ok (.aload_n 0, 1) := dk_42 (dk_at dksX0_sorts_1 0 rfl rfl)
theorem dX0_sorts_25 : decode cX0_sorts 25 = .ok (.getfield 88, 3) := dk_180 0 88 (dk_at dksX0_sorts_1 1 rfl rfl)
theorem dX0_sorts_28 : decode cX0_sorts 28 = .ok (.iload_n 2, 1) := dk_28 (dk_at dksX0_sorts_1 4 rfl rfl)
theorem dX0_sorts_29 : decode cX0_sorts 29 = .ok (.iaload, 1) := dk_46 (dk_at dksX0_sorts_1 5 rfl rfl)
theorem dX0_sorts_30 : decode cX0_sorts 30 = .ok (.if_icmp .le 39, 3) := dk_164 0 39 (dk_at dksX0_sorts_1 6 rfl rfl)
theorem dX0_sorts_33 : decode cX0_sorts 33 = .ok (.aload_n 0, 1) := dk_42 (dk_at dksX0_sorts_1 9 rfl rfl)
theorem dX0_sorts_34 : decode cX0_sorts 34 = .ok (.getfield 88, 3) := dk_180 0 88 (dk_at dksX0_sorts_1 10 rfl rfl)
theorem dX0_sorts_37 : decode cX0_sorts 37 = .ok (.iload_n 2, 1) := dk_28 (dk_at dksX0_sorts_1 13 rfl rfl)
theorem dX0_sorts_38 : decode cX0_sorts 38 = .ok (.iaload, 1) := dk_46 (dk_at dksX0_sorts_1 14 rfl rfl)
theorem dX0_sorts_39 : decode cX0_sorts 39 = .ok (.istore_n 3, 1) := dk_62 (dk_at dksX0_sorts_1 15 rfl rfl)
theorem dX0_sorts_40 : decode cX0_sorts 40 = .ok (.aload_n 0, 1) := dk_42 (dk_at dksX0_sorts_1 16 rfl rfl)
theorem dX0_sorts_41 : decode cX0_sorts 41 = .ok (.getfield 88, 3) := dk_180 0 88 (dk_at dksX0_sorts_1 17 rfl rfl)
theorem dX0_sorts_44 : decode cX0_sorts 44 = .ok (.iload_n 2, 1) := dk_28 (dk_at dksX0_sorts_1 20 rfl rfl)
theorem dX0_sorts_45 : decode cX0_sorts 45 = .ok (.aload_n 0, 1) := dk_42 (dk_at dksX0_sorts_1 21 rfl rfl)
theorem dX0_sorts_46 : decode cX0_sorts 46 = .ok (.getfield 88, 3) := dk_180 0 88 (dk_at dksX0_sorts_2 0 rfl rfl)
theorem dX0_sorts_49 : decode cX0_sorts 49 = .ok (.iload_n 2, 1) := dk_28 (dk_at dksX0_sorts_2 3 rfl rfl)
theorem dX0_sorts_50 : decode cX0_sorts 50 = .ok (.iconst 1, 1) := dk_4 (dk_at dksX0_sorts_2 4 rfl rfl)
theorem dX0_sorts_51 : decode cX0_sorts 51 = .ok (.isub, 1) := dk_100 (dk_at dksX0_sorts_2 5 rfl rfl)
theorem dX0_sorts_52 : decode cX0_sorts 52 = .ok (.iaload, 1) := dk_46 (dk_at dksX0_sorts_2 6 rfl rfl)
theorem dX0_sorts_53 : decode cX0_sorts 53 = .ok (.iastore, 1) := dk_79 (dk_at dksX0_sorts_2 7 rfl rfl)
theorem dX0_sorts_54 : decode cX0_sorts 54 = .ok (.aload_n 0, 1) := dk_42 (dk_at dksX0_sorts_2 8 rfl rfl)
theorem dX0_sorts_55 : decode cX0_sorts 55 = .ok (.getfield 88, 3) := dk_180 0 88 (dk_at dksX0_sorts_2 9 rfl rfl)
theorem dX0_sorts_58 : decode cX0_sorts 58 = .ok (.iload_n 2, 1) := dk_28 (dk_at dksX0_sorts_2 12 rfl rfl)
theorem dX0_sorts_59 : decode cX0_sorts 59 = .ok (.iconst 1, 1) := dk_4 (dk_at dksX0_sorts_2 13 rfl rfl)
theorem dX0_sorts_60 : decode cX0_sorts 60 = .ok (.isub, 1) := dk_100 (dk_at dksX0_sorts_2 14 rfl rfl)
theorem dX0_sorts_61 : decode cX0_sorts 61 = .ok (.iload_n 3, 1) := dk_29 (dk_at dksX0_sorts_2 15 rfl rfl)
theorem dX0_sorts_62 : decode cX0_sorts 62 = .ok (.iastore, 1) := dk_79 (dk_at dksX0_sorts_2 16 rfl rfl)
theorem dX0_sorts_63 : decode cX0_sorts 63 = .ok (.iinc 2 (-1), 3) := dk_132 2 255 (dk_at dksX0_sorts_2 17 rfl rfl)
theorem dX0_sorts_66 : decode cX0_sorts 66 = .ok (.goto (-54), 3) := dk_167 255 202 (dk_at dksX0_sorts_2 20 rfl rfl)
theorem dX0_sorts_69 : decode cX0_sorts 69 = .ok (.iinc 1 1, 3) := dk_132 1 1 (dk_at dksX0_sorts_3 0 rfl rfl)
theorem dX0_sorts_72 : decode cX0_sorts 72 = .ok (.goto (-70), 3) := dk_167 255 186 (dk_at dksX0_sorts_3 3 rfl rfl)
theorem dX0_sorts_75 : decode cX0_sorts 75 = .ok (.return_, 1) := dk_177 (dk_at dksX0_sorts_3 6 rfl rfl)
abbrev cX0_leastRest : ByteArray := prog_1_method_48_code
def yX0_leastRest : MethodName := ⟨RX0, "leastRest", "(II)I"⟩
def dkwX0_leastRest_1 : List UInt8 := [154, 0, 16, 29, 42, 27, 28, 21, 4, 182, 1, 54, 184, 0, 232, 62, 132, 4, 1, 167, 255, 221, 29, 172]
abbrev dktX0_leastRest_1 : List UInt8 := dkwX0_leastRest_1 ++ []
def dkwX0_leastRest_0 : List UInt8 := [18, 220, 62, 3, 54, 4, 21, 4, 42, 180, 1, 48, 162, 0, 32, 27, 133, 21, 4, 184, 0, 131]
abbrev dktX0_leastRest_0 : List UInt8 := dkwX0_leastRest_0 ++ dktX0_leastRest_1
theorem dksX0_leastRest_0 : cX0_leastRest.data.toList.drop 0 = dktX0_leastRest_0 := by decide +kernel
theorem dksX0_leastRest_1 : cX0_leastRest.data.toList.drop 22 = dktX0_leastRest_1 := dk_seg dksX0_leastRest_0 22 rfl rfl
theorem dX0_leastRest_0 : decode cX0_leastRest 0 = .ok (.ldc 220, 2) := dk_18 220 (dk_at dksX0_leastRest_0 0 rfl rfl)
theorem dX0_leastRest_2 : decode cX0_leastRest 2 = .ok (.istore_n 3, 1) := dk_62 (dk_at dksX0_leastRest_0 2 rfl rfl)
theorem dX0_leastRest_3 : decode cX0_leastRest 3 = .ok (.iconst 0, 1) := dk_3 (dk_at dksX0_leastRest_0 3 rfl rfl)
theorem dX0_leastRest_4 : decode cX0_leastRest 4 = .ok (.istore 4, 2) := dk_54 4 (dk_at dksX0_leastRest_0 4 rfl rfl)
theorem dX0_leastRest_6 : decode cX0_leastRest 6 = .ok (.iload 4, 2) := dk_21 4 (dk_at dksX0_leastRest_0 6 rfl rfl)
theorem dX0_leastRest_8 : decode cX0_leastRest 8 = .ok (.aload_n 0, 1) := dk_42 (dk_at dksX0_leastRest_0 8 rfl rfl)
theorem dX0_leastRest_9 : decode cX0_leastRest 9 = .ok (.getfield 304, 3) := dk_180 1 48 (dk_at dksX0_leastRest_0 9 rfl rfl)
theorem dX0_leastRest_12 : decode cX0_leastRest 12 = .ok (.if_icmp .ge 32, 3) := dk_162 0 32 (dk_at dksX0_leastRest_0 12 rfl rfl)
theorem dX0_leastRest_15 : decode cX0_leastRest 15 = .ok (.iload_n 1, 1) := dk_27 (dk_at dksX0_leastRest_0 15 rfl rfl)
theorem dX0_leastRest_16 : decode cX0_leastRest 16 = .ok (.i2l, 1) := dk_133 (dk_at dksX0_leastRest_0 16 rfl rfl)
theorem dX0_leastRest_17 : decode cX0_leastRest 17 = .ok (.iload 4, 2) := dk_21 4 (dk_at dksX0_leastRest_0 17 rfl rfl)
theorem dX0_leastRest_19 : decode cX0_leastRest 19 = .ok (.invokestatic 131, 3) := dk_184 0 131 (dk_at dksX0_leastRest_0 19 rfl rfl)
theorem dX0_leastRest_22 : decode cX0_leastRest 22 = .ok (.ifCond .ne 16, 3) := dk_154 0 16 (dk_at dksX0_leastRest_1 0 rfl rfl)
theorem dX0_leastRest_25 : decode cX0_leastRest 25 = .ok (.iload_n 3, 1) := dk_29 (dk_at dksX0_leastRest_1 3 rfl rfl)
theorem dX0_leastRest_26 : decode cX0_leastRest 26 = .ok (.aload_n 0, 1) := dk_42 (dk_at dksX0_leastRest_1 4 rfl rfl)
theorem dX0_leastRest_27 : decode cX0_leastRest 27 = .ok (.iload_n 1, 1) := dk_27 (dk_at dksX0_leastRest_1 5 rfl rfl)
theorem dX0_leastRest_28 : decode cX0_leastRest 28 = .ok (.iload_n 2, 1) := dk_28 (dk_at dksX0_leastRest_1 6 rfl rfl)
theorem dX0_leastRest_29 : decode cX0_leastRest 29 = .ok (.iload 4, 2) := dk_21 4 (dk_at dksX0_leastRest_1 7 rfl rfl)
theorem dX0_leastRest_31 : decode cX0_leastRest 31 = .ok (.invokevirtual 310, 3) := dk_182 1 54 (dk_at dksX0_leastRest_1 9 rfl rfl)
theorem dX0_leastRest_34 : decode cX0_leastRest 34 = .ok (.invokestatic 232, 3) := dk_184 0 232 (dk_at dksX0_leastRest_1 12 rfl rfl)
theorem dX0_leastRest_37 : decode cX0_leastRest 37 = .ok (.istore_n 3, 1) := dk_62 (dk_at dksX0_leastRest_1 15 rfl rfl)
theorem dX0_leastRest_38 : decode cX0_leastRest 38 = .ok (.iinc 4 1, 3) := dk_132 4 1 (dk_at dksX0_leastRest_1 16 rfl rfl)
theorem dX0_leastRest_41 : decode cX0_leastRest 41 = .ok (.goto (-35), 3) := dk_167 255 221 (dk_at dksX0_leastRest_1 19 rfl rfl)
theorem dX0_leastRest_44 : decode cX0_leastRest 44 = .ok (.iload_n 3, 1) := dk_29 (dk_at dksX0_leastRest_1 22 rfl rfl)
theorem dX0_leastRest_45 : decode cX0_leastRest 45 = .ok (.ireturn, 1) := dk_172 (dk_at dksX0_leastRest_1 23 rfl rfl)
abbrev cX0_restBy : ByteArray := prog_1_method_47_code
def yX0_restBy : MethodName := ⟨RX0, "restBy", "(III)I"⟩
def dkwX0_restBy_2 : List UInt8 := [172]
abbrev dktX0_restBy_2 : List UInt8 := dkwX0_restBy_2 ++ []
def dkwX0_restBy_1 : List UInt8 := [46, 46, 54, 4, 18, 220, 21, 4, 42, 180, 0, 92, 27, 4, 29, 120, 128, 50, 29, 46, 96, 184, 0, 232]
abbrev dktX0_restBy_1 : List UInt8 := dkwX0_restBy_1 ++ dktX0_restBy_2
def dkwX0_restBy_0 : List UInt8 := [27, 154, 0, 7, 3, 167, 0, 21, 42, 180, 0, 45, 42, 180, 0, 88, 28, 46, 50, 42, 180, 0, 88, 29]
abbrev dktX0_restBy_0 : List UInt8 := dkwX0_restBy_0 ++ dktX0_restBy_1
theorem dksX0_restBy_0 : cX0_restBy.data.toList.drop 0 = dktX0_restBy_0 := by decide +kernel
theorem dksX0_restBy_1 : cX0_restBy.data.toList.drop 24 = dktX0_restBy_1 := dk_seg dksX0_restBy_0 24 rfl rfl
theorem dksX0_restBy_2 : cX0_restBy.data.toList.drop 48 = dktX0_restBy_2 := dk_seg dksX0_restBy_1 24 rfl rfl
theorem dX0_restBy_0 : decode cX0_restBy 0 = .ok (.iload_n 1, 1) := dk_27 (dk_at dksX0_restBy_0 0 rfl rfl)
theorem dX0_restBy_1 : decode cX0_restBy 1 = .ok (.ifCond .ne 7, 3) := dk_154 0 7 (dk_at dksX0_restBy_0 1 rfl rfl)
theorem dX0_restBy_4 : decode cX0_restBy 4 = .ok (.iconst 0, 1) := dk_3 (dk_at dksX0_restBy_0 4 rfl rfl)
theorem dX0_restBy_5 : decode cX0_restBy 5 = .ok (.goto 21, 3) := dk_167 0 21 (dk_at dksX0_restBy_0 5 rfl rfl)
theorem dX0_restBy_8 : decode cX0_restBy 8 = .ok (.aload_n 0, 1) := dk_42 (dk_at dksX0_restBy_0 8 rfl rfl)
theorem dX0_restBy_9 : decode cX0_restBy 9 = .ok (.getfield 45, 3) := dk_180 0 45 (dk_at dksX0_restBy_0 9 rfl rfl)
theorem dX0_restBy_12 : decode cX0_restBy 12 = .ok (.aload_n 0, 1) := dk_42 (dk_at dksX0_restBy_0 12 rfl rfl)
theorem dX0_restBy_13 : decode cX0_restBy 13 = .ok (.getfield 88, 3) := dk_180 0 88 (dk_at dksX0_restBy_0 13 rfl rfl)
theorem dX0_restBy_16 : decode cX0_restBy 16 = .ok (.iload_n 2, 1) := dk_28 (dk_at dksX0_restBy_0 16 rfl rfl)
theorem dX0_restBy_17 : decode cX0_restBy 17 = .ok (.iaload, 1) := dk_46 (dk_at dksX0_restBy_0 17 rfl rfl)
theorem dX0_restBy_18 : decode cX0_restBy 18 = .ok (.aaload, 1) := dk_50 (dk_at dksX0_restBy_0 18 rfl rfl)
theorem dX0_restBy_19 : decode cX0_restBy 19 = .ok (.aload_n 0, 1) := dk_42 (dk_at dksX0_restBy_0 19 rfl rfl)
theorem dX0_restBy_20 : decode cX0_restBy 20 = .ok (.getfield 88, 3) := dk_180 0 88 (dk_at dksX0_restBy_0 20 rfl rfl)
theorem dX0_restBy_23 : decode cX0_restBy 23 = .ok (.iload_n 3, 1) := dk_29 (dk_at dksX0_restBy_0 23 rfl rfl)
theorem dX0_restBy_24 : decode cX0_restBy 24 = .ok (.iaload, 1) := dk_46 (dk_at dksX0_restBy_1 0 rfl rfl)
theorem dX0_restBy_25 : decode cX0_restBy 25 = .ok (.iaload, 1) := dk_46 (dk_at dksX0_restBy_1 1 rfl rfl)
theorem dX0_restBy_26 : decode cX0_restBy 26 = .ok (.istore 4, 2) := dk_54 4 (dk_at dksX0_restBy_1 2 rfl rfl)
theorem dX0_restBy_28 : decode cX0_restBy 28 = .ok (.ldc 220, 2) := dk_18 220 (dk_at dksX0_restBy_1 4 rfl rfl)
theorem dX0_restBy_30 : decode cX0_restBy 30 = .ok (.iload 4, 2) := dk_21 4 (dk_at dksX0_restBy_1 6 rfl rfl)
theorem dX0_restBy_32 : decode cX0_restBy 32 = .ok (.aload_n 0, 1) := dk_42 (dk_at dksX0_restBy_1 8 rfl rfl)
theorem dX0_restBy_33 : decode cX0_restBy 33 = .ok (.getfield 92, 3) := dk_180 0 92 (dk_at dksX0_restBy_1 9 rfl rfl)
theorem dX0_restBy_36 : decode cX0_restBy 36 = .ok (.iload_n 1, 1) := dk_27 (dk_at dksX0_restBy_1 12 rfl rfl)
theorem dX0_restBy_37 : decode cX0_restBy 37 = .ok (.iconst 1, 1) := dk_4 (dk_at dksX0_restBy_1 13 rfl rfl)
theorem dX0_restBy_38 : decode cX0_restBy 38 = .ok (.iload_n 3, 1) := dk_29 (dk_at dksX0_restBy_1 14 rfl rfl)
theorem dX0_restBy_39 : decode cX0_restBy 39 = .ok (.ishl, 1) := dk_120 (dk_at dksX0_restBy_1 15 rfl rfl)
theorem dX0_restBy_40 : decode cX0_restBy 40 = .ok (.ior, 1) := dk_128 (dk_at dksX0_restBy_1 16 rfl rfl)
theorem dX0_restBy_41 : decode cX0_restBy 41 = .ok (.aaload, 1) := dk_50 (dk_at dksX0_restBy_1 17 rfl rfl)
theorem dX0_restBy_42 : decode cX0_restBy 42 = .ok (.iload_n 3, 1) := dk_29 (dk_at dksX0_restBy_1 18 rfl rfl)
theorem dX0_restBy_43 : decode cX0_restBy 43 = .ok (.iaload, 1) := dk_46 (dk_at dksX0_restBy_1 19 rfl rfl)
theorem dX0_restBy_44 : decode cX0_restBy 44 = .ok (.iadd, 1) := dk_96 (dk_at dksX0_restBy_1 20 rfl rfl)
theorem dX0_restBy_45 : decode cX0_restBy 45 = .ok (.invokestatic 232, 3) := dk_184 0 232 (dk_at dksX0_restBy_1 21 rfl rfl)
theorem dX0_restBy_48 : decode cX0_restBy 48 = .ok (.ireturn, 1) := dk_172 (dk_at dksX0_restBy_2 0 rfl rfl)
abbrev cX0_game : ByteArray := prog_1_method_51_code
def yX0_game : MethodName := ⟨RX0, "game", "(II)I"⟩
def dkwX0_game_8 : List UInt8 := [162, 0, 11, 42, 180, 0, 88, 21, 4, 46, 62, 132, 4, 1, 167, 255, 211, 29, 172]
abbrev dktX0_game_8 : List UInt8 := dkwX0_game_8 ++ []
def dkwX0_game_7 : List UInt8 := [21, 4, 182, 1, 67, 153, 0, 28, 29, 16, 254, 159, 0, 14, 42, 180, 0, 88, 21, 4, 46, 29]
abbrev dktX0_game_7 : List UInt8 := dkwX0_game_7 ++ dktX0_game_8
def dkwX0_game_6 : List UInt8 := [153, 0, 7, 4, 167, 0, 4, 3, 172, 16, 254, 62, 3, 54, 4, 21, 4, 27, 162, 0, 45, 42, 4, 3]
abbrev dktX0_game_6 : List UInt8 := dkwX0_game_6 ++ dktX0_game_7
def dkwX0_game_5 : List UInt8 := [132, 4, 1, 167, 255, 191, 132, 3, 255, 167, 255, 178, 28, 154, 0, 20, 42, 180, 0, 97, 4, 50, 3, 51]
abbrev dktX0_game_5 : List UInt8 := dkwX0_game_5 ++ dktX0_game_6
def dkwX0_game_4 : List UInt8 := [29, 50, 21, 4, 92, 51, 42, 29, 21, 4, 21, 5, 182, 1, 67, 128, 84, 132, 5, 1, 167, 255, 216]
abbrev dktX0_game_4 : List UInt8 := dkwX0_game_4 ++ dktX0_game_5
def dkwX0_game_3 : List UInt8 := [84, 3, 54, 5, 21, 5, 27, 162, 0, 40, 29, 133, 21, 4, 184, 0, 131, 153, 0, 30, 42, 180, 0, 97]
abbrev dktX0_game_3 : List UInt8 := dkwX0_game_3 ++ dktX0_game_4
def dkwX0_game_2 : List UInt8 := [100, 62, 29, 158, 0, 80, 3, 54, 4, 21, 4, 27, 162, 0, 65, 42, 180, 0, 97, 29, 50, 21, 4, 3]
abbrev dktX0_game_2 : List UInt8 := dkwX0_game_2 ++ dktX0_game_3
def dkwX0_game_1 : List UInt8 := [164, 0, 5, 2, 172, 42, 27, 182, 1, 58, 154, 0, 6, 16, 253, 172, 42, 182, 0, 241, 4, 27, 120, 4]
abbrev dktX0_game_1 : List UInt8 := dkwX0_game_1 ++ dktX0_game_2
def dkwX0_game_0 : List UInt8 := [27, 5, 16, 12, 184, 0, 155, 153, 0, 19, 28, 5, 184, 0, 116, 153, 0, 11, 27, 42, 180, 0, 135]
abbrev dktX0_game_0 : List UInt8 := dkwX0_game_0 ++ dktX0_game_1
theorem dksX0_game_0 : cX0_game.data.toList.drop 0 = dktX0_game_0 := by decide +kernel
theorem dksX0_game_1 : cX0_game.data.toList.drop 23 = dktX0_game_1 := dk_seg dksX0_game_0 23 rfl rfl
theorem dksX0_game_2 : cX0_game.data.toList.drop 47 = dktX0_game_2 := dk_seg dksX0_game_1 24 rfl rfl
theorem dksX0_game_3 : cX0_game.data.toList.drop 71 = dktX0_game_3 := dk_seg dksX0_game_2 24 rfl rfl
theorem dksX0_game_4 : cX0_game.data.toList.drop 95 = dktX0_game_4 := dk_seg dksX0_game_3 24 rfl rfl
theorem dksX0_game_5 : cX0_game.data.toList.drop 118 = dktX0_game_5 := dk_seg dksX0_game_4 23 rfl rfl
theorem dksX0_game_6 : cX0_game.data.toList.drop 142 = dktX0_game_6 := dk_seg dksX0_game_5 24 rfl rfl
theorem dksX0_game_7 : cX0_game.data.toList.drop 166 = dktX0_game_7 := dk_seg dksX0_game_6 24 rfl rfl
theorem dksX0_game_8 : cX0_game.data.toList.drop 188 = dktX0_game_8 := dk_seg dksX0_game_7 22 rfl rfl
theorem dX0_game_0 : decode cX0_game 0 = .ok (.iload_n 1, 1) := dk_27 (dk_at dksX0_game_0 0 rfl rfl)
theorem dX0_game_1 : decode cX0_game 1 = .ok (.iconst 2, 1) := dk_5 (dk_at dksX0_game_0 1 rfl rfl)
theorem dX0_game_2 : decode cX0_game 2 = .ok (.bipush 12, 2) := dk_16 12 (dk_at dksX0_game_0 2 rfl rfl)
theorem dX0_game_4 : decode cX0_game 4 = .ok (.invokestatic 155, 3) := dk_184 0 155 (dk_at dksX0_game_0 4 rfl rfl)
theorem dX0_game_7 : decode cX0_game 7 = .ok (.ifCond .eq 19, 3) := dk_153 0 19 (dk_at dksX0_game_0 7 rfl rfl)
theorem dX0_game_10 : decode cX0_game 10 = .ok (.iload_n 2, 1) := dk_28 (dk_at dksX0_game_0 10 rfl rfl)
theorem dX0_game_11 : decode cX0_game 11 = .ok (.iconst 2, 1) := dk_5 (dk_at dksX0_game_0 11 rfl rfl)
theorem dX0_game_12 : decode cX0_game 12 = .ok (.invokestatic 116, 3) := dk_184 0 116 (dk_at dksX0_game_0 12 rfl rfl)
theorem dX0_game_15 : decode cX0_game 15 = .ok (.ifCond .eq 11, 3) := dk_153 0 11 (dk_at dksX0_game_0 15 rfl rfl)
theorem dX0_game_18 : decode cX0_game 18 = .ok (.iload_n 1, 1) := dk_27 (dk_at dksX0_game_0 18 rfl rfl)
theorem dX0_game_19 : decode cX0_game 19 = .ok (.aload_n 0, 1) := dk_42 (dk_at dksX0_game_0 19 rfl rfl)
theorem dX0_game_20 : decode cX0_game 20 = .ok (.getfield 135, 3) := dk_180 0 135 (dk_at dksX0_game_0 20 rfl rfl)
theorem dX0_game_23 : decode cX0_game 23 = .ok (.if_icmp .le 5, 3) := dk_164 0 5 (dk_at dksX0_game_1 0 rfl rfl)
theorem dX0_game_26 : decode cX0_game 26 = .ok (.iconst (-1), 1) := dk_2 (dk_at dksX0_game_1 3 rfl rfl)
theorem dX0_game_27 : decode cX0_game 27 = .ok (.ireturn, 1) := dk_172 (dk_at dksX0_game_1 4 rfl rfl)
theorem dX0_game_28 : decode cX0_game 28 = .ok (.aload_n 0, 1) := dk_42 (dk_at dksX0_game_1 5 rfl rfl)
theorem dX0_game_29 : decode cX0_game 29 = .ok (.iload_n 1, 1) := dk_27 (dk_at dksX0_game_1 6 rfl rfl)
theorem dX0_game_30 : decode cX0_game 30 = .ok (.invokevirtual 314, 3) := dk_182 1 58 (dk_at dksX0_game_1 7 rfl rfl)
theorem dX0_game_33 : decode cX0_game 33 = .ok (.ifCond .ne 6, 3) := dk_154 0 6 (dk_at dksX0_game_1 10 rfl rfl)
theorem dX0_game_36 : decode cX0_game 36 = .ok (.bipush (-3), 2) := dk_16 253 (dk_at dksX0_game_1 13 rfl rfl)
theorem dX0_game_38 : decode cX0_game 38 = .ok (.ireturn, 1) := dk_172 (dk_at dksX0_game_1 15 rfl rfl)
theorem dX0_game_39 : decode cX0_game 39 = .ok (.aload_n 0, 1) := dk_42 (dk_at dksX0_game_1 16 rfl rfl)
theorem dX0_game_40 : decode cX0_game 40 = .ok (.invokevirtual 241, 3) := dk_182 0 241 (dk_at dksX0_game_1 17 rfl rfl)
theorem dX0_game_43 : decode cX0_game 43 = .ok (.iconst 1, 1) := dk_4 (dk_at dksX0_game_1 20 rfl rfl)
theorem dX0_game_44 : decode cX0_game 44 = .ok (.iload_n 1, 1) := dk_27 (dk_at dksX0_game_1 21 rfl rfl)
theorem dX0_game_45 : decode cX0_game 45 = .ok (.ishl, 1) := dk_120 (dk_at dksX0_game_1 22 rfl rfl)
theorem dX0_game_46 : decode cX0_game 46 = .ok (.iconst 1, 1) := dk_4 (dk_at dksX0_game_1 23 rfl rfl)
theorem dX0_game_47 : decode cX0_game 47 = .ok (.isub, 1) := dk_100 (dk_at dksX0_game_2 0 rfl rfl)
theorem dX0_game_48 : decode cX0_game 48 = .ok (.istore_n 3, 1) := dk_62 (dk_at dksX0_game_2 1 rfl rfl)
theorem dX0_game_49 : decode cX0_game 49 = .ok (.iload_n 3, 1) := dk_29 (dk_at dksX0_game_2 2 rfl rfl)
theorem dX0_game_50 : decode cX0_game 50 = .ok (.ifCond .le 80, 3) := dk_158 0 80 (dk_at dksX0_game_2 3 rfl rfl)
theorem dX0_game_53 : decode cX0_game 53 = .ok (.iconst 0, 1) := dk_3 (dk_at dksX0_game_2 6 rfl rfl)
theorem dX0_game_54 : decode cX0_game 54 = .ok (.istore 4, 2) := dk_54 4 (dk_at dksX0_game_2 7 rfl rfl)
theorem dX0_game_56 : decode cX0_game 56 = .ok (.iload 4, 2) := dk_21 4 (dk_at dksX0_game_2 9 rfl rfl)
theorem dX0_game_58 : decode cX0_game 58 = .ok (.iload_n 1, 1) := dk_27 (dk_at dksX0_game_2 11 rfl rfl)
theorem dX0_game_59 : decode cX0_game 59 = .ok (.if_icmp .ge 65, 3) := dk_162 0 65 (dk_at dksX0_game_2 12 rfl rfl)
theorem dX0_game_62 : decode cX0_game 62 = .ok (.aload_n 0, 1) := dk_42 (dk_at dksX0_game_2 15 rfl rfl)
theorem dX0_game_63 : decode cX0_game 63 = .ok (.getfield 97, 3) := dk_180 0 97 (dk_at dksX0_game_2 16 rfl rfl)
theorem dX0_game_66 : decode cX0_game 66 = .ok (.iload_n 3, 1) := dk_29 (dk_at dksX0_game_2 19 rfl rfl)
theorem dX0_game_67 : decode cX0_game 67 = .ok (.aaload, 1) := dk_50 (dk_at dksX0_game_2 20 rfl rfl)
theorem dX0_game_68 : decode cX0_game 68 = .ok (.iload 4, 2) := dk_21 4 (dk_at dksX0_game_2 21 rfl rfl)
theorem dX0_game_70 : decode cX0_game 70 = .ok (.iconst 0, 1) := dk_3 (dk_at dksX0_game_2 23 rfl rfl)
theorem dX0_game_71 : decode cX0_game 71 = .ok (.bastore, 1) := dk_84 (dk_at dksX0_game_3 0 rfl rfl)
theorem dX0_game_72 : decode cX0_game 72 = .ok (.iconst 0, 1) := dk_3 (dk_at dksX0_game_3 1 rfl rfl)
theorem dX0_game_73 : decode cX0_game 73 = .ok (.istore 5, 2) := dk_54 5 (dk_at dksX0_game_3 2 rfl rfl)
theorem dX0_game_75 : decode cX0_game 75 = .ok (.iload 5, 2) := dk_21 5 (dk_at dksX0_game_3 4 rfl rfl)
theorem dX0_game_77 : decode cX0_game 77 = .ok (.iload_n 1, 1) := dk_27 (dk_at dksX0_game_3 6 rfl rfl)
theorem dX0_game_78 : decode cX0_game 78 = .ok (.if_icmp .ge 40, 3) := dk_162 0 40 (dk_at dksX0_game_3 7 rfl rfl)
theorem dX0_game_81 : decode cX0_game 81 = .ok (.iload_n 3, 1) := dk_29 (dk_at dksX0_game_3 10 rfl rfl)
theorem dX0_game_82 : decode cX0_game 82 = .ok (.i2l, 1) := dk_133 (dk_at dksX0_game_3 11 rfl rfl)
theorem dX0_game_83 : decode cX0_game 83 = .ok (.iload 4, 2) := dk_21 4 (dk_at dksX0_game_3 12 rfl rfl)
theorem dX0_game_85 : decode cX0_game 85 = .ok (.invokestatic 131, 3) := dk_184 0 131 (dk_at dksX0_game_3 14 rfl rfl)
theorem dX0_game_88 : decode cX0_game 88 = .ok (.ifCond .eq 30, 3) := dk_153 0 30 (dk_at dksX0_game_3 17 rfl rfl)
theorem dX0_game_91 : decode cX0_game 91 = .ok (.aload_n 0, 1) := dk_42 (dk_at dksX0_game_3 20 rfl rfl)
theorem dX0_game_92 : decode cX0_game 92 = .ok (.getfield 97, 3) := dk_180 0 97 (dk_at dksX0_game_3 21 rfl rfl)
theorem dX0_game_95 : decode cX0_game 95 = .ok (.iload_n 3, 1) := dk_29 (dk_at dksX0_game_4 0 rfl rfl)
theorem dX0_game_96 : decode cX0_game 96 = .ok (.aaload, 1) := dk_50 (dk_at dksX0_game_4 1 rfl rfl)
theorem dX0_game_97 : decode cX0_game 97 = .ok (.iload 4, 2) := dk_21 4 (dk_at dksX0_game_4 2 rfl rfl)
theorem dX0_game_99 : decode cX0_game 99 = .ok (.dup2, 1) := dk_92 (dk_at dksX0_game_4 4 rfl rfl)
theorem dX0_game_100 : decode cX0_game 100 = .ok (.baload, 1) := dk_51 (dk_at dksX0_game_4 5 rfl rfl)
theorem dX0_game_101 : decode cX0_game 101 = .ok (.aload_n 0, 1) := dk_42 (dk_at dksX0_game_4 6 rfl rfl)
theorem dX0_game_102 : decode cX0_game 102 = .ok (.iload_n 3, 1) := dk_29 (dk_at dksX0_game_4 7 rfl rfl)
theorem dX0_game_103 : decode cX0_game 103 = .ok (.iload 4, 2) := dk_21 4 (dk_at dksX0_game_4 8 rfl rfl)
theorem dX0_game_105 : decode cX0_game 105 = .ok (.iload 5, 2) := dk_21 5 (dk_at dksX0_game_4 10 rfl rfl)
theorem dX0_game_107 : decode cX0_game 107 = .ok (.invokevirtual 323, 3) := dk_182 1 67 (dk_at dksX0_game_4 12 rfl rfl)
theorem dX0_game_110 : decode cX0_game 110 = .ok (.ior, 1) := dk_128 (dk_at dksX0_game_4 15 rfl rfl)
theorem dX0_game_111 : decode cX0_game 111 = .ok (.bastore, 1) := dk_84 (dk_at dksX0_game_4 16 rfl rfl)
theorem dX0_game_112 : decode cX0_game 112 = .ok (.iinc 5 1, 3) := dk_132 5 1 (dk_at dksX0_game_4 17 rfl rfl)
theorem dX0_game_115 : decode cX0_game 115 = .ok (.goto (-40), 3) := dk_167 255 216 (dk_at dksX0_game_4 20 rfl rfl)
theorem dX0_game_118 : decode cX0_game 118 = .ok (.iinc 4 1, 3) := dk_132 4 1 (dk_at dksX0_game_5 0 rfl rfl)
theorem dX0_game_121 : decode cX0_game 121 = .ok (.goto (-65), 3) := dk_167 255 191 (dk_at dksX0_game_5 3 rfl rfl)
theorem dX0_game_124 : decode cX0_game 124 = .ok (.iinc 3 (-1), 3) := dk_132 3 255 (dk_at dksX0_game_5 6 rfl rfl)
theorem dX0_game_127 : decode cX0_game 127 = .ok (.goto (-78), 3) := dk_167 255 178 (dk_at dksX0_game_5 9 rfl rfl)
theorem dX0_game_130 : decode cX0_game 130 = .ok (.iload_n 2, 1) := dk_28 (dk_at dksX0_game_5 12 rfl rfl)
theorem dX0_game_131 : decode cX0_game 131 = .ok (.ifCond .ne 20, 3) := dk_154 0 20 (dk_at dksX0_game_5 13 rfl rfl)
theorem dX0_game_134 : decode cX0_game 134 = .ok (.aload_n 0, 1) := dk_42 (dk_at dksX0_game_5 16 rfl rfl)
theorem dX0_game_135 : decode cX0_game 135 = .ok (.getfield 97, 3) := dk_180 0 97 (dk_at dksX0_game_5 17 rfl rfl)
theorem dX0_game_138 : decode cX0_game 138 = .ok (.iconst 1, 1) := dk_4 (dk_at dksX0_game_5 20 rfl rfl)
theorem dX0_game_139 : decode cX0_game 139 = .ok (.aaload, 1) := dk_50 (dk_at dksX0_game_5 21 rfl rfl)
theorem dX0_game_140 : decode cX0_game 140 = .ok (.iconst 0, 1) := dk_3 (dk_at dksX0_game_5 22 rfl rfl)
theorem dX0_game_141 : decode cX0_game 141 = .ok (.baload, 1) := dk_51 (dk_at dksX0_game_5 23 rfl rfl)
theorem dX0_game_142 : decode cX0_game 142 = .ok (.ifCond .eq 7, 3) := dk_153 0 7 (dk_at dksX0_game_6 0 rfl rfl)
theorem dX0_game_145 : decode cX0_game 145 = .ok (.iconst 1, 1) := dk_4 (dk_at dksX0_game_6 3 rfl rfl)
theorem dX0_game_146 : decode cX0_game 146 = .ok (.goto 4, 3) := dk_167 0 4 (dk_at dksX0_game_6 4 rfl rfl)
theorem dX0_game_149 : decode cX0_game 149 = .ok (.iconst 0, 1) := dk_3 (dk_at dksX0_game_6 7 rfl rfl)
theorem dX0_game_150 : decode cX0_game 150 = .ok (.ireturn, 1) := dk_172 (dk_at dksX0_game_6 8 rfl rfl)
theorem dX0_game_151 : decode cX0_game 151 = .ok (.bipush (-2), 2) := dk_16 254 (dk_at dksX0_game_6 9 rfl rfl)
theorem dX0_game_153 : decode cX0_game 153 = .ok (.istore_n 3, 1) := dk_62 (dk_at dksX0_game_6 11 rfl rfl)
theorem dX0_game_154 : decode cX0_game 154 = .ok (.iconst 0, 1) := dk_3 (dk_at dksX0_game_6 12 rfl rfl)
theorem dX0_game_155 : decode cX0_game 155 = .ok (.istore 4, 2) := dk_54 4 (dk_at dksX0_game_6 13 rfl rfl)
theorem dX0_game_157 : decode cX0_game 157 = .ok (.iload 4, 2) := dk_21 4 (dk_at dksX0_game_6 15 rfl rfl)
theorem dX0_game_159 : decode cX0_game 159 = .ok (.iload_n 1, 1) := dk_27 (dk_at dksX0_game_6 17 rfl rfl)
theorem dX0_game_160 : decode cX0_game 160 = .ok (.if_icmp .ge 45, 3) := dk_162 0 45 (dk_at dksX0_game_6 18 rfl rfl)
theorem dX0_game_163 : decode cX0_game 163 = .ok (.aload_n 0, 1) := dk_42 (dk_at dksX0_game_6 21 rfl rfl)
theorem dX0_game_164 : decode cX0_game 164 = .ok (.iconst 1, 1) := dk_4 (dk_at dksX0_game_6 22 rfl rfl)
theorem dX0_game_165 : decode cX0_game 165 = .ok (.iconst 0, 1) := dk_3 (dk_at dksX0_game_6 23 rfl rfl)
theorem dX0_game_166 : decode cX0_game 166 = .ok (.iload 4, 2) := dk_21 4 (dk_at dksX0_game_7 0 rfl rfl)
theorem dX0_game_168 : decode cX0_game 168 = .ok (.invokevirtual 323, 3) := dk_182 1 67 (dk_at dksX0_game_7 2 rfl rfl)
theorem dX0_game_171 : decode cX0_game 171 = .ok (.ifCond .eq 28, 3) := dk_153 0 28 (dk_at dksX0_game_7 5 rfl rfl)
theorem dX0_game_174 : decode cX0_game 174 = .ok (.iload_n 3, 1) := dk_29 (dk_at dksX0_game_7 8 rfl rfl)
theorem dX0_game_175 : decode cX0_game 175 = .ok (.bipush (-2), 2) := dk_16 254 (dk_at dksX0_game_7 9 rfl rfl)
theorem dX0_game_177 : decode cX0_game 177 = .ok (.if_icmp .eq 14, 3) := dk_159 0 14 (dk_at dksX0_game_7 11 rfl rfl)
theorem dX0_game_180 : decode cX0_game 180 = .ok (.aload_n 0, 1) := dk_42 (dk_at dksX0_game_7 14 rfl rfl)
theorem dX0_game_181 : decode cX0_game 181 = .ok (.getfield 88, 3) := dk_180 0 88 (dk_at dksX0_game_7 15 rfl rfl)
theorem dX0_game_184 : decode cX0_game 184 = .ok (.iload 4, 2) := dk_21 4 (dk_at dksX0_game_7 18 rfl rfl)
theorem dX0_game_186 : decode cX0_game 186 = .ok (.iaload, 1) := dk_46 (dk_at dksX0_game_7 20 rfl rfl)
theorem dX0_game_187 : decode cX0_game 187 = .ok (.iload_n 3, 1) := dk_29 (dk_at dksX0_game_7 21 rfl rfl)
theorem dX0_game_188 : decode cX0_game 188 = .ok (.if_icmp .ge 11, 3) := dk_162 0 11 (dk_at dksX0_game_8 0 rfl rfl)
theorem dX0_game_191 : decode cX0_game 191 = .ok (.aload_n 0, 1) := dk_42 (dk_at dksX0_game_8 3 rfl rfl)
theorem dX0_game_192 : decode cX0_game 192 = .ok (.getfield 88, 3) := dk_180 0 88 (dk_at dksX0_game_8 4 rfl rfl)
theorem dX0_game_195 : decode cX0_game 195 = .ok (.iload 4, 2) := dk_21 4 (dk_at dksX0_game_8 7 rfl rfl)
theorem dX0_game_197 : decode cX0_game 197 = .ok (.iaload, 1) := dk_46 (dk_at dksX0_game_8 9 rfl rfl)
theorem dX0_game_198 : decode cX0_game 198 = .ok (.istore_n 3, 1) := dk_62 (dk_at dksX0_game_8 10 rfl rfl)
theorem dX0_game_199 : decode cX0_game 199 = .ok (.iinc 4 1, 3) := dk_132 4 1 (dk_at dksX0_game_8 11 rfl rfl)
theorem dX0_game_202 : decode cX0_game 202 = .ok (.goto (-45), 3) := dk_167 255 211 (dk_at dksX0_game_8 14 rfl rfl)
theorem dX0_game_205 : decode cX0_game 205 = .ok (.iload_n 3, 1) := dk_29 (dk_at dksX0_game_8 17 rfl rfl)
theorem dX0_game_206 : decode cX0_game 206 = .ok (.ireturn, 1) := dk_172 (dk_at dksX0_game_8 18 rfl rfl)
abbrev cX0_winsBy : ByteArray := prog_1_method_50_code
def yX0_winsBy : MethodName := ⟨RX0, "winsBy", "(III)Z"⟩
def dkwX0_winsBy_2 : List UInt8 := [167, 0, 4, 3, 172]
abbrev dktX0_winsBy_2 : List UInt8 := dkwX0_winsBy_2 ++ []
def dkwX0_winsBy_1 : List UInt8 := [182, 0, 244, 153, 0, 22, 42, 180, 0, 97, 27, 4, 29, 120, 128, 50, 29, 51, 154, 0, 7, 4]
abbrev dktX0_winsBy_1 : List UInt8 := dkwX0_winsBy_1 ++ dktX0_winsBy_2
def dkwX0_winsBy_0 : List UInt8 := [27, 133, 29, 184, 0, 131, 154, 0, 41, 42, 42, 180, 0, 88, 28, 46, 42, 180, 0, 88, 29, 46]
abbrev dktX0_winsBy_0 : List UInt8 := dkwX0_winsBy_0 ++ dktX0_winsBy_1
theorem dksX0_winsBy_0 : cX0_winsBy.data.toList.drop 0 = dktX0_winsBy_0 := by decide +kernel
theorem dksX0_winsBy_1 : cX0_winsBy.data.toList.drop 22 = dktX0_winsBy_1 := dk_seg dksX0_winsBy_0 22 rfl rfl
theorem dksX0_winsBy_2 : cX0_winsBy.data.toList.drop 44 = dktX0_winsBy_2 := dk_seg dksX0_winsBy_1 22 rfl rfl
theorem dX0_winsBy_0 : decode cX0_winsBy 0 = .ok (.iload_n 1, 1) := dk_27 (dk_at dksX0_winsBy_0 0 rfl rfl)
theorem dX0_winsBy_1 : decode cX0_winsBy 1 = .ok (.i2l, 1) := dk_133 (dk_at dksX0_winsBy_0 1 rfl rfl)
theorem dX0_winsBy_2 : decode cX0_winsBy 2 = .ok (.iload_n 3, 1) := dk_29 (dk_at dksX0_winsBy_0 2 rfl rfl)
theorem dX0_winsBy_3 : decode cX0_winsBy 3 = .ok (.invokestatic 131, 3) := dk_184 0 131 (dk_at dksX0_winsBy_0 3 rfl rfl)
theorem dX0_winsBy_6 : decode cX0_winsBy 6 = .ok (.ifCond .ne 41, 3) := dk_154 0 41 (dk_at dksX0_winsBy_0 6 rfl rfl)
theorem dX0_winsBy_9 : decode cX0_winsBy 9 = .ok (.aload_n 0, 1) := dk_42 (dk_at dksX0_winsBy_0 9 rfl rfl)
theorem dX0_winsBy_10 : decode cX0_winsBy 10 = .ok (.aload_n 0, 1) := dk_42 (dk_at dksX0_winsBy_0 10 rfl rfl)
theorem dX0_winsBy_11 : decode cX0_winsBy 11 = .ok (.getfield 88, 3) := dk_180 0 88 (dk_at dksX0_winsBy_0 11 rfl rfl)
theorem dX0_winsBy_14 : decode cX0_winsBy 14 = .ok (.iload_n 2, 1) := dk_28 (dk_at dksX0_winsBy_0 14 rfl rfl)
theorem dX0_winsBy_15 : decode cX0_winsBy 15 = .ok (.iaload, 1) := dk_46 (dk_at dksX0_winsBy_0 15 rfl rfl)
theorem dX0_winsBy_16 : decode cX0_winsBy 16 = .ok (.aload_n 0, 1) := dk_42 (dk_at dksX0_winsBy_0 16 rfl rfl)
theorem dX0_winsBy_17 : decode cX0_winsBy 17 = .ok (.getfield 88, 3) := dk_180 0 88 (dk_at dksX0_winsBy_0 17 rfl rfl)
theorem dX0_winsBy_20 : decode cX0_winsBy 20 = .ok (.iload_n 3, 1) := dk_29 (dk_at dksX0_winsBy_0 20 rfl rfl)
theorem dX0_winsBy_21 : decode cX0_winsBy 21 = .ok (.iaload, 1) := dk_46 (dk_at dksX0_winsBy_0 21 rfl rfl)
theorem dX0_winsBy_22 : decode cX0_winsBy 22 = .ok (.invokevirtual 244, 3) := dk_182 0 244 (dk_at dksX0_winsBy_1 0 rfl rfl)
theorem dX0_winsBy_25 : decode cX0_winsBy 25 = .ok (.ifCond .eq 22, 3) := dk_153 0 22 (dk_at dksX0_winsBy_1 3 rfl rfl)
theorem dX0_winsBy_28 : decode cX0_winsBy 28 = .ok (.aload_n 0, 1) := dk_42 (dk_at dksX0_winsBy_1 6 rfl rfl)
theorem dX0_winsBy_29 : decode cX0_winsBy 29 = .ok (.getfield 97, 3) := dk_180 0 97 (dk_at dksX0_winsBy_1 7 rfl rfl)
theorem dX0_winsBy_32 : decode cX0_winsBy 32 = .ok (.iload_n 1, 1) := dk_27 (dk_at dksX0_winsBy_1 10 rfl rfl)
theorem dX0_winsBy_33 : decode cX0_winsBy 33 = .ok (.iconst 1, 1) := dk_4 (dk_at dksX0_winsBy_1 11 rfl rfl)
theorem dX0_winsBy_34 : decode cX0_winsBy 34 = .ok (.iload_n 3, 1) := dk_29 (dk_at dksX0_winsBy_1 12 rfl rfl)
theorem dX0_winsBy_35 : decode cX0_winsBy 35 = .ok (.ishl, 1) := dk_120 (dk_at dksX0_winsBy_1 13 rfl rfl)
theorem dX0_winsBy_36 : decode cX0_winsBy 36 = .ok (.ior, 1) := dk_128 (dk_at dksX0_winsBy_1 14 rfl rfl)
theorem dX0_winsBy_37 : decode cX0_winsBy 37 = .ok (.aaload, 1) := dk_50 (dk_at dksX0_winsBy_1 15 rfl rfl)
theorem dX0_winsBy_38 : decode cX0_winsBy 38 = .ok (.iload_n 3, 1) := dk_29 (dk_at dksX0_winsBy_1 16 rfl rfl)
theorem dX0_winsBy_39 : decode cX0_winsBy 39 = .ok (.baload, 1) := dk_51 (dk_at dksX0_winsBy_1 17 rfl rfl)
theorem dX0_winsBy_40 : decode cX0_winsBy 40 = .ok (.ifCond .ne 7, 3) := dk_154 0 7 (dk_at dksX0_winsBy_1 18 rfl rfl)
theorem dX0_winsBy_43 : decode cX0_winsBy 43 = .ok (.iconst 1, 1) := dk_4 (dk_at dksX0_winsBy_1 21 rfl rfl)
theorem dX0_winsBy_44 : decode cX0_winsBy 44 = .ok (.goto 4, 3) := dk_167 0 4 (dk_at dksX0_winsBy_2 0 rfl rfl)
theorem dX0_winsBy_47 : decode cX0_winsBy 47 = .ok (.iconst 0, 1) := dk_3 (dk_at dksX0_winsBy_2 3 rfl rfl)
theorem dX0_winsBy_48 : decode cX0_winsBy 48 = .ok (.ireturn, 1) := dk_172 (dk_at dksX0_winsBy_2 4 rfl rfl)
abbrev cX0_farBy : ByteArray := prog_1_method_53_code
def yX0_farBy : MethodName := ⟨RX0, "farBy", "(II)I"⟩
def dkwX0_farBy_1 : List UInt8 := [50, 180, 0, 148, 182, 1, 70, 167, 0, 4, 2, 172]
abbrev dktX0_farBy_1 : List UInt8 := dkwX0_farBy_1 ++ []
def dkwX0_farBy_0 : List UInt8 := [42, 27, 28, 182, 0, 238, 153, 0, 28, 42, 42, 180, 0, 11, 27, 50, 180, 0, 148, 42, 180, 0, 11, 28]
abbrev dktX0_farBy_0 : List UInt8 := dkwX0_farBy_0 ++ dktX0_farBy_1
theorem dksX0_farBy_0 : cX0_farBy.data.toList.drop 0 = dktX0_farBy_0 := by decide +kernel
theorem dksX0_farBy_1 : cX0_farBy.data.toList.drop 24 = dktX0_farBy_1 := dk_seg dksX0_farBy_0 24 rfl rfl
theorem dX0_farBy_0 : decode cX0_farBy 0 = .ok (.aload_n 0, 1) := dk_42 (dk_at dksX0_farBy_0 0 rfl rfl)
theorem dX0_farBy_1 : decode cX0_farBy 1 = .ok (.iload_n 1, 1) := dk_27 (dk_at dksX0_farBy_0 1 rfl rfl)
theorem dX0_farBy_2 : decode cX0_farBy 2 = .ok (.iload_n 2, 1) := dk_28 (dk_at dksX0_farBy_0 2 rfl rfl)
theorem dX0_farBy_3 : decode cX0_farBy 3 = .ok (.invokevirtual 238, 3) := dk_182 0 238 (dk_at dksX0_farBy_0 3 rfl rfl)
theorem dX0_farBy_6 : decode cX0_farBy 6 = .ok (.ifCond .eq 28, 3) := dk_153 0 28 (dk_at dksX0_farBy_0 6 rfl rfl)
theorem dX0_farBy_9 : decode cX0_farBy 9 = .ok (.aload_n 0, 1) := dk_42 (dk_at dksX0_farBy_0 9 rfl rfl)
theorem dX0_farBy_10 : decode cX0_farBy 10 = .ok (.aload_n 0, 1) := dk_42 (dk_at dksX0_farBy_0 10 rfl rfl)
theorem dX0_farBy_11 : decode cX0_farBy 11 = .ok (.getfield 11, 3) := dk_180 0 11 (dk_at dksX0_farBy_0 11 rfl rfl)
theorem dX0_farBy_14 : decode cX0_farBy 14 = .ok (.iload_n 1, 1) := dk_27 (dk_at dksX0_farBy_0 14 rfl rfl)
theorem dX0_farBy_15 : decode cX0_farBy 15 = .ok (.aaload, 1) := dk_50 (dk_at dksX0_farBy_0 15 rfl rfl)
theorem dX0_farBy_16 : decode cX0_farBy 16 = .ok (.getfield 148, 3) := dk_180 0 148 (dk_at dksX0_farBy_0 16 rfl rfl)
theorem dX0_farBy_19 : decode cX0_farBy 19 = .ok (.aload_n 0, 1) := dk_42 (dk_at dksX0_farBy_0 19 rfl rfl)
theorem dX0_farBy_20 : decode cX0_farBy 20 = .ok (.getfield 11, 3) := dk_180 0 11 (dk_at dksX0_farBy_0 20 rfl rfl)
theorem dX0_farBy_23 : decode cX0_farBy 23 = .ok (.iload_n 2, 1) := dk_28 (dk_at dksX0_farBy_0 23 rfl rfl)
theorem dX0_farBy_24 : decode cX0_farBy 24 = .ok (.aaload, 1) := dk_50 (dk_at dksX0_farBy_1 0 rfl rfl)
theorem dX0_farBy_25 : decode cX0_farBy 25 = .ok (.getfield 148, 3) := dk_180 0 148 (dk_at dksX0_farBy_1 1 rfl rfl)
theorem dX0_farBy_28 : decode cX0_farBy 28 = .ok (.invokevirtual 326, 3) := dk_182 1 70 (dk_at dksX0_farBy_1 4 rfl rfl)
theorem dX0_farBy_31 : decode cX0_farBy 31 = .ok (.goto 4, 3) := dk_167 0 4 (dk_at dksX0_farBy_1 7 rfl rfl)
theorem dX0_farBy_34 : decode cX0_farBy 34 = .ok (.iconst (-1), 1) := dk_2 (dk_at dksX0_farBy_1 10 rfl rfl)
theorem dX0_farBy_35 : decode cX0_farBy 35 = .ok (.ireturn, 1) := dk_172 (dk_at dksX0_farBy_1 11 rfl rfl)
abbrev cX0_farOf : ByteArray := prog_1_method_52_code
def yX0_farOf : MethodName := ⟨RX0, "farOf", "(LLetterHeaps$Line;LLetterHeaps$Line;)I"⟩
def dkwX0_farOf_6 : List UInt8 := [167, 255, 120, 42, 180, 0, 100, 43, 180, 0, 189, 50, 44, 180, 0, 189, 46, 172]
abbrev dktX0_farOf_6 : List UInt8 := dkwX0_farOf_6 ++ []
def dkwX0_farOf_5 : List UInt8 := [21, 4, 4, 100, 46, 184, 0, 232, 96, 184, 0, 232, 79, 132, 4, 1, 167, 255, 137, 132, 3, 1]
abbrev dktX0_farOf_5 : List UInt8 := dkwX0_farOf_5 ++ dktX0_farOf_6
def dkwX0_farOf_4 : List UInt8 := [50, 21, 4, 21, 5, 4, 42, 180, 0, 100, 29, 4, 100, 50, 21, 4, 46, 42, 180, 0, 100, 29, 50]
abbrev dktX0_farOf_4 : List UInt8 := dkwX0_farOf_4 ++ dktX0_farOf_5
def dkwX0_farOf_3 : List UInt8 := [180, 0, 191, 21, 4, 4, 100, 46, 160, 0, 7, 3, 167, 0, 4, 4, 96, 54, 5, 42, 180, 0, 100, 29]
abbrev dktX0_farOf_3 : List UInt8 := dkwX0_farOf_3 ++ dktX0_farOf_4
def dkwX0_farOf_2 : List UInt8 := [42, 180, 0, 100, 29, 4, 100, 50, 21, 4, 4, 100, 46, 43, 180, 0, 191, 29, 4, 100, 46, 44]
abbrev dktX0_farOf_2 : List UInt8 := dkwX0_farOf_2 ++ dktX0_farOf_3
def dkwX0_farOf_1 : List UInt8 := [153, 0, 8, 21, 4, 154, 0, 19, 42, 180, 0, 100, 29, 50, 21, 4, 29, 21, 4, 96, 79, 167, 0, 85]
abbrev dktX0_farOf_1 : List UInt8 := dkwX0_farOf_1 ++ dktX0_farOf_2
def dkwX0_farOf_0 : List UInt8 := [3, 62, 29, 43, 180, 0, 189, 163, 0, 134, 3, 54, 4, 21, 4, 44, 180, 0, 189, 163, 0, 116, 29]
abbrev dktX0_farOf_0 : List UInt8 := dkwX0_farOf_0 ++ dktX0_farOf_1
theorem dksX0_farOf_0 : cX0_farOf.data.toList.drop 0 = dktX0_farOf_0 := by decide +kernel
theorem dksX0_farOf_1 : cX0_farOf.data.toList.drop 23 = dktX0_farOf_1 := dk_seg dksX0_farOf_0 23 rfl rfl
theorem dksX0_farOf_2 : cX0_farOf.data.toList.drop 47 = dktX0_farOf_2 := dk_seg dksX0_farOf_1 24 rfl rfl
theorem dksX0_farOf_3 : cX0_farOf.data.toList.drop 69 = dktX0_farOf_3 := dk_seg dksX0_farOf_2 22 rfl rfl
theorem dksX0_farOf_4 : cX0_farOf.data.toList.drop 93 = dktX0_farOf_4 := dk_seg dksX0_farOf_3 24 rfl rfl
theorem dksX0_farOf_5 : cX0_farOf.data.toList.drop 116 = dktX0_farOf_5 := dk_seg dksX0_farOf_4 23 rfl rfl
theorem dksX0_farOf_6 : cX0_farOf.data.toList.drop 138 = dktX0_farOf_6 := dk_seg dksX0_farOf_5 22 rfl rfl
theorem dX0_farOf_0 : decode cX0_farOf 0 = .ok (.iconst 0, 1) := dk_3 (dk_at dksX0_farOf_0 0 rfl rfl)
theorem dX0_farOf_1 : decode cX0_farOf 1 = .ok (.istore_n 3, 1) := dk_62 (dk_at dksX0_farOf_0 1 rfl rfl)
theorem dX0_farOf_2 : decode cX0_farOf 2 = .ok (.iload_n 3, 1) := dk_29 (dk_at dksX0_farOf_0 2 rfl rfl)
theorem dX0_farOf_3 : decode cX0_farOf 3 = .ok (.aload_n 1, 1) := dk_43 (dk_at dksX0_farOf_0 3 rfl rfl)
theorem dX0_farOf_4 : decode cX0_farOf 4 = .ok (.getfield 189, 3) := dk_180 0 189 (dk_at dksX0_farOf_0 4 rfl rfl)
theorem dX0_farOf_7 : decode cX0_farOf 7 = .ok (.if_icmp .gt 134, 3) := dk_163 0 134 (dk_at dksX0_farOf_0 7 rfl rfl)
theorem dX0_farOf_10 : decode cX0_farOf 10 = .ok (.iconst 0, 1) := dk_3 (dk_at dksX0_farOf_0 10 rfl rfl)
theorem dX0_farOf_11 : decode cX0_farOf 11 = .ok (.istore 4, 2) := dk_54 4 (dk_at dksX0_farOf_0 11 rfl rfl)
theorem dX0_farOf_13 : decode cX0_farOf 13 = .ok (.iload 4, 2) := dk_21 4 (dk_at dksX0_farOf_0 13 rfl rfl)
theorem dX0_farOf_15 : decode cX0_farOf 15 = .ok (.aload_n 2, 1) := dk_44 (dk_at dksX0_farOf_0 15 rfl rfl)
theorem dX0_farOf_16 : decode cX0_farOf 16 = .ok (.getfield 189, 3) := dk_180 0 189 (dk_at dksX0_farOf_0 16 rfl rfl)
theorem dX0_farOf_19 : decode cX0_farOf 19 = .ok (.if_icmp .gt 116, 3) := dk_163 0 116 (dk_at dksX0_farOf_0 19 rfl rfl)
theorem dX0_farOf_22 : decode cX0_farOf 22 = .ok (.iload_n 3, 1) := dk_29 (dk_at dksX0_farOf_0 22 rfl rfl)
theorem dX0_farOf_23 : decode cX0_farOf 23 = .ok (.ifCond .eq 8, 3) := dk_153 0 8 (dk_at dksX0_farOf_1 0 rfl rfl)
theorem dX0_farOf_26 : decode cX0_farOf 26 = .ok (.iload 4, 2) := dk_21 4 (dk_at dksX0_farOf_1 3 rfl rfl)
theorem dX0_farOf_28 : decode cX0_farOf 28 = .ok (.ifCond .ne 19, 3) := dk_154 0 19 (dk_at dksX0_farOf_1 5 rfl rfl)
theorem dX0_farOf_31 : decode cX0_farOf 31 = .ok (.aload_n 0, 1) := dk_42 (dk_at dksX0_farOf_1 8 rfl rfl)
theorem dX0_farOf_32 : decode cX0_farOf 32 = .ok (.getfield 100, 3) := dk_180 0 100 (dk_at dksX0_farOf_1 9 rfl rfl)
theorem dX0_farOf_35 : decode cX0_farOf 35 = .ok (.iload_n 3, 1) := dk_29 (dk_at dksX0_farOf_1 12 rfl rfl)
theorem dX0_farOf_36 : decode cX0_farOf 36 = .ok (.aaload, 1) := dk_50 (dk_at dksX0_farOf_1 13 rfl rfl)
theorem dX0_farOf_37 : decode cX0_farOf 37 = .ok (.iload 4, 2) := dk_21 4 (dk_at dksX0_farOf_1 14 rfl rfl)
theorem dX0_farOf_39 : decode cX0_farOf 39 = .ok (.iload_n 3, 1) := dk_29 (dk_at dksX0_farOf_1 16 rfl rfl)
theorem dX0_farOf_40 : decode cX0_farOf 40 = .ok (.iload 4, 2) := dk_21 4 (dk_at dksX0_farOf_1 17 rfl rfl)
theorem dX0_farOf_42 : decode cX0_farOf 42 = .ok (.iadd, 1) := dk_96 (dk_at dksX0_farOf_1 19 rfl rfl)
theorem dX0_farOf_43 : decode cX0_farOf 43 = .ok (.iastore, 1) := dk_79 (dk_at dksX0_farOf_1 20 rfl rfl)
theorem dX0_farOf_44 : decode cX0_farOf 44 = .ok (.goto 85, 3) := dk_167 0 85 (dk_at dksX0_farOf_1 21 rfl rfl)
theorem dX0_farOf_47 : decode cX0_farOf 47 = .ok (.aload_n 0, 1) := dk_42 (dk_at dksX0_farOf_2 0 rfl rfl)
theorem dX0_farOf_48 : decode cX0_farOf 48 = .ok (.getfield 100, 3) := dk_180 0 100 (dk_at dksX0_farOf_2 1 rfl rfl)
theorem dX0_farOf_51 : decode cX0_farOf 51 = .ok (.iload_n 3, 1) := dk_29 (dk_at dksX0_farOf_2 4 rfl rfl)
theorem dX0_farOf_52 : decode cX0_farOf 52 = .ok (.iconst 1, 1) := dk_4 (dk_at dksX0_farOf_2 5 rfl rfl)
theorem dX0_farOf_53 : decode cX0_farOf 53 = .ok (.isub, 1) := dk_100 (dk_at dksX0_farOf_2 6 rfl rfl)
theorem dX0_farOf_54 : decode cX0_farOf 54 = .ok (.aaload, 1) := dk_50 (dk_at dksX0_farOf_2 7 rfl rfl)
theorem dX0_farOf_55 : decode cX0_farOf 55 = .ok (.iload 4, 2) := dk_21 4 (dk_at dksX0_farOf_2 8 rfl rfl)
theorem dX0_farOf_57 : decode cX0_farOf 57 = .ok (.iconst 1, 1) := dk_4 (dk_at dksX0_farOf_2 10 rfl rfl)
theorem dX0_farOf_58 : decode cX0_farOf 58 = .ok (.isub, 1) := dk_100 (dk_at dksX0_farOf_2 11 rfl rfl)
theorem dX0_farOf_59 : decode cX0_farOf 59 = .ok (.iaload, 1) := dk_46 (dk_at dksX0_farOf_2 12 rfl rfl)
theorem dX0_farOf_60 : decode cX0_farOf 60 = .ok (.aload_n 1, 1) := dk_43 (dk_at dksX0_farOf_2 13 rfl rfl)
theorem dX0_farOf_61 : decode cX0_farOf 61 = .ok (.getfield 191, 3) := dk_180 0 191 (dk_at dksX0_farOf_2 14 rfl rfl)
theorem dX0_farOf_64 : decode cX0_farOf 64 = .ok (.iload_n 3, 1) := dk_29 (dk_at dksX0_farOf_2 17 rfl rfl)
theorem dX0_farOf_65 : decode cX0_farOf 65 = .ok (.iconst 1, 1) := dk_4 (dk_at dksX0_farOf_2 18 rfl rfl)
theorem dX0_farOf_66 : decode cX0_farOf 66 = .ok (.isub, 1) := dk_100 (dk_at dksX0_farOf_2 19 rfl rfl)
theorem dX0_farOf_67 : decode cX0_farOf 67 = .ok (.iaload, 1) := dk_46 (dk_at dksX0_farOf_2 20 rfl rfl)
theorem dX0_farOf_68 : decode cX0_farOf 68 = .ok (.aload_n 2, 1) := dk_44 (dk_at dksX0_farOf_2 21 rfl rfl)
theorem dX0_farOf_69 : decode cX0_farOf 69 = .ok (.getfield 191, 3) := dk_180 0 191 (dk_at dksX0_farOf_3 0 rfl rfl)
theorem dX0_farOf_72 : decode cX0_farOf 72 = .ok (.iload 4, 2) := dk_21 4 (dk_at dksX0_farOf_3 3 rfl rfl)
theorem dX0_farOf_74 : decode cX0_farOf 74 = .ok (.iconst 1, 1) := dk_4 (dk_at dksX0_farOf_3 5 rfl rfl)
theorem dX0_farOf_75 : decode cX0_farOf 75 = .ok (.isub, 1) := dk_100 (dk_at dksX0_farOf_3 6 rfl rfl)
theorem dX0_farOf_76 : decode cX0_farOf 76 = .ok (.iaload, 1) := dk_46 (dk_at dksX0_farOf_3 7 rfl rfl)
theorem dX0_farOf_77 : decode cX0_farOf 77 = .ok (.if_icmp .ne 7, 3) := dk_160 0 7 (dk_at dksX0_farOf_3 8 rfl rfl)
theorem dX0_farOf_80 : decode cX0_farOf 80 = .ok (.iconst 0, 1) := dk_3 (dk_at dksX0_farOf_3 11 rfl rfl)
theorem dX0_farOf_81 : decode cX0_farOf 81 = .ok (.goto 4, 3) := dk_167 0 4 (dk_at dksX0_farOf_3 12 rfl rfl)
theorem dX0_farOf_84 : decode cX0_farOf 84 = .ok (.iconst 1, 1) := dk_4 (dk_at dksX0_farOf_3 15 rfl rfl)
theorem dX0_farOf_85 : decode cX0_farOf 85 = .ok (.iadd, 1) := dk_96 (dk_at dksX0_farOf_3 16 rfl rfl)
theorem dX0_farOf_86 : decode cX0_farOf 86 = .ok (.istore 5, 2) := dk_54 5 (dk_at dksX0_farOf_3 17 rfl rfl)
theorem dX0_farOf_88 : decode cX0_farOf 88 = .ok (.aload_n 0, 1) := dk_42 (dk_at dksX0_farOf_3 19 rfl rfl)
theorem dX0_farOf_89 : decode cX0_farOf 89 = .ok (.getfield 100, 3) := dk_180 0 100 (dk_at dksX0_farOf_3 20 rfl rfl)
theorem dX0_farOf_92 : decode cX0_farOf 92 = .ok (.iload_n 3, 1) := dk_29 (dk_at dksX0_farOf_3 23 rfl rfl)
theorem dX0_farOf_93 : decode cX0_farOf 93 = .ok (.aaload, 1) := dk_50 (dk_at dksX0_farOf_4 0 rfl rfl)
theorem dX0_farOf_94 : decode cX0_farOf 94 = .ok (.iload 4, 2) := dk_21 4 (dk_at dksX0_farOf_4 1 rfl rfl)
theorem dX0_farOf_96 : decode cX0_farOf 96 = .ok (.iload 5, 2) := dk_21 5 (dk_at dksX0_farOf_4 3 rfl rfl)
theorem dX0_farOf_98 : decode cX0_farOf 98 = .ok (.iconst 1, 1) := dk_4 (dk_at dksX0_farOf_4 5 rfl rfl)
theorem dX0_farOf_99 : decode cX0_farOf 99 = .ok (.aload_n 0, 1) := dk_42 (dk_at dksX0_farOf_4 6 rfl rfl)
theorem dX0_farOf_100 : decode cX0_farOf 100 = .ok (.getfield 100, 3) := dk_180 0 100 (dk_at dksX0_farOf_4 7 rfl rfl)
theorem dX0_farOf_103 : decode cX0_farOf 103 = .ok (.iload_n 3, 1) := dk_29 (dk_at dksX0_farOf_4 10 rfl rfl)
theorem dX0_farOf_104 : decode cX0_farOf 104 = .ok (.iconst 1, 1) := dk_4 (dk_at dksX0_farOf_4 11 rfl rfl)
theorem dX0_farOf_105 : decode cX0_farOf 105 = .ok (.isub, 1) := dk_100 (dk_at dksX0_farOf_4 12 rfl rfl)
theorem dX0_farOf_106 : decode cX0_farOf 106 = .ok (.aaload, 1) := dk_50 (dk_at dksX0_farOf_4 13 rfl rfl)
theorem dX0_farOf_107 : decode cX0_farOf 107 = .ok (.iload 4, 2) := dk_21 4 (dk_at dksX0_farOf_4 14 rfl rfl)
theorem dX0_farOf_109 : decode cX0_farOf 109 = .ok (.iaload, 1) := dk_46 (dk_at dksX0_farOf_4 16 rfl rfl)
theorem dX0_farOf_110 : decode cX0_farOf 110 = .ok (.aload_n 0, 1) := dk_42 (dk_at dksX0_farOf_4 17 rfl rfl)
theorem dX0_farOf_111 : decode cX0_farOf 111 = .ok (.getfield 100, 3) := dk_180 0 100 (dk_at dksX0_farOf_4 18 rfl rfl)
theorem dX0_farOf_114 : decode cX0_farOf 114 = .ok (.iload_n 3, 1) := dk_29 (dk_at dksX0_farOf_4 21 rfl rfl)
theorem dX0_farOf_115 : decode cX0_farOf 115 = .ok (.aaload, 1) := dk_50 (dk_at dksX0_farOf_4 22 rfl rfl)
theorem dX0_farOf_116 : decode cX0_farOf 116 = .ok (.iload 4, 2) := dk_21 4 (dk_at dksX0_farOf_5 0 rfl rfl)
theorem dX0_farOf_118 : decode cX0_farOf 118 = .ok (.iconst 1, 1) := dk_4 (dk_at dksX0_farOf_5 2 rfl rfl)
theorem dX0_farOf_119 : decode cX0_farOf 119 = .ok (.isub, 1) := dk_100 (dk_at dksX0_farOf_5 3 rfl rfl)
theorem dX0_farOf_120 : decode cX0_farOf 120 = .ok (.iaload, 1) := dk_46 (dk_at dksX0_farOf_5 4 rfl rfl)
theorem dX0_farOf_121 : decode cX0_farOf 121 = .ok (.invokestatic 232, 3) := dk_184 0 232 (dk_at dksX0_farOf_5 5 rfl rfl)
theorem dX0_farOf_124 : decode cX0_farOf 124 = .ok (.iadd, 1) := dk_96 (dk_at dksX0_farOf_5 8 rfl rfl)
theorem dX0_farOf_125 : decode cX0_farOf 125 = .ok (.invokestatic 232, 3) := dk_184 0 232 (dk_at dksX0_farOf_5 9 rfl rfl)
theorem dX0_farOf_128 : decode cX0_farOf 128 = .ok (.iastore, 1) := dk_79 (dk_at dksX0_farOf_5 12 rfl rfl)
theorem dX0_farOf_129 : decode cX0_farOf 129 = .ok (.iinc 4 1, 3) := dk_132 4 1 (dk_at dksX0_farOf_5 13 rfl rfl)
theorem dX0_farOf_132 : decode cX0_farOf 132 = .ok (.goto (-119), 3) := dk_167 255 137 (dk_at dksX0_farOf_5 16 rfl rfl)
theorem dX0_farOf_135 : decode cX0_farOf 135 = .ok (.iinc 3 1, 3) := dk_132 3 1 (dk_at dksX0_farOf_5 19 rfl rfl)
theorem dX0_farOf_138 : decode cX0_farOf 138 = .ok (.goto (-136), 3) := dk_167 255 120 (dk_at dksX0_farOf_6 0 rfl rfl)
theorem dX0_farOf_141 : decode cX0_farOf 141 = .ok (.aload_n 0, 1) := dk_42 (dk_at dksX0_farOf_6 3 rfl rfl)
theorem dX0_farOf_142 : decode cX0_farOf 142 = .ok (.getfield 100, 3) := dk_180 0 100 (dk_at dksX0_farOf_6 4 rfl rfl)
theorem dX0_farOf_145 : decode cX0_farOf 145 = .ok (.aload_n 1, 1) := dk_43 (dk_at dksX0_farOf_6 7 rfl rfl)
theorem dX0_farOf_146 : decode cX0_farOf 146 = .ok (.getfield 189, 3) := dk_180 0 189 (dk_at dksX0_farOf_6 8 rfl rfl)
theorem dX0_farOf_149 : decode cX0_farOf 149 = .ok (.aaload, 1) := dk_50 (dk_at dksX0_farOf_6 11 rfl rfl)
theorem dX0_farOf_150 : decode cX0_farOf 150 = .ok (.aload_n 2, 1) := dk_44 (dk_at dksX0_farOf_6 12 rfl rfl)
theorem dX0_farOf_151 : decode cX0_farOf 151 = .ok (.getfield 189, 3) := dk_180 0 189 (dk_at dksX0_farOf_6 13 rfl rfl)
theorem dX0_farOf_154 : decode cX0_farOf 154 = .ok (.iaload, 1) := dk_46 (dk_at dksX0_farOf_6 16 rfl rfl)
theorem dX0_farOf_155 : decode cX0_farOf 155 = .ok (.ireturn, 1) := dk_172 (dk_at dksX0_farOf_6 17 rfl rfl)
abbrev cX0_near : ByteArray := prog_1_method_54_code
def yX0_near : MethodName := ⟨RX0, "near", "(II)I"⟩
def dkwX0_near_8 : List UInt8 := [167, 0, 5, 21, 5, 172]
abbrev dktX0_near_8 : List UInt8 := dkwX0_near_8 ++ []
def dkwX0_near_7 : List UInt8 := [160, 0, 8, 16, 254, 167, 0, 23, 28, 154, 0, 8, 21, 4, 167, 0, 14, 28, 4, 160, 0, 7, 29]
abbrev dktX0_near_7 : List UInt8 := dkwX0_near_7 ++ dktX0_near_8
def dkwX0_near_6 : List UInt8 := [167, 0, 4, 29, 62, 21, 4, 21, 7, 184, 0, 232, 54, 4, 132, 6, 1, 167, 255, 161, 29, 16, 254]
abbrev dktX0_near_6 : List UInt8 := dkwX0_near_6 ++ dktX0_near_7
def dkwX0_near_5 : List UInt8 := [21, 4, 160, 0, 7, 4, 167, 0, 4, 3, 96, 54, 5, 21, 7, 21, 4, 162, 0, 8, 21, 6]
abbrev dktX0_near_5 : List UInt8 := dkwX0_near_5 ++ dktX0_near_6
def dkwX0_near_4 : List UInt8 := [180, 0, 148, 182, 1, 70, 54, 7, 21, 7, 21, 4, 162, 0, 7, 4, 167, 0, 18, 21, 5, 21, 7]
abbrev dktX0_near_4 : List UInt8 := dkwX0_near_4 ++ dktX0_near_5
def dkwX0_near_3 : List UInt8 := [21, 6, 182, 0, 221, 154, 0, 6, 167, 0, 74, 42, 42, 180, 0, 39, 42, 180, 0, 11, 21, 6, 50]
abbrev dktX0_near_3 : List UInt8 := dkwX0_near_3 ++ dktX0_near_4
def dkwX0_near_2 : List UInt8 := [172, 16, 254, 62, 18, 220, 54, 4, 3, 54, 5, 3, 54, 6, 21, 6, 42, 180, 0, 113, 162, 0, 92, 42]
abbrev dktX0_near_2 : List UInt8 := dkwX0_near_2 ++ dktX0_near_3
def dkwX0_near_1 : List UInt8 := [164, 0, 5, 2, 172, 42, 3, 181, 0, 135, 42, 42, 180, 0, 39, 27, 182, 0, 159, 154, 0, 6, 16, 254]
abbrev dktX0_near_1 : List UInt8 := dkwX0_near_1 ++ dktX0_near_2
def dkwX0_near_0 : List UInt8 := [27, 4, 16, 12, 184, 0, 155, 153, 0, 19, 28, 6, 184, 0, 116, 153, 0, 11, 27, 42, 180, 0, 135]
abbrev dktX0_near_0 : List UInt8 := dkwX0_near_0 ++ dktX0_near_1
theorem dksX0_near_0 : cX0_near.data.toList.drop 0 = dktX0_near_0 := by decide +kernel
theorem dksX0_near_1 : cX0_near.data.toList.drop 23 = dktX0_near_1 := dk_seg dksX0_near_0 23 rfl rfl
theorem dksX0_near_2 : cX0_near.data.toList.drop 47 = dktX0_near_2 := dk_seg dksX0_near_1 24 rfl rfl
theorem dksX0_near_3 : cX0_near.data.toList.drop 71 = dktX0_near_3 := dk_seg dksX0_near_2 24 rfl rfl
theorem dksX0_near_4 : cX0_near.data.toList.drop 94 = dktX0_near_4 := dk_seg dksX0_near_3 23 rfl rfl
theorem dksX0_near_5 : cX0_near.data.toList.drop 117 = dktX0_near_5 := dk_seg dksX0_near_4 23 rfl rfl
theorem dksX0_near_6 : cX0_near.data.toList.drop 139 = dktX0_near_6 := dk_seg dksX0_near_5 22 rfl rfl
theorem dksX0_near_7 : cX0_near.data.toList.drop 162 = dktX0_near_7 := dk_seg dksX0_near_6 23 rfl rfl
theorem dksX0_near_8 : cX0_near.data.toList.drop 185 = dktX0_near_8 := dk_seg dksX0_near_7 23 rfl rfl
theorem dX0_near_0 : decode cX0_near 0 = .ok (.iload_n 1, 1) := dk_27 (dk_at dksX0_near_0 0 rfl rfl)
theorem dX0_near_1 : decode cX0_near 1 = .ok (.iconst 1, 1) := dk_4 (dk_at dksX0_near_0 1 rfl rfl)
theorem dX0_near_2 : decode cX0_near 2 = .ok (.bipush 12, 2) := dk_16 12 (dk_at dksX0_near_0 2 rfl rfl)
theorem dX0_near_4 : decode cX0_near 4 = .ok (.invokestatic 155, 3) := dk_184 0 155 (dk_at dksX0_near_0 4 rfl rfl)
theorem dX0_near_7 : decode cX0_near 7 = .ok (.ifCond .eq 19, 3) := dk_153 0 19 (dk_at dksX0_near_0 7 rfl rfl)
theorem dX0_near_10 : decode cX0_near 10 = .ok (.iload_n 2, 1) := dk_28 (dk_at dksX0_near_0 10 rfl rfl)
theorem dX0_near_11 : decode cX0_near 11 = .ok (.iconst 3, 1) := dk_6 (dk_at dksX0_near_0 11 rfl rfl)
theorem dX0_near_12 : decode cX0_near 12 = .ok (.invokestatic 116, 3) := dk_184 0 116 (dk_at dksX0_near_0 12 rfl rfl)
theorem dX0_near_15 : decode cX0_near 15 = .ok (.ifCond .eq 11, 3) := dk_153 0 11 (dk_at dksX0_near_0 15 rfl rfl)
theorem dX0_near_18 : decode cX0_near 18 = .ok (.iload_n 1, 1) := dk_27 (dk_at dksX0_near_0 18 rfl rfl)
theorem dX0_near_19 : decode cX0_near 19 = .ok (.aload_n 0, 1) := dk_42 (dk_at dksX0_near_0 19 rfl rfl)
theorem dX0_near_20 : decode cX0_near 20 = .ok (.getfield 135, 3) := dk_180 0 135 (dk_at dksX0_near_0 20 rfl rfl)
theorem dX0_near_23 : decode cX0_near 23 = .ok (.if_icmp .le 5, 3) := dk_164 0 5 (dk_at dksX0_near_1 0 rfl rfl)
theorem dX0_near_26 : decode cX0_near 26 = .ok (.iconst (-1), 1) := dk_2 (dk_at dksX0_near_1 3 rfl rfl)
theorem dX0_near_27 : decode cX0_near 27 = .ok (.ireturn, 1) := dk_172 (dk_at dksX0_near_1 4 rfl rfl)
theorem dX0_near_28 : decode cX0_near 28 = .ok (.aload_n 0, 1) := dk_42 (dk_at dksX0_near_1 5 rfl rfl)
theorem dX0_near_29 : decode cX0_near 29 = .ok (.iconst 0, 1) := dk_3 (dk_at dksX0_near_1 6 rfl rfl)
theorem dX0_near_30 : decode cX0_near 30 = .ok (.putfield 135, 3) := dk_181 0 135 (dk_at dksX0_near_1 7 rfl rfl)
theorem dX0_near_33 : decode cX0_near 33 = .ok (.aload_n 0, 1) := dk_42 (dk_at dksX0_near_1 10 rfl rfl)
theorem dX0_near_34 : decode cX0_near 34 = .ok (.aload_n 0, 1) := dk_42 (dk_at dksX0_near_1 11 rfl rfl)
theorem dX0_near_35 : decode cX0_near 35 = .ok (.getfield 39, 3) := dk_180 0 39 (dk_at dksX0_near_1 12 rfl rfl)
theorem dX0_near_38 : decode cX0_near 38 = .ok (.iload_n 1, 1) := dk_27 (dk_at dksX0_near_1 15 rfl rfl)
theorem dX0_near_39 : decode cX0_near 39 = .ok (.invokevirtual 159, 3) := dk_182 0 159 (dk_at dksX0_near_1 16 rfl rfl)
theorem dX0_near_42 : decode cX0_near 42 = .ok (.ifCond .ne 6, 3) := dk_154 0 6 (dk_at dksX0_near_1 19 rfl rfl)
theorem dX0_near_45 : decode cX0_near 45 = .ok (.bipush (-2), 2) := dk_16 254 (dk_at dksX0_near_1 22 rfl rfl)
theorem dX0_near_47 : decode cX0_near 47 = .ok (.ireturn, 1) := dk_172 (dk_at dksX0_near_2 0 rfl rfl)
theorem dX0_near_48 : decode cX0_near 48 = .ok (.bipush (-2), 2) := dk_16 254 (dk_at dksX0_near_2 1 rfl rfl)
theorem dX0_near_50 : decode cX0_near 50 = .ok (.istore_n 3, 1) := dk_62 (dk_at dksX0_near_2 3 rfl rfl)
theorem dX0_near_51 : decode cX0_near 51 = .ok (.ldc 220, 2) := dk_18 220 (dk_at dksX0_near_2 4 rfl rfl)
theorem dX0_near_53 : decode cX0_near 53 = .ok (.istore 4, 2) := dk_54 4 (dk_at dksX0_near_2 6 rfl rfl)
theorem dX0_near_55 : decode cX0_near 55 = .ok (.iconst 0, 1) := dk_3 (dk_at dksX0_near_2 8 rfl rfl)
theorem dX0_near_56 : decode cX0_near 56 = .ok (.istore 5, 2) := dk_54 5 (dk_at dksX0_near_2 9 rfl rfl)
theorem dX0_near_58 : decode cX0_near 58 = .ok (.iconst 0, 1) := dk_3 (dk_at dksX0_near_2 11 rfl rfl)
theorem dX0_near_59 : decode cX0_near 59 = .ok (.istore 6, 2) := dk_54 6 (dk_at dksX0_near_2 12 rfl rfl)
theorem dX0_near_61 : decode cX0_near 61 = .ok (.iload 6, 2) := dk_21 6 (dk_at dksX0_near_2 14 rfl rfl)
theorem dX0_near_63 : decode cX0_near 63 = .ok (.aload_n 0, 1) := dk_42 (dk_at dksX0_near_2 16 rfl rfl)
theorem dX0_near_64 : decode cX0_near 64 = .ok (.getfield 113, 3) := dk_180 0 113 (dk_at dksX0_near_2 17 rfl rfl)
theorem dX0_near_67 : decode cX0_near 67 = .ok (.if_icmp .ge 92, 3) := dk_162 0 92 (dk_at dksX0_near_2 20 rfl rfl)
theorem dX0_near_70 : decode cX0_near 70 = .ok (.aload_n 0, 1) := dk_42 (dk_at dksX0_near_2 23 rfl rfl)
theorem dX0_near_71 : decode cX0_near 71 = .ok (.iload 6, 2) := dk_21 6 (dk_at dksX0_near_3 0 rfl rfl)
theorem dX0_near_73 : decode cX0_near 73 = .ok (.invokevirtual 221, 3) := dk_182 0 221 (dk_at dksX0_near_3 2 rfl rfl)
theorem dX0_near_76 : decode cX0_near 76 = .ok (.ifCond .ne 6, 3) := dk_154 0 6 (dk_at dksX0_near_3 5 rfl rfl)
theorem dX0_near_79 : decode cX0_near 79 = .ok (.goto 74, 3) := dk_167 0 74 (dk_at dksX0_near_3 8 rfl rfl)
theorem dX0_near_82 : decode cX0_near 82 = .ok (.aload_n 0, 1) := dk_42 (dk_at dksX0_near_3 11 rfl rfl)
theorem dX0_near_83 : decode cX0_near 83 = .ok (.aload_n 0, 1) := dk_42 (dk_at dksX0_near_3 12 rfl rfl)
theorem dX0_near_84 : decode cX0_near 84 = .ok (.getfield 39, 3) := dk_180 0 39 (dk_at dksX0_near_3 13 rfl rfl)
theorem dX0_near_87 : decode cX0_near 87 = .ok (.aload_n 0, 1) := dk_42 (dk_at dksX0_near_3 16 rfl rfl)
theorem dX0_near_88 : decode cX0_near 88 = .ok (.getfield 11, 3) := dk_180 0 11 (dk_at dksX0_near_3 17 rfl rfl)
theorem dX0_near_91 : decode cX0_near 91 = .ok (.iload 6, 2) := dk_21 6 (dk_at dksX0_near_3 20 rfl rfl)
theorem dX0_near_93 : decode cX0_near 93 = .ok (.aaload, 1) := dk_50 (dk_at dksX0_near_3 22 rfl rfl)
theorem dX0_near_94 : decode cX0_near 94 = .ok (.getfield 148, 3) := dk_180 0 148 (dk_at dksX0_near_4 0 rfl rfl)
theorem dX0_near_97 : decode cX0_near 97 = .ok (.invokevirtual 326, 3) := dk_182 1 70 (dk_at dksX0_near_4 3 rfl rfl)
theorem dX0_near_100 : decode cX0_near 100 = .ok (.istore 7, 2) := dk_54 7 (dk_at dksX0_near_4 6 rfl rfl)
theorem dX0_near_102 : decode cX0_near 102 = .ok (.iload 7, 2) := dk_21 7 (dk_at dksX0_near_4 8 rfl rfl)
theorem dX0_near_104 : decode cX0_near 104 = .ok (.iload 4, 2) := dk_21 4 (dk_at dksX0_near_4 10 rfl rfl)
theorem dX0_near_106 : decode cX0_near 106 = .ok (.if_icmp .ge 7, 3) := dk_162 0 7 (dk_at dksX0_near_4 12 rfl rfl)
theorem dX0_near_109 : decode cX0_near 109 = .ok (.iconst 1, 1) := dk_4 (dk_at dksX0_near_4 15 rfl rfl)
theorem dX0_near_110 : decode cX0_near 110 = .ok (.goto 18, 3) := dk_167 0 18 (dk_at dksX0_near_4 16 rfl rfl)
theorem dX0_near_113 : decode cX0_near 113 = .ok (.iload 5, 2) := dk_21 5 (dk_at dksX0_near_4 19 rfl rfl)
theorem dX0_near_115 : decode cX0_near 115 = .ok (.iload 7, 2) := dk_21 7 (dk_at dksX0_near_4 21 rfl rfl)
theorem dX0_near_117 : decode cX0_near 117 = .ok (.iload 4, 2) := dk_21 4 (dk_at dksX0_near_5 0 rfl rfl)
theorem dX0_near_119 : decode cX0_near 119 = .ok (.if_icmp .ne 7, 3) := dk_160 0 7 (dk_at dksX0_near_5 2 rfl rfl)
theorem dX0_near_122 : decode cX0_near 122 = .ok (.iconst 1, 1) := dk_4 (dk_at dksX0_near_5 5 rfl rfl)
theorem dX0_near_123 : decode cX0_near 123 = .ok (.goto 4, 3) := dk_167 0 4 (dk_at dksX0_near_5 6 rfl rfl)
theorem dX0_near_126 : decode cX0_near 126 = .ok (.iconst 0, 1) := dk_3 (dk_at dksX0_near_5 9 rfl rfl)
theorem dX0_near_127 : decode cX0_near 127 = .ok (.iadd, 1) := dk_96 (dk_at dksX0_near_5 10 rfl rfl)
theorem dX0_near_128 : decode cX0_near 128 = .ok (.istore 5, 2) := dk_54 5 (dk_at dksX0_near_5 11 rfl rfl)
theorem dX0_near_130 : decode cX0_near 130 = .ok (.iload 7, 2) := dk_21 7 (dk_at dksX0_near_5 13 rfl rfl)
theorem dX0_near_132 : decode cX0_near 132 = .ok (.iload 4, 2) := dk_21 4 (dk_at dksX0_near_5 15 rfl rfl)
theorem dX0_near_134 : decode cX0_near 134 = .ok (.if_icmp .ge 8, 3) := dk_162 0 8 (dk_at dksX0_near_5 17 rfl rfl)
theorem dX0_near_137 : decode cX0_near 137 = .ok (.iload 6, 2) := dk_21 6 (dk_at dksX0_near_5 20 rfl rfl)
theorem dX0_near_139 : decode cX0_near 139 = .ok (.goto 4, 3) := dk_167 0 4 (dk_at dksX0_near_6 0 rfl rfl)
theorem dX0_near_142 : decode cX0_near 142 = .ok (.iload_n 3, 1) := dk_29 (dk_at dksX0_near_6 3 rfl rfl)
theorem dX0_near_143 : decode cX0_near 143 = .ok (.istore_n 3, 1) := dk_62 (dk_at dksX0_near_6 4 rfl rfl)
theorem dX0_near_144 : decode cX0_near 144 = .ok (.iload 4, 2) := dk_21 4 (dk_at dksX0_near_6 5 rfl rfl)
theorem dX0_near_146 : decode cX0_near 146 = .ok (.iload 7, 2) := dk_21 7 (dk_at dksX0_near_6 7 rfl rfl)
theorem dX0_near_148 : decode cX0_near 148 = .ok (.invokestatic 232, 3) := dk_184 0 232 (dk_at dksX0_near_6 9 rfl rfl)
theorem dX0_near_151 : decode cX0_near 151 = .ok (.istore 4, 2) := dk_54 4 (dk_at dksX0_near_6 12 rfl rfl)
theorem dX0_near_153 : decode cX0_near 153 = .ok (.iinc 6 1, 3) := dk_132 6 1 (dk_at dksX0_near_6 14 rfl rfl)
theorem dX0_near_156 : decode cX0_near 156 = .ok (.goto (-95), 3) := dk_167 255 161 (dk_at dksX0_near_6 17 rfl rfl)
theorem dX0_near_159 : decode cX0_near 159 = .ok (.iload_n 3, 1) := dk_29 (dk_at dksX0_near_6 20 rfl rfl)
theorem dX0_near_160 : decode cX0_near 160 = .ok (.bipush (-2), 2) := dk_16 254 (dk_at dksX0_near_6 21 rfl rfl)
theorem dX0_near_162 : decode cX0_near 162 = .ok (.if_icmp .ne 8, 3) := dk_160 0 8 (dk_at dksX0_near_7 0 rfl rfl)
theorem dX0_near_165 : decode cX0_near 165 = .ok (.bipush (-2), 2) := dk_16 254 (dk_at dksX0_near_7 3 rfl rfl)
theorem dX0_near_167 : decode cX0_near 167 = .ok (.goto 23, 3) := dk_167 0 23 (dk_at dksX0_near_7 5 rfl rfl)
theorem dX0_near_170 : decode cX0_near 170 = .ok (.iload_n 2, 1) := dk_28 (dk_at dksX0_near_7 8 rfl rfl)
theorem dX0_near_171 : decode cX0_near 171 = .ok (.ifCond .ne 8, 3) := dk_154 0 8 (dk_at dksX0_near_7 9 rfl rfl)
theorem dX0_near_174 : decode cX0_near 174 = .ok (.iload 4, 2) := dk_21 4 (dk_at dksX0_near_7 12 rfl rfl)
theorem dX0_near_176 : decode cX0_near 176 = .ok (.goto 14, 3) := dk_167 0 14 (dk_at dksX0_near_7 14 rfl rfl)
theorem dX0_near_179 : decode cX0_near 179 = .ok (.iload_n 2, 1) := dk_28 (dk_at dksX0_near_7 17 rfl rfl)
theorem dX0_near_180 : decode cX0_near 180 = .ok (.iconst 1, 1) := dk_4 (dk_at dksX0_near_7 18 rfl rfl)
theorem dX0_near_181 : decode cX0_near 181 = .ok (.if_icmp .ne 7, 3) := dk_160 0 7 (dk_at dksX0_near_7 19 rfl rfl)
theorem dX0_near_184 : decode cX0_near 184 = .ok (.iload_n 3, 1) := dk_29 (dk_at dksX0_near_7 22 rfl rfl)
theorem dX0_near_185 : decode cX0_near 185 = .ok (.goto 5, 3) := dk_167 0 5 (dk_at dksX0_near_8 0 rfl rfl)
theorem dX0_near_188 : decode cX0_near 188 = .ok (.iload 5, 2) := dk_21 5 (dk_at dksX0_near_8 3 rfl rfl)
theorem dX0_near_190 : decode cX0_near 190 = .ok (.ireturn, 1) := dk_172 (dk_at dksX0_near_8 5 rfl rfl)
abbrev cX0_clear : ByteArray := prog_1_method_55_code
def yX0_clear : MethodName := ⟨RX0, "clear", "(III)I"⟩
def dkwX0_clear_11 : List UInt8 := [167, 0, 5, 21, 4, 172]
abbrev dktX0_clear_11 : List UInt8 := dkwX0_clear_11 ++ []
def dkwX0_clear_10 : List UInt8 := [153, 0, 7, 21, 5, 54, 4, 132, 5, 1, 167, 255, 165, 29, 154, 0, 11, 21, 4, 184, 1, 73]
abbrev dktX0_clear_10 : List UInt8 := dkwX0_clear_10 ++ dktX0_clear_11
def dkwX0_clear_9 : List UInt8 := [21, 7, 46, 21, 5, 126, 154, 0, 7, 4, 167, 0, 4, 3, 54, 6, 132, 7, 1, 167, 255, 211, 21, 6]
abbrev dktX0_clear_9 : List UInt8 := dkwX0_clear_9 ++ dktX0_clear_10
def dkwX0_clear_8 : List UInt8 := [162, 0, 45, 21, 6, 153, 0, 40, 21, 5, 133, 21, 7, 184, 0, 131, 153, 0, 16, 42, 180, 0, 103]
abbrev dktX0_clear_8 : List UInt8 := dkwX0_clear_8 ++ dktX0_clear_9
def dkwX0_clear_7 : List UInt8 := [184, 1, 73, 21, 4, 184, 1, 73, 164, 0, 7, 4, 167, 0, 4, 3, 54, 6, 3, 54, 7, 21, 7, 27]
abbrev dktX0_clear_7 : List UInt8 := dkwX0_clear_7 ++ dktX0_clear_8
def dkwX0_clear_6 : List UInt8 := [132, 4, 1, 167, 255, 165, 3, 54, 4, 4, 54, 5, 21, 5, 4, 27, 120, 162, 0, 89, 21, 5]
abbrev dktX0_clear_6 : List UInt8 := dkwX0_clear_6 ++ dktX0_clear_7
def dkwX0_clear_5 : List UInt8 := [162, 0, 17, 42, 180, 0, 103, 21, 4, 92, 46, 4, 21, 5, 120, 128, 79, 132, 5, 1, 167, 255, 188]
abbrev dktX0_clear_5 : List UInt8 := dkwX0_clear_5 ++ dktX0_clear_6
def dkwX0_clear_4 : List UInt8 := [46, 50, 180, 0, 148, 42, 180, 0, 11, 42, 180, 0, 88, 21, 5, 46, 50, 180, 0, 148, 182, 1, 70, 28]
abbrev dktX0_clear_4 : List UInt8 := dkwX0_clear_4 ++ dktX0_clear_5
def dkwX0_clear_3 : List UInt8 := [21, 5, 27, 162, 0, 68, 21, 4, 21, 5, 159, 0, 55, 42, 42, 180, 0, 11, 42, 180, 0, 88, 21, 4]
abbrev dktX0_clear_3 : List UInt8 := dkwX0_clear_3 ++ dktX0_clear_4
def dkwX0_clear_2 : List UInt8 := [16, 253, 172, 3, 54, 4, 21, 4, 27, 162, 0, 91, 42, 180, 0, 103, 21, 4, 3, 79, 3, 54, 5]
abbrev dktX0_clear_2 : List UInt8 := dkwX0_clear_2 ++ dktX0_clear_3
def dkwX0_clear_1 : List UInt8 := [184, 0, 116, 153, 0, 11, 27, 42, 180, 0, 135, 164, 0, 5, 2, 172, 42, 27, 182, 1, 51, 154, 0, 6]
abbrev dktX0_clear_1 : List UInt8 := dkwX0_clear_1 ++ dktX0_clear_2
def dkwX0_clear_0 : List UInt8 := [27, 4, 16, 14, 184, 0, 155, 153, 0, 29, 28, 4, 16, 9, 184, 0, 155, 153, 0, 19, 29, 5]
abbrev dktX0_clear_0 : List UInt8 := dkwX0_clear_0 ++ dktX0_clear_1
theorem dksX0_clear_0 : cX0_clear.data.toList.drop 0 = dktX0_clear_0 := by decide +kernel
theorem dksX0_clear_1 : cX0_clear.data.toList.drop 22 = dktX0_clear_1 := dk_seg dksX0_clear_0 22 rfl rfl
theorem dksX0_clear_2 : cX0_clear.data.toList.drop 46 = dktX0_clear_2 := dk_seg dksX0_clear_1 24 rfl rfl
theorem dksX0_clear_3 : cX0_clear.data.toList.drop 69 = dktX0_clear_3 := dk_seg dksX0_clear_2 23 rfl rfl
theorem dksX0_clear_4 : cX0_clear.data.toList.drop 93 = dktX0_clear_4 := dk_seg dksX0_clear_3 24 rfl rfl
theorem dksX0_clear_5 : cX0_clear.data.toList.drop 117 = dktX0_clear_5 := dk_seg dksX0_clear_4 24 rfl rfl
theorem dksX0_clear_6 : cX0_clear.data.toList.drop 140 = dktX0_clear_6 := dk_seg dksX0_clear_5 23 rfl rfl
theorem dksX0_clear_7 : cX0_clear.data.toList.drop 162 = dktX0_clear_7 := dk_seg dksX0_clear_6 22 rfl rfl
theorem dksX0_clear_8 : cX0_clear.data.toList.drop 186 = dktX0_clear_8 := dk_seg dksX0_clear_7 24 rfl rfl
theorem dksX0_clear_9 : cX0_clear.data.toList.drop 209 = dktX0_clear_9 := dk_seg dksX0_clear_8 23 rfl rfl
theorem dksX0_clear_10 : cX0_clear.data.toList.drop 233 = dktX0_clear_10 := dk_seg dksX0_clear_9 24 rfl rfl
theorem dksX0_clear_11 : cX0_clear.data.toList.drop 255 = dktX0_clear_11 := dk_seg dksX0_clear_10 22 rfl rfl
theorem dX0_clear_0 : decode cX0_clear 0 = .ok (.iload_n 1, 1) := dk_27 (dk_at dksX0_clear_0 0 rfl rfl)
theorem dX0_clear_1 : decode cX0_clear 1 = .ok (.iconst 1, 1) := dk_4 (dk_at dksX0_clear_0 1 rfl rfl)
theorem dX0_clear_2 : decode cX0_clear 2 = .ok (.bipush 14, 2) := dk_16 14 (dk_at dksX0_clear_0 2 rfl rfl)
theorem dX0_clear_4 : decode cX0_clear 4 = .ok (.invokestatic 155, 3) := dk_184 0 155 (dk_at dksX0_clear_0 4 rfl rfl)
theorem dX0_clear_7 : decode cX0_clear 7 = .ok (.ifCond .eq 29, 3) := dk_153 0 29 (dk_at dksX0_clear_0 7 rfl rfl)
theorem dX0_clear_10 : decode cX0_clear 10 = .ok (.iload_n 2, 1) := dk_28 (dk_at dksX0_clear_0 10 rfl rfl)
theorem dX0_clear_11 : decode cX0_clear 11 = .ok (.iconst 1, 1) := dk_4 (dk_at dksX0_clear_0 11 rfl rfl)
theorem dX0_clear_12 : decode cX0_clear 12 = .ok (.bipush 9, 2) := dk_16 9 (dk_at dksX0_clear_0 12 rfl rfl)
theorem dX0_clear_14 : decode cX0_clear 14 = .ok (.invokestatic 155, 3) := dk_184 0 155 (dk_at dksX0_clear_0 14 rfl rfl)
theorem dX0_clear_17 : decode cX0_clear 17 = .ok (.ifCond .eq 19, 3) := dk_153 0 19 (dk_at dksX0_clear_0 17 rfl rfl)
theorem dX0_clear_20 : decode cX0_clear 20 = .ok (.iload_n 3, 1) := dk_29 (dk_at dksX0_clear_0 20 rfl rfl)
theorem dX0_clear_21 : decode cX0_clear 21 = .ok (.iconst 2, 1) := dk_5 (dk_at dksX0_clear_0 21 rfl rfl)
theorem dX0_clear_22 : decode cX0_clear 22 = .ok (.invokestatic 116, 3) := dk_184 0 116 (dk_at dksX0_clear_1 0 rfl rfl)
theorem dX0_clear_25 : decode cX0_clear 25 = .ok (.ifCond .eq 11, 3) := dk_153 0 11 (dk_at dksX0_clear_1 3 rfl rfl)
theorem dX0_clear_28 : decode cX0_clear 28 = .ok (.iload_n 1, 1) := dk_27 (dk_at dksX0_clear_1 6 rfl rfl)
theorem dX0_clear_29 : decode cX0_clear 29 = .ok (.aload_n 0, 1) := dk_42 (dk_at dksX0_clear_1 7 rfl rfl)
theorem dX0_clear_30 : decode cX0_clear 30 = .ok (.getfield 135, 3) := dk_180 0 135 (dk_at dksX0_clear_1 8 rfl rfl)
theorem dX0_clear_33 : decode cX0_clear 33 = .ok (.if_icmp .le 5, 3) := dk_164 0 5 (dk_at dksX0_clear_1 11 rfl rfl)
theorem dX0_clear_36 : decode cX0_clear 36 = .ok (.iconst (-1), 1) := dk_2 (dk_at dksX0_clear_1 14 rfl rfl)
theorem dX0_clear_37 : decode cX0_clear 37 = .ok (.ireturn, 1) := dk_172 (dk_at dksX0_clear_1 15 rfl rfl)
theorem dX0_clear_38 : decode cX0_clear 38 = .ok (.aload_n 0, 1) := dk_42 (dk_at dksX0_clear_1 16 rfl rfl)
theorem dX0_clear_39 : decode cX0_clear 39 = .ok (.iload_n 1, 1) := dk_27 (dk_at dksX0_clear_1 17 rfl rfl)
theorem dX0_clear_40 : decode cX0_clear 40 = .ok (.invokevirtual 307, 3) := dk_182 1 51 (dk_at dksX0_clear_1 18 rfl rfl)
theorem dX0_clear_43 : decode cX0_clear 43 = .ok (.ifCond .ne 6, 3) := dk_154 0 6 (dk_at dksX0_clear_1 21 rfl rfl)
theorem dX0_clear_46 : decode cX0_clear 46 = .ok (.bipush (-3), 2) := dk_16 253 (dk_at dksX0_clear_2 0 rfl rfl)
theorem dX0_clear_48 : decode cX0_clear 48 = .ok (.ireturn, 1) := dk_172 (dk_at dksX0_clear_2 2 rfl rfl)
theorem dX0_clear_49 : decode cX0_clear 49 = .ok (.iconst 0, 1) := dk_3 (dk_at dksX0_clear_2 3 rfl rfl)
theorem dX0_clear_50 : decode cX0_clear 50 = .ok (.istore 4, 2) := dk_54 4 (dk_at dksX0_clear_2 4 rfl rfl)
theorem dX0_clear_52 : decode cX0_clear 52 = .ok (.iload 4, 2) := dk_21 4 (dk_at dksX0_clear_2 6 rfl rfl)
theorem dX0_clear_54 : decode cX0_clear 54 = .ok (.iload_n 1, 1) := dk_27 (dk_at dksX0_clear_2 8 rfl rfl)
theorem dX0_clear_55 : decode cX0_clear 55 = .ok (.if_icmp .ge 91, 3) := dk_162 0 91 (dk_at dksX0_clear_2 9 rfl rfl)
theorem dX0_clear_58 : decode cX0_clear 58 = .ok (.aload_n 0, 1) := dk_42 (dk_at dksX0_clear_2 12 rfl rfl)
theorem dX0_clear_59 : decode cX0_clear 59 = .ok (.getfield 103, 3) := dk_180 0 103 (dk_at dksX0_clear_2 13 rfl rfl)
theorem dX0_clear_62 : decode cX0_clear 62 = .ok (.iload 4, 2) := dk_21 4 (dk_at dksX0_clear_2 16 rfl rfl)
theorem dX0_clear_64 : decode cX0_clear 64 = .ok (.iconst 0, 1) := dk_3 (dk_at dksX0_clear_2 18 rfl rfl)
theorem dX0_clear_65 : decode cX0_clear 65 = .ok (.iastore, 1) := dk_79 (dk_at dksX0_clear_2 19 rfl rfl)
theorem dX0_clear_66 : decode cX0_clear 66 = .ok (.iconst 0, 1) := dk_3 (dk_at dksX0_clear_2 20 rfl rfl)
theorem dX0_clear_67 : decode cX0_clear 67 = .ok (.istore 5, 2) := dk_54 5 (dk_at dksX0_clear_2 21 rfl rfl)
theorem dX0_clear_69 : decode cX0_clear 69 = .ok (.iload 5, 2) := dk_21 5 (dk_at dksX0_clear_3 0 rfl rfl)
theorem dX0_clear_71 : decode cX0_clear 71 = .ok (.iload_n 1, 1) := dk_27 (dk_at dksX0_clear_3 2 rfl rfl)
theorem dX0_clear_72 : decode cX0_clear 72 = .ok (.if_icmp .ge 68, 3) := dk_162 0 68 (dk_at dksX0_clear_3 3 rfl rfl)
theorem dX0_clear_75 : decode cX0_clear 75 = .ok (.iload 4, 2) := dk_21 4 (dk_at dksX0_clear_3 6 rfl rfl)
theorem dX0_clear_77 : decode cX0_clear 77 = .ok (.iload 5, 2) := dk_21 5 (dk_at dksX0_clear_3 8 rfl rfl)
theorem dX0_clear_79 : decode cX0_clear 79 = .ok (.if_icmp .eq 55, 3) := dk_159 0 55 (dk_at dksX0_clear_3 10 rfl rfl)
theorem dX0_clear_82 : decode cX0_clear 82 = .ok (.aload_n 0, 1) := dk_42 (dk_at dksX0_clear_3 13 rfl rfl)
theorem dX0_clear_83 : decode cX0_clear 83 = .ok (.aload_n 0, 1) := dk_42 (dk_at dksX0_clear_3 14 rfl rfl)
theorem dX0_clear_84 : decode cX0_clear 84 = .ok (.getfield 11, 3) := dk_180 0 11 (dk_at dksX0_clear_3 15 rfl rfl)
theorem dX0_clear_87 : decode cX0_clear 87 = .ok (.aload_n 0, 1) := dk_42 (dk_at dksX0_clear_3 18 rfl rfl)
theorem dX0_clear_88 : decode cX0_clear 88 = .ok (.getfield 88, 3) := dk_180 0 88 (dk_at dksX0_clear_3 19 rfl rfl)
theorem dX0_clear_91 : decode cX0_clear 91 = .ok (.iload 4, 2) := dk_21 4 (dk_at dksX0_clear_3 22 rfl rfl)
theorem dX0_clear_93 : decode cX0_clear 93 = .ok (.iaload, 1) := dk_46 (dk_at dksX0_clear_4 0 rfl rfl)
theorem dX0_clear_94 : decode cX0_clear 94 = .ok (.aaload, 1) := dk_50 (dk_at dksX0_clear_4 1 rfl rfl)
theorem dX0_clear_95 : decode cX0_clear 95 = .ok (.getfield 148, 3) := dk_180 0 148 (dk_at dksX0_clear_4 2 rfl rfl)
theorem dX0_clear_98 : decode cX0_clear 98 = .ok (.aload_n 0, 1) := dk_42 (dk_at dksX0_clear_4 5 rfl rfl)
theorem dX0_clear_99 : decode cX0_clear 99 = .ok (.getfield 11, 3) := dk_180 0 11 (dk_at dksX0_clear_4 6 rfl rfl)
theorem dX0_clear_102 : decode cX0_clear 102 = .ok (.aload_n 0, 1) := dk_42 (dk_at dksX0_clear_4 9 rfl rfl)
theorem dX0_clear_103 : decode cX0_clear 103 = .ok (.getfield 88, 3) := dk_180 0 88 (dk_at dksX0_clear_4 10 rfl rfl)
theorem dX0_clear_106 : decode cX0_clear 106 = .ok (.iload 5, 2) := dk_21 5 (dk_at dksX0_clear_4 13 rfl rfl)
theorem dX0_clear_108 : decode cX0_clear 108 = .ok (.iaload, 1) := dk_46 (dk_at dksX0_clear_4 15 rfl rfl)
theorem dX0_clear_109 : decode cX0_clear 109 = .ok (.aaload, 1) := dk_50 (dk_at dksX0_clear_4 16 rfl rfl)
theorem dX0_clear_110 : decode cX0_clear 110 = .ok (.getfield 148, 3) := dk_180 0 148 (dk_at dksX0_clear_4 17 rfl rfl)
theorem dX0_clear_113 : decode cX0_clear 113 = .ok (.invokevirtual 326, 3) := dk_182 1 70 (dk_at dksX0_clear_4 20 rfl rfl)
theorem dX0_clear_116 : decode cX0_clear 116 = .ok (.iload_n 2, 1) := dk_28 (dk_at dksX0_clear_4 23 rfl rfl)
theorem dX0_clear_117 : decode cX0_clear 117 = .ok (.if_icmp .ge 17, 3) := dk_162 0 17 (dk_at dksX0_clear_5 0 rfl rfl)
theorem dX0_clear_120 : decode cX0_clear 120 = .ok (.aload_n 0, 1) := dk_42 (dk_at dksX0_clear_5 3 rfl rfl)
theorem dX0_clear_121 : decode cX0_clear 121 = .ok (.getfield 103, 3) := dk_180 0 103 (dk_at dksX0_clear_5 4 rfl rfl)
theorem dX0_clear_124 : decode cX0_clear 124 = .ok (.iload 4, 2) := dk_21 4 (dk_at dksX0_clear_5 7 rfl rfl)
theorem dX0_clear_126 : decode cX0_clear 126 = .ok (.dup2, 1) := dk_92 (dk_at dksX0_clear_5 9 rfl rfl)
theorem dX0_clear_127 : decode cX0_clear 127 = .ok (.iaload, 1) := dk_46 (dk_at dksX0_clear_5 10 rfl rfl)
theorem dX0_clear_128 : decode cX0_clear 128 = .ok (.iconst 1, 1) := dk_4 (dk_at dksX0_clear_5 11 rfl rfl)
theorem dX0_clear_129 : decode cX0_clear 129 = .ok (.iload 5, 2) := dk_21 5 (dk_at dksX0_clear_5 12 rfl rfl)
theorem dX0_clear_131 : decode cX0_clear 131 = .ok (.ishl, 1) := dk_120 (dk_at dksX0_clear_5 14 rfl rfl)
theorem dX0_clear_132 : decode cX0_clear 132 = .ok (.ior, 1) := dk_128 (dk_at dksX0_clear_5 15 rfl rfl)
theorem dX0_clear_133 : decode cX0_clear 133 = .ok (.iastore, 1) := dk_79 (dk_at dksX0_clear_5 16 rfl rfl)
theorem dX0_clear_134 : decode cX0_clear 134 = .ok (.iinc 5 1, 3) := dk_132 5 1 (dk_at dksX0_clear_5 17 rfl rfl)
theorem dX0_clear_137 : decode cX0_clear 137 = .ok (.goto (-68), 3) := dk_167 255 188 (dk_at dksX0_clear_5 20 rfl rfl)
theorem dX0_clear_140 : decode cX0_clear 140 = .ok (.iinc 4 1, 3) := dk_132 4 1 (dk_at dksX0_clear_6 0 rfl rfl)
theorem dX0_clear_143 : decode cX0_clear 143 = .ok (.goto (-91), 3) := dk_167 255 165 (dk_at dksX0_clear_6 3 rfl rfl)
theorem dX0_clear_146 : decode cX0_clear 146 = .ok (.iconst 0, 1) := dk_3 (dk_at dksX0_clear_6 6 rfl rfl)
theorem dX0_clear_147 : decode cX0_clear 147 = .ok (.istore 4, 2) := dk_54 4 (dk_at dksX0_clear_6 7 rfl rfl)
theorem dX0_clear_149 : decode cX0_clear 149 = .ok (.iconst 1, 1) := dk_4 (dk_at dksX0_clear_6 9 rfl rfl)
theorem dX0_clear_150 : decode cX0_clear 150 = .ok (.istore 5, 2) := dk_54 5 (dk_at dksX0_clear_6 10 rfl rfl)
theorem dX0_clear_152 : decode cX0_clear 152 = .ok (.iload 5, 2) := dk_21 5 (dk_at dksX0_clear_6 12 rfl rfl)
theorem dX0_clear_154 : decode cX0_clear 154 = .ok (.iconst 1, 1) := dk_4 (dk_at dksX0_clear_6 14 rfl rfl)
theorem dX0_clear_155 : decode cX0_clear 155 = .ok (.iload_n 1, 1) := dk_27 (dk_at dksX0_clear_6 15 rfl rfl)
theorem dX0_clear_156 : decode cX0_clear 156 = .ok (.ishl, 1) := dk_120 (dk_at dksX0_clear_6 16 rfl rfl)
theorem dX0_clear_157 : decode cX0_clear 157 = .ok (.if_icmp .ge 89, 3) := dk_162 0 89 (dk_at dksX0_clear_6 17 rfl rfl)
theorem dX0_clear_160 : decode cX0_clear 160 = .ok (.iload 5, 2) := dk_21 5 (dk_at dksX0_clear_6 20 rfl rfl)
theorem dX0_clear_162 : decode cX0_clear 162 = .ok (.invokestatic 329, 3) := dk_184 1 73 (dk_at dksX0_clear_7 0 rfl rfl)
theorem dX0_clear_165 : decode cX0_clear 165 = .ok (.iload 4, 2) := dk_21 4 (dk_at dksX0_clear_7 3 rfl rfl)
theorem dX0_clear_167 : decode cX0_clear 167 = .ok (.invokestatic 329, 3) := dk_184 1 73 (dk_at dksX0_clear_7 5 rfl rfl)
theorem dX0_clear_170 : decode cX0_clear 170 = .ok (.if_icmp .le 7, 3) := dk_164 0 7 (dk_at dksX0_clear_7 8 rfl rfl)
theorem dX0_clear_173 : decode cX0_clear 173 = .ok (.iconst 1, 1) := dk_4 (dk_at dksX0_clear_7 11 rfl rfl)
theorem dX0_clear_174 : decode cX0_clear 174 = .ok (.goto 4, 3) := dk_167 0 4 (dk_at dksX0_clear_7 12 rfl rfl)
theorem dX0_clear_177 : decode cX0_clear 177 = .ok (.iconst 0, 1) := dk_3 (dk_at dksX0_clear_7 15 rfl rfl)
theorem dX0_clear_178 : decode cX0_clear 178 = .ok (.istore 6, 2) := dk_54 6 (dk_at dksX0_clear_7 16 rfl rfl)
theorem dX0_clear_180 : decode cX0_clear 180 = .ok (.iconst 0, 1) := dk_3 (dk_at dksX0_clear_7 18 rfl rfl)
theorem dX0_clear_181 : decode cX0_clear 181 = .ok (.istore 7, 2) := dk_54 7 (dk_at dksX0_clear_7 19 rfl rfl)
theorem dX0_clear_183 : decode cX0_clear 183 = .ok (.iload 7, 2) := dk_21 7 (dk_at dksX0_clear_7 21 rfl rfl)
theorem dX0_clear_185 : decode cX0_clear 185 = .ok (.iload_n 1, 1) := dk_27 (dk_at dksX0_clear_7 23 rfl rfl)
theorem dX0_clear_186 : decode cX0_clear 186 = .ok (.if_icmp .ge 45, 3) := dk_162 0 45 (dk_at dksX0_clear_8 0 rfl rfl)
theorem dX0_clear_189 : decode cX0_clear 189 = .ok (.iload 6, 2) := dk_21 6 (dk_at dksX0_clear_8 3 rfl rfl)
theorem dX0_clear_191 : decode cX0_clear 191 = .ok (.ifCond .eq 40, 3) := dk_153 0 40 (dk_at dksX0_clear_8 5 rfl rfl)
theorem dX0_clear_194 : decode cX0_clear 194 = .ok (.iload 5, 2) := dk_21 5 (dk_at dksX0_clear_8 8 rfl rfl)
theorem dX0_clear_196 : decode cX0_clear 196 = .ok (.i2l, 1) := dk_133 (dk_at dksX0_clear_8 10 rfl rfl)
theorem dX0_clear_197 : decode cX0_clear 197 = .ok (.iload 7, 2) := dk_21 7 (dk_at dksX0_clear_8 11 rfl rfl)
theorem dX0_clear_199 : decode cX0_clear 199 = .ok (.invokestatic 131, 3) := dk_184 0 131 (dk_at dksX0_clear_8 13 rfl rfl)
theorem dX0_clear_202 : decode cX0_clear 202 = .ok (.ifCond .eq 16, 3) := dk_153 0 16 (dk_at dksX0_clear_8 16 rfl rfl)
theorem dX0_clear_205 : decode cX0_clear 205 = .ok (.aload_n 0, 1) := dk_42 (dk_at dksX0_clear_8 19 rfl rfl)
theorem dX0_clear_206 : decode cX0_clear 206 = .ok (.getfield 103, 3) := dk_180 0 103 (dk_at dksX0_clear_8 20 rfl rfl)
theorem dX0_clear_209 : decode cX0_clear 209 = .ok (.iload 7, 2) := dk_21 7 (dk_at dksX0_clear_9 0 rfl rfl)
theorem dX0_clear_211 : decode cX0_clear 211 = .ok (.iaload, 1) := dk_46 (dk_at dksX0_clear_9 2 rfl rfl)
theorem dX0_clear_212 : decode cX0_clear 212 = .ok (.iload 5, 2) := dk_21 5 (dk_at dksX0_clear_9 3 rfl rfl)
theorem dX0_clear_214 : decode cX0_clear 214 = .ok (.iand, 1) := dk_126 (dk_at dksX0_clear_9 5 rfl rfl)
theorem dX0_clear_215 : decode cX0_clear 215 = .ok (.ifCond .ne 7, 3) := dk_154 0 7 (dk_at dksX0_clear_9 6 rfl rfl)
theorem dX0_clear_218 : decode cX0_clear 218 = .ok (.iconst 1, 1) := dk_4 (dk_at dksX0_clear_9 9 rfl rfl)
theorem dX0_clear_219 : decode cX0_clear 219 = .ok (.goto 4, 3) := dk_167 0 4 (dk_at dksX0_clear_9 10 rfl rfl)
theorem dX0_clear_222 : decode cX0_clear 222 = .ok (.iconst 0, 1) := dk_3 (dk_at dksX0_clear_9 13 rfl rfl)
theorem dX0_clear_223 : decode cX0_clear 223 = .ok (.istore 6, 2) := dk_54 6 (dk_at dksX0_clear_9 14 rfl rfl)
theorem dX0_clear_225 : decode cX0_clear 225 = .ok (.iinc 7 1, 3) := dk_132 7 1 (dk_at dksX0_clear_9 16 rfl rfl)
theorem dX0_clear_228 : decode cX0_clear 228 = .ok (.goto (-45), 3) := dk_167 255 211 (dk_at dksX0_clear_9 19 rfl rfl)
theorem dX0_clear_231 : decode cX0_clear 231 = .ok (.iload 6, 2) := dk_21 6 (dk_at dksX0_clear_9 22 rfl rfl)
theorem dX0_clear_233 : decode cX0_clear 233 = .ok (.ifCond .eq 7, 3) := dk_153 0 7 (dk_at dksX0_clear_10 0 rfl rfl)
theorem dX0_clear_236 : decode cX0_clear 236 = .ok (.iload 5, 2) := dk_21 5 (dk_at dksX0_clear_10 3 rfl rfl)
theorem dX0_clear_238 : decode cX0_clear 238 = .ok (.istore 4, 2) := dk_54 4 (dk_at dksX0_clear_10 5 rfl rfl)
theorem dX0_clear_240 : decode cX0_clear 240 = .ok (.iinc 5 1, 3) := dk_132 5 1 (dk_at dksX0_clear_10 7 rfl rfl)
theorem dX0_clear_243 : decode cX0_clear 243 = .ok (.goto (-91), 3) := dk_167 255 165 (dk_at dksX0_clear_10 10 rfl rfl)
theorem dX0_clear_246 : decode cX0_clear 246 = .ok (.iload_n 3, 1) := dk_29 (dk_at dksX0_clear_10 13 rfl rfl)
theorem dX0_clear_247 : decode cX0_clear 247 = .ok (.ifCond .ne 11, 3) := dk_154 0 11 (dk_at dksX0_clear_10 14 rfl rfl)
theorem dX0_clear_250 : decode cX0_clear 250 = .ok (.iload 4, 2) := dk_21 4 (dk_at dksX0_clear_10 17 rfl rfl)
theorem dX0_clear_252 : decode cX0_clear 252 = .ok (.invokestatic 329, 3) := dk_184 1 73 (dk_at dksX0_clear_10 19 rfl rfl)
theorem dX0_clear_255 : decode cX0_clear 255 = .ok (.goto 5, 3) := dk_167 0 5 (dk_at dksX0_clear_11 0 rfl rfl)
theorem dX0_clear_258 : decode cX0_clear 258 = .ok (.iload 4, 2) := dk_21 4 (dk_at dksX0_clear_11 3 rfl rfl)
theorem dX0_clear_260 : decode cX0_clear 260 = .ok (.ireturn, 1) := dk_172 (dk_at dksX0_clear_11 5 rfl rfl)
abbrev cX0_rubbed : ByteArray := prog_1_method_56_code
def yX0_rubbed : MethodName := ⟨RX0, "rubbed", "(I)J"⟩
def dkwX0_rubbed_8 : List UInt8 := [32, 10, 21, 4, 121, 129, 65, 132, 4, 1, 167, 255, 135, 32, 173]
abbrev dktX0_rubbed_8 : List UInt8 := dkwX0_rubbed_8 ++ []
def dkwX0_rubbed_7 : List UInt8 := [21, 7, 46, 160, 0, 7, 4, 167, 0, 4, 3, 54, 6, 132, 7, 1, 167, 255, 202, 21, 6, 153, 0, 10]
abbrev dktX0_rubbed_7 : List UInt8 := dkwX0_rubbed_7 ++ dktX0_rubbed_8
def dkwX0_rubbed_6 : List UInt8 := [21, 7, 51, 16, 63, 159, 0, 24, 42, 180, 0, 15, 21, 7, 51, 16, 97, 100, 25, 5, 180, 0, 191]
abbrev dktX0_rubbed_6 : List UInt8 := dkwX0_rubbed_6 ++ dktX0_rubbed_7
def dkwX0_rubbed_5 : List UInt8 := [167, 0, 4, 3, 54, 6, 3, 54, 7, 21, 7, 27, 162, 0, 54, 21, 6, 153, 0, 49, 42, 180, 0, 15]
abbrev dktX0_rubbed_5 : List UInt8 := dkwX0_rubbed_5 ++ dktX0_rubbed_6
def dkwX0_rubbed_4 : List UInt8 := [180, 0, 148, 58, 5, 42, 21, 4, 182, 0, 221, 153, 0, 16, 25, 5, 180, 0, 189, 27, 160, 0, 7, 4]
abbrev dktX0_rubbed_4 : List UInt8 := dkwX0_rubbed_4 ++ dktX0_rubbed_5
def dkwX0_rubbed_3 : List UInt8 := [167, 255, 216, 9, 65, 3, 54, 4, 21, 4, 42, 180, 0, 113, 162, 0, 118, 42, 180, 0, 11, 21, 4, 50]
abbrev dktX0_rubbed_3 : List UInt8 := dkwX0_rubbed_3 ++ dktX0_rubbed_4
def dkwX0_rubbed_2 : List UInt8 := [180, 0, 15, 28, 51, 16, 97, 100, 16, 26, 184, 0, 116, 154, 0, 7, 20, 1, 3, 173, 132, 2, 1]
abbrev dktX0_rubbed_2 : List UInt8 := dkwX0_rubbed_2 ++ dktX0_rubbed_3
def dkwX0_rubbed_1 : List UInt8 := [181, 0, 135, 3, 61, 28, 27, 162, 0, 41, 42, 180, 0, 15, 28, 51, 16, 63, 159, 0, 24, 42]
abbrev dktX0_rubbed_1 : List UInt8 := dkwX0_rubbed_1 ++ dktX0_rubbed_2
def dkwX0_rubbed_0 : List UInt8 := [27, 4, 16, 8, 184, 0, 155, 153, 0, 11, 27, 42, 180, 0, 135, 164, 0, 7, 20, 1, 1, 173, 42, 3]
abbrev dktX0_rubbed_0 : List UInt8 := dkwX0_rubbed_0 ++ dktX0_rubbed_1
theorem dksX0_rubbed_0 : cX0_rubbed.data.toList.drop 0 = dktX0_rubbed_0 := by decide +kernel
theorem dksX0_rubbed_1 : cX0_rubbed.data.toList.drop 24 = dktX0_rubbed_1 := dk_seg dksX0_rubbed_0 24 rfl rfl
theorem dksX0_rubbed_2 : cX0_rubbed.data.toList.drop 46 = dktX0_rubbed_2 := dk_seg dksX0_rubbed_1 22 rfl rfl
theorem dksX0_rubbed_3 : cX0_rubbed.data.toList.drop 69 = dktX0_rubbed_3 := dk_seg dksX0_rubbed_2 23 rfl rfl
theorem dksX0_rubbed_4 : cX0_rubbed.data.toList.drop 93 = dktX0_rubbed_4 := dk_seg dksX0_rubbed_3 24 rfl rfl
theorem dksX0_rubbed_5 : cX0_rubbed.data.toList.drop 117 = dktX0_rubbed_5 := dk_seg dksX0_rubbed_4 24 rfl rfl
theorem dksX0_rubbed_6 : cX0_rubbed.data.toList.drop 141 = dktX0_rubbed_6 := dk_seg dksX0_rubbed_5 24 rfl rfl
theorem dksX0_rubbed_7 : cX0_rubbed.data.toList.drop 164 = dktX0_rubbed_7 := dk_seg dksX0_rubbed_6 23 rfl rfl
theorem dksX0_rubbed_8 : cX0_rubbed.data.toList.drop 188 = dktX0_rubbed_8 := dk_seg dksX0_rubbed_7 24 rfl rfl
theorem dX0_rubbed_0 : decode cX0_rubbed 0 = .ok (.iload_n 1, 1) := dk_27 (dk_at dksX0_rubbed_0 0 rfl rfl)
theorem dX0_rubbed_1 : decode cX0_rubbed 1 = .ok (.iconst 1, 1) := dk_4 (dk_at dksX0_rubbed_0 1 rfl rfl)
theorem dX0_rubbed_2 : decode cX0_rubbed 2 = .ok (.bipush 8, 2) := dk_16 8 (dk_at dksX0_rubbed_0 2 rfl rfl)
theorem dX0_rubbed_4 : decode cX0_rubbed 4 = .ok (.invokestatic 155, 3) := dk_184 0 155 (dk_at dksX0_rubbed_0 4 rfl rfl)
theorem dX0_rubbed_7 : decode cX0_rubbed 7 = .ok (.ifCond .eq 11, 3) := dk_153 0 11 (dk_at dksX0_rubbed_0 7 rfl rfl)
theorem dX0_rubbed_10 : decode cX0_rubbed 10 = .ok (.iload_n 1, 1) := dk_27 (dk_at dksX0_rubbed_0 10 rfl rfl)
theorem dX0_rubbed_11 : decode cX0_rubbed 11 = .ok (.aload_n 0, 1) := dk_42 (dk_at dksX0_rubbed_0 11 rfl rfl)
theorem dX0_rubbed_12 : decode cX0_rubbed 12 = .ok (.getfield 135, 3) := dk_180 0 135 (dk_at dksX0_rubbed_0 12 rfl rfl)
theorem dX0_rubbed_15 : decode cX0_rubbed 15 = .ok (.if_icmp .le 7, 3) := dk_164 0 7 (dk_at dksX0_rubbed_0 15 rfl rfl)
theorem dX0_rubbed_18 : decode cX0_rubbed 18 = .ok (.ldc2_w 257, 3) := dk_20 1 1 (dk_at dksX0_rubbed_0 18 rfl rfl)
theorem dX0_rubbed_21 : decode cX0_rubbed 21 = .ok (.lreturn, 1) := dk_173 (dk_at dksX0_rubbed_0 21 rfl rfl)
theorem dX0_rubbed_22 : decode cX0_rubbed 22 = .ok (.aload_n 0, 1) := dk_42 (dk_at dksX0_rubbed_0 22 rfl rfl)
theorem dX0_rubbed_23 : decode cX0_rubbed 23 = .ok (.iconst 0, 1) := dk_3 (dk_at dksX0_rubbed_0 23 rfl rfl)
theorem dX0_rubbed_24 : decode cX0_rubbed 24 = .ok (.putfield 135, 3) := dk_181 0 135 (dk_at dksX0_rubbed_1 0 rfl rfl)
theorem dX0_rubbed_27 : decode cX0_rubbed 27 = .ok (.iconst 0, 1) := dk_3 (dk_at dksX0_rubbed_1 3 rfl rfl)
theorem dX0_rubbed_28 : decode cX0_rubbed 28 = .ok (.istore_n 2, 1) := dk_61 (dk_at dksX0_rubbed_1 4 rfl rfl)
theorem dX0_rubbed_29 : decode cX0_rubbed 29 = .ok (.iload_n 2, 1) := dk_28 (dk_at dksX0_rubbed_1 5 rfl rfl)
theorem dX0_rubbed_30 : decode cX0_rubbed 30 = .ok (.iload_n 1, 1) := dk_27 (dk_at dksX0_rubbed_1 6 rfl rfl)
theorem dX0_rubbed_31 : decode cX0_rubbed 31 = .ok (.if_icmp .ge 41, 3) := dk_162 0 41 (dk_at dksX0_rubbed_1 7 rfl rfl)
theorem dX0_rubbed_34 : decode cX0_rubbed 34 = .ok (.aload_n 0, 1) := dk_42 (dk_at dksX0_rubbed_1 10 rfl rfl)
theorem dX0_rubbed_35 : decode cX0_rubbed 35 = .ok (.getfield 15, 3) := dk_180 0 15 (dk_at dksX0_rubbed_1 11 rfl rfl)
theorem dX0_rubbed_38 : decode cX0_rubbed 38 = .ok (.iload_n 2, 1) := dk_28 (dk_at dksX0_rubbed_1 14 rfl rfl)
theorem dX0_rubbed_39 : decode cX0_rubbed 39 = .ok (.baload, 1) := dk_51 (dk_at dksX0_rubbed_1 15 rfl rfl)
theorem dX0_rubbed_40 : decode cX0_rubbed 40 = .ok (.bipush 63, 2) := dk_16 63 (dk_at dksX0_rubbed_1 16 rfl rfl)
theorem dX0_rubbed_42 : decode cX0_rubbed 42 = .ok (.if_icmp .eq 24, 3) := dk_159 0 24 (dk_at dksX0_rubbed_1 18 rfl rfl)
theorem dX0_rubbed_45 : decode cX0_rubbed 45 = .ok (.aload_n 0, 1) := dk_42 (dk_at dksX0_rubbed_1 21 rfl rfl)
theorem dX0_rubbed_46 : decode cX0_rubbed 46 = .ok (.getfield 15, 3) := dk_180 0 15 (dk_at dksX0_rubbed_2 0 rfl rfl)
theorem dX0_rubbed_49 : decode cX0_rubbed 49 = .ok (.iload_n 2, 1) := dk_28 (dk_at dksX0_rubbed_2 3 rfl rfl)
theorem dX0_rubbed_50 : decode cX0_rubbed 50 = .ok (.baload, 1) := dk_51 (dk_at dksX0_rubbed_2 4 rfl rfl)
theorem dX0_rubbed_51 : decode cX0_rubbed 51 = .ok (.bipush 97, 2) := dk_16 97 (dk_at dksX0_rubbed_2 5 rfl rfl)
theorem dX0_rubbed_53 : decode cX0_rubbed 53 = .ok (.isub, 1) := dk_100 (dk_at dksX0_rubbed_2 7 rfl rfl)
theorem dX0_rubbed_54 : decode cX0_rubbed 54 = .ok (.bipush 26, 2) := dk_16 26 (dk_at dksX0_rubbed_2 8 rfl rfl)
theorem dX0_rubbed_56 : decode cX0_rubbed 56 = .ok (.invokestatic 116, 3) := dk_184 0 116 (dk_at dksX0_rubbed_2 10 rfl rfl)
theorem dX0_rubbed_59 : decode cX0_rubbed 59 = .ok (.ifCond .ne 7, 3) := dk_154 0 7 (dk_at dksX0_rubbed_2 13 rfl rfl)
theorem dX0_rubbed_62 : decode cX0_rubbed 62 = .ok (.ldc2_w 259, 3) := dk_20 1 3 (dk_at dksX0_rubbed_2 16 rfl rfl)
theorem dX0_rubbed_65 : decode cX0_rubbed 65 = .ok (.lreturn, 1) := dk_173 (dk_at dksX0_rubbed_2 19 rfl rfl)
theorem dX0_rubbed_66 : decode cX0_rubbed 66 = .ok (.iinc 2 1, 3) := dk_132 2 1 (dk_at dksX0_rubbed_2 20 rfl rfl)
theorem dX0_rubbed_69 : decode cX0_rubbed 69 = .ok (.goto (-40), 3) := dk_167 255 216 (dk_at dksX0_rubbed_3 0 rfl rfl)
theorem dX0_rubbed_72 : decode cX0_rubbed 72 = .ok (.lconst 0, 1) := dk_9 (dk_at dksX0_rubbed_3 3 rfl rfl)
theorem dX0_rubbed_73 : decode cX0_rubbed 73 = .ok (.lstore_n 2, 1) := dk_65 (dk_at dksX0_rubbed_3 4 rfl rfl)
theorem dX0_rubbed_74 : decode cX0_rubbed 74 = .ok (.iconst 0, 1) := dk_3 (dk_at dksX0_rubbed_3 5 rfl rfl)
theorem dX0_rubbed_75 : decode cX0_rubbed 75 = .ok (.istore 4, 2) := dk_54 4 (dk_at dksX0_rubbed_3 6 rfl rfl)
theorem dX0_rubbed_77 : decode cX0_rubbed 77 = .ok (.iload 4, 2) := dk_21 4 (dk_at dksX0_rubbed_3 8 rfl rfl)
theorem dX0_rubbed_79 : decode cX0_rubbed 79 = .ok (.aload_n 0, 1) := dk_42 (dk_at dksX0_rubbed_3 10 rfl rfl)
theorem dX0_rubbed_80 : decode cX0_rubbed 80 = .ok (.getfield 113, 3) := dk_180 0 113 (dk_at dksX0_rubbed_3 11 rfl rfl)
theorem dX0_rubbed_83 : decode cX0_rubbed 83 = .ok (.if_icmp .ge 118, 3) := dk_162 0 118 (dk_at dksX0_rubbed_3 14 rfl rfl)
theorem dX0_rubbed_86 : decode cX0_rubbed 86 = .ok (.aload_n 0, 1) := dk_42 (dk_at dksX0_rubbed_3 17 rfl rfl)
theorem dX0_rubbed_87 : decode cX0_rubbed 87 = .ok (.getfield 11, 3) := dk_180 0 11 (dk_at dksX0_rubbed_3 18 rfl rfl)
theorem dX0_rubbed_90 : decode cX0_rubbed 90 = .ok (.iload 4, 2) := dk_21 4 (dk_at dksX0_rubbed_3 21 rfl rfl)
theorem dX0_rubbed_92 : decode cX0_rubbed 92 = .ok (.aaload, 1) := dk_50 (dk_at dksX0_rubbed_3 23 rfl rfl)
theorem dX0_rubbed_93 : decode cX0_rubbed 93 = .ok (.getfield 148, 3) := dk_180 0 148 (dk_at dksX0_rubbed_4 0 rfl rfl)
theorem dX0_rubbed_96 : decode cX0_rubbed 96 = .ok (.astore 5, 2) := dk_58 5 (dk_at dksX0_rubbed_4 3 rfl rfl)
theorem dX0_rubbed_98 : decode cX0_rubbed 98 = .ok (.aload_n 0, 1) := dk_42 (dk_at dksX0_rubbed_4 5 rfl rfl)
theorem dX0_rubbed_99 : decode cX0_rubbed 99 = .ok (.iload 4, 2) := dk_21 4 (dk_at dksX0_rubbed_4 6 rfl rfl)
theorem dX0_rubbed_101 : decode cX0_rubbed 101 = .ok (.invokevirtual 221, 3) := dk_182 0 221 (dk_at dksX0_rubbed_4 8 rfl rfl)
theorem dX0_rubbed_104 : decode cX0_rubbed 104 = .ok (.ifCond .eq 16, 3) := dk_153 0 16 (dk_at dksX0_rubbed_4 11 rfl rfl)
theorem dX0_rubbed_107 : decode cX0_rubbed 107 = .ok (.aload 5, 2) := dk_25 5 (dk_at dksX0_rubbed_4 14 rfl rfl)
theorem dX0_rubbed_109 : decode cX0_rubbed 109 = .ok (.getfield 189, 3) := dk_180 0 189 (dk_at dksX0_rubbed_4 16 rfl rfl)
theorem dX0_rubbed_112 : decode cX0_rubbed 112 = .ok (.iload_n 1, 1) := dk_27 (dk_at dksX0_rubbed_4 19 rfl rfl)
theorem dX0_rubbed_113 : decode cX0_rubbed 113 = .ok (.if_icmp .ne 7, 3) := dk_160 0 7 (dk_at dksX0_rubbed_4 20 rfl rfl)
theorem dX0_rubbed_116 : decode cX0_rubbed 116 = .ok (.iconst 1, 1) := dk_4 (dk_at dksX0_rubbed_4 23 rfl rfl)
theorem dX0_rubbed_117 : decode cX0_rubbed 117 = .ok (.goto 4, 3) := dk_167 0 4 (dk_at dksX0_rubbed_5 0 rfl rfl)
theorem dX0_rubbed_120 : decode cX0_rubbed 120 = .ok (.iconst 0, 1) := dk_3 (dk_at dksX0_rubbed_5 3 rfl rfl)
theorem dX0_rubbed_121 : decode cX0_rubbed 121 = .ok (.istore 6, 2) := dk_54 6 (dk_at dksX0_rubbed_5 4 rfl rfl)
theorem dX0_rubbed_123 : decode cX0_rubbed 123 = .ok (.iconst 0, 1) := dk_3 (dk_at dksX0_rubbed_5 6 rfl rfl)
theorem dX0_rubbed_124 : decode cX0_rubbed 124 = .ok (.istore 7, 2) := dk_54 7 (dk_at dksX0_rubbed_5 7 rfl rfl)
theorem dX0_rubbed_126 : decode cX0_rubbed 126 = .ok (.iload 7, 2) := dk_21 7 (dk_at dksX0_rubbed_5 9 rfl rfl)
theorem dX0_rubbed_128 : decode cX0_rubbed 128 = .ok (.iload_n 1, 1) := dk_27 (dk_at dksX0_rubbed_5 11 rfl rfl)
theorem dX0_rubbed_129 : decode cX0_rubbed 129 = .ok (.if_icmp .ge 54, 3) := dk_162 0 54 (dk_at dksX0_rubbed_5 12 rfl rfl)
theorem dX0_rubbed_132 : decode cX0_rubbed 132 = .ok (.iload 6, 2) := dk_21 6 (dk_at dksX0_rubbed_5 15 rfl rfl)
theorem dX0_rubbed_134 : decode cX0_rubbed 134 = .ok (.ifCond .eq 49, 3) := dk_153 0 49 (dk_at dksX0_rubbed_5 17 rfl rfl)
theorem dX0_rubbed_137 : decode cX0_rubbed 137 = .ok (.aload_n 0, 1) := dk_42 (dk_at dksX0_rubbed_5 20 rfl rfl)
theorem dX0_rubbed_138 : decode cX0_rubbed 138 = .ok (.getfield 15, 3) := dk_180 0 15 (dk_at dksX0_rubbed_5 21 rfl rfl)
theorem dX0_rubbed_141 : decode cX0_rubbed 141 = .ok (.iload 7, 2) := dk_21 7 (dk_at dksX0_rubbed_6 0 rfl rfl)
theorem dX0_rubbed_143 : decode cX0_rubbed 143 = .ok (.baload, 1) := dk_51 (dk_at dksX0_rubbed_6 2 rfl rfl)
theorem dX0_rubbed_144 : decode cX0_rubbed 144 = .ok (.bipush 63, 2) := dk_16 63 (dk_at dksX0_rubbed_6 3 rfl rfl)
theorem dX0_rubbed_146 : decode cX0_rubbed 146 = .ok (.if_icmp .eq 24, 3) := dk_159 0 24 (dk_at dksX0_rubbed_6 5 rfl rfl)
theorem dX0_rubbed_149 : decode cX0_rubbed 149 = .ok (.aload_n 0, 1) := dk_42 (dk_at dksX0_rubbed_6 8 rfl rfl)
theorem dX0_rubbed_150 : decode cX0_rubbed 150 = .ok (.getfield 15, 3) := dk_180 0 15 (dk_at dksX0_rubbed_6 9 rfl rfl)
theorem dX0_rubbed_153 : decode cX0_rubbed 153 = .ok (.iload 7, 2) := dk_21 7 (dk_at dksX0_rubbed_6 12 rfl rfl)
theorem dX0_rubbed_155 : decode cX0_rubbed 155 = .ok (.baload, 1) := dk_51 (dk_at dksX0_rubbed_6 14 rfl rfl)
theorem dX0_rubbed_156 : decode cX0_rubbed 156 = .ok (.bipush 97, 2) := dk_16 97 (dk_at dksX0_rubbed_6 15 rfl rfl)
theorem dX0_rubbed_158 : decode cX0_rubbed 158 = .ok (.isub, 1) := dk_100 (dk_at dksX0_rubbed_6 17 rfl rfl)
theorem dX0_rubbed_159 : decode cX0_rubbed 159 = .ok (.aload 5, 2) := dk_25 5 (dk_at dksX0_rubbed_6 18 rfl rfl)
theorem dX0_rubbed_161 : decode cX0_rubbed 161 = .ok (.getfield 191, 3) := dk_180 0 191 (dk_at dksX0_rubbed_6 20 rfl rfl)
theorem dX0_rubbed_164 : decode cX0_rubbed 164 = .ok (.iload 7, 2) := dk_21 7 (dk_at dksX0_rubbed_7 0 rfl rfl)
theorem dX0_rubbed_166 : decode cX0_rubbed 166 = .ok (.iaload, 1) := dk_46 (dk_at dksX0_rubbed_7 2 rfl rfl)
theorem dX0_rubbed_167 : decode cX0_rubbed 167 = .ok (.if_icmp .ne 7, 3) := dk_160 0 7 (dk_at dksX0_rubbed_7 3 rfl rfl)
theorem dX0_rubbed_170 : decode cX0_rubbed 170 = .ok (.iconst 1, 1) := dk_4 (dk_at dksX0_rubbed_7 6 rfl rfl)
theorem dX0_rubbed_171 : decode cX0_rubbed 171 = .ok (.goto 4, 3) := dk_167 0 4 (dk_at dksX0_rubbed_7 7 rfl rfl)
theorem dX0_rubbed_174 : decode cX0_rubbed 174 = .ok (.iconst 0, 1) := dk_3 (dk_at dksX0_rubbed_7 10 rfl rfl)
theorem dX0_rubbed_175 : decode cX0_rubbed 175 = .ok (.istore 6, 2) := dk_54 6 (dk_at dksX0_rubbed_7 11 rfl rfl)
theorem dX0_rubbed_177 : decode cX0_rubbed 177 = .ok (.iinc 7 1, 3) := dk_132 7 1 (dk_at dksX0_rubbed_7 13 rfl rfl)
theorem dX0_rubbed_180 : decode cX0_rubbed 180 = .ok (.goto (-54), 3) := dk_167 255 202 (dk_at dksX0_rubbed_7 16 rfl rfl)
theorem dX0_rubbed_183 : decode cX0_rubbed 183 = .ok (.iload 6, 2) := dk_21 6 (dk_at dksX0_rubbed_7 19 rfl rfl)
theorem dX0_rubbed_185 : decode cX0_rubbed 185 = .ok (.ifCond .eq 10, 3) := dk_153 0 10 (dk_at dksX0_rubbed_7 21 rfl rfl)
theorem dX0_rubbed_188 : decode cX0_rubbed 188 = .ok (.lload_n 2, 1) := dk_32 (dk_at dksX0_rubbed_8 0 rfl rfl)
theorem dX0_rubbed_189 : decode cX0_rubbed 189 = .ok (.lconst 1, 1) := dk_10 (dk_at dksX0_rubbed_8 1 rfl rfl)
theorem dX0_rubbed_190 : decode cX0_rubbed 190 = .ok (.iload 4, 2) := dk_21 4 (dk_at dksX0_rubbed_8 2 rfl rfl)
theorem dX0_rubbed_192 : decode cX0_rubbed 192 = .ok (.lshl, 1) := dk_121 (dk_at dksX0_rubbed_8 4 rfl rfl)
theorem dX0_rubbed_193 : decode cX0_rubbed 193 = .ok (.lor, 1) := dk_129 (dk_at dksX0_rubbed_8 5 rfl rfl)
theorem dX0_rubbed_194 : decode cX0_rubbed 194 = .ok (.lstore_n 2, 1) := dk_65 (dk_at dksX0_rubbed_8 6 rfl rfl)
theorem dX0_rubbed_195 : decode cX0_rubbed 195 = .ok (.iinc 4 1, 3) := dk_132 4 1 (dk_at dksX0_rubbed_8 7 rfl rfl)
theorem dX0_rubbed_198 : decode cX0_rubbed 198 = .ok (.goto (-121), 3) := dk_167 255 135 (dk_at dksX0_rubbed_8 10 rfl rfl)
theorem dX0_rubbed_201 : decode cX0_rubbed 201 = .ok (.lload_n 2, 1) := dk_32 (dk_at dksX0_rubbed_8 13 rfl rfl)
theorem dX0_rubbed_202 : decode cX0_rubbed 202 = .ok (.lreturn, 1) := dk_173 (dk_at dksX0_rubbed_8 14 rfl rfl)
abbrev cX0_square : ByteArray := prog_1_method_59_code
def yX0_square : MethodName := ⟨RX0, "square", "(II)I"⟩
def dkwX0_square_2 : List UInt8 := [180, 1, 77, 154, 0, 8, 16, 254, 167, 0, 9, 42, 180, 0, 109, 28, 46, 172]
abbrev dktX0_square_2 : List UInt8 := dkwX0_square_2 ++ []
def dkwX0_square_1 : List UInt8 := [181, 1, 77, 42, 27, 3, 182, 1, 83, 28, 2, 160, 0, 10, 42, 180, 1, 77, 167, 0, 21, 42]
abbrev dktX0_square_1 : List UInt8 := dkwX0_square_1 ++ dktX0_square_2
def dkwX0_square_0 : List UInt8 := [27, 5, 7, 184, 0, 155, 153, 0, 14, 28, 2, 27, 4, 100, 184, 0, 155, 154, 0, 5, 2, 172, 42, 3]
abbrev dktX0_square_0 : List UInt8 := dkwX0_square_0 ++ dktX0_square_1
theorem dksX0_square_0 : cX0_square.data.toList.drop 0 = dktX0_square_0 := by decide +kernel
theorem dksX0_square_1 : cX0_square.data.toList.drop 24 = dktX0_square_1 := dk_seg dksX0_square_0 24 rfl rfl
theorem dksX0_square_2 : cX0_square.data.toList.drop 46 = dktX0_square_2 := dk_seg dksX0_square_1 22 rfl rfl
theorem dX0_square_0 : decode cX0_square 0 = .ok (.iload_n 1, 1) := dk_27 (dk_at dksX0_square_0 0 rfl rfl)
theorem dX0_square_1 : decode cX0_square 1 = .ok (.iconst 2, 1) := dk_5 (dk_at dksX0_square_0 1 rfl rfl)
theorem dX0_square_2 : decode cX0_square 2 = .ok (.iconst 4, 1) := dk_7 (dk_at dksX0_square_0 2 rfl rfl)
theorem dX0_square_3 : decode cX0_square 3 = .ok (.invokestatic 155, 3) := dk_184 0 155 (dk_at dksX0_square_0 3 rfl rfl)
theorem dX0_square_6 : decode cX0_square 6 = .ok (.ifCond .eq 14, 3) := dk_153 0 14 (dk_at dksX0_square_0 6 rfl rfl)
theorem dX0_square_9 : decode cX0_square 9 = .ok (.iload_n 2, 1) := dk_28 (dk_at dksX0_square_0 9 rfl rfl)
theorem dX0_square_10 : decode cX0_square 10 = .ok (.iconst (-1), 1) := dk_2 (dk_at dksX0_square_0 10 rfl rfl)
theorem dX0_square_11 : decode cX0_square 11 = .ok (.iload_n 1, 1) := dk_27 (dk_at dksX0_square_0 11 rfl rfl)
theorem dX0_square_12 : decode cX0_square 12 = .ok (.iconst 1, 1) := dk_4 (dk_at dksX0_square_0 12 rfl rfl)
theorem dX0_square_13 : decode cX0_square 13 = .ok (.isub, 1) := dk_100 (dk_at dksX0_square_0 13 rfl rfl)
theorem dX0_square_14 : decode cX0_square 14 = .ok (.invokestatic 155, 3) := dk_184 0 155 (dk_at dksX0_square_0 14 rfl rfl)
theorem dX0_square_17 : decode cX0_square 17 = .ok (.ifCond .ne 5, 3) := dk_154 0 5 (dk_at dksX0_square_0 17 rfl rfl)
theorem dX0_square_20 : decode cX0_square 20 = .ok (.iconst (-1), 1) := dk_2 (dk_at dksX0_square_0 20 rfl rfl)
theorem dX0_square_21 : decode cX0_square 21 = .ok (.ireturn, 1) := dk_172 (dk_at dksX0_square_0 21 rfl rfl)
theorem dX0_square_22 : decode cX0_square 22 = .ok (.aload_n 0, 1) := dk_42 (dk_at dksX0_square_0 22 rfl rfl)
theorem dX0_square_23 : decode cX0_square 23 = .ok (.iconst 0, 1) := dk_3 (dk_at dksX0_square_0 23 rfl rfl)
theorem dX0_square_24 : decode cX0_square 24 = .ok (.putfield 333, 3) := dk_181 1 77 (dk_at dksX0_square_1 0 rfl rfl)
theorem dX0_square_27 : decode cX0_square 27 = .ok (.aload_n 0, 1) := dk_42 (dk_at dksX0_square_1 3 rfl rfl)
theorem dX0_square_28 : decode cX0_square 28 = .ok (.iload_n 1, 1) := dk_27 (dk_at dksX0_square_1 4 rfl rfl)
theorem dX0_square_29 : decode cX0_square 29 = .ok (.iconst 0, 1) := dk_3 (dk_at dksX0_square_1 5 rfl rfl)
theorem dX0_square_30 : decode cX0_square 30 = .ok (.invokevirtual 339, 3) := dk_182 1 83 (dk_at dksX0_square_1 6 rfl rfl)
theorem dX0_square_33 : decode cX0_square 33 = .ok (.iload_n 2, 1) := dk_28 (dk_at dksX0_square_1 9 rfl rfl)
theorem dX0_square_34 : decode cX0_square 34 = .ok (.iconst (-1), 1) := dk_2 (dk_at dksX0_square_1 10 rfl rfl)
theorem dX0_square_35 : decode cX0_square 35 = .ok (.if_icmp .ne 10, 3) := dk_160 0 10 (dk_at dksX0_square_1 11 rfl rfl)
theorem dX0_square_38 : decode cX0_square 38 = .ok (.aload_n 0, 1) := dk_42 (dk_at dksX0_square_1 14 rfl rfl)
theorem dX0_square_39 : decode cX0_square 39 = .ok (.getfield 333, 3) := dk_180 1 77 (dk_at dksX0_square_1 15 rfl rfl)
theorem dX0_square_42 : decode cX0_square 42 = .ok (.goto 21, 3) := dk_167 0 21 (dk_at dksX0_square_1 18 rfl rfl)
theorem dX0_square_45 : decode cX0_square 45 = .ok (.aload_n 0, 1) := dk_42 (dk_at dksX0_square_1 21 rfl rfl)
theorem dX0_square_46 : decode cX0_square 46 = .ok (.getfield 333, 3) := dk_180 1 77 (dk_at dksX0_square_2 0 rfl rfl)
theorem dX0_square_49 : decode cX0_square 49 = .ok (.ifCond .ne 8, 3) := dk_154 0 8 (dk_at dksX0_square_2 3 rfl rfl)
theorem dX0_square_52 : decode cX0_square 52 = .ok (.bipush (-2), 2) := dk_16 254 (dk_at dksX0_square_2 6 rfl rfl)
theorem dX0_square_54 : decode cX0_square 54 = .ok (.goto 9, 3) := dk_167 0 9 (dk_at dksX0_square_2 8 rfl rfl)
theorem dX0_square_57 : decode cX0_square 57 = .ok (.aload_n 0, 1) := dk_42 (dk_at dksX0_square_2 11 rfl rfl)
theorem dX0_square_58 : decode cX0_square 58 = .ok (.getfield 109, 3) := dk_180 0 109 (dk_at dksX0_square_2 12 rfl rfl)
theorem dX0_square_61 : decode cX0_square 61 = .ok (.iload_n 2, 1) := dk_28 (dk_at dksX0_square_2 15 rfl rfl)
theorem dX0_square_62 : decode cX0_square 62 = .ok (.iaload, 1) := dk_46 (dk_at dksX0_square_2 16 rfl rfl)
theorem dX0_square_63 : decode cX0_square 63 = .ok (.ireturn, 1) := dk_172 (dk_at dksX0_square_2 17 rfl rfl)
abbrev cX0_fills : ByteArray := prog_1_method_58_code
def yX0_fills : MethodName := ⟨RX0, "fills", "(II)V"⟩
def dkwX0_fills_6 : List UInt8 := [167, 255, 163, 177]
abbrev dktX0_fills_6 : List UInt8 := dkwX0_fills_6 ++ []
def dkwX0_fills_5 : List UInt8 := [54, 4, 132, 5, 1, 167, 255, 230, 21, 4, 153, 0, 11, 42, 27, 28, 4, 96, 182, 1, 83, 132, 3, 1]
abbrev dktX0_fills_5 : List UInt8 := dkwX0_fills_5 ++ dktX0_fills_6
def dkwX0_fills_4 : List UInt8 := [54, 5, 21, 5, 27, 162, 0, 26, 21, 4, 153, 0, 21, 42, 27, 28, 4, 96, 21, 5, 182, 1, 80]
abbrev dktX0_fills_4 : List UInt8 := dkwX0_fills_4 ++ dktX0_fills_5
def dkwX0_fills_3 : List UInt8 := [180, 0, 148, 180, 0, 189, 27, 159, 0, 6, 167, 0, 58, 42, 180, 0, 106, 28, 29, 79, 4, 54, 4, 3]
abbrev dktX0_fills_3 : List UInt8 := dkwX0_fills_3 ++ dktX0_fills_4
def dkwX0_fills_2 : List UInt8 := [3, 62, 29, 42, 180, 0, 113, 162, 0, 91, 42, 29, 182, 0, 221, 153, 0, 77, 42, 180, 0, 11, 29, 50]
abbrev dktX0_fills_2 : List UInt8 := dkwX0_fills_2 ++ dktX0_fills_3
def dkwX0_fills_1 : List UInt8 := [42, 180, 0, 106, 29, 46, 79, 132, 3, 1, 167, 255, 229, 42, 89, 180, 1, 77, 4, 96, 181, 1, 77, 177]
abbrev dktX0_fills_1 : List UInt8 := dkwX0_fills_1 ++ dktX0_fills_2
def dkwX0_fills_0 : List UInt8 := [28, 27, 160, 0, 46, 3, 62, 29, 27, 162, 0, 28, 42, 180, 1, 77, 154, 0, 21, 42, 180, 0, 109, 29]
abbrev dktX0_fills_0 : List UInt8 := dkwX0_fills_0 ++ dktX0_fills_1
theorem dksX0_fills_0 : cX0_fills.data.toList.drop 0 = dktX0_fills_0 := by decide +kernel
theorem dksX0_fills_1 : cX0_fills.data.toList.drop 24 = dktX0_fills_1 := dk_seg dksX0_fills_0 24 rfl rfl
theorem dksX0_fills_2 : cX0_fills.data.toList.drop 48 = dktX0_fills_2 := dk_seg dksX0_fills_1 24 rfl rfl
theorem dksX0_fills_3 : cX0_fills.data.toList.drop 72 = dktX0_fills_3 := dk_seg dksX0_fills_2 24 rfl rfl
theorem dksX0_fills_4 : cX0_fills.data.toList.drop 96 = dktX0_fills_4 := dk_seg dksX0_fills_3 24 rfl rfl
theorem dksX0_fills_5 : cX0_fills.data.toList.drop 119 = dktX0_fills_5 := dk_seg dksX0_fills_4 23 rfl rfl
theorem dksX0_fills_6 : cX0_fills.data.toList.drop 143 = dktX0_fills_6 := dk_seg dksX0_fills_5 24 rfl rfl
theorem dX0_fills_0 : decode cX0_fills 0 = .ok (.iload_n 2, 1) := dk_28 (dk_at dksX0_fills_0 0 rfl rfl)
theorem dX0_fills_1 : decode cX0_fills 1 = .ok (.iload_n 1, 1) := dk_27 (dk_at dksX0_fills_0 1 rfl rfl)
theorem dX0_fills_2 : decode cX0_fills 2 = .ok (.if_icmp .ne 46, 3) := dk_160 0 46 (dk_at dksX0_fills_0 2 rfl rfl)
theorem dX0_fills_5 : decode cX0_fills 5 = .ok (.iconst 0, 1) := dk_3 (dk_at dksX0_fills_0 5 rfl rfl)
theorem dX0_fills_6 : decode cX0_fills 6 = .ok (.istore_n 3, 1) := dk_62 (dk_at dksX0_fills_0 6 rfl rfl)
theorem dX0_fills_7 : decode cX0_fills 7 = .ok (.iload_n 3, 1) := dk_29 (dk_at dksX0_fills_0 7 rfl rfl)
theorem dX0_fills_8 : decode cX0_fills 8 = .ok (.iload_n 1, 1) := dk_27 (dk_at dksX0_fills_0 8 rfl rfl)
theorem dX0_fills_9 : decode cX0_fills 9 = .ok (.if_icmp .ge 28, 3) := dk_162 0 28 (dk_at dksX0_fills_0 9 rfl rfl)
theorem dX0_fills_12 : decode cX0_fills 12 = .ok (.aload_n 0, 1) := dk_42 (dk_at dksX0_fills_0 12 rfl rfl)
theorem dX0_fills_13 : decode cX0_fills 13 = .ok (.getfield 333, 3) := dk_180 1 77 (dk_at dksX0_fills_0 13 rfl rfl)
theorem dX0_fills_16 : decode cX0_fills 16 = .ok (.ifCond .ne 21, 3) := dk_154 0 21 (dk_at dksX0_fills_0 16 rfl rfl)
theorem dX0_fills_19 : decode cX0_fills 19 = .ok (.aload_n 0, 1) := dk_42 (dk_at dksX0_fills_0 19 rfl rfl)
theorem dX0_fills_20 : decode cX0_fills 20 = .ok (.getfield 109, 3) := dk_180 0 109 (dk_at dksX0_fills_0 20 rfl rfl)
theorem dX0_fills_23 : decode cX0_fills 23 = .ok (.iload_n 3, 1) := dk_29 (dk_at dksX0_fills_0 23 rfl rfl)
theorem dX0_fills_24 : decode cX0_fills 24 = .ok (.aload_n 0, 1) := dk_42 (dk_at dksX0_fills_1 0 rfl rfl)
theorem dX0_fills_25 : decode cX0_fills 25 = .ok (.getfield 106, 3) := dk_180 0 106 (dk_at dksX0_fills_1 1 rfl rfl)
theorem dX0_fills_28 : decode cX0_fills 28 = .ok (.iload_n 3, 1) := dk_29 (dk_at dksX0_fills_1 4 rfl rfl)
theorem dX0_fills_29 : decode cX0_fills 29 = .ok (.iaload, 1) := dk_46 (dk_at dksX0_fills_1 5 rfl rfl)
theorem dX0_fills_30 : decode cX0_fills 30 = .ok (.iastore, 1) := dk_79 (dk_at dksX0_fills_1 6 rfl rfl)
theorem dX0_fills_31 : decode cX0_fills 31 = .ok (.iinc 3 1, 3) := dk_132 3 1 (dk_at dksX0_fills_1 7 rfl rfl)
theorem dX0_fills_34 : decode cX0_fills 34 = .ok (.goto (-27), 3) := dk_167 255 229 (dk_at dksX0_fills_1 10 rfl rfl)
theorem dX0_fills_37 : decode cX0_fills 37 = .ok (.aload_n 0, 1) := dk_42 (dk_at dksX0_fills_1 13 rfl rfl)
theorem dX0_fills_38 : decode cX0_fills 38 = .ok (.dup, 1) := dk_89 (dk_at dksX0_fills_1 14 rfl rfl)
theorem dX0_fills_39 : decode cX0_fills 39 = .ok (.getfield 333, 3) := dk_180 1 77 (dk_at dksX0_fills_1 15 rfl rfl)
theorem dX0_fills_42 : decode cX0_fills 42 = .ok (.iconst 1, 1) := dk_4 (dk_at dksX0_fills_1 18 rfl rfl)
theorem dX0_fills_43 : decode cX0_fills 43 = .ok (.iadd, 1) := dk_96 (dk_at dksX0_fills_1 19 rfl rfl)
theorem dX0_fills_44 : decode cX0_fills 44 = .ok (.putfield 333, 3) := dk_181 1 77 (dk_at dksX0_fills_1 20 rfl rfl)
theorem dX0_fills_47 : decode cX0_fills 47 = .ok (.return_, 1) := dk_177 (dk_at dksX0_fills_1 23 rfl rfl)
theorem dX0_fills_48 : decode cX0_fills 48 = .ok (.iconst 0, 1) := dk_3 (dk_at dksX0_fills_2 0 rfl rfl)
theorem dX0_fills_49 : decode cX0_fills 49 = .ok (.istore_n 3, 1) := dk_62 (dk_at dksX0_fills_2 1 rfl rfl)
theorem dX0_fills_50 : decode cX0_fills 50 = .ok (.iload_n 3, 1) := dk_29 (dk_at dksX0_fills_2 2 rfl rfl)
theorem dX0_fills_51 : decode cX0_fills 51 = .ok (.aload_n 0, 1) := dk_42 (dk_at dksX0_fills_2 3 rfl rfl)
theorem dX0_fills_52 : decode cX0_fills 52 = .ok (.getfield 113, 3) := dk_180 0 113 (dk_at dksX0_fills_2 4 rfl rfl)
theorem dX0_fills_55 : decode cX0_fills 55 = .ok (.if_icmp .ge 91, 3) := dk_162 0 91 (dk_at dksX0_fills_2 7 rfl rfl)
theorem dX0_fills_58 : decode cX0_fills 58 = .ok (.aload_n 0, 1) := dk_42 (dk_at dksX0_fills_2 10 rfl rfl)
theorem dX0_fills_59 : decode cX0_fills 59 = .ok (.iload_n 3, 1) := dk_29 (dk_at dksX0_fills_2 11 rfl rfl)
theorem dX0_fills_60 : decode cX0_fills 60 = .ok (.invokevirtual 221, 3) := dk_182 0 221 (dk_at dksX0_fills_2 12 rfl rfl)
theorem dX0_fills_63 : decode cX0_fills 63 = .ok (.ifCond .eq 77, 3) := dk_153 0 77 (dk_at dksX0_fills_2 15 rfl rfl)
theorem dX0_fills_66 : decode cX0_fills 66 = .ok (.aload_n 0, 1) := dk_42 (dk_at dksX0_fills_2 18 rfl rfl)
theorem dX0_fills_67 : decode cX0_fills 67 = .ok (.getfield 11, 3) := dk_180 0 11 (dk_at dksX0_fills_2 19 rfl rfl)
theorem dX0_fills_70 : decode cX0_fills 70 = .ok (.iload_n 3, 1) := dk_29 (dk_at dksX0_fills_2 22 rfl rfl)
theorem dX0_fills_71 : decode cX0_fills 71 = .ok (.aaload, 1) := dk_50 (dk_at dksX0_fills_2 23 rfl rfl)
theorem dX0_fills_72 : decode cX0_fills 72 = .ok (.getfield 148, 3) := dk_180 0 148 (dk_at dksX0_fills_3 0 rfl rfl)
theorem dX0_fills_75 : decode cX0_fills 75 = .ok (.getfield 189, 3) := dk_180 0 189 (dk_at dksX0_fills_3 3 rfl rfl)
theorem dX0_fills_78 : decode cX0_fills 78 = .ok (.iload_n 1, 1) := dk_27 (dk_at dksX0_fills_3 6 rfl rfl)
theorem dX0_fills_79 : decode cX0_fills 79 = .ok (.if_icmp .eq 6, 3) := dk_159 0 6 (dk_at dksX0_fills_3 7 rfl rfl)
theorem dX0_fills_82 : decode cX0_fills 82 = .ok (.goto 58, 3) := dk_167 0 58 (dk_at dksX0_fills_3 10 rfl rfl)
theorem dX0_fills_85 : decode cX0_fills 85 = .ok (.aload_n 0, 1) := dk_42 (dk_at dksX0_fills_3 13 rfl rfl)
theorem dX0_fills_86 : decode cX0_fills 86 = .ok (.getfield 106, 3) := dk_180 0 106 (dk_at dksX0_fills_3 14 rfl rfl)
theorem dX0_fills_89 : decode cX0_fills 89 = .ok (.iload_n 2, 1) := dk_28 (dk_at dksX0_fills_3 17 rfl rfl)
theorem dX0_fills_90 : decode cX0_fills 90 = .ok (.iload_n 3, 1) := dk_29 (dk_at dksX0_fills_3 18 rfl rfl)
theorem dX0_fills_91 : decode cX0_fills 91 = .ok (.iastore, 1) := dk_79 (dk_at dksX0_fills_3 19 rfl rfl)
theorem dX0_fills_92 : decode cX0_fills 92 = .ok (.iconst 1, 1) := dk_4 (dk_at dksX0_fills_3 20 rfl rfl)
theorem dX0_fills_93 : decode cX0_fills 93 = .ok (.istore 4, 2) := dk_54 4 (dk_at dksX0_fills_3 21 rfl rfl)
theorem dX0_fills_95 : decode cX0_fills 95 = .ok (.iconst 0, 1) := dk_3 (dk_at dksX0_fills_3 23 rfl rfl)
theorem dX0_fills_96 : decode cX0_fills 96 = .ok (.istore 5, 2) := dk_54 5 (dk_at dksX0_fills_4 0 rfl rfl)
theorem dX0_fills_98 : decode cX0_fills 98 = .ok (.iload 5, 2) := dk_21 5 (dk_at dksX0_fills_4 2 rfl rfl)
theorem dX0_fills_100 : decode cX0_fills 100 = .ok (.iload_n 1, 1) := dk_27 (dk_at dksX0_fills_4 4 rfl rfl)
theorem dX0_fills_101 : decode cX0_fills 101 = .ok (.if_icmp .ge 26, 3) := dk_162 0 26 (dk_at dksX0_fills_4 5 rfl rfl)
theorem dX0_fills_104 : decode cX0_fills 104 = .ok (.iload 4, 2) := dk_21 4 (dk_at dksX0_fills_4 8 rfl rfl)
theorem dX0_fills_106 : decode cX0_fills 106 = .ok (.ifCond .eq 21, 3) := dk_153 0 21 (dk_at dksX0_fills_4 10 rfl rfl)
theorem dX0_fills_109 : decode cX0_fills 109 = .ok (.aload_n 0, 1) := dk_42 (dk_at dksX0_fills_4 13 rfl rfl)
theorem dX0_fills_110 : decode cX0_fills 110 = .ok (.iload_n 1, 1) := dk_27 (dk_at dksX0_fills_4 14 rfl rfl)
theorem dX0_fills_111 : decode cX0_fills 111 = .ok (.iload_n 2, 1) := dk_28 (dk_at dksX0_fills_4 15 rfl rfl)
theorem dX0_fills_112 : decode cX0_fills 112 = .ok (.iconst 1, 1) := dk_4 (dk_at dksX0_fills_4 16 rfl rfl)
theorem dX0_fills_113 : decode cX0_fills 113 = .ok (.iadd, 1) := dk_96 (dk_at dksX0_fills_4 17 rfl rfl)
theorem dX0_fills_114 : decode cX0_fills 114 = .ok (.iload 5, 2) := dk_21 5 (dk_at dksX0_fills_4 18 rfl rfl)
theorem dX0_fills_116 : decode cX0_fills 116 = .ok (.invokevirtual 336, 3) := dk_182 1 80 (dk_at dksX0_fills_4 20 rfl rfl)
theorem dX0_fills_119 : decode cX0_fills 119 = .ok (.istore 4, 2) := dk_54 4 (dk_at dksX0_fills_5 0 rfl rfl)
theorem dX0_fills_121 : decode cX0_fills 121 = .ok (.iinc 5 1, 3) := dk_132 5 1 (dk_at dksX0_fills_5 2 rfl rfl)
theorem dX0_fills_124 : decode cX0_fills 124 = .ok (.goto (-26), 3) := dk_167 255 230 (dk_at dksX0_fills_5 5 rfl rfl)
theorem dX0_fills_127 : decode cX0_fills 127 = .ok (.iload 4, 2) := dk_21 4 (dk_at dksX0_fills_5 8 rfl rfl)
theorem dX0_fills_129 : decode cX0_fills 129 = .ok (.ifCond .eq 11, 3) := dk_153 0 11 (dk_at dksX0_fills_5 10 rfl rfl)
theorem dX0_fills_132 : decode cX0_fills 132 = .ok (.aload_n 0, 1) := dk_42 (dk_at dksX0_fills_5 13 rfl rfl)
theorem dX0_fills_133 : decode cX0_fills 133 = .ok (.iload_n 1, 1) := dk_27 (dk_at dksX0_fills_5 14 rfl rfl)
theorem dX0_fills_134 : decode cX0_fills 134 = .ok (.iload_n 2, 1) := dk_28 (dk_at dksX0_fills_5 15 rfl rfl)
theorem dX0_fills_135 : decode cX0_fills 135 = .ok (.iconst 1, 1) := dk_4 (dk_at dksX0_fills_5 16 rfl rfl)
theorem dX0_fills_136 : decode cX0_fills 136 = .ok (.iadd, 1) := dk_96 (dk_at dksX0_fills_5 17 rfl rfl)
theorem dX0_fills_137 : decode cX0_fills 137 = .ok (.invokevirtual 339, 3) := dk_182 1 83 (dk_at dksX0_fills_5 18 rfl rfl)
theorem dX0_fills_140 : decode cX0_fills 140 = .ok (.iinc 3 1, 3) := dk_132 3 1 (dk_at dksX0_fills_5 21 rfl rfl)
theorem dX0_fills_143 : decode cX0_fills 143 = .ok (.goto (-93), 3) := dk_167 255 163 (dk_at dksX0_fills_6 0 rfl rfl)
theorem dX0_fills_146 : decode cX0_fills 146 = .ok (.return_, 1) := dk_177 (dk_at dksX0_fills_6 3 rfl rfl)
abbrev cX0_canColumn : ByteArray := prog_1_method_57_code
def yX0_canColumn : MethodName := ⟨RX0, "canColumn", "(III)Z"⟩
def dkwX0_canColumn_5 : List UInt8 := [172, 132, 4, 1, 167, 255, 138, 3, 172]
abbrev dktX0_canColumn_5 : List UInt8 := dkwX0_canColumn_5 ++ []
def dkwX0_canColumn_4 : List UInt8 := [29, 46, 160, 0, 7, 4, 167, 0, 4, 3, 54, 5, 132, 6, 1, 167, 255, 196, 21, 5, 153, 0, 5, 4]
abbrev dktX0_canColumn_4 : List UInt8 := dkwX0_canColumn_4 ++ dktX0_canColumn_5
def dkwX0_canColumn_3 : List UInt8 := [180, 0, 191, 21, 6, 46, 42, 180, 0, 11, 42, 180, 0, 106, 21, 6, 46, 50, 180, 0, 148, 180, 0, 191]
abbrev dktX0_canColumn_3 : List UInt8 := dkwX0_canColumn_3 ++ dktX0_canColumn_4
def dkwX0_canColumn_2 : List UInt8 := [54, 6, 21, 6, 28, 162, 0, 60, 21, 5, 153, 0, 55, 42, 180, 0, 11, 21, 4, 50, 180, 0, 148]
abbrev dktX0_canColumn_2 : List UInt8 := dkwX0_canColumn_2 ++ dktX0_canColumn_3
def dkwX0_canColumn_1 : List UInt8 := [180, 0, 11, 21, 4, 50, 180, 0, 148, 180, 0, 189, 27, 160, 0, 7, 4, 167, 0, 4, 3, 54, 5, 3]
abbrev dktX0_canColumn_1 : List UInt8 := dkwX0_canColumn_1 ++ dktX0_canColumn_2
def dkwX0_canColumn_0 : List UInt8 := [3, 54, 4, 21, 4, 42, 180, 0, 113, 162, 0, 115, 42, 21, 4, 182, 0, 221, 153, 0, 24, 42]
abbrev dktX0_canColumn_0 : List UInt8 := dkwX0_canColumn_0 ++ dktX0_canColumn_1
theorem dksX0_canColumn_0 : cX0_canColumn.data.toList.drop 0 = dktX0_canColumn_0 := by decide +kernel
theorem dksX0_canColumn_1 : cX0_canColumn.data.toList.drop 22 = dktX0_canColumn_1 := dk_seg dksX0_canColumn_0 22 rfl rfl
theorem dksX0_canColumn_2 : cX0_canColumn.data.toList.drop 46 = dktX0_canColumn_2 := dk_seg dksX0_canColumn_1 24 rfl rfl
theorem dksX0_canColumn_3 : cX0_canColumn.data.toList.drop 69 = dktX0_canColumn_3 := dk_seg dksX0_canColumn_2 23 rfl rfl
theorem dksX0_canColumn_4 : cX0_canColumn.data.toList.drop 93 = dktX0_canColumn_4 := dk_seg dksX0_canColumn_3 24 rfl rfl
theorem dksX0_canColumn_5 : cX0_canColumn.data.toList.drop 117 = dktX0_canColumn_5 := dk_seg dksX0_canColumn_4 24 rfl rfl
theorem dX0_canColumn_0 : decode cX0_canColumn 0 = .ok (.iconst 0, 1) := dk_3 (dk_at dksX0_canColumn_0 0 rfl rfl)
theorem dX0_canColumn_1 : decode cX0_canColumn 1 = .ok (.istore 4, 2) := dk_54 4 (dk_at dksX0_canColumn_0 1 rfl rfl)
theorem dX0_canColumn_3 : decode cX0_canColumn 3 = .ok (.iload 4, 2) := dk_21 4 (dk_at dksX0_canColumn_0 3 rfl rfl)
theorem dX0_canColumn_5 : decode cX0_canColumn 5 = .ok (.aload_n 0, 1) := dk_42 (dk_at dksX0_canColumn_0 5 rfl rfl)
theorem dX0_canColumn_6 : decode cX0_canColumn 6 = .ok (.getfield 113, 3) := dk_180 0 113 (dk_at dksX0_canColumn_0 6 rfl rfl)
theorem dX0_canColumn_9 : decode cX0_canColumn 9 = .ok (.if_icmp .ge 115, 3) := dk_162 0 115 (dk_at dksX0_canColumn_0 9 rfl rfl)
theorem dX0_canColumn_12 : decode cX0_canColumn 12 = .ok (.aload_n 0, 1) := dk_42 (dk_at dksX0_canColumn_0 12 rfl rfl)
theorem dX0_canColumn_13 : decode cX0_canColumn 13 = .ok (.iload 4, 2) := dk_21 4 (dk_at dksX0_canColumn_0 13 rfl rfl)
theorem dX0_canColumn_15 : decode cX0_canColumn 15 = .ok (.invokevirtual 221, 3) := dk_182 0 221 (dk_at dksX0_canColumn_0 15 rfl rfl)
theorem dX0_canColumn_18 : decode cX0_canColumn 18 = .ok (.ifCond .eq 24, 3) := dk_153 0 24 (dk_at dksX0_canColumn_0 18 rfl rfl)
theorem dX0_canColumn_21 : decode cX0_canColumn 21 = .ok (.aload_n 0, 1) := dk_42 (dk_at dksX0_canColumn_0 21 rfl rfl)
theorem dX0_canColumn_22 : decode cX0_canColumn 22 = .ok (.getfield 11, 3) := dk_180 0 11 (dk_at dksX0_canColumn_1 0 rfl rfl)
theorem dX0_canColumn_25 : decode cX0_canColumn 25 = .ok (.iload 4, 2) := dk_21 4 (dk_at dksX0_canColumn_1 3 rfl rfl)
theorem dX0_canColumn_27 : decode cX0_canColumn 27 = .ok (.aaload, 1) := dk_50 (dk_at dksX0_canColumn_1 5 rfl rfl)
theorem dX0_canColumn_28 : decode cX0_canColumn 28 = .ok (.getfield 148, 3) := dk_180 0 148 (dk_at dksX0_canColumn_1 6 rfl rfl)
theorem dX0_canColumn_31 : decode cX0_canColumn 31 = .ok (.getfield 189, 3) := dk_180 0 189 (dk_at dksX0_canColumn_1 9 rfl rfl)
theorem dX0_canColumn_34 : decode cX0_canColumn 34 = .ok (.iload_n 1, 1) := dk_27 (dk_at dksX0_canColumn_1 12 rfl rfl)
theorem dX0_canColumn_35 : decode cX0_canColumn 35 = .ok (.if_icmp .ne 7, 3) := dk_160 0 7 (dk_at dksX0_canColumn_1 13 rfl rfl)
theorem dX0_canColumn_38 : decode cX0_canColumn 38 = .ok (.iconst 1, 1) := dk_4 (dk_at dksX0_canColumn_1 16 rfl rfl)
theorem dX0_canColumn_39 : decode cX0_canColumn 39 = .ok (.goto 4, 3) := dk_167 0 4 (dk_at dksX0_canColumn_1 17 rfl rfl)
theorem dX0_canColumn_42 : decode cX0_canColumn 42 = .ok (.iconst 0, 1) := dk_3 (dk_at dksX0_canColumn_1 20 rfl rfl)
theorem dX0_canColumn_43 : decode cX0_canColumn 43 = .ok (.istore 5, 2) := dk_54 5 (dk_at dksX0_canColumn_1 21 rfl rfl)
theorem dX0_canColumn_45 : decode cX0_canColumn 45 = .ok (.iconst 0, 1) := dk_3 (dk_at dksX0_canColumn_1 23 rfl rfl)
theorem dX0_canColumn_46 : decode cX0_canColumn 46 = .ok (.istore 6, 2) := dk_54 6 (dk_at dksX0_canColumn_2 0 rfl rfl)
theorem dX0_canColumn_48 : decode cX0_canColumn 48 = .ok (.iload 6, 2) := dk_21 6 (dk_at dksX0_canColumn_2 2 rfl rfl)
theorem dX0_canColumn_50 : decode cX0_canColumn 50 = .ok (.iload_n 2, 1) := dk_28 (dk_at dksX0_canColumn_2 4 rfl rfl)
theorem dX0_canColumn_51 : decode cX0_canColumn 51 = .ok (.if_icmp .ge 60, 3) := dk_162 0 60 (dk_at dksX0_canColumn_2 5 rfl rfl)
theorem dX0_canColumn_54 : decode cX0_canColumn 54 = .ok (.iload 5, 2) := dk_21 5 (dk_at dksX0_canColumn_2 8 rfl rfl)
theorem dX0_canColumn_56 : decode cX0_canColumn 56 = .ok (.ifCond .eq 55, 3) := dk_153 0 55 (dk_at dksX0_canColumn_2 10 rfl rfl)
theorem dX0_canColumn_59 : decode cX0_canColumn 59 = .ok (.aload_n 0, 1) := dk_42 (dk_at dksX0_canColumn_2 13 rfl rfl)
theorem dX0_canColumn_60 : decode cX0_canColumn 60 = .ok (.getfield 11, 3) := dk_180 0 11 (dk_at dksX0_canColumn_2 14 rfl rfl)
theorem dX0_canColumn_63 : decode cX0_canColumn 63 = .ok (.iload 4, 2) := dk_21 4 (dk_at dksX0_canColumn_2 17 rfl rfl)
theorem dX0_canColumn_65 : decode cX0_canColumn 65 = .ok (.aaload, 1) := dk_50 (dk_at dksX0_canColumn_2 19 rfl rfl)
theorem dX0_canColumn_66 : decode cX0_canColumn 66 = .ok (.getfield 148, 3) := dk_180 0 148 (dk_at dksX0_canColumn_2 20 rfl rfl)
theorem dX0_canColumn_69 : decode cX0_canColumn 69 = .ok (.getfield 191, 3) := dk_180 0 191 (dk_at dksX0_canColumn_3 0 rfl rfl)
theorem dX0_canColumn_72 : decode cX0_canColumn 72 = .ok (.iload 6, 2) := dk_21 6 (dk_at dksX0_canColumn_3 3 rfl rfl)
theorem dX0_canColumn_74 : decode cX0_canColumn 74 = .ok (.iaload, 1) := dk_46 (dk_at dksX0_canColumn_3 5 rfl rfl)
theorem dX0_canColumn_75 : decode cX0_canColumn 75 = .ok (.aload_n 0, 1) := dk_42 (dk_at dksX0_canColumn_3 6 rfl rfl)
theorem dX0_canColumn_76 : decode cX0_canColumn 76 = .ok (.getfield 11, 3) := dk_180 0 11 (dk_at dksX0_canColumn_3 7 rfl rfl)
theorem dX0_canColumn_79 : decode cX0_canColumn 79 = .ok (.aload_n 0, 1) := dk_42 (dk_at dksX0_canColumn_3 10 rfl rfl)
theorem dX0_canColumn_80 : decode cX0_canColumn 80 = .ok (.getfield 106, 3) := dk_180 0 106 (dk_at dksX0_canColumn_3 11 rfl rfl)
theorem dX0_canColumn_83 : decode cX0_canColumn 83 = .ok (.iload 6, 2) := dk_21 6 (dk_at dksX0_canColumn_3 14 rfl rfl)
theorem dX0_canColumn_85 : decode cX0_canColumn 85 = .ok (.iaload, 1) := dk_46 (dk_at dksX0_canColumn_3 16 rfl rfl)
theorem dX0_canColumn_86 : decode cX0_canColumn 86 = .ok (.aaload, 1) := dk_50 (dk_at dksX0_canColumn_3 17 rfl rfl)
theorem dX0_canColumn_87 : decode cX0_canColumn 87 = .ok (.getfield 148, 3) := dk_180 0 148 (dk_at dksX0_canColumn_3 18 rfl rfl)
theorem dX0_canColumn_90 : decode cX0_canColumn 90 = .ok (.getfield 191, 3) := dk_180 0 191 (dk_at dksX0_canColumn_3 21 rfl rfl)
theorem dX0_canColumn_93 : decode cX0_canColumn 93 = .ok (.iload_n 3, 1) := dk_29 (dk_at dksX0_canColumn_4 0 rfl rfl)
theorem dX0_canColumn_94 : decode cX0_canColumn 94 = .ok (.iaload, 1) := dk_46 (dk_at dksX0_canColumn_4 1 rfl rfl)
theorem dX0_canColumn_95 : decode cX0_canColumn 95 = .ok (.if_icmp .ne 7, 3) := dk_160 0 7 (dk_at dksX0_canColumn_4 2 rfl rfl)
theorem dX0_canColumn_98 : decode cX0_canColumn 98 = .ok (.iconst 1, 1) := dk_4 (dk_at dksX0_canColumn_4 5 rfl rfl)
theorem dX0_canColumn_99 : decode cX0_canColumn 99 = .ok (.goto 4, 3) := dk_167 0 4 (dk_at dksX0_canColumn_4 6 rfl rfl)
theorem dX0_canColumn_102 : decode cX0_canColumn 102 = .ok (.iconst 0, 1) := dk_3 (dk_at dksX0_canColumn_4 9 rfl rfl)
theorem dX0_canColumn_103 : decode cX0_canColumn 103 = .ok (.istore 5, 2) := dk_54 5 (dk_at dksX0_canColumn_4 10 rfl rfl)
theorem dX0_canColumn_105 : decode cX0_canColumn 105 = .ok (.iinc 6 1, 3) := dk_132 6 1 (dk_at dksX0_canColumn_4 12 rfl rfl)
theorem dX0_canColumn_108 : decode cX0_canColumn 108 = .ok (.goto (-60), 3) := dk_167 255 196 (dk_at dksX0_canColumn_4 15 rfl rfl)
theorem dX0_canColumn_111 : decode cX0_canColumn 111 = .ok (.iload 5, 2) := dk_21 5 (dk_at dksX0_canColumn_4 18 rfl rfl)
theorem dX0_canColumn_113 : decode cX0_canColumn 113 = .ok (.ifCond .eq 5, 3) := dk_153 0 5 (dk_at dksX0_canColumn_4 20 rfl rfl)
theorem dX0_canColumn_116 : decode cX0_canColumn 116 = .ok (.iconst 1, 1) := dk_4 (dk_at dksX0_canColumn_4 23 rfl rfl)
theorem dX0_canColumn_117 : decode cX0_canColumn 117 = .ok (.ireturn, 1) := dk_172 (dk_at dksX0_canColumn_5 0 rfl rfl)
theorem dX0_canColumn_118 : decode cX0_canColumn 118 = .ok (.iinc 4 1, 3) := dk_132 4 1 (dk_at dksX0_canColumn_5 1 rfl rfl)
theorem dX0_canColumn_121 : decode cX0_canColumn 121 = .ok (.goto (-118), 3) := dk_167 255 138 (dk_at dksX0_canColumn_5 4 rfl rfl)
theorem dX0_canColumn_124 : decode cX0_canColumn 124 = .ok (.iconst 0, 1) := dk_3 (dk_at dksX0_canColumn_5 7 rfl rfl)
theorem dX0_canColumn_125 : decode cX0_canColumn 125 = .ok (.ireturn, 1) := dk_172 (dk_at dksX0_canColumn_5 8 rfl rfl)
abbrev cX0_seed : ByteArray := prog_1_method_60_code
def yX0_seed : MethodName := ⟨RX0, "seed", "(I)Z"⟩
def dkwX0_seed_0 : List UInt8 := [27, 19, 1, 86, 184, 0, 116, 154, 0, 5, 3, 172, 42, 27, 181, 0, 30, 4, 172]
abbrev dktX0_seed_0 : List UInt8 := dkwX0_seed_0 ++ []
theorem dksX0_seed_0 : cX0_seed.data.toList.drop 0 = dktX0_seed_0 := by decide +kernel
theorem dX0_seed_0 : decode cX0_seed 0 = .ok (.iload_n 1, 1) := dk_27 (dk_at dksX0_seed_0 0 rfl rfl)
theorem dX0_seed_1 : decode cX0_seed 1 = .ok (.ldc_w 342, 3) := dk_19 1 86 (dk_at dksX0_seed_0 1 rfl rfl)
theorem dX0_seed_4 : decode cX0_seed 4 = .ok (.invokestatic 116, 3) := dk_184 0 116 (dk_at dksX0_seed_0 4 rfl rfl)
theorem dX0_seed_7 : decode cX0_seed 7 = .ok (.ifCond .ne 5, 3) := dk_154 0 5 (dk_at dksX0_seed_0 7 rfl rfl)
theorem dX0_seed_10 : decode cX0_seed 10 = .ok (.iconst 0, 1) := dk_3 (dk_at dksX0_seed_0 10 rfl rfl)
theorem dX0_seed_11 : decode cX0_seed 11 = .ok (.ireturn, 1) := dk_172 (dk_at dksX0_seed_0 11 rfl rfl)
theorem dX0_seed_12 : decode cX0_seed 12 = .ok (.aload_n 0, 1) := dk_42 (dk_at dksX0_seed_0 12 rfl rfl)
theorem dX0_seed_13 : decode cX0_seed 13 = .ok (.iload_n 1, 1) := dk_27 (dk_at dksX0_seed_0 13 rfl rfl)
theorem dX0_seed_14 : decode cX0_seed 14 = .ok (.putfield 30, 3) := dk_181 0 30 (dk_at dksX0_seed_0 14 rfl rfl)
theorem dX0_seed_17 : decode cX0_seed 17 = .ok (.iconst 1, 1) := dk_4 (dk_at dksX0_seed_0 17 rfl rfl)
theorem dX0_seed_18 : decode cX0_seed 18 = .ok (.ireturn, 1) := dk_172 (dk_at dksX0_seed_0 18 rfl rfl)
abbrev cX0_draw : ByteArray := prog_1_method_63_code
def yX0_draw : MethodName := ⟨RX0, "draw", "(III)I"⟩
def dkwX0_draw_5 : List UInt8 := [132, 7, 1, 167, 255, 190, 29, 154, 0, 8, 21, 4, 167, 0, 8, 22, 5, 184, 1, 19, 172]
abbrev dktX0_draw_5 : List UInt8 := dkwX0_draw_5 ++ []
def dkwX0_draw_4 : List UInt8 := [180, 0, 30, 42, 21, 4, 182, 1, 87, 112, 182, 1, 90, 54, 4, 22, 5, 10, 21, 4, 121, 129, 55, 5]
abbrev dktX0_draw_4 : List UInt8 := dkwX0_draw_4 ++ dktX0_draw_5
def dkwX0_draw_3 : List UInt8 := [17, 54, 25, 96, 19, 1, 86, 112, 181, 0, 30, 42, 21, 4, 182, 1, 87, 158, 0, 22, 42, 21, 4, 42]
abbrev dktX0_draw_3 : List UInt8 := dkwX0_draw_3 ++ dktX0_draw_4
def dkwX0_draw_2 : List UInt8 := [27, 121, 55, 5, 3, 54, 7, 21, 7, 28, 162, 0, 66, 42, 17, 98, 85, 42, 180, 0, 30, 104]
abbrev dktX0_draw_2 : List UInt8 := dkwX0_draw_2 ++ dktX0_draw_3
def dkwX0_draw_1 : List UInt8 := [154, 0, 5, 2, 172, 42, 27, 182, 0, 221, 154, 0, 6, 16, 254, 172, 42, 182, 0, 241, 27, 54, 4, 10]
abbrev dktX0_draw_1 : List UInt8 := dkwX0_draw_1 ++ dktX0_draw_2
def dkwX0_draw_0 : List UInt8 := [42, 27, 182, 0, 120, 153, 0, 21, 28, 4, 16, 60, 184, 0, 155, 153, 0, 11, 29, 5, 184, 0, 116]
abbrev dktX0_draw_0 : List UInt8 := dkwX0_draw_0 ++ dktX0_draw_1
theorem dksX0_draw_0 : cX0_draw.data.toList.drop 0 = dktX0_draw_0 := by decide +kernel
theorem dksX0_draw_1 : cX0_draw.data.toList.drop 23 = dktX0_draw_1 := dk_seg dksX0_draw_0 23 rfl rfl
theorem dksX0_draw_2 : cX0_draw.data.toList.drop 47 = dktX0_draw_2 := dk_seg dksX0_draw_1 24 rfl rfl
theorem dksX0_draw_3 : cX0_draw.data.toList.drop 69 = dktX0_draw_3 := dk_seg dksX0_draw_2 22 rfl rfl
theorem dksX0_draw_4 : cX0_draw.data.toList.drop 93 = dktX0_draw_4 := dk_seg dksX0_draw_3 24 rfl rfl
theorem dksX0_draw_5 : cX0_draw.data.toList.drop 117 = dktX0_draw_5 := dk_seg dksX0_draw_4 24 rfl rfl
theorem dX0_draw_0 : decode cX0_draw 0 = .ok (.aload_n 0, 1) := dk_42 (dk_at dksX0_draw_0 0 rfl rfl)
theorem dX0_draw_1 : decode cX0_draw 1 = .ok (.iload_n 1, 1) := dk_27 (dk_at dksX0_draw_0 1 rfl rfl)
theorem dX0_draw_2 : decode cX0_draw 2 = .ok (.invokevirtual 120, 3) := dk_182 0 120 (dk_at dksX0_draw_0 2 rfl rfl)
theorem dX0_draw_5 : decode cX0_draw 5 = .ok (.ifCond .eq 21, 3) := dk_153 0 21 (dk_at dksX0_draw_0 5 rfl rfl)
theorem dX0_draw_8 : decode cX0_draw 8 = .ok (.iload_n 2, 1) := dk_28 (dk_at dksX0_draw_0 8 rfl rfl)
theorem dX0_draw_9 : decode cX0_draw 9 = .ok (.iconst 1, 1) := dk_4 (dk_at dksX0_draw_0 9 rfl rfl)
theorem dX0_draw_10 : decode cX0_draw 10 = .ok (.bipush 60, 2) := dk_16 60 (dk_at dksX0_draw_0 10 rfl rfl)
theorem dX0_draw_12 : decode cX0_draw 12 = .ok (.invokestatic 155, 3) := dk_184 0 155 (dk_at dksX0_draw_0 12 rfl rfl)
theorem dX0_draw_15 : decode cX0_draw 15 = .ok (.ifCond .eq 11, 3) := dk_153 0 11 (dk_at dksX0_draw_0 15 rfl rfl)
theorem dX0_draw_18 : decode cX0_draw 18 = .ok (.iload_n 3, 1) := dk_29 (dk_at dksX0_draw_0 18 rfl rfl)
theorem dX0_draw_19 : decode cX0_draw 19 = .ok (.iconst 2, 1) := dk_5 (dk_at dksX0_draw_0 19 rfl rfl)
theorem dX0_draw_20 : decode cX0_draw 20 = .ok (.invokestatic 116, 3) := dk_184 0 116 (dk_at dksX0_draw_0 20 rfl rfl)
theorem dX0_draw_23 : decode cX0_draw 23 = .ok (.ifCond .ne 5, 3) := dk_154 0 5 (dk_at dksX0_draw_1 0 rfl rfl)
theorem dX0_draw_26 : decode cX0_draw 26 = .ok (.iconst (-1), 1) := dk_2 (dk_at dksX0_draw_1 3 rfl rfl)
theorem dX0_draw_27 : decode cX0_draw 27 = .ok (.ireturn, 1) := dk_172 (dk_at dksX0_draw_1 4 rfl rfl)
theorem dX0_draw_28 : decode cX0_draw 28 = .ok (.aload_n 0, 1) := dk_42 (dk_at dksX0_draw_1 5 rfl rfl)
theorem dX0_draw_29 : decode cX0_draw 29 = .ok (.iload_n 1, 1) := dk_27 (dk_at dksX0_draw_1 6 rfl rfl)
theorem dX0_draw_30 : decode cX0_draw 30 = .ok (.invokevirtual 221, 3) := dk_182 0 221 (dk_at dksX0_draw_1 7 rfl rfl)
theorem dX0_draw_33 : decode cX0_draw 33 = .ok (.ifCond .ne 6, 3) := dk_154 0 6 (dk_at dksX0_draw_1 10 rfl rfl)
theorem dX0_draw_36 : decode cX0_draw 36 = .ok (.bipush (-2), 2) := dk_16 254 (dk_at dksX0_draw_1 13 rfl rfl)
theorem dX0_draw_38 : decode cX0_draw 38 = .ok (.ireturn, 1) := dk_172 (dk_at dksX0_draw_1 15 rfl rfl)
theorem dX0_draw_39 : decode cX0_draw 39 = .ok (.aload_n 0, 1) := dk_42 (dk_at dksX0_draw_1 16 rfl rfl)
theorem dX0_draw_40 : decode cX0_draw 40 = .ok (.invokevirtual 241, 3) := dk_182 0 241 (dk_at dksX0_draw_1 17 rfl rfl)
theorem dX0_draw_43 : decode cX0_draw 43 = .ok (.iload_n 1, 1) := dk_27 (dk_at dksX0_draw_1 20 rfl rfl)
theorem dX0_draw_44 : decode cX0_draw 44 = .ok (.istore 4, 2) := dk_54 4 (dk_at dksX0_draw_1 21 rfl rfl)
theorem dX0_draw_46 : decode cX0_draw 46 = .ok (.lconst 1, 1) := dk_10 (dk_at dksX0_draw_1 23 rfl rfl)
theorem dX0_draw_47 : decode cX0_draw 47 = .ok (.iload_n 1, 1) := dk_27 (dk_at dksX0_draw_2 0 rfl rfl)
theorem dX0_draw_48 : decode cX0_draw 48 = .ok (.lshl, 1) := dk_121 (dk_at dksX0_draw_2 1 rfl rfl)
theorem dX0_draw_49 : decode cX0_draw 49 = .ok (.lstore 5, 2) := dk_55 5 (dk_at dksX0_draw_2 2 rfl rfl)
theorem dX0_draw_51 : decode cX0_draw 51 = .ok (.iconst 0, 1) := dk_3 (dk_at dksX0_draw_2 4 rfl rfl)
theorem dX0_draw_52 : decode cX0_draw 52 = .ok (.istore 7, 2) := dk_54 7 (dk_at dksX0_draw_2 5 rfl rfl)
theorem dX0_draw_54 : decode cX0_draw 54 = .ok (.iload 7, 2) := dk_21 7 (dk_at dksX0_draw_2 7 rfl rfl)
theorem dX0_draw_56 : decode cX0_draw 56 = .ok (.iload_n 2, 1) := dk_28 (dk_at dksX0_draw_2 9 rfl rfl)
theorem dX0_draw_57 : decode cX0_draw 57 = .ok (.if_icmp .ge 66, 3) := dk_162 0 66 (dk_at dksX0_draw_2 10 rfl rfl)
theorem dX0_draw_60 : decode cX0_draw 60 = .ok (.aload_n 0, 1) := dk_42 (dk_at dksX0_draw_2 13 rfl rfl)
theorem dX0_draw_61 : decode cX0_draw 61 = .ok (.sipush 25173, 3) := dk_17 98 85 (dk_at dksX0_draw_2 14 rfl rfl)
theorem dX0_draw_64 : decode cX0_draw 64 = .ok (.aload_n 0, 1) := dk_42 (dk_at dksX0_draw_2 17 rfl rfl)
theorem dX0_draw_65 : decode cX0_draw 65 = .ok (.getfield 30, 3) := dk_180 0 30 (dk_at dksX0_draw_2 18 rfl rfl)
theorem dX0_draw_68 : decode cX0_draw 68 = .ok (.imul, 1) := dk_104 (dk_at dksX0_draw_2 21 rfl rfl)
theorem dX0_draw_69 : decode cX0_draw 69 = .ok (.sipush 13849, 3) := dk_17 54 25 (dk_at dksX0_draw_3 0 rfl rfl)
theorem dX0_draw_72 : decode cX0_draw 72 = .ok (.iadd, 1) := dk_96 (dk_at dksX0_draw_3 3 rfl rfl)
theorem dX0_draw_73 : decode cX0_draw 73 = .ok (.ldc_w 342, 3) := dk_19 1 86 (dk_at dksX0_draw_3 4 rfl rfl)
theorem dX0_draw_76 : decode cX0_draw 76 = .ok (.irem, 1) := dk_112 (dk_at dksX0_draw_3 7 rfl rfl)
theorem dX0_draw_77 : decode cX0_draw 77 = .ok (.putfield 30, 3) := dk_181 0 30 (dk_at dksX0_draw_3 8 rfl rfl)
theorem dX0_draw_80 : decode cX0_draw 80 = .ok (.aload_n 0, 1) := dk_42 (dk_at dksX0_draw_3 11 rfl rfl)
theorem dX0_draw_81 : decode cX0_draw 81 = .ok (.iload 4, 2) := dk_21 4 (dk_at dksX0_draw_3 12 rfl rfl)
theorem dX0_draw_83 : decode cX0_draw 83 = .ok (.invokevirtual 343, 3) := dk_182 1 87 (dk_at dksX0_draw_3 14 rfl rfl)
theorem dX0_draw_86 : decode cX0_draw 86 = .ok (.ifCond .le 22, 3) := dk_158 0 22 (dk_at dksX0_draw_3 17 rfl rfl)
theorem dX0_draw_89 : decode cX0_draw 89 = .ok (.aload_n 0, 1) := dk_42 (dk_at dksX0_draw_3 20 rfl rfl)
theorem dX0_draw_90 : decode cX0_draw 90 = .ok (.iload 4, 2) := dk_21 4 (dk_at dksX0_draw_3 21 rfl rfl)
theorem dX0_draw_92 : decode cX0_draw 92 = .ok (.aload_n 0, 1) := dk_42 (dk_at dksX0_draw_3 23 rfl rfl)
theorem dX0_draw_93 : decode cX0_draw 93 = .ok (.getfield 30, 3) := dk_180 0 30 (dk_at dksX0_draw_4 0 rfl rfl)
theorem dX0_draw_96 : decode cX0_draw 96 = .ok (.aload_n 0, 1) := dk_42 (dk_at dksX0_draw_4 3 rfl rfl)
theorem dX0_draw_97 : decode cX0_draw 97 = .ok (.iload 4, 2) := dk_21 4 (dk_at dksX0_draw_4 4 rfl rfl)
theorem dX0_draw_99 : decode cX0_draw 99 = .ok (.invokevirtual 343, 3) := dk_182 1 87 (dk_at dksX0_draw_4 6 rfl rfl)
theorem dX0_draw_102 : decode cX0_draw 102 = .ok (.irem, 1) := dk_112 (dk_at dksX0_draw_4 9 rfl rfl)
theorem dX0_draw_103 : decode cX0_draw 103 = .ok (.invokevirtual 346, 3) := dk_182 1 90 (dk_at dksX0_draw_4 10 rfl rfl)
theorem dX0_draw_106 : decode cX0_draw 106 = .ok (.istore 4, 2) := dk_54 4 (dk_at dksX0_draw_4 13 rfl rfl)
theorem dX0_draw_108 : decode cX0_draw 108 = .ok (.lload 5, 2) := dk_22 5 (dk_at dksX0_draw_4 15 rfl rfl)
theorem dX0_draw_110 : decode cX0_draw 110 = .ok (.lconst 1, 1) := dk_10 (dk_at dksX0_draw_4 17 rfl rfl)
theorem dX0_draw_111 : decode cX0_draw 111 = .ok (.iload 4, 2) := dk_21 4 (dk_at dksX0_draw_4 18 rfl rfl)
theorem dX0_draw_113 : decode cX0_draw 113 = .ok (.lshl, 1) := dk_121 (dk_at dksX0_draw_4 20 rfl rfl)
theorem dX0_draw_114 : decode cX0_draw 114 = .ok (.lor, 1) := dk_129 (dk_at dksX0_draw_4 21 rfl rfl)
theorem dX0_draw_115 : decode cX0_draw 115 = .ok (.lstore 5, 2) := dk_55 5 (dk_at dksX0_draw_4 22 rfl rfl)
theorem dX0_draw_117 : decode cX0_draw 117 = .ok (.iinc 7 1, 3) := dk_132 7 1 (dk_at dksX0_draw_5 0 rfl rfl)
theorem dX0_draw_120 : decode cX0_draw 120 = .ok (.goto (-66), 3) := dk_167 255 190 (dk_at dksX0_draw_5 3 rfl rfl)
theorem dX0_draw_123 : decode cX0_draw 123 = .ok (.iload_n 3, 1) := dk_29 (dk_at dksX0_draw_5 6 rfl rfl)
theorem dX0_draw_124 : decode cX0_draw 124 = .ok (.ifCond .ne 8, 3) := dk_154 0 8 (dk_at dksX0_draw_5 7 rfl rfl)
theorem dX0_draw_127 : decode cX0_draw 127 = .ok (.iload 4, 2) := dk_21 4 (dk_at dksX0_draw_5 10 rfl rfl)
theorem dX0_draw_129 : decode cX0_draw 129 = .ok (.goto 8, 3) := dk_167 0 8 (dk_at dksX0_draw_5 12 rfl rfl)
theorem dX0_draw_132 : decode cX0_draw 132 = .ok (.lload 5, 2) := dk_22 5 (dk_at dksX0_draw_5 15 rfl rfl)
theorem dX0_draw_134 : decode cX0_draw 134 = .ok (.invokestatic 275, 3) := dk_184 1 19 (dk_at dksX0_draw_5 17 rfl rfl)
theorem dX0_draw_137 : decode cX0_draw 137 = .ok (.ireturn, 1) := dk_172 (dk_at dksX0_draw_5 20 rfl rfl)
abbrev cX0_stepsFrom : ByteArray := prog_1_method_61_code
def yX0_stepsFrom : MethodName := ⟨RX0, "stepsFrom", "(I)I"⟩
def dkwX0_stepsFrom_1 : List UInt8 := [167, 0, 4, 3, 96, 61, 132, 3, 1, 167, 255, 228, 28, 172]
abbrev dktX0_stepsFrom_1 : List UInt8 := dkwX0_stepsFrom_1 ++ []
def dkwX0_stepsFrom_0 : List UInt8 := [3, 61, 3, 62, 29, 42, 180, 0, 113, 162, 0, 26, 28, 42, 27, 29, 182, 0, 244, 153, 0, 7, 4]
abbrev dktX0_stepsFrom_0 : List UInt8 := dkwX0_stepsFrom_0 ++ dktX0_stepsFrom_1
theorem dksX0_stepsFrom_0 : cX0_stepsFrom.data.toList.drop 0 = dktX0_stepsFrom_0 := by decide +kernel
theorem dksX0_stepsFrom_1 : cX0_stepsFrom.data.toList.drop 23 = dktX0_stepsFrom_1 := dk_seg dksX0_stepsFrom_0 23 rfl rfl
theorem dX0_stepsFrom_0 : decode cX0_stepsFrom 0 = .ok (.iconst 0, 1) := dk_3 (dk_at dksX0_stepsFrom_0 0 rfl rfl)
theorem dX0_stepsFrom_1 : decode cX0_stepsFrom 1 = .ok (.istore_n 2, 1) := dk_61 (dk_at dksX0_stepsFrom_0 1 rfl rfl)
theorem dX0_stepsFrom_2 : decode cX0_stepsFrom 2 = .ok (.iconst 0, 1) := dk_3 (dk_at dksX0_stepsFrom_0 2 rfl rfl)
theorem dX0_stepsFrom_3 : decode cX0_stepsFrom 3 = .ok (.istore_n 3, 1) := dk_62 (dk_at dksX0_stepsFrom_0 3 rfl rfl)
theorem dX0_stepsFrom_4 : decode cX0_stepsFrom 4 = .ok (.iload_n 3, 1) := dk_29 (dk_at dksX0_stepsFrom_0 4 rfl rfl)
theorem dX0_stepsFrom_5 : decode cX0_stepsFrom 5 = .ok (.aload_n 0, 1) := dk_42 (dk_at dksX0_stepsFrom_0 5 rfl rfl)
theorem dX0_stepsFrom_6 : decode cX0_stepsFrom 6 = .ok (.getfield 113, 3) := dk_180 0 113 (dk_at dksX0_stepsFrom_0 6 rfl rfl)
theorem dX0_stepsFrom_9 : decode cX0_stepsFrom 9 = .ok (.if_icmp .ge 26, 3) := dk_162 0 26 (dk_at dksX0_stepsFrom_0 9 rfl rfl)
theorem dX0_stepsFrom_12 : decode cX0_stepsFrom 12 = .ok (.iload_n 2, 1) := dk_28 (dk_at dksX0_stepsFrom_0 12 rfl rfl)
theorem dX0_stepsFrom_13 : decode cX0_stepsFrom 13 = .ok (.aload_n 0, 1) := dk_42 (dk_at dksX0_stepsFrom_0 13 rfl rfl)
theorem dX0_stepsFrom_14 : decode cX0_stepsFrom 14 = .ok (.iload_n 1, 1) := dk_27 (dk_at dksX0_stepsFrom_0 14 rfl rfl)
theorem dX0_stepsFrom_15 : decode cX0_stepsFrom 15 = .ok (.iload_n 3, 1) := dk_29 (dk_at dksX0_stepsFrom_0 15 rfl rfl)
theorem dX0_stepsFrom_16 : decode cX0_stepsFrom 16 = .ok (.invokevirtual 244, 3) := dk_182 0 244 (dk_at dksX0_stepsFrom_0 16 rfl rfl)
theorem dX0_stepsFrom_19 : decode cX0_stepsFrom 19 = .ok (.ifCond .eq 7, 3) := dk_153 0 7 (dk_at dksX0_stepsFrom_0 19 rfl rfl)
theorem dX0_stepsFrom_22 : decode cX0_stepsFrom 22 = .ok (.iconst 1, 1) := dk_4 (dk_at dksX0_stepsFrom_0 22 rfl rfl)
theorem dX0_stepsFrom_23 : decode cX0_stepsFrom 23 = .ok (.goto 4, 3) := dk_167 0 4 (dk_at dksX0_stepsFrom_1 0 rfl rfl)
theorem dX0_stepsFrom_26 : decode cX0_stepsFrom 26 = .ok (.iconst 0, 1) := dk_3 (dk_at dksX0_stepsFrom_1 3 rfl rfl)
theorem dX0_stepsFrom_27 : decode cX0_stepsFrom 27 = .ok (.iadd, 1) := dk_96 (dk_at dksX0_stepsFrom_1 4 rfl rfl)
theorem dX0_stepsFrom_28 : decode cX0_stepsFrom 28 = .ok (.istore_n 2, 1) := dk_61 (dk_at dksX0_stepsFrom_1 5 rfl rfl)
theorem dX0_stepsFrom_29 : decode cX0_stepsFrom 29 = .ok (.iinc 3 1, 3) := dk_132 3 1 (dk_at dksX0_stepsFrom_1 6 rfl rfl)
theorem dX0_stepsFrom_32 : decode cX0_stepsFrom 32 = .ok (.goto (-28), 3) := dk_167 255 228 (dk_at dksX0_stepsFrom_1 9 rfl rfl)
theorem dX0_stepsFrom_35 : decode cX0_stepsFrom 35 = .ok (.iload_n 2, 1) := dk_28 (dk_at dksX0_stepsFrom_1 12 rfl rfl)
theorem dX0_stepsFrom_36 : decode cX0_stepsFrom 36 = .ok (.ireturn, 1) := dk_172 (dk_at dksX0_stepsFrom_1 13 rfl rfl)
abbrev cX0_stepTo : ByteArray := prog_1_method_62_code
def yX0_stepTo : MethodName := ⟨RX0, "stepTo", "(II)I"⟩
def dkwX0_stepTo_1 : List UInt8 := [167, 0, 13, 29, 154, 0, 6, 21, 4, 172, 132, 3, 255, 132, 4, 1, 167, 255, 221, 27, 172]
abbrev dktX0_stepTo_1 : List UInt8 := dkwX0_stepTo_1 ++ []
def dkwX0_stepTo_0 : List UInt8 := [28, 62, 3, 54, 4, 21, 4, 42, 180, 0, 113, 162, 0, 32, 42, 27, 21, 4, 182, 0, 244, 154, 0, 6]
abbrev dktX0_stepTo_0 : List UInt8 := dkwX0_stepTo_0 ++ dktX0_stepTo_1
theorem dksX0_stepTo_0 : cX0_stepTo.data.toList.drop 0 = dktX0_stepTo_0 := by decide +kernel
theorem dksX0_stepTo_1 : cX0_stepTo.data.toList.drop 24 = dktX0_stepTo_1 := dk_seg dksX0_stepTo_0 24 rfl rfl
theorem dX0_stepTo_0 : decode cX0_stepTo 0 = .ok (.iload_n 2, 1) := dk_28 (dk_at dksX0_stepTo_0 0 rfl rfl)
theorem dX0_stepTo_1 : decode cX0_stepTo 1 = .ok (.istore_n 3, 1) := dk_62 (dk_at dksX0_stepTo_0 1 rfl rfl)
theorem dX0_stepTo_2 : decode cX0_stepTo 2 = .ok (.iconst 0, 1) := dk_3 (dk_at dksX0_stepTo_0 2 rfl rfl)
theorem dX0_stepTo_3 : decode cX0_stepTo 3 = .ok (.istore 4, 2) := dk_54 4 (dk_at dksX0_stepTo_0 3 rfl rfl)
theorem dX0_stepTo_5 : decode cX0_stepTo 5 = .ok (.iload 4, 2) := dk_21 4 (dk_at dksX0_stepTo_0 5 rfl rfl)
theorem dX0_stepTo_7 : decode cX0_stepTo 7 = .ok (.aload_n 0, 1) := dk_42 (dk_at dksX0_stepTo_0 7 rfl rfl)
theorem dX0_stepTo_8 : decode cX0_stepTo 8 = .ok (.getfield 113, 3) := dk_180 0 113 (dk_at dksX0_stepTo_0 8 rfl rfl)
theorem dX0_stepTo_11 : decode cX0_stepTo 11 = .ok (.if_icmp .ge 32, 3) := dk_162 0 32 (dk_at dksX0_stepTo_0 11 rfl rfl)
theorem dX0_stepTo_14 : decode cX0_stepTo 14 = .ok (.aload_n 0, 1) := dk_42 (dk_at dksX0_stepTo_0 14 rfl rfl)
theorem dX0_stepTo_15 : decode cX0_stepTo 15 = .ok (.iload_n 1, 1) := dk_27 (dk_at dksX0_stepTo_0 15 rfl rfl)
theorem dX0_stepTo_16 : decode cX0_stepTo 16 = .ok (.iload 4, 2) := dk_21 4 (dk_at dksX0_stepTo_0 16 rfl rfl)
theorem dX0_stepTo_18 : decode cX0_stepTo 18 = .ok (.invokevirtual 244, 3) := dk_182 0 244 (dk_at dksX0_stepTo_0 18 rfl rfl)
theorem dX0_stepTo_21 : decode cX0_stepTo 21 = .ok (.ifCond .ne 6, 3) := dk_154 0 6 (dk_at dksX0_stepTo_0 21 rfl rfl)
theorem dX0_stepTo_24 : decode cX0_stepTo 24 = .ok (.goto 13, 3) := dk_167 0 13 (dk_at dksX0_stepTo_1 0 rfl rfl)
theorem dX0_stepTo_27 : decode cX0_stepTo 27 = .ok (.iload_n 3, 1) := dk_29 (dk_at dksX0_stepTo_1 3 rfl rfl)
theorem dX0_stepTo_28 : decode cX0_stepTo 28 = .ok (.ifCond .ne 6, 3) := dk_154 0 6 (dk_at dksX0_stepTo_1 4 rfl rfl)
theorem dX0_stepTo_31 : decode cX0_stepTo 31 = .ok (.iload 4, 2) := dk_21 4 (dk_at dksX0_stepTo_1 7 rfl rfl)
theorem dX0_stepTo_33 : decode cX0_stepTo 33 = .ok (.ireturn, 1) := dk_172 (dk_at dksX0_stepTo_1 9 rfl rfl)
theorem dX0_stepTo_34 : decode cX0_stepTo 34 = .ok (.iinc 3 (-1), 3) := dk_132 3 255 (dk_at dksX0_stepTo_1 10 rfl rfl)
theorem dX0_stepTo_37 : decode cX0_stepTo 37 = .ok (.iinc 4 1, 3) := dk_132 4 1 (dk_at dksX0_stepTo_1 13 rfl rfl)
theorem dX0_stepTo_40 : decode cX0_stepTo 40 = .ok (.goto (-35), 3) := dk_167 255 221 (dk_at dksX0_stepTo_1 16 rfl rfl)
theorem dX0_stepTo_43 : decode cX0_stepTo 43 = .ok (.iload_n 1, 1) := dk_27 (dk_at dksX0_stepTo_1 19 rfl rfl)
theorem dX0_stepTo_44 : decode cX0_stepTo 44 = .ok (.ireturn, 1) := dk_172 (dk_at dksX0_stepTo_1 20 rfl rfl)
abbrev cX0_off : ByteArray := prog_1_method_64_code
def yX0_off : MethodName := ⟨RX0, "off", "()I"⟩
def dkwX0_off_1 : List UInt8 := [4, 96, 181, 0, 174, 42, 180, 0, 11, 42, 180, 0, 113, 50, 180, 0, 148, 180, 0, 189, 172]
abbrev dktX0_off_1 : List UInt8 := dkwX0_off_1 ++ []
def dkwX0_off_0 : List UInt8 := [42, 180, 0, 113, 154, 0, 5, 2, 172, 42, 89, 180, 0, 113, 4, 100, 181, 0, 113, 42, 89, 180, 0, 174]
abbrev dktX0_off_0 : List UInt8 := dkwX0_off_0 ++ dktX0_off_1
theorem dksX0_off_0 : cX0_off.data.toList.drop 0 = dktX0_off_0 := by decide +kernel
theorem dksX0_off_1 : cX0_off.data.toList.drop 24 = dktX0_off_1 := dk_seg dksX0_off_0 24 rfl rfl
theorem dX0_off_0 : decode cX0_off 0 = .ok (.aload_n 0, 1) := dk_42 (dk_at dksX0_off_0 0 rfl rfl)
theorem dX0_off_1 : decode cX0_off 1 = .ok (.getfield 113, 3) := dk_180 0 113 (dk_at dksX0_off_0 1 rfl rfl)
theorem dX0_off_4 : decode cX0_off 4 = .ok (.ifCond .ne 5, 3) := dk_154 0 5 (dk_at dksX0_off_0 4 rfl rfl)
theorem dX0_off_7 : decode cX0_off 7 = .ok (.iconst (-1), 1) := dk_2 (dk_at dksX0_off_0 7 rfl rfl)
theorem dX0_off_8 : decode cX0_off 8 = .ok (.ireturn, 1) := dk_172 (dk_at dksX0_off_0 8 rfl rfl)
theorem dX0_off_9 : decode cX0_off 9 = .ok (.aload_n 0, 1) := dk_42 (dk_at dksX0_off_0 9 rfl rfl)
theorem dX0_off_10 : decode cX0_off 10 = .ok (.dup, 1) := dk_89 (dk_at dksX0_off_0 10 rfl rfl)
theorem dX0_off_11 : decode cX0_off 11 = .ok (.getfield 113, 3) := dk_180 0 113 (dk_at dksX0_off_0 11 rfl rfl)
theorem dX0_off_14 : decode cX0_off 14 = .ok (.iconst 1, 1) := dk_4 (dk_at dksX0_off_0 14 rfl rfl)
theorem dX0_off_15 : decode cX0_off 15 = .ok (.isub, 1) := dk_100 (dk_at dksX0_off_0 15 rfl rfl)
theorem dX0_off_16 : decode cX0_off 16 = .ok (.putfield 113, 3) := dk_181 0 113 (dk_at dksX0_off_0 16 rfl rfl)
theorem dX0_off_19 : decode cX0_off 19 = .ok (.aload_n 0, 1) := dk_42 (dk_at dksX0_off_0 19 rfl rfl)
theorem dX0_off_20 : decode cX0_off 20 = .ok (.dup, 1) := dk_89 (dk_at dksX0_off_0 20 rfl rfl)
theorem dX0_off_21 : decode cX0_off 21 = .ok (.getfield 174, 3) := dk_180 0 174 (dk_at dksX0_off_0 21 rfl rfl)
theorem dX0_off_24 : decode cX0_off 24 = .ok (.iconst 1, 1) := dk_4 (dk_at dksX0_off_1 0 rfl rfl)
theorem dX0_off_25 : decode cX0_off 25 = .ok (.iadd, 1) := dk_96 (dk_at dksX0_off_1 1 rfl rfl)
theorem dX0_off_26 : decode cX0_off 26 = .ok (.putfield 174, 3) := dk_181 0 174 (dk_at dksX0_off_1 2 rfl rfl)
theorem dX0_off_29 : decode cX0_off 29 = .ok (.aload_n 0, 1) := dk_42 (dk_at dksX0_off_1 5 rfl rfl)
theorem dX0_off_30 : decode cX0_off 30 = .ok (.getfield 11, 3) := dk_180 0 11 (dk_at dksX0_off_1 6 rfl rfl)
theorem dX0_off_33 : decode cX0_off 33 = .ok (.aload_n 0, 1) := dk_42 (dk_at dksX0_off_1 9 rfl rfl)
theorem dX0_off_34 : decode cX0_off 34 = .ok (.getfield 113, 3) := dk_180 0 113 (dk_at dksX0_off_1 10 rfl rfl)
theorem dX0_off_37 : decode cX0_off 37 = .ok (.aaload, 1) := dk_50 (dk_at dksX0_off_1 13 rfl rfl)
theorem dX0_off_38 : decode cX0_off 38 = .ok (.getfield 148, 3) := dk_180 0 148 (dk_at dksX0_off_1 14 rfl rfl)
theorem dX0_off_41 : decode cX0_off 41 = .ok (.getfield 189, 3) := dk_180 0 189 (dk_at dksX0_off_1 17 rfl rfl)
theorem dX0_off_44 : decode cX0_off 44 = .ok (.ireturn, 1) := dk_172 (dk_at dksX0_off_1 20 rfl rfl)
abbrev cX0_check : ByteArray := prog_1_method_66_code
def yX0_check : MethodName := ⟨RX0, "check", "(II)I"⟩
def dkwX0_check_4 : List UInt8 := [180, 0, 189, 160, 0, 7, 2, 167, 0, 7, 45, 180, 0, 189, 172]
abbrev dktX0_check_4 : List UInt8 := dkwX0_check_4 ++ []
def dkwX0_check_3 : List UInt8 := [182, 1, 93, 45, 180, 0, 191, 21, 4, 46, 159, 0, 6, 21, 4, 172, 132, 4, 1, 167, 255, 217, 28, 45]
abbrev dktX0_check_3 : List UInt8 := dkwX0_check_3 ++ dktX0_check_4
def dkwX0_check_2 : List UInt8 := [54, 4, 21, 4, 45, 180, 0, 189, 162, 0, 36, 21, 4, 28, 160, 0, 5, 28, 172, 42, 21, 4]
abbrev dktX0_check_2 : List UInt8 := dkwX0_check_2 ++ dktX0_check_3
def dkwX0_check_1 : List UInt8 := [108, 164, 0, 6, 16, 254, 172, 42, 3, 181, 0, 135, 42, 180, 0, 11, 27, 50, 180, 0, 148, 78, 3]
abbrev dktX0_check_1 : List UInt8 := dkwX0_check_1 ++ dktX0_check_2
def dkwX0_check_0 : List UInt8 := [42, 27, 182, 0, 120, 153, 0, 23, 28, 3, 16, 8, 184, 0, 155, 153, 0, 13, 28, 42, 180, 0, 135, 7]
abbrev dktX0_check_0 : List UInt8 := dkwX0_check_0 ++ dktX0_check_1
theorem dksX0_check_0 : cX0_check.data.toList.drop 0 = dktX0_check_0 := by decide +kernel
theorem dksX0_check_1 : cX0_check.data.toList.drop 24 = dktX0_check_1 := dk_seg dksX0_check_0 24 rfl rfl
theorem dksX0_check_2 : cX0_check.data.toList.drop 47 = dktX0_check_2 := dk_seg dksX0_check_1 23 rfl rfl
theorem dksX0_check_3 : cX0_check.data.toList.drop 69 = dktX0_check_3 := dk_seg dksX0_check_2 22 rfl rfl
theorem dksX0_check_4 : cX0_check.data.toList.drop 93 = dktX0_check_4 := dk_seg dksX0_check_3 24 rfl rfl
theorem dX0_check_0 : decode cX0_check 0 = .ok (.aload_n 0, 1) := dk_42 (dk_at dksX0_check_0 0 rfl rfl)
theorem dX0_check_1 : decode cX0_check 1 = .ok (.iload_n 1, 1) := dk_27 (dk_at dksX0_check_0 1 rfl rfl)
theorem dX0_check_2 : decode cX0_check 2 = .ok (.invokevirtual 120, 3) := dk_182 0 120 (dk_at dksX0_check_0 2 rfl rfl)
theorem dX0_check_5 : decode cX0_check 5 = .ok (.ifCond .eq 23, 3) := dk_153 0 23 (dk_at dksX0_check_0 5 rfl rfl)
theorem dX0_check_8 : decode cX0_check 8 = .ok (.iload_n 2, 1) := dk_28 (dk_at dksX0_check_0 8 rfl rfl)
theorem dX0_check_9 : decode cX0_check 9 = .ok (.iconst 0, 1) := dk_3 (dk_at dksX0_check_0 9 rfl rfl)
theorem dX0_check_10 : decode cX0_check 10 = .ok (.bipush 8, 2) := dk_16 8 (dk_at dksX0_check_0 10 rfl rfl)
theorem dX0_check_12 : decode cX0_check 12 = .ok (.invokestatic 155, 3) := dk_184 0 155 (dk_at dksX0_check_0 12 rfl rfl)
theorem dX0_check_15 : decode cX0_check 15 = .ok (.ifCond .eq 13, 3) := dk_153 0 13 (dk_at dksX0_check_0 15 rfl rfl)
theorem dX0_check_18 : decode cX0_check 18 = .ok (.iload_n 2, 1) := dk_28 (dk_at dksX0_check_0 18 rfl rfl)
theorem dX0_check_19 : decode cX0_check 19 = .ok (.aload_n 0, 1) := dk_42 (dk_at dksX0_check_0 19 rfl rfl)
theorem dX0_check_20 : decode cX0_check 20 = .ok (.getfield 135, 3) := dk_180 0 135 (dk_at dksX0_check_0 20 rfl rfl)
theorem dX0_check_23 : decode cX0_check 23 = .ok (.iconst 4, 1) := dk_7 (dk_at dksX0_check_0 23 rfl rfl)
theorem dX0_check_24 : decode cX0_check 24 = .ok (.idiv, 1) := dk_108 (dk_at dksX0_check_1 0 rfl rfl)
theorem dX0_check_25 : decode cX0_check 25 = .ok (.if_icmp .le 6, 3) := dk_164 0 6 (dk_at dksX0_check_1 1 rfl rfl)
theorem dX0_check_28 : decode cX0_check 28 = .ok (.bipush (-2), 2) := dk_16 254 (dk_at dksX0_check_1 4 rfl rfl)
theorem dX0_check_30 : decode cX0_check 30 = .ok (.ireturn, 1) := dk_172 (dk_at dksX0_check_1 6 rfl rfl)
theorem dX0_check_31 : decode cX0_check 31 = .ok (.aload_n 0, 1) := dk_42 (dk_at dksX0_check_1 7 rfl rfl)
theorem dX0_check_32 : decode cX0_check 32 = .ok (.iconst 0, 1) := dk_3 (dk_at dksX0_check_1 8 rfl rfl)
theorem dX0_check_33 : decode cX0_check 33 = .ok (.putfield 135, 3) := dk_181 0 135 (dk_at dksX0_check_1 9 rfl rfl)
theorem dX0_check_36 : decode cX0_check 36 = .ok (.aload_n 0, 1) := dk_42 (dk_at dksX0_check_1 12 rfl rfl)
theorem dX0_check_37 : decode cX0_check 37 = .ok (.getfield 11, 3) := dk_180 0 11 (dk_at dksX0_check_1 13 rfl rfl)
theorem dX0_check_40 : decode cX0_check 40 = .ok (.iload_n 1, 1) := dk_27 (dk_at dksX0_check_1 16 rfl rfl)
theorem dX0_check_41 : decode cX0_check 41 = .ok (.aaload, 1) := dk_50 (dk_at dksX0_check_1 17 rfl rfl)
theorem dX0_check_42 : decode cX0_check 42 = .ok (.getfield 148, 3) := dk_180 0 148 (dk_at dksX0_check_1 18 rfl rfl)
theorem dX0_check_45 : decode cX0_check 45 = .ok (.astore_n 3, 1) := dk_78 (dk_at dksX0_check_1 21 rfl rfl)
theorem dX0_check_46 : decode cX0_check 46 = .ok (.iconst 0, 1) := dk_3 (dk_at dksX0_check_1 22 rfl rfl)
theorem dX0_check_47 : decode cX0_check 47 = .ok (.istore 4, 2) := dk_54 4 (dk_at dksX0_check_2 0 rfl rfl)
theorem dX0_check_49 : decode cX0_check 49 = .ok (.iload 4, 2) := dk_21 4 (dk_at dksX0_check_2 2 rfl rfl)
theorem dX0_check_51 : decode cX0_check 51 = .ok (.aload_n 3, 1) := dk_45 (dk_at dksX0_check_2 4 rfl rfl)
theorem dX0_check_52 : decode cX0_check 52 = .ok (.getfield 189, 3) := dk_180 0 189 (dk_at dksX0_check_2 5 rfl rfl)
theorem dX0_check_55 : decode cX0_check 55 = .ok (.if_icmp .ge 36, 3) := dk_162 0 36 (dk_at dksX0_check_2 8 rfl rfl)
theorem dX0_check_58 : decode cX0_check 58 = .ok (.iload 4, 2) := dk_21 4 (dk_at dksX0_check_2 11 rfl rfl)
theorem dX0_check_60 : decode cX0_check 60 = .ok (.iload_n 2, 1) := dk_28 (dk_at dksX0_check_2 13 rfl rfl)
theorem dX0_check_61 : decode cX0_check 61 = .ok (.if_icmp .ne 5, 3) := dk_160 0 5 (dk_at dksX0_check_2 14 rfl rfl)
theorem dX0_check_64 : decode cX0_check 64 = .ok (.iload_n 2, 1) := dk_28 (dk_at dksX0_check_2 17 rfl rfl)
theorem dX0_check_65 : decode cX0_check 65 = .ok (.ireturn, 1) := dk_172 (dk_at dksX0_check_2 18 rfl rfl)
theorem dX0_check_66 : decode cX0_check 66 = .ok (.aload_n 0, 1) := dk_42 (dk_at dksX0_check_2 19 rfl rfl)
theorem dX0_check_67 : decode cX0_check 67 = .ok (.iload 4, 2) := dk_21 4 (dk_at dksX0_check_2 20 rfl rfl)
theorem dX0_check_69 : decode cX0_check 69 = .ok (.invokevirtual 349, 3) := dk_182 1 93 (dk_at dksX0_check_3 0 rfl rfl)
theorem dX0_check_72 : decode cX0_check 72 = .ok (.aload_n 3, 1) := dk_45 (dk_at dksX0_check_3 3 rfl rfl)
theorem dX0_check_73 : decode cX0_check 73 = .ok (.getfield 191, 3) := dk_180 0 191 (dk_at dksX0_check_3 4 rfl rfl)
theorem dX0_check_76 : decode cX0_check 76 = .ok (.iload 4, 2) := dk_21 4 (dk_at dksX0_check_3 7 rfl rfl)
theorem dX0_check_78 : decode cX0_check 78 = .ok (.iaload, 1) := dk_46 (dk_at dksX0_check_3 9 rfl rfl)
theorem dX0_check_79 : decode cX0_check 79 = .ok (.if_icmp .eq 6, 3) := dk_159 0 6 (dk_at dksX0_check_3 10 rfl rfl)
theorem dX0_check_82 : decode cX0_check 82 = .ok (.iload 4, 2) := dk_21 4 (dk_at dksX0_check_3 13 rfl rfl)
theorem dX0_check_84 : decode cX0_check 84 = .ok (.ireturn, 1) := dk_172 (dk_at dksX0_check_3 15 rfl rfl)
theorem dX0_check_85 : decode cX0_check 85 = .ok (.iinc 4 1, 3) := dk_132 4 1 (dk_at dksX0_check_3 16 rfl rfl)
theorem dX0_check_88 : decode cX0_check 88 = .ok (.goto (-39), 3) := dk_167 255 217 (dk_at dksX0_check_3 19 rfl rfl)
theorem dX0_check_91 : decode cX0_check 91 = .ok (.iload_n 2, 1) := dk_28 (dk_at dksX0_check_3 22 rfl rfl)
theorem dX0_check_92 : decode cX0_check 92 = .ok (.aload_n 3, 1) := dk_45 (dk_at dksX0_check_3 23 rfl rfl)
theorem dX0_check_93 : decode cX0_check 93 = .ok (.getfield 189, 3) := dk_180 0 189 (dk_at dksX0_check_4 0 rfl rfl)
theorem dX0_check_96 : decode cX0_check 96 = .ok (.if_icmp .ne 7, 3) := dk_160 0 7 (dk_at dksX0_check_4 3 rfl rfl)
theorem dX0_check_99 : decode cX0_check 99 = .ok (.iconst (-1), 1) := dk_2 (dk_at dksX0_check_4 6 rfl rfl)
theorem dX0_check_100 : decode cX0_check 100 = .ok (.goto 7, 3) := dk_167 0 7 (dk_at dksX0_check_4 7 rfl rfl)
theorem dX0_check_103 : decode cX0_check 103 = .ok (.aload_n 3, 1) := dk_45 (dk_at dksX0_check_4 10 rfl rfl)
theorem dX0_check_104 : decode cX0_check 104 = .ok (.getfield 189, 3) := dk_180 0 189 (dk_at dksX0_check_4 11 rfl rfl)
theorem dX0_check_107 : decode cX0_check 107 = .ok (.ireturn, 1) := dk_172 (dk_at dksX0_check_4 14 rfl rfl)
abbrev cX0_numberAt : ByteArray := prog_1_method_65_code
def yX0_numberAt : MethodName := ⟨RX0, "numberAt", "(I)I"⟩
def dkwX0_numberAt_1 : List UInt8 := [17, 0, 255, 126, 128, 61, 132, 3, 1, 167, 255, 228, 28, 172]
abbrev dktX0_numberAt_1 : List UInt8 := dkwX0_numberAt_1 ++ []
def dkwX0_numberAt_0 : List UInt8 := [3, 61, 3, 62, 29, 7, 162, 0, 29, 28, 16, 8, 120, 42, 180, 0, 15, 7, 27, 104, 29, 96, 51]
abbrev dktX0_numberAt_0 : List UInt8 := dkwX0_numberAt_0 ++ dktX0_numberAt_1
theorem dksX0_numberAt_0 : cX0_numberAt.data.toList.drop 0 = dktX0_numberAt_0 := by decide +kernel
theorem dksX0_numberAt_1 : cX0_numberAt.data.toList.drop 23 = dktX0_numberAt_1 := dk_seg dksX0_numberAt_0 23 rfl rfl
theorem dX0_numberAt_0 : decode cX0_numberAt 0 = .ok (.iconst 0, 1) := dk_3 (dk_at dksX0_numberAt_0 0 rfl rfl)
theorem dX0_numberAt_1 : decode cX0_numberAt 1 = .ok (.istore_n 2, 1) := dk_61 (dk_at dksX0_numberAt_0 1 rfl rfl)
theorem dX0_numberAt_2 : decode cX0_numberAt 2 = .ok (.iconst 0, 1) := dk_3 (dk_at dksX0_numberAt_0 2 rfl rfl)
theorem dX0_numberAt_3 : decode cX0_numberAt 3 = .ok (.istore_n 3, 1) := dk_62 (dk_at dksX0_numberAt_0 3 rfl rfl)
theorem dX0_numberAt_4 : decode cX0_numberAt 4 = .ok (.iload_n 3, 1) := dk_29 (dk_at dksX0_numberAt_0 4 rfl rfl)
theorem dX0_numberAt_5 : decode cX0_numberAt 5 = .ok (.iconst 4, 1) := dk_7 (dk_at dksX0_numberAt_0 5 rfl rfl)
theorem dX0_numberAt_6 : decode cX0_numberAt 6 = .ok (.if_icmp .ge 29, 3) := dk_162 0 29 (dk_at dksX0_numberAt_0 6 rfl rfl)
theorem dX0_numberAt_9 : decode cX0_numberAt 9 = .ok (.iload_n 2, 1) := dk_28 (dk_at dksX0_numberAt_0 9 rfl rfl)
theorem dX0_numberAt_10 : decode cX0_numberAt 10 = .ok (.bipush 8, 2) := dk_16 8 (dk_at dksX0_numberAt_0 10 rfl rfl)
theorem dX0_numberAt_12 : decode cX0_numberAt 12 = .ok (.ishl, 1) := dk_120 (dk_at dksX0_numberAt_0 12 rfl rfl)
theorem dX0_numberAt_13 : decode cX0_numberAt 13 = .ok (.aload_n 0, 1) := dk_42 (dk_at dksX0_numberAt_0 13 rfl rfl)
theorem dX0_numberAt_14 : decode cX0_numberAt 14 = .ok (.getfield 15, 3) := dk_180 0 15 (dk_at dksX0_numberAt_0 14 rfl rfl)
theorem dX0_numberAt_17 : decode cX0_numberAt 17 = .ok (.iconst 4, 1) := dk_7 (dk_at dksX0_numberAt_0 17 rfl rfl)
theorem dX0_numberAt_18 : decode cX0_numberAt 18 = .ok (.iload_n 1, 1) := dk_27 (dk_at dksX0_numberAt_0 18 rfl rfl)
theorem dX0_numberAt_19 : decode cX0_numberAt 19 = .ok (.imul, 1) := dk_104 (dk_at dksX0_numberAt_0 19 rfl rfl)
theorem dX0_numberAt_20 : decode cX0_numberAt 20 = .ok (.iload_n 3, 1) := dk_29 (dk_at dksX0_numberAt_0 20 rfl rfl)
theorem dX0_numberAt_21 : decode cX0_numberAt 21 = .ok (.iadd, 1) := dk_96 (dk_at dksX0_numberAt_0 21 rfl rfl)
theorem dX0_numberAt_22 : decode cX0_numberAt 22 = .ok (.baload, 1) := dk_51 (dk_at dksX0_numberAt_0 22 rfl rfl)
theorem dX0_numberAt_23 : decode cX0_numberAt 23 = .ok (.sipush 255, 3) := dk_17 0 255 (dk_at dksX0_numberAt_1 0 rfl rfl)
theorem dX0_numberAt_26 : decode cX0_numberAt 26 = .ok (.iand, 1) := dk_126 (dk_at dksX0_numberAt_1 3 rfl rfl)
theorem dX0_numberAt_27 : decode cX0_numberAt 27 = .ok (.ior, 1) := dk_128 (dk_at dksX0_numberAt_1 4 rfl rfl)
theorem dX0_numberAt_28 : decode cX0_numberAt 28 = .ok (.istore_n 2, 1) := dk_61 (dk_at dksX0_numberAt_1 5 rfl rfl)
theorem dX0_numberAt_29 : decode cX0_numberAt 29 = .ok (.iinc 3 1, 3) := dk_132 3 1 (dk_at dksX0_numberAt_1 6 rfl rfl)
theorem dX0_numberAt_32 : decode cX0_numberAt 32 = .ok (.goto (-28), 3) := dk_167 255 228 (dk_at dksX0_numberAt_1 9 rfl rfl)
theorem dX0_numberAt_35 : decode cX0_numberAt 35 = .ok (.iload_n 2, 1) := dk_28 (dk_at dksX0_numberAt_1 12 rfl rfl)
theorem dX0_numberAt_36 : decode cX0_numberAt 36 = .ok (.ireturn, 1) := dk_172 (dk_at dksX0_numberAt_1 13 rfl rfl)
abbrev cX0_count : ByteArray := prog_1_method_68_code
def yX0_count : MethodName := ⟨RX0, "count", "(I)I"⟩
def dkwX0_count_6 : List UInt8 := [180, 0, 30, 172, 42, 180, 0, 26, 172, 2, 172]
abbrev dktX0_count_6 : List UInt8 := dkwX0_count_6 ++ []
def dkwX0_count_5 : List UInt8 := [42, 180, 0, 113, 172, 42, 182, 1, 96, 172, 42, 180, 0, 22, 180, 1, 99, 172, 42, 180, 0, 135, 172, 42]
abbrev dktX0_count_5 : List UInt8 := dkwX0_count_5 ++ dktX0_count_6
def dkwX0_count_4 : List UInt8 := [170, 0, 0, 0, 0, 0, 0, 73, 0, 0, 0, 0, 0, 0, 0, 5, 0, 0, 0, 40, 0, 0, 0, 45, 0, 0, 0, 50, 0, 0, 0, 58, 0, 0, 0, 63, 0, 0, 0, 68]
abbrev dktX0_count_4 : List UInt8 := dkwX0_count_4 ++ dktX0_count_5
def dkwX0_count_3 : List UInt8 := [153, 0, 7, 4, 167, 0, 4, 3, 172, 27]
abbrev dktX0_count_3 : List UInt8 := dkwX0_count_3 ++ dktX0_count_4
def dkwX0_count_2 : List UInt8 := [180, 0, 171, 172, 42, 27, 16, 100, 100, 182, 0, 120, 153, 0, 20, 42, 27, 16, 100, 100, 182, 0, 221]
abbrev dktX0_count_2 : List UInt8 := dkwX0_count_2 ++ dktX0_count_3
def dkwX0_count_1 : List UInt8 := [180, 0, 189, 172, 42, 27, 16, 60, 100, 182, 0, 120, 153, 0, 16, 42, 180, 0, 11, 27, 16, 60, 100, 50]
abbrev dktX0_count_1 : List UInt8 := dkwX0_count_1 ++ dktX0_count_2
def dkwX0_count_0 : List UInt8 := [42, 27, 16, 20, 100, 182, 0, 120, 153, 0, 19, 42, 180, 0, 11, 27, 16, 20, 100, 50, 180, 0, 148]
abbrev dktX0_count_0 : List UInt8 := dkwX0_count_0 ++ dktX0_count_1
theorem dksX0_count_0 : cX0_count.data.toList.drop 0 = dktX0_count_0 := by decide +kernel
theorem dksX0_count_1 : cX0_count.data.toList.drop 23 = dktX0_count_1 := dk_seg dksX0_count_0 23 rfl rfl
theorem dksX0_count_2 : cX0_count.data.toList.drop 47 = dktX0_count_2 := dk_seg dksX0_count_1 24 rfl rfl
theorem dksX0_count_3 : cX0_count.data.toList.drop 70 = dktX0_count_3 := dk_seg dksX0_count_2 23 rfl rfl
theorem dksX0_count_4 : cX0_count.data.toList.drop 80 = dktX0_count_4 := dk_seg dksX0_count_3 10 rfl rfl
theorem dksX0_count_5 : cX0_count.data.toList.drop 120 = dktX0_count_5 := dk_seg dksX0_count_4 40 rfl rfl
theorem dksX0_count_6 : cX0_count.data.toList.drop 144 = dktX0_count_6 := dk_seg dksX0_count_5 24 rfl rfl
theorem dX0_count_0 : decode cX0_count 0 = .ok (.aload_n 0, 1) := dk_42 (dk_at dksX0_count_0 0 rfl rfl)
theorem dX0_count_1 : decode cX0_count 1 = .ok (.iload_n 1, 1) := dk_27 (dk_at dksX0_count_0 1 rfl rfl)
theorem dX0_count_2 : decode cX0_count 2 = .ok (.bipush 20, 2) := dk_16 20 (dk_at dksX0_count_0 2 rfl rfl)
theorem dX0_count_4 : decode cX0_count 4 = .ok (.isub, 1) := dk_100 (dk_at dksX0_count_0 4 rfl rfl)
theorem dX0_count_5 : decode cX0_count 5 = .ok (.invokevirtual 120, 3) := dk_182 0 120 (dk_at dksX0_count_0 5 rfl rfl)
theorem dX0_count_8 : decode cX0_count 8 = .ok (.ifCond .eq 19, 3) := dk_153 0 19 (dk_at dksX0_count_0 8 rfl rfl)
theorem dX0_count_11 : decode cX0_count 11 = .ok (.aload_n 0, 1) := dk_42 (dk_at dksX0_count_0 11 rfl rfl)
theorem dX0_count_12 : decode cX0_count 12 = .ok (.getfield 11, 3) := dk_180 0 11 (dk_at dksX0_count_0 12 rfl rfl)
theorem dX0_count_15 : decode cX0_count 15 = .ok (.iload_n 1, 1) := dk_27 (dk_at dksX0_count_0 15 rfl rfl)
theorem dX0_count_16 : decode cX0_count 16 = .ok (.bipush 20, 2) := dk_16 20 (dk_at dksX0_count_0 16 rfl rfl)
theorem dX0_count_18 : decode cX0_count 18 = .ok (.isub, 1) := dk_100 (dk_at dksX0_count_0 18 rfl rfl)
theorem dX0_count_19 : decode cX0_count 19 = .ok (.aaload, 1) := dk_50 (dk_at dksX0_count_0 19 rfl rfl)
theorem dX0_count_20 : decode cX0_count 20 = .ok (.getfield 148, 3) := dk_180 0 148 (dk_at dksX0_count_0 20 rfl rfl)
theorem dX0_count_23 : decode cX0_count 23 = .ok (.getfield 189, 3) := dk_180 0 189 (dk_at dksX0_count_1 0 rfl rfl)
theorem dX0_count_26 : decode cX0_count 26 = .ok (.ireturn, 1) := dk_172 (dk_at dksX0_count_1 3 rfl rfl)
theorem dX0_count_27 : decode cX0_count 27 = .ok (.aload_n 0, 1) := dk_42 (dk_at dksX0_count_1 4 rfl rfl)
theorem dX0_count_28 : decode cX0_count 28 = .ok (.iload_n 1, 1) := dk_27 (dk_at dksX0_count_1 5 rfl rfl)
theorem dX0_count_29 : decode cX0_count 29 = .ok (.bipush 60, 2) := dk_16 60 (dk_at dksX0_count_1 6 rfl rfl)
theorem dX0_count_31 : decode cX0_count 31 = .ok (.isub, 1) := dk_100 (dk_at dksX0_count_1 8 rfl rfl)
theorem dX0_count_32 : decode cX0_count 32 = .ok (.invokevirtual 120, 3) := dk_182 0 120 (dk_at dksX0_count_1 9 rfl rfl)
theorem dX0_count_35 : decode cX0_count 35 = .ok (.ifCond .eq 16, 3) := dk_153 0 16 (dk_at dksX0_count_1 12 rfl rfl)
theorem dX0_count_38 : decode cX0_count 38 = .ok (.aload_n 0, 1) := dk_42 (dk_at dksX0_count_1 15 rfl rfl)
theorem dX0_count_39 : decode cX0_count 39 = .ok (.getfield 11, 3) := dk_180 0 11 (dk_at dksX0_count_1 16 rfl rfl)
theorem dX0_count_42 : decode cX0_count 42 = .ok (.iload_n 1, 1) := dk_27 (dk_at dksX0_count_1 19 rfl rfl)
theorem dX0_count_43 : decode cX0_count 43 = .ok (.bipush 60, 2) := dk_16 60 (dk_at dksX0_count_1 20 rfl rfl)
theorem dX0_count_45 : decode cX0_count 45 = .ok (.isub, 1) := dk_100 (dk_at dksX0_count_1 22 rfl rfl)
theorem dX0_count_46 : decode cX0_count 46 = .ok (.aaload, 1) := dk_50 (dk_at dksX0_count_1 23 rfl rfl)
theorem dX0_count_47 : decode cX0_count 47 = .ok (.getfield 171, 3) := dk_180 0 171 (dk_at dksX0_count_2 0 rfl rfl)
theorem dX0_count_50 : decode cX0_count 50 = .ok (.ireturn, 1) := dk_172 (dk_at dksX0_count_2 3 rfl rfl)
theorem dX0_count_51 : decode cX0_count 51 = .ok (.aload_n 0, 1) := dk_42 (dk_at dksX0_count_2 4 rfl rfl)
theorem dX0_count_52 : decode cX0_count 52 = .ok (.iload_n 1, 1) := dk_27 (dk_at dksX0_count_2 5 rfl rfl)
theorem dX0_count_53 : decode cX0_count 53 = .ok (.bipush 100, 2) := dk_16 100 (dk_at dksX0_count_2 6 rfl rfl)
theorem dX0_count_55 : decode cX0_count 55 = .ok (.isub, 1) := dk_100 (dk_at dksX0_count_2 8 rfl rfl)
theorem dX0_count_56 : decode cX0_count 56 = .ok (.invokevirtual 120, 3) := dk_182 0 120 (dk_at dksX0_count_2 9 rfl rfl)
theorem dX0_count_59 : decode cX0_count 59 = .ok (.ifCond .eq 20, 3) := dk_153 0 20 (dk_at dksX0_count_2 12 rfl rfl)
theorem dX0_count_62 : decode cX0_count 62 = .ok (.aload_n 0, 1) := dk_42 (dk_at dksX0_count_2 15 rfl rfl)
theorem dX0_count_63 : decode cX0_count 63 = .ok (.iload_n 1, 1) := dk_27 (dk_at dksX0_count_2 16 rfl rfl)
theorem dX0_count_64 : decode cX0_count 64 = .ok (.bipush 100, 2) := dk_16 100 (dk_at dksX0_count_2 17 rfl rfl)
theorem dX0_count_66 : decode cX0_count 66 = .ok (.isub, 1) := dk_100 (dk_at dksX0_count_2 19 rfl rfl)
theorem dX0_count_67 : decode cX0_count 67 = .ok (.invokevirtual 221, 3) := dk_182 0 221 (dk_at dksX0_count_2 20 rfl rfl)
theorem dX0_count_70 : decode cX0_count 70 = .ok (.ifCond .eq 7, 3) := dk_153 0 7 (dk_at dksX0_count_3 0 rfl rfl)
theorem dX0_count_73 : decode cX0_count 73 = .ok (.iconst 1, 1) := dk_4 (dk_at dksX0_count_3 3 rfl rfl)
theorem dX0_count_74 : decode cX0_count 74 = .ok (.goto 4, 3) := dk_167 0 4 (dk_at dksX0_count_3 4 rfl rfl)
theorem dX0_count_77 : decode cX0_count 77 = .ok (.iconst 0, 1) := dk_3 (dk_at dksX0_count_3 7 rfl rfl)
theorem dX0_count_78 : decode cX0_count 78 = .ok (.ireturn, 1) := dk_172 (dk_at dksX0_count_3 8 rfl rfl)
theorem dX0_count_79 : decode cX0_count 79 = .ok (.iload_n 1, 1) := dk_27 (dk_at dksX0_count_3 9 rfl rfl)
theorem dX0_count_80 : decode cX0_count 80 = .ok (.tableswitch 73 0 5 #[40, 45, 50, 58, 63, 68], 40) := by decide +kernel
theorem dX0_count_120 : decode cX0_count 120 = .ok (.aload_n 0, 1) := dk_42 (dk_at dksX0_count_5 0 rfl rfl)
theorem dX0_count_121 : decode cX0_count 121 = .ok (.getfield 113, 3) := dk_180 0 113 (dk_at dksX0_count_5 1 rfl rfl)
theorem dX0_count_124 : decode cX0_count 124 = .ok (.ireturn, 1) := dk_172 (dk_at dksX0_count_5 4 rfl rfl)
theorem dX0_count_125 : decode cX0_count 125 = .ok (.aload_n 0, 1) := dk_42 (dk_at dksX0_count_5 5 rfl rfl)
theorem dX0_count_126 : decode cX0_count 126 = .ok (.invokevirtual 352, 3) := dk_182 1 96 (dk_at dksX0_count_5 6 rfl rfl)
theorem dX0_count_129 : decode cX0_count 129 = .ok (.ireturn, 1) := dk_172 (dk_at dksX0_count_5 9 rfl rfl)
theorem dX0_count_130 : decode cX0_count 130 = .ok (.aload_n 0, 1) := dk_42 (dk_at dksX0_count_5 10 rfl rfl)
theorem dX0_count_131 : decode cX0_count 131 = .ok (.getfield 22, 3) := dk_180 0 22 (dk_at dksX0_count_5 11 rfl rfl)
theorem dX0_count_134 : decode cX0_count 134 = .ok (.getfield 355, 3) := dk_180 1 99 (dk_at dksX0_count_5 14 rfl rfl)
theorem dX0_count_137 : decode cX0_count 137 = .ok (.ireturn, 1) := dk_172 (dk_at dksX0_count_5 17 rfl rfl)
theorem dX0_count_138 : decode cX0_count 138 = .ok (.aload_n 0, 1) := dk_42 (dk_at dksX0_count_5 18 rfl rfl)
theorem dX0_count_139 : decode cX0_count 139 = .ok (.getfield 135, 3) := dk_180 0 135 (dk_at dksX0_count_5 19 rfl rfl)
theorem dX0_count_142 : decode cX0_count 142 = .ok (.ireturn, 1) := dk_172 (dk_at dksX0_count_5 22 rfl rfl)
theorem dX0_count_143 : decode cX0_count 143 = .ok (.aload_n 0, 1) := dk_42 (dk_at dksX0_count_5 23 rfl rfl)
theorem dX0_count_144 : decode cX0_count 144 = .ok (.getfield 30, 3) := dk_180 0 30 (dk_at dksX0_count_6 0 rfl rfl)
theorem dX0_count_147 : decode cX0_count 147 = .ok (.ireturn, 1) := dk_172 (dk_at dksX0_count_6 3 rfl rfl)
theorem dX0_count_148 : decode cX0_count 148 = .ok (.aload_n 0, 1) := dk_42 (dk_at dksX0_count_6 4 rfl rfl)
theorem dX0_count_149 : decode cX0_count 149 = .ok (.getfield 26, 3) := dk_180 0 26 (dk_at dksX0_count_6 5 rfl rfl)
theorem dX0_count_152 : decode cX0_count 152 = .ok (.ireturn, 1) := dk_172 (dk_at dksX0_count_6 8 rfl rfl)
theorem dX0_count_153 : decode cX0_count 153 = .ok (.iconst (-1), 1) := dk_2 (dk_at dksX0_count_6 9 rfl rfl)
theorem dX0_count_154 : decode cX0_count 154 = .ok (.ireturn, 1) := dk_172 (dk_at dksX0_count_6 10 rfl rfl)
abbrev cX0_usedMany : ByteArray := prog_1_method_67_code
def yX0_usedMany : MethodName := ⟨RX0, "usedMany", "()I"⟩
def dkwX0_usedMany_1 : List UInt8 := [167, 0, 4, 3, 96, 60, 132, 2, 1, 167, 255, 229, 27, 172]
abbrev dktX0_usedMany_1 : List UInt8 := dkwX0_usedMany_1 ++ []
def dkwX0_usedMany_0 : List UInt8 := [3, 60, 3, 61, 28, 42, 180, 0, 113, 162, 0, 25, 27, 42, 28, 182, 0, 221, 153, 0, 7, 4]
abbrev dktX0_usedMany_0 : List UInt8 := dkwX0_usedMany_0 ++ dktX0_usedMany_1
theorem dksX0_usedMany_0 : cX0_usedMany.data.toList.drop 0 = dktX0_usedMany_0 := by decide +kernel
theorem dksX0_usedMany_1 : cX0_usedMany.data.toList.drop 22 = dktX0_usedMany_1 := dk_seg dksX0_usedMany_0 22 rfl rfl
theorem dX0_usedMany_0 : decode cX0_usedMany 0 = .ok (.iconst 0, 1) := dk_3 (dk_at dksX0_usedMany_0 0 rfl rfl)
theorem dX0_usedMany_1 : decode cX0_usedMany 1 = .ok (.istore_n 1, 1) := dk_60 (dk_at dksX0_usedMany_0 1 rfl rfl)
theorem dX0_usedMany_2 : decode cX0_usedMany 2 = .ok (.iconst 0, 1) := dk_3 (dk_at dksX0_usedMany_0 2 rfl rfl)
theorem dX0_usedMany_3 : decode cX0_usedMany 3 = .ok (.istore_n 2, 1) := dk_61 (dk_at dksX0_usedMany_0 3 rfl rfl)
theorem dX0_usedMany_4 : decode cX0_usedMany 4 = .ok (.iload_n 2, 1) := dk_28 (dk_at dksX0_usedMany_0 4 rfl rfl)
theorem dX0_usedMany_5 : decode cX0_usedMany 5 = .ok (.aload_n 0, 1) := dk_42 (dk_at dksX0_usedMany_0 5 rfl rfl)
theorem dX0_usedMany_6 : decode cX0_usedMany 6 = .ok (.getfield 113, 3) := dk_180 0 113 (dk_at dksX0_usedMany_0 6 rfl rfl)
theorem dX0_usedMany_9 : decode cX0_usedMany 9 = .ok (.if_icmp .ge 25, 3) := dk_162 0 25 (dk_at dksX0_usedMany_0 9 rfl rfl)
theorem dX0_usedMany_12 : decode cX0_usedMany 12 = .ok (.iload_n 1, 1) := dk_27 (dk_at dksX0_usedMany_0 12 rfl rfl)
theorem dX0_usedMany_13 : decode cX0_usedMany 13 = .ok (.aload_n 0, 1) := dk_42 (dk_at dksX0_usedMany_0 13 rfl rfl)
theorem dX0_usedMany_14 : decode cX0_usedMany 14 = .ok (.iload_n 2, 1) := dk_28 (dk_at dksX0_usedMany_0 14 rfl rfl)
theorem dX0_usedMany_15 : decode cX0_usedMany 15 = .ok (.invokevirtual 221, 3) := dk_182 0 221 (dk_at dksX0_usedMany_0 15 rfl rfl)
theorem dX0_usedMany_18 : decode cX0_usedMany 18 = .ok (.ifCond .eq 7, 3) := dk_153 0 7 (dk_at dksX0_usedMany_0 18 rfl rfl)
theorem dX0_usedMany_21 : decode cX0_usedMany 21 = .ok (.iconst 1, 1) := dk_4 (dk_at dksX0_usedMany_0 21 rfl rfl)
theorem dX0_usedMany_22 : decode cX0_usedMany 22 = .ok (.goto 4, 3) := dk_167 0 4 (dk_at dksX0_usedMany_1 0 rfl rfl)
theorem dX0_usedMany_25 : decode cX0_usedMany 25 = .ok (.iconst 0, 1) := dk_3 (dk_at dksX0_usedMany_1 3 rfl rfl)
theorem dX0_usedMany_26 : decode cX0_usedMany 26 = .ok (.iadd, 1) := dk_96 (dk_at dksX0_usedMany_1 4 rfl rfl)
theorem dX0_usedMany_27 : decode cX0_usedMany 27 = .ok (.istore_n 1, 1) := dk_60 (dk_at dksX0_usedMany_1 5 rfl rfl)
theorem dX0_usedMany_28 : decode cX0_usedMany 28 = .ok (.iinc 2 1, 3) := dk_132 2 1 (dk_at dksX0_usedMany_1 6 rfl rfl)
theorem dX0_usedMany_31 : decode cX0_usedMany 31 = .ok (.goto (-27), 3) := dk_167 255 229 (dk_at dksX0_usedMany_1 9 rfl rfl)
theorem dX0_usedMany_34 : decode cX0_usedMany 34 = .ok (.iload_n 1, 1) := dk_27 (dk_at dksX0_usedMany_1 12 rfl rfl)
theorem dX0_usedMany_35 : decode cX0_usedMany 35 = .ok (.ireturn, 1) := dk_172 (dk_at dksX0_usedMany_1 13 rfl rfl)
theorem q121 : (Jvm.Cond.initialized "LetterHeaps") ∈ lw_all := lw_g (lw_at lw_m1 1 rfl) rfl
theorem q146 : (Jvm.Cond.instantiable "LetterHeaps" (33 : Nat)) ∈ lw_all := lw_g (lw_at lw_m1 26 rfl) rfl
theorem q148 : (Jvm.Cond.instanceMethod ({ cls := "LetterHeaps", name := "<init>", desc := "()V" } : Jvm.MethodName)) ∈ lw_all := lw_g (lw_at lw_m1 28 rfl) rfl
theorem q149 : (Jvm.Cond.code ({ cls := "LetterHeaps", name := "<init>", desc := "()V" } : Jvm.MethodName) prog_1_method_4_code (2 : Nat) (Option.none : Option Jvm.ClassFile.FieldType)) ∈ lw_all := lw_g (lw_at lw_m1 29 rfl) rfl
theorem q150 : (Jvm.Cond.methodLink "LetterHeaps" (1 : Nat) ({ cls := "java/lang/Object", name := "<init>", desc := "()V" } : Jvm.MethodName)) ∈ lw_all := lw_g (lw_at lw_m1 30 rfl) rfl
theorem q153 : (Jvm.Cond.classLink "LetterHeaps" (9 : Nat) "LetterHeaps$Word") ∈ lw_all := lw_g (lw_at lw_m1 33 rfl) rfl
theorem q155 : (Jvm.Cond.classLink "LetterHeaps" (19 : Nat) "LetterHeaps$Text") ∈ lw_all := lw_g (lw_at lw_m1 35 rfl) rfl
theorem q157 : (Jvm.Cond.methodLinkNest "LetterHeaps" (21 : Nat) ({ cls := "LetterHeaps$Text", name := "<init>", desc := "()V" } : Jvm.MethodName) "LetterHeaps") ∈ lw_tbl := lw_at lw_m1 37 rfl
theorem q173 : (Jvm.Cond.fieldLinkNest "LetterHeaps" (355 : Nat) "LetterHeaps$Text" "many" "I" "LetterHeaps") ∈ lw_tbl := lw_at lw_m1 53 rfl
theorem q185 : (Jvm.Cond.classLink "LetterHeaps" (36 : Nat) "LetterHeaps$Line") ∈ lw_all := lw_g (lw_at lw_m1 65 rfl) rfl
theorem q187 : (Jvm.Cond.methodLinkNest "LetterHeaps" (38 : Nat) ({ cls := "LetterHeaps$Line", name := "<init>", desc := "()V" } : Jvm.MethodName) "LetterHeaps") ∈ lw_tbl := lw_at lw_m1 67 rfl
theorem q193 : (Jvm.Cond.fieldLinkNest "LetterHeaps" (191 : Nat) "LetterHeaps$Line" "letters" "[I" "LetterHeaps") ∈ lw_tbl := lw_at lw_m1 73 rfl
theorem q196 : (Jvm.Cond.fieldLinkNest "LetterHeaps" (189 : Nat) "LetterHeaps$Line" "many" "I" "LetterHeaps") ∈ lw_tbl := lw_at lw_m1 76 rfl
theorem q202 : (Jvm.Cond.classLink "LetterHeaps" (43 : Nat) "[[I") ∈ lw_all := lw_g (lw_at lw_m1 82 rfl) rfl
theorem q204 : (Jvm.Cond.classLink "LetterHeaps" (61 : Nat) "LetterHeaps$Change") ∈ lw_all := lw_g (lw_at lw_m1 84 rfl) rfl
theorem q206 : (Jvm.Cond.methodLinkNest "LetterHeaps" (63 : Nat) ({ cls := "LetterHeaps$Change", name := "<init>", desc := "(LLetterHeaps;)V" } : Jvm.MethodName) "LetterHeaps") ∈ lw_tbl := lw_at lw_m1 86 rfl
theorem q244 : (Jvm.Cond.classLink "LetterHeaps" (83 : Nat) "[[J") ∈ lw_all := lw_g (lw_at lw_m1 124 rfl) rfl
theorem q246 : (Jvm.Cond.classLink "LetterHeaps" (95 : Nat) "[[Z") ∈ lw_all := lw_g (lw_at lw_m1 126 rfl) rfl
theorem q249 : (Jvm.Cond.methodLinkNest "LetterHeaps" (112 : Nat) ({ cls := "LetterHeaps$Word", name := "<init>", desc := "()V" } : Jvm.MethodName) "LetterHeaps") ∈ lw_tbl := lw_at lw_m1 129 rfl
theorem q257 : (Jvm.Cond.fieldLinkNest "LetterHeaps" (148 : Nat) "LetterHeaps$Word" "line" "LLetterHeaps$Line;" "LetterHeaps") ∈ lw_tbl := lw_at lw_m1 137 rfl
theorem q259 : (Jvm.Cond.fieldLinkNest "LetterHeaps" (171 : Nat) "LetterHeaps$Word" "known" "I" "LetterHeaps") ∈ lw_tbl := lw_at lw_m1 139 rfl
theorem q260 : (Jvm.Cond.fieldLinkNest "LetterHeaps" (128 : Nat) "LetterHeaps$Word" "tongues" "I" "LetterHeaps") ∈ lw_tbl := lw_at lw_m1 140 rfl
theorem q261 : (Jvm.Cond.fieldLinkNest "LetterHeaps" (124 : Nat) "LetterHeaps$Word" "isBarred" "Z" "LetterHeaps") ∈ lw_tbl := lw_at lw_m1 141 rfl
theorem q273 : (Jvm.Cond.fieldLink "LetterHeaps" (11 : Nat) "LetterHeaps" "words" "[LLetterHeaps$Word;") ∈ lw_all := lw_g (lw_at lw_m1 153 rfl) rfl
theorem q275 : (Jvm.Cond.fieldLink "LetterHeaps" (15 : Nat) "LetterHeaps" "tape" "[B") ∈ lw_all := lw_g (lw_at lw_m1 155 rfl) rfl
theorem q277 : (Jvm.Cond.fieldLink "LetterHeaps" (22 : Nat) "LetterHeaps" "law" "LLetterHeaps$Text;") ∈ lw_all := lw_g (lw_at lw_m1 157 rfl) rfl
theorem q278 : (Jvm.Cond.fieldLink "LetterHeaps" (113 : Nat) "LetterHeaps" "wordMany" "I") ∈ lw_all := lw_g (lw_at lw_m1 158 rfl) rfl
theorem q279 : (Jvm.Cond.fieldLink "LetterHeaps" (26 : Nat) "LetterHeaps" "spoken" "I") ∈ lw_all := lw_g (lw_at lw_m1 159 rfl) rfl
theorem q280 : (Jvm.Cond.fieldLink "LetterHeaps" (135 : Nat) "LetterHeaps" "taped" "I") ∈ lw_all := lw_g (lw_at lw_m1 160 rfl) rfl
theorem q281 : (Jvm.Cond.fieldLink "LetterHeaps" (30 : Nat) "LetterHeaps" "x" "I") ∈ lw_all := lw_g (lw_at lw_m1 161 rfl) rfl
theorem q282 : (Jvm.Cond.fieldLink "LetterHeaps" (174 : Nat) "LetterHeaps" "version" "I") ∈ lw_all := lw_g (lw_at lw_m1 162 rfl) rfl
theorem q283 : (Jvm.Cond.fieldLink "LetterHeaps" (33 : Nat) "LetterHeaps" "laidAt" "I") ∈ lw_all := lw_g (lw_at lw_m1 163 rfl) rfl
theorem q284 : (Jvm.Cond.fieldLink "LetterHeaps" (39 : Nat) "LetterHeaps" "told" "LLetterHeaps$Line;") ∈ lw_all := lw_g (lw_at lw_m1 164 rfl) rfl
theorem q285 : (Jvm.Cond.fieldLink "LetterHeaps" (194 : Nat) "LetterHeaps" "unlike" "I") ∈ lw_all := lw_g (lw_at lw_m1 165 rfl) rfl
theorem q286 : (Jvm.Cond.fieldLink "LetterHeaps" (45 : Nat) "LetterHeaps" "stepCost" "[[I") ∈ lw_all := lw_g (lw_at lw_m1 166 rfl) rfl
theorem q287 : (Jvm.Cond.fieldLink "LetterHeaps" (48 : Nat) "LetterHeaps" "stepKind" "[[I") ∈ lw_all := lw_g (lw_at lw_m1 167 rfl) rfl
theorem q288 : (Jvm.Cond.fieldLink "LetterHeaps" (51 : Nat) "LetterHeaps" "stepPlace" "[[I") ∈ lw_all := lw_g (lw_at lw_m1 168 rfl) rfl
theorem q289 : (Jvm.Cond.fieldLink "LetterHeaps" (54 : Nat) "LetterHeaps" "ways" "[[I") ∈ lw_all := lw_g (lw_at lw_m1 169 rfl) rfl
theorem q290 : (Jvm.Cond.fieldLink "LetterHeaps" (57 : Nat) "LetterHeaps" "reach" "[J") ∈ lw_all := lw_g (lw_at lw_m1 170 rfl) rfl
theorem q291 : (Jvm.Cond.fieldLink "LetterHeaps" (66 : Nat) "LetterHeaps" "change" "LLetterHeaps$Change;") ∈ lw_all := lw_g (lw_at lw_m1 171 rfl) rfl
theorem q292 : (Jvm.Cond.fieldLink "LetterHeaps" (70 : Nat) "LetterHeaps" "many" "[J") ∈ lw_all := lw_g (lw_at lw_m1 172 rfl) rfl
theorem q293 : (Jvm.Cond.fieldLink "LetterHeaps" (73 : Nat) "LetterHeaps" "isCounted" "[Z") ∈ lw_all := lw_g (lw_at lw_m1 173 rfl) rfl
theorem q294 : (Jvm.Cond.fieldLink "LetterHeaps" (77 : Nat) "LetterHeaps" "tried" "LLetterHeaps$Line;") ∈ lw_all := lw_g (lw_at lw_m1 174 rfl) rfl
theorem q295 : (Jvm.Cond.fieldLink "LetterHeaps" (80 : Nat) "LetterHeaps" "bestNew" "LLetterHeaps$Line;") ∈ lw_all := lw_g (lw_at lw_m1 175 rfl) rfl
theorem q296 : (Jvm.Cond.fieldLink "LetterHeaps" (281 : Nat) "LetterHeaps" "newHeaps" "I") ∈ lw_all := lw_g (lw_at lw_m1 176 rfl) rfl
theorem q297 : (Jvm.Cond.fieldLink "LetterHeaps" (284 : Nat) "LetterHeaps" "newWords" "I") ∈ lw_all := lw_g (lw_at lw_m1 177 rfl) rfl
theorem q298 : (Jvm.Cond.fieldLink "LetterHeaps" (85 : Nat) "LetterHeaps" "walked" "[[J") ∈ lw_all := lw_g (lw_at lw_m1 178 rfl) rfl
theorem q299 : (Jvm.Cond.fieldLink "LetterHeaps" (88 : Nat) "LetterHeaps" "some" "[I") ∈ lw_all := lw_g (lw_at lw_m1 179 rfl) rfl
theorem q300 : (Jvm.Cond.fieldLink "LetterHeaps" (304 : Nat) "LetterHeaps" "someMany" "I") ∈ lw_all := lw_g (lw_at lw_m1 180 rfl) rfl
theorem q301 : (Jvm.Cond.fieldLink "LetterHeaps" (92 : Nat) "LetterHeaps" "rest" "[[I") ∈ lw_all := lw_g (lw_at lw_m1 181 rfl) rfl
theorem q302 : (Jvm.Cond.fieldLink "LetterHeaps" (97 : Nat) "LetterHeaps" "wins" "[[Z") ∈ lw_all := lw_g (lw_at lw_m1 182 rfl) rfl
theorem q303 : (Jvm.Cond.fieldLink "LetterHeaps" (100 : Nat) "LetterHeaps" "changes" "[[I") ∈ lw_all := lw_g (lw_at lw_m1 183 rfl) rfl
theorem q304 : (Jvm.Cond.fieldLink "LetterHeaps" (103 : Nat) "LetterHeaps" "tooNear" "[I") ∈ lw_all := lw_g (lw_at lw_m1 184 rfl) rfl
theorem q305 : (Jvm.Cond.fieldLink "LetterHeaps" (106 : Nat) "LetterHeaps" "square" "[I") ∈ lw_all := lw_g (lw_at lw_m1 185 rfl) rfl
theorem q306 : (Jvm.Cond.fieldLink "LetterHeaps" (109 : Nat) "LetterHeaps" "firstSquare" "[I") ∈ lw_all := lw_g (lw_at lw_m1 186 rfl) rfl
theorem q307 : (Jvm.Cond.fieldLink "LetterHeaps" (333 : Nat) "LetterHeaps" "squares" "I") ∈ lw_all := lw_g (lw_at lw_m1 187 rfl) rfl
theorem q308 : (Jvm.Cond.laysFinal "LetterHeaps" "LetterHeaps" "words" "[LLetterHeaps$Word;") ∈ lw_all := lw_g (lw_at lw_m1 188 rfl) rfl
theorem q309 : (Jvm.Cond.soleField "LetterHeaps" "words") ∈ lw_all := lw_g (lw_at lw_m1 189 rfl) rfl
theorem q310 : (Jvm.Cond.laysFinal "LetterHeaps" "LetterHeaps" "tape" "[B") ∈ lw_all := lw_g (lw_at lw_m1 190 rfl) rfl
theorem q311 : (Jvm.Cond.soleField "LetterHeaps" "tape") ∈ lw_all := lw_g (lw_at lw_m1 191 rfl) rfl
theorem q312 : (Jvm.Cond.lays "LetterHeaps" "LetterHeaps" "law" "LLetterHeaps$Text;") ∈ lw_all := lw_g (lw_at lw_m1 192 rfl) rfl
theorem q313 : (Jvm.Cond.soleField "LetterHeaps" "law") ∈ lw_all := lw_g (lw_at lw_m1 193 rfl) rfl
theorem q314 : (Jvm.Cond.lays "LetterHeaps" "LetterHeaps" "wordMany" "I") ∈ lw_all := lw_g (lw_at lw_m1 194 rfl) rfl
theorem q315 : (Jvm.Cond.soleField "LetterHeaps" "wordMany") ∈ lw_all := lw_g (lw_at lw_m1 195 rfl) rfl
theorem q316 : (Jvm.Cond.lays "LetterHeaps" "LetterHeaps" "spoken" "I") ∈ lw_all := lw_g (lw_at lw_m1 196 rfl) rfl
theorem q317 : (Jvm.Cond.soleField "LetterHeaps" "spoken") ∈ lw_all := lw_g (lw_at lw_m1 197 rfl) rfl
theorem q318 : (Jvm.Cond.lays "LetterHeaps" "LetterHeaps" "taped" "I") ∈ lw_all := lw_g (lw_at lw_m1 198 rfl) rfl
theorem q319 : (Jvm.Cond.soleField "LetterHeaps" "taped") ∈ lw_all := lw_g (lw_at lw_m1 199 rfl) rfl
theorem q320 : (Jvm.Cond.lays "LetterHeaps" "LetterHeaps" "x" "I") ∈ lw_all := lw_g (lw_at lw_m1 200 rfl) rfl
theorem q321 : (Jvm.Cond.soleField "LetterHeaps" "x") ∈ lw_all := lw_g (lw_at lw_m1 201 rfl) rfl
theorem q322 : (Jvm.Cond.lays "LetterHeaps" "LetterHeaps" "version" "I") ∈ lw_all := lw_g (lw_at lw_m1 202 rfl) rfl
theorem q323 : (Jvm.Cond.soleField "LetterHeaps" "version") ∈ lw_all := lw_g (lw_at lw_m1 203 rfl) rfl
theorem q324 : (Jvm.Cond.lays "LetterHeaps" "LetterHeaps" "laidAt" "I") ∈ lw_all := lw_g (lw_at lw_m1 204 rfl) rfl
theorem q325 : (Jvm.Cond.soleField "LetterHeaps" "laidAt") ∈ lw_all := lw_g (lw_at lw_m1 205 rfl) rfl
theorem q326 : (Jvm.Cond.laysFinal "LetterHeaps" "LetterHeaps" "told" "LLetterHeaps$Line;") ∈ lw_all := lw_g (lw_at lw_m1 206 rfl) rfl
theorem q327 : (Jvm.Cond.soleField "LetterHeaps" "told") ∈ lw_all := lw_g (lw_at lw_m1 207 rfl) rfl
theorem q328 : (Jvm.Cond.lays "LetterHeaps" "LetterHeaps" "unlike" "I") ∈ lw_all := lw_g (lw_at lw_m1 208 rfl) rfl
theorem q329 : (Jvm.Cond.soleField "LetterHeaps" "unlike") ∈ lw_all := lw_g (lw_at lw_m1 209 rfl) rfl
theorem q330 : (Jvm.Cond.laysFinal "LetterHeaps" "LetterHeaps" "stepCost" "[[I") ∈ lw_all := lw_g (lw_at lw_m1 210 rfl) rfl
theorem q331 : (Jvm.Cond.soleField "LetterHeaps" "stepCost") ∈ lw_all := lw_g (lw_at lw_m1 211 rfl) rfl
theorem q332 : (Jvm.Cond.laysFinal "LetterHeaps" "LetterHeaps" "stepKind" "[[I") ∈ lw_all := lw_g (lw_at lw_m1 212 rfl) rfl
theorem q333 : (Jvm.Cond.soleField "LetterHeaps" "stepKind") ∈ lw_all := lw_g (lw_at lw_m1 213 rfl) rfl
theorem q334 : (Jvm.Cond.laysFinal "LetterHeaps" "LetterHeaps" "stepPlace" "[[I") ∈ lw_all := lw_g (lw_at lw_m1 214 rfl) rfl
theorem q335 : (Jvm.Cond.soleField "LetterHeaps" "stepPlace") ∈ lw_all := lw_g (lw_at lw_m1 215 rfl) rfl
theorem q336 : (Jvm.Cond.laysFinal "LetterHeaps" "LetterHeaps" "ways" "[[I") ∈ lw_all := lw_g (lw_at lw_m1 216 rfl) rfl
theorem q337 : (Jvm.Cond.soleField "LetterHeaps" "ways") ∈ lw_all := lw_g (lw_at lw_m1 217 rfl) rfl
theorem q338 : (Jvm.Cond.laysFinal "LetterHeaps" "LetterHeaps" "reach" "[J") ∈ lw_all := lw_g (lw_at lw_m1 218 rfl) rfl
theorem q339 : (Jvm.Cond.soleField "LetterHeaps" "reach") ∈ lw_all := lw_g (lw_at lw_m1 219 rfl) rfl
theorem q340 : (Jvm.Cond.laysFinal "LetterHeaps" "LetterHeaps" "change" "LLetterHeaps$Change;") ∈ lw_all := lw_g (lw_at lw_m1 220 rfl) rfl
theorem q341 : (Jvm.Cond.soleField "LetterHeaps" "change") ∈ lw_all := lw_g (lw_at lw_m1 221 rfl) rfl
theorem q342 : (Jvm.Cond.laysFinal "LetterHeaps" "LetterHeaps" "many" "[J") ∈ lw_all := lw_g (lw_at lw_m1 222 rfl) rfl
theorem q343 : (Jvm.Cond.soleField "LetterHeaps" "many") ∈ lw_all := lw_g (lw_at lw_m1 223 rfl) rfl
theorem q344 : (Jvm.Cond.laysFinal "LetterHeaps" "LetterHeaps" "isCounted" "[Z") ∈ lw_all := lw_g (lw_at lw_m1 224 rfl) rfl
theorem q345 : (Jvm.Cond.soleField "LetterHeaps" "isCounted") ∈ lw_all := lw_g (lw_at lw_m1 225 rfl) rfl
theorem q346 : (Jvm.Cond.laysFinal "LetterHeaps" "LetterHeaps" "tried" "LLetterHeaps$Line;") ∈ lw_all := lw_g (lw_at lw_m1 226 rfl) rfl
theorem q347 : (Jvm.Cond.soleField "LetterHeaps" "tried") ∈ lw_all := lw_g (lw_at lw_m1 227 rfl) rfl
theorem q348 : (Jvm.Cond.laysFinal "LetterHeaps" "LetterHeaps" "bestNew" "LLetterHeaps$Line;") ∈ lw_all := lw_g (lw_at lw_m1 228 rfl) rfl
theorem q349 : (Jvm.Cond.soleField "LetterHeaps" "bestNew") ∈ lw_all := lw_g (lw_at lw_m1 229 rfl) rfl
theorem q350 : (Jvm.Cond.lays "LetterHeaps" "LetterHeaps" "newHeaps" "I") ∈ lw_all := lw_g (lw_at lw_m1 230 rfl) rfl
theorem q351 : (Jvm.Cond.soleField "LetterHeaps" "newHeaps") ∈ lw_all := lw_g (lw_at lw_m1 231 rfl) rfl
theorem q352 : (Jvm.Cond.lays "LetterHeaps" "LetterHeaps" "newWords" "I") ∈ lw_all := lw_g (lw_at lw_m1 232 rfl) rfl
theorem q353 : (Jvm.Cond.soleField "LetterHeaps" "newWords") ∈ lw_all := lw_g (lw_at lw_m1 233 rfl) rfl
theorem q354 : (Jvm.Cond.laysFinal "LetterHeaps" "LetterHeaps" "walked" "[[J") ∈ lw_all := lw_g (lw_at lw_m1 234 rfl) rfl
theorem q355 : (Jvm.Cond.soleField "LetterHeaps" "walked") ∈ lw_all := lw_g (lw_at lw_m1 235 rfl) rfl
theorem q356 : (Jvm.Cond.laysFinal "LetterHeaps" "LetterHeaps" "some" "[I") ∈ lw_all := lw_g (lw_at lw_m1 236 rfl) rfl
theorem q357 : (Jvm.Cond.soleField "LetterHeaps" "some") ∈ lw_all := lw_g (lw_at lw_m1 237 rfl) rfl
theorem q358 : (Jvm.Cond.lays "LetterHeaps" "LetterHeaps" "someMany" "I") ∈ lw_all := lw_g (lw_at lw_m1 238 rfl) rfl
theorem q359 : (Jvm.Cond.soleField "LetterHeaps" "someMany") ∈ lw_all := lw_g (lw_at lw_m1 239 rfl) rfl
theorem q360 : (Jvm.Cond.laysFinal "LetterHeaps" "LetterHeaps" "rest" "[[I") ∈ lw_all := lw_g (lw_at lw_m2 0 rfl) rfl
theorem q361 : (Jvm.Cond.soleField "LetterHeaps" "rest") ∈ lw_all := lw_g (lw_at lw_m2 1 rfl) rfl
theorem q362 : (Jvm.Cond.laysFinal "LetterHeaps" "LetterHeaps" "wins" "[[Z") ∈ lw_all := lw_g (lw_at lw_m2 2 rfl) rfl
theorem q363 : (Jvm.Cond.soleField "LetterHeaps" "wins") ∈ lw_all := lw_g (lw_at lw_m2 3 rfl) rfl
theorem q364 : (Jvm.Cond.laysFinal "LetterHeaps" "LetterHeaps" "changes" "[[I") ∈ lw_all := lw_g (lw_at lw_m2 4 rfl) rfl
theorem q365 : (Jvm.Cond.soleField "LetterHeaps" "changes") ∈ lw_all := lw_g (lw_at lw_m2 5 rfl) rfl
theorem q366 : (Jvm.Cond.laysFinal "LetterHeaps" "LetterHeaps" "tooNear" "[I") ∈ lw_all := lw_g (lw_at lw_m2 6 rfl) rfl
theorem q367 : (Jvm.Cond.soleField "LetterHeaps" "tooNear") ∈ lw_all := lw_g (lw_at lw_m2 7 rfl) rfl
theorem q368 : (Jvm.Cond.laysFinal "LetterHeaps" "LetterHeaps" "square" "[I") ∈ lw_all := lw_g (lw_at lw_m2 8 rfl) rfl
theorem q369 : (Jvm.Cond.soleField "LetterHeaps" "square") ∈ lw_all := lw_g (lw_at lw_m2 9 rfl) rfl
theorem q370 : (Jvm.Cond.laysFinal "LetterHeaps" "LetterHeaps" "firstSquare" "[I") ∈ lw_all := lw_g (lw_at lw_m2 10 rfl) rfl
theorem q371 : (Jvm.Cond.soleField "LetterHeaps" "firstSquare") ∈ lw_all := lw_g (lw_at lw_m2 11 rfl) rfl
theorem q372 : (Jvm.Cond.lays "LetterHeaps" "LetterHeaps" "squares" "I") ∈ lw_all := lw_g (lw_at lw_m2 12 rfl) rfl
theorem q373 : (Jvm.Cond.soleField "LetterHeaps" "squares") ∈ lw_all := lw_g (lw_at lw_m2 13 rfl) rfl
theorem q374 : (Jvm.Cond.superclass "LetterHeaps" "java/lang/Object") ∈ lw_all := lw_g (lw_at lw_m2 14 rfl) rfl
theorem q376 : (Jvm.Cond.instanceMethod ({ cls := "LetterHeaps", name := "feed", desc := "(IIIII)I" } : Jvm.MethodName)) ∈ lw_all := lw_g (lw_at lw_m2 16 rfl) rfl
theorem q377 : (Jvm.Cond.selects "LetterHeaps" ({ cls := "LetterHeaps", name := "feed", desc := "(IIIII)I" } : Jvm.MethodName) ({ cls := "LetterHeaps", name := "feed", desc := "(IIIII)I" } : Jvm.MethodName)) ∈ lw_all := lw_g (lw_at lw_m2 17 rfl) rfl
theorem q378 : (Jvm.Cond.code ({ cls := "LetterHeaps", name := "feed", desc := "(IIIII)I" } : Jvm.MethodName) prog_1_method_8_code (6 : Nat) (Option.some Jvm.ClassFile.FieldType.int)) ∈ lw_all := lw_g (lw_at lw_m2 18 rfl) rfl
theorem q379 : (Jvm.Cond.methodLink "LetterHeaps" (138 : Nat) ({ cls := "LetterHeaps", name := "push", desc := "(I)V" } : Jvm.MethodName)) ∈ lw_all := lw_g (lw_at lw_m2 19 rfl) rfl
theorem q380 : (Jvm.Cond.privateMethod ({ cls := "LetterHeaps", name := "push", desc := "(I)V" } : Jvm.MethodName)) ∈ lw_tbl := lw_at lw_m2 20 rfl
theorem q381 : (Jvm.Cond.instanceMethod ({ cls := "LetterHeaps", name := "push", desc := "(I)V" } : Jvm.MethodName)) ∈ lw_all := lw_g (lw_at lw_m2 21 rfl) rfl
theorem q382 : (Jvm.Cond.code ({ cls := "LetterHeaps", name := "push", desc := "(I)V" } : Jvm.MethodName) prog_1_method_7_code (3 : Nat) (Option.none : Option Jvm.ClassFile.FieldType)) ∈ lw_all := lw_g (lw_at lw_m2 22 rfl) rfl
theorem q384 : (Jvm.Cond.instanceMethod ({ cls := "LetterHeaps", name := "word", desc := "(III)I" } : Jvm.MethodName)) ∈ lw_all := lw_g (lw_at lw_m2 24 rfl) rfl
theorem q385 : (Jvm.Cond.selects "LetterHeaps" ({ cls := "LetterHeaps", name := "word", desc := "(III)I" } : Jvm.MethodName) ({ cls := "LetterHeaps", name := "word", desc := "(III)I" } : Jvm.MethodName)) ∈ lw_all := lw_g (lw_at lw_m2 25 rfl) rfl
theorem q386 : (Jvm.Cond.code ({ cls := "LetterHeaps", name := "word", desc := "(III)I" } : Jvm.MethodName) prog_1_method_11_code (5 : Nat) (Option.some Jvm.ClassFile.FieldType.int)) ∈ lw_all := lw_g (lw_at lw_m2 26 rfl) rfl
theorem q387 : (Jvm.Cond.methodLink "LetterHeaps" (155 : Nat) ({ cls := "LetterHeaps", name := "within", desc := "(III)Z" } : Jvm.MethodName)) ∈ lw_all := lw_g (lw_at lw_m2 27 rfl) rfl
theorem q388 : (Jvm.Cond.static ({ cls := "LetterHeaps", name := "within", desc := "(III)Z" } : Jvm.MethodName)) ∈ lw_all := lw_g (lw_at lw_m2 28 rfl) rfl
theorem q389 : (Jvm.Cond.code ({ cls := "LetterHeaps", name := "within", desc := "(III)Z" } : Jvm.MethodName) prog_1_method_2_code (3 : Nat) (Option.some Jvm.ClassFile.FieldType.boolean)) ∈ lw_all := lw_g (lw_at lw_m2 29 rfl) rfl
theorem q390 : (Jvm.Cond.methodLink "LetterHeaps" (116 : Nat) ({ cls := "LetterHeaps", name := "in", desc := "(II)Z" } : Jvm.MethodName)) ∈ lw_all := lw_g (lw_at lw_m2 30 rfl) rfl
theorem q391 : (Jvm.Cond.static ({ cls := "LetterHeaps", name := "in", desc := "(II)Z" } : Jvm.MethodName)) ∈ lw_all := lw_g (lw_at lw_m2 31 rfl) rfl
theorem q392 : (Jvm.Cond.code ({ cls := "LetterHeaps", name := "in", desc := "(II)Z" } : Jvm.MethodName) prog_1_method_1_code (2 : Nat) (Option.some Jvm.ClassFile.FieldType.boolean)) ∈ lw_all := lw_g (lw_at lw_m2 32 rfl) rfl
theorem q393 : (Jvm.Cond.methodLink "LetterHeaps" (159 : Nat) ({ cls := "LetterHeaps", name := "readsLine", desc := "(LLetterHeaps$Line;I)Z" } : Jvm.MethodName)) ∈ lw_all := lw_g (lw_at lw_m2 33 rfl) rfl
theorem q394 : (Jvm.Cond.privateMethod ({ cls := "LetterHeaps", name := "readsLine", desc := "(LLetterHeaps$Line;I)Z" } : Jvm.MethodName)) ∈ lw_tbl := lw_at lw_m2 34 rfl
theorem q395 : (Jvm.Cond.instanceMethod ({ cls := "LetterHeaps", name := "readsLine", desc := "(LLetterHeaps$Line;I)Z" } : Jvm.MethodName)) ∈ lw_all := lw_g (lw_at lw_m2 35 rfl) rfl
theorem q396 : (Jvm.Cond.code ({ cls := "LetterHeaps", name := "readsLine", desc := "(LLetterHeaps$Line;I)Z" } : Jvm.MethodName) prog_1_method_9_code (4 : Nat) (Option.some Jvm.ClassFile.FieldType.boolean)) ∈ lw_all := lw_g (lw_at lw_m2 36 rfl) rfl
theorem q397 : (Jvm.Cond.methodLink "LetterHeaps" (142 : Nat) ({ cls := "LetterHeaps$Line", name := "clears", desc := "()V" } : Jvm.MethodName)) ∈ lw_all := lw_g (lw_at lw_m2 37 rfl) rfl
theorem q401 : (Jvm.Cond.methodLink "LetterHeaps" (145 : Nat) ({ cls := "LetterHeaps$Line", name := "adds", desc := "(I)V" } : Jvm.MethodName)) ∈ lw_all := lw_g (lw_at lw_m2 41 rfl) rfl
theorem q405 : (Jvm.Cond.methodLink "LetterHeaps" (163 : Nat) ({ cls := "LetterHeaps", name := "wordOf", desc := "(LLetterHeaps$Line;)I" } : Jvm.MethodName)) ∈ lw_all := lw_g (lw_at lw_m2 45 rfl) rfl
theorem q406 : (Jvm.Cond.privateMethod ({ cls := "LetterHeaps", name := "wordOf", desc := "(LLetterHeaps$Line;)I" } : Jvm.MethodName)) ∈ lw_tbl := lw_at lw_m2 46 rfl
theorem q407 : (Jvm.Cond.instanceMethod ({ cls := "LetterHeaps", name := "wordOf", desc := "(LLetterHeaps$Line;)I" } : Jvm.MethodName)) ∈ lw_all := lw_g (lw_at lw_m2 47 rfl) rfl
theorem q408 : (Jvm.Cond.code ({ cls := "LetterHeaps", name := "wordOf", desc := "(LLetterHeaps$Line;)I" } : Jvm.MethodName) prog_1_method_10_code (3 : Nat) (Option.some Jvm.ClassFile.FieldType.int)) ∈ lw_all := lw_g (lw_at lw_m2 48 rfl) rfl
theorem q409 : (Jvm.Cond.methodLink "LetterHeaps" (151 : Nat) ({ cls := "LetterHeaps$Line", name := "isLike", desc := "(LLetterHeaps$Line;)Z" } : Jvm.MethodName)) ∈ lw_all := lw_g (lw_at lw_m2 49 rfl) rfl
theorem q413 : (Jvm.Cond.methodLink "LetterHeaps" (167 : Nat) ({ cls := "LetterHeaps$Line", name := "takes", desc := "(LLetterHeaps$Line;)V" } : Jvm.MethodName)) ∈ lw_all := lw_g (lw_at lw_m2 53 rfl) rfl
theorem q418 : (Jvm.Cond.instanceMethod ({ cls := "LetterHeaps", name := "bar", desc := "(IZ)Z" } : Jvm.MethodName)) ∈ lw_all := lw_g (lw_at lw_m2 58 rfl) rfl
theorem q419 : (Jvm.Cond.selects "LetterHeaps" ({ cls := "LetterHeaps", name := "bar", desc := "(IZ)Z" } : Jvm.MethodName) ({ cls := "LetterHeaps", name := "bar", desc := "(IZ)Z" } : Jvm.MethodName)) ∈ lw_all := lw_g (lw_at lw_m2 59 rfl) rfl
theorem q420 : (Jvm.Cond.code ({ cls := "LetterHeaps", name := "bar", desc := "(IZ)Z" } : Jvm.MethodName) prog_1_method_12_code (3 : Nat) (Option.some Jvm.ClassFile.FieldType.boolean)) ∈ lw_all := lw_g (lw_at lw_m2 60 rfl) rfl
theorem q421 : (Jvm.Cond.methodLink "LetterHeaps" (120 : Nat) ({ cls := "LetterHeaps", name := "isWord", desc := "(I)Z" } : Jvm.MethodName)) ∈ lw_all := lw_g (lw_at lw_m2 61 rfl) rfl
theorem q422 : (Jvm.Cond.privateMethod ({ cls := "LetterHeaps", name := "isWord", desc := "(I)Z" } : Jvm.MethodName)) ∈ lw_tbl := lw_at lw_m2 62 rfl
theorem q423 : (Jvm.Cond.instanceMethod ({ cls := "LetterHeaps", name := "isWord", desc := "(I)Z" } : Jvm.MethodName)) ∈ lw_all := lw_g (lw_at lw_m2 63 rfl) rfl
theorem q424 : (Jvm.Cond.code ({ cls := "LetterHeaps", name := "isWord", desc := "(I)Z" } : Jvm.MethodName) prog_1_method_5_code (2 : Nat) (Option.some Jvm.ClassFile.FieldType.boolean)) ∈ lw_all := lw_g (lw_at lw_m2 64 rfl) rfl
theorem q426 : (Jvm.Cond.instanceMethod ({ cls := "LetterHeaps", name := "know", desc := "(II)Z" } : Jvm.MethodName)) ∈ lw_all := lw_g (lw_at lw_m2 66 rfl) rfl
theorem q427 : (Jvm.Cond.selects "LetterHeaps" ({ cls := "LetterHeaps", name := "know", desc := "(II)Z" } : Jvm.MethodName) ({ cls := "LetterHeaps", name := "know", desc := "(II)Z" } : Jvm.MethodName)) ∈ lw_all := lw_g (lw_at lw_m2 67 rfl) rfl
theorem q428 : (Jvm.Cond.code ({ cls := "LetterHeaps", name := "know", desc := "(II)Z" } : Jvm.MethodName) prog_1_method_13_code (3 : Nat) (Option.some Jvm.ClassFile.FieldType.boolean)) ∈ lw_all := lw_g (lw_at lw_m2 68 rfl) rfl
theorem q430 : (Jvm.Cond.instanceMethod ({ cls := "LetterHeaps", name := "speak", desc := "(I)Z" } : Jvm.MethodName)) ∈ lw_all := lw_g (lw_at lw_m2 70 rfl) rfl
theorem q431 : (Jvm.Cond.selects "LetterHeaps" ({ cls := "LetterHeaps", name := "speak", desc := "(I)Z" } : Jvm.MethodName) ({ cls := "LetterHeaps", name := "speak", desc := "(I)Z" } : Jvm.MethodName)) ∈ lw_all := lw_g (lw_at lw_m2 71 rfl) rfl
theorem q432 : (Jvm.Cond.code ({ cls := "LetterHeaps", name := "speak", desc := "(I)Z" } : Jvm.MethodName) prog_1_method_14_code (2 : Nat) (Option.some Jvm.ClassFile.FieldType.boolean)) ∈ lw_all := lw_g (lw_at lw_m2 72 rfl) rfl
theorem q434 : (Jvm.Cond.instanceMethod ({ cls := "LetterHeaps", name := "law", desc := "(I)I" } : Jvm.MethodName)) ∈ lw_all := lw_g (lw_at lw_m2 74 rfl) rfl
theorem q435 : (Jvm.Cond.selects "LetterHeaps" ({ cls := "LetterHeaps", name := "law", desc := "(I)I" } : Jvm.MethodName) ({ cls := "LetterHeaps", name := "law", desc := "(I)I" } : Jvm.MethodName)) ∈ lw_all := lw_g (lw_at lw_m2 75 rfl) rfl
theorem q436 : (Jvm.Cond.code ({ cls := "LetterHeaps", name := "law", desc := "(I)I" } : Jvm.MethodName) prog_1_method_15_code (4 : Nat) (Option.some Jvm.ClassFile.FieldType.int)) ∈ lw_all := lw_g (lw_at lw_m2 76 rfl) rfl
theorem q437 : (Jvm.Cond.classLink "LetterHeaps" (177 : Nat) "LetterHeaps$Reader") ∈ lw_all := lw_g (lw_at lw_m2 77 rfl) rfl
theorem q439 : (Jvm.Cond.methodLink "LetterHeaps" (179 : Nat) ({ cls := "LetterHeaps$Reader", name := "<init>", desc := "(LLetterHeaps;I)V" } : Jvm.MethodName)) ∈ lw_all := lw_g (lw_at lw_m2 79 rfl) rfl
theorem q447 : (Jvm.Cond.fieldLinkNest "LetterHeaps" (186 : Nat) "LetterHeaps$Reader" "text" "LLetterHeaps$Text;" "LetterHeaps") ∈ lw_tbl := lw_at lw_m2 87 rfl
theorem q468 : (Jvm.Cond.methodLink "LetterHeaps" (182 : Nat) ({ cls := "LetterHeaps$Reader", name := "read", desc := "()I" } : Jvm.MethodName)) ∈ lw_all := lw_g (lw_at lw_m2 108 rfl) rfl
theorem q702 : (Jvm.Cond.instanceMethod ({ cls := "LetterHeaps", name := "step", desc := "(III)I" } : Jvm.MethodName)) ∈ lw_all := lw_g (lw_at lw_m3 102 rfl) rfl
theorem q703 : (Jvm.Cond.selects "LetterHeaps" ({ cls := "LetterHeaps", name := "step", desc := "(III)I" } : Jvm.MethodName) ({ cls := "LetterHeaps", name := "step", desc := "(III)I" } : Jvm.MethodName)) ∈ lw_all := lw_g (lw_at lw_m3 103 rfl) rfl
theorem q704 : (Jvm.Cond.code ({ cls := "LetterHeaps", name := "step", desc := "(III)I" } : Jvm.MethodName) prog_1_method_24_code (4 : Nat) (Option.some Jvm.ClassFile.FieldType.int)) ∈ lw_all := lw_g (lw_at lw_m3 104 rfl) rfl
theorem q705 : (Jvm.Cond.methodLink "LetterHeaps" (238 : Nat) ({ cls := "LetterHeaps", name := "areTwo", desc := "(II)Z" } : Jvm.MethodName)) ∈ lw_all := lw_g (lw_at lw_m3 105 rfl) rfl
theorem q706 : (Jvm.Cond.privateMethod ({ cls := "LetterHeaps", name := "areTwo", desc := "(II)Z" } : Jvm.MethodName)) ∈ lw_tbl := lw_at lw_m3 106 rfl
theorem q707 : (Jvm.Cond.instanceMethod ({ cls := "LetterHeaps", name := "areTwo", desc := "(II)Z" } : Jvm.MethodName)) ∈ lw_all := lw_g (lw_at lw_m3 107 rfl) rfl
theorem q708 : (Jvm.Cond.code ({ cls := "LetterHeaps", name := "areTwo", desc := "(II)Z" } : Jvm.MethodName) prog_1_method_23_code (3 : Nat) (Option.some Jvm.ClassFile.FieldType.boolean)) ∈ lw_all := lw_g (lw_at lw_m3 108 rfl) rfl
theorem q709 : (Jvm.Cond.methodLink "LetterHeaps" (241 : Nat) ({ cls := "LetterHeaps", name := "lays", desc := "()V" } : Jvm.MethodName)) ∈ lw_all := lw_g (lw_at lw_m3 109 rfl) rfl
theorem q710 : (Jvm.Cond.privateMethod ({ cls := "LetterHeaps", name := "lays", desc := "()V" } : Jvm.MethodName)) ∈ lw_tbl := lw_at lw_m3 110 rfl
theorem q711 : (Jvm.Cond.instanceMethod ({ cls := "LetterHeaps", name := "lays", desc := "()V" } : Jvm.MethodName)) ∈ lw_all := lw_g (lw_at lw_m3 111 rfl) rfl
theorem q712 : (Jvm.Cond.code ({ cls := "LetterHeaps", name := "lays", desc := "()V" } : Jvm.MethodName) prog_1_method_21_code (4 : Nat) (Option.none : Option Jvm.ClassFile.FieldType)) ∈ lw_all := lw_g (lw_at lw_m3 112 rfl) rfl
theorem q713 : (Jvm.Cond.methodLink "LetterHeaps" (228 : Nat) ({ cls := "LetterHeaps", name := "laysStep", desc := "(II)V" } : Jvm.MethodName)) ∈ lw_all := lw_g (lw_at lw_m3 113 rfl) rfl
theorem q714 : (Jvm.Cond.privateMethod ({ cls := "LetterHeaps", name := "laysStep", desc := "(II)V" } : Jvm.MethodName)) ∈ lw_tbl := lw_at lw_m3 114 rfl
theorem q715 : (Jvm.Cond.instanceMethod ({ cls := "LetterHeaps", name := "laysStep", desc := "(II)V" } : Jvm.MethodName)) ∈ lw_all := lw_g (lw_at lw_m3 115 rfl) rfl
theorem q716 : (Jvm.Cond.code ({ cls := "LetterHeaps", name := "laysStep", desc := "(II)V" } : Jvm.MethodName) prog_1_method_20_code (6 : Nat) (Option.none : Option Jvm.ClassFile.FieldType)) ∈ lw_all := lw_g (lw_at lw_m3 116 rfl) rfl
theorem q717 : (Jvm.Cond.constant "LetterHeaps" (220 : Nat) (268435456 : Int32)) ∈ lw_all := lw_g (lw_at lw_m3 117 rfl) rfl
theorem q718 : (Jvm.Cond.methodLink "LetterHeaps" (221 : Nat) ({ cls := "LetterHeaps", name := "isUsed", desc := "(I)Z" } : Jvm.MethodName)) ∈ lw_all := lw_g (lw_at lw_m3 118 rfl) rfl
theorem q719 : (Jvm.Cond.privateMethod ({ cls := "LetterHeaps", name := "isUsed", desc := "(I)Z" } : Jvm.MethodName)) ∈ lw_tbl := lw_at lw_m3 119 rfl
theorem q720 : (Jvm.Cond.instanceMethod ({ cls := "LetterHeaps", name := "isUsed", desc := "(I)Z" } : Jvm.MethodName)) ∈ lw_all := lw_g (lw_at lw_m3 120 rfl) rfl
theorem q721 : (Jvm.Cond.code ({ cls := "LetterHeaps", name := "isUsed", desc := "(I)Z" } : Jvm.MethodName) prog_1_method_6_code (2 : Nat) (Option.some Jvm.ClassFile.FieldType.boolean)) ∈ lw_all := lw_g (lw_at lw_m3 121 rfl) rfl
theorem q722 : (Jvm.Cond.methodLink "LetterHeaps" (131 : Nat) ({ cls := "LetterHeaps", name := "has", desc := "(JI)Z" } : Jvm.MethodName)) ∈ lw_all := lw_g (lw_at lw_m3 122 rfl) rfl
theorem q723 : (Jvm.Cond.static ({ cls := "LetterHeaps", name := "has", desc := "(JI)Z" } : Jvm.MethodName)) ∈ lw_all := lw_g (lw_at lw_m3 123 rfl) rfl
theorem q724 : (Jvm.Cond.code ({ cls := "LetterHeaps", name := "has", desc := "(JI)Z" } : Jvm.MethodName) prog_1_method_3_code (3 : Nat) (Option.some Jvm.ClassFile.FieldType.boolean)) ∈ lw_all := lw_g (lw_at lw_m3 124 rfl) rfl
theorem q725 : (Jvm.Cond.methodLink "LetterHeaps" (197 : Nat) ({ cls := "LetterHeaps", name := "unlikeMany", desc := "(LLetterHeaps$Line;LLetterHeaps$Line;)I" } : Jvm.MethodName)) ∈ lw_all := lw_g (lw_at lw_m3 125 rfl) rfl
theorem q726 : (Jvm.Cond.privateMethod ({ cls := "LetterHeaps", name := "unlikeMany", desc := "(LLetterHeaps$Line;LLetterHeaps$Line;)I" } : Jvm.MethodName)) ∈ lw_tbl := lw_at lw_m3 126 rfl
theorem q727 : (Jvm.Cond.instanceMethod ({ cls := "LetterHeaps", name := "unlikeMany", desc := "(LLetterHeaps$Line;LLetterHeaps$Line;)I" } : Jvm.MethodName)) ∈ lw_all := lw_g (lw_at lw_m3 127 rfl) rfl
theorem q728 : (Jvm.Cond.code ({ cls := "LetterHeaps", name := "unlikeMany", desc := "(LLetterHeaps$Line;LLetterHeaps$Line;)I" } : Jvm.MethodName) prog_1_method_16_code (5 : Nat) (Option.some Jvm.ClassFile.FieldType.int)) ∈ lw_all := lw_g (lw_at lw_m3 128 rfl) rfl
theorem q729 : (Jvm.Cond.methodLink "LetterHeaps" (224 : Nat) ({ cls := "LetterHeaps", name := "tries", desc := "(IIII)V" } : Jvm.MethodName)) ∈ lw_all := lw_g (lw_at lw_m3 129 rfl) rfl
theorem q730 : (Jvm.Cond.privateMethod ({ cls := "LetterHeaps", name := "tries", desc := "(IIII)V" } : Jvm.MethodName)) ∈ lw_tbl := lw_at lw_m3 130 rfl
theorem q731 : (Jvm.Cond.instanceMethod ({ cls := "LetterHeaps", name := "tries", desc := "(IIII)V" } : Jvm.MethodName)) ∈ lw_all := lw_g (lw_at lw_m3 131 rfl) rfl
theorem q732 : (Jvm.Cond.code ({ cls := "LetterHeaps", name := "tries", desc := "(IIII)V" } : Jvm.MethodName) prog_1_method_19_code (6 : Nat) (Option.none : Option Jvm.ClassFile.FieldType)) ∈ lw_all := lw_g (lw_at lw_m3 132 rfl) rfl
theorem q733 : (Jvm.Cond.methodLink "LetterHeaps" (209 : Nat) ({ cls := "LetterHeaps$Change", name := "of", desc := "(IIII)LLetterHeaps$Change;" } : Jvm.MethodName)) ∈ lw_all := lw_g (lw_at lw_m3 133 rfl) rfl
theorem q737 : (Jvm.Cond.methodLink "LetterHeaps" (213 : Nat) ({ cls := "LetterHeaps$Change", name := "may", desc := "()Z" } : Jvm.MethodName)) ∈ lw_all := lw_g (lw_at lw_m3 137 rfl) rfl
theorem q781 : (Jvm.Cond.methodLink "LetterHeaps" (217 : Nat) ({ cls := "LetterHeaps$Change", name := "costs", desc := "()I" } : Jvm.MethodName)) ∈ lw_all := lw_g (lw_at lw_m3 181 rfl) rfl
theorem q799 : (Jvm.Cond.methodLink "LetterHeaps" (201 : Nat) ({ cls := "LetterHeaps", name := "areChanged", desc := "(LLetterHeaps$Line;LLetterHeaps$Line;I)Z" } : Jvm.MethodName)) ∈ lw_all := lw_g (lw_at lw_m3 199 rfl) rfl
theorem q800 : (Jvm.Cond.privateMethod ({ cls := "LetterHeaps", name := "areChanged", desc := "(LLetterHeaps$Line;LLetterHeaps$Line;I)Z" } : Jvm.MethodName)) ∈ lw_tbl := lw_at lw_m3 200 rfl
theorem q801 : (Jvm.Cond.instanceMethod ({ cls := "LetterHeaps", name := "areChanged", desc := "(LLetterHeaps$Line;LLetterHeaps$Line;I)Z" } : Jvm.MethodName)) ∈ lw_all := lw_g (lw_at lw_m3 201 rfl) rfl
theorem q802 : (Jvm.Cond.code ({ cls := "LetterHeaps", name := "areChanged", desc := "(LLetterHeaps$Line;LLetterHeaps$Line;I)Z" } : Jvm.MethodName) prog_1_method_17_code (4 : Nat) (Option.some Jvm.ClassFile.FieldType.boolean)) ∈ lw_all := lw_g (lw_at lw_m3 202 rfl) rfl
theorem q803 : (Jvm.Cond.methodLink "LetterHeaps" (205 : Nat) ({ cls := "LetterHeaps$Line", name := "isWithout", desc := "(ILLetterHeaps$Line;)Z" } : Jvm.MethodName)) ∈ lw_all := lw_g (lw_at lw_m3 203 rfl) rfl
theorem q807 : (Jvm.Cond.methodLink "LetterHeaps" (232 : Nat) ({ cls := "java/lang/Math", name := "min", desc := "(II)I" } : Jvm.MethodName)) ∈ lw_all := lw_g (lw_at lw_m3 207 rfl) rfl
theorem q808 : (Jvm.Cond.methodLink "LetterHeaps" (244 : Nat) ({ cls := "LetterHeaps", name := "isStep", desc := "(II)Z" } : Jvm.MethodName)) ∈ lw_all := lw_g (lw_at lw_m3 208 rfl) rfl
theorem q809 : (Jvm.Cond.privateMethod ({ cls := "LetterHeaps", name := "isStep", desc := "(II)Z" } : Jvm.MethodName)) ∈ lw_tbl := lw_at lw_m3 209 rfl
theorem q810 : (Jvm.Cond.instanceMethod ({ cls := "LetterHeaps", name := "isStep", desc := "(II)Z" } : Jvm.MethodName)) ∈ lw_all := lw_g (lw_at lw_m3 210 rfl) rfl
theorem q811 : (Jvm.Cond.code ({ cls := "LetterHeaps", name := "isStep", desc := "(II)Z" } : Jvm.MethodName) prog_1_method_22_code (3 : Nat) (Option.some Jvm.ClassFile.FieldType.boolean)) ∈ lw_all := lw_g (lw_at lw_m3 211 rfl) rfl
theorem q813 : (Jvm.Cond.instanceMethod ({ cls := "LetterHeaps", name := "least", desc := "(III)I" } : Jvm.MethodName)) ∈ lw_all := lw_g (lw_at lw_m3 213 rfl) rfl
theorem q814 : (Jvm.Cond.selects "LetterHeaps" ({ cls := "LetterHeaps", name := "least", desc := "(III)I" } : Jvm.MethodName) ({ cls := "LetterHeaps", name := "least", desc := "(III)I" } : Jvm.MethodName)) ∈ lw_all := lw_g (lw_at lw_m3 214 rfl) rfl
theorem q815 : (Jvm.Cond.code ({ cls := "LetterHeaps", name := "least", desc := "(III)I" } : Jvm.MethodName) prog_1_method_27_code (6 : Nat) (Option.some Jvm.ClassFile.FieldType.int)) ∈ lw_all := lw_g (lw_at lw_m3 215 rfl) rfl
theorem q816 : (Jvm.Cond.methodLink "LetterHeaps" (247 : Nat) ({ cls := "LetterHeaps", name := "costOf", desc := "(II)I" } : Jvm.MethodName)) ∈ lw_all := lw_g (lw_at lw_m3 216 rfl) rfl
theorem q817 : (Jvm.Cond.privateMethod ({ cls := "LetterHeaps", name := "costOf", desc := "(II)I" } : Jvm.MethodName)) ∈ lw_tbl := lw_at lw_m3 217 rfl
theorem q818 : (Jvm.Cond.instanceMethod ({ cls := "LetterHeaps", name := "costOf", desc := "(II)I" } : Jvm.MethodName)) ∈ lw_all := lw_g (lw_at lw_m3 218 rfl) rfl
theorem q819 : (Jvm.Cond.code ({ cls := "LetterHeaps", name := "costOf", desc := "(II)I" } : Jvm.MethodName) prog_1_method_25_code (3 : Nat) (Option.some Jvm.ClassFile.FieldType.int)) ∈ lw_all := lw_g (lw_at lw_m3 219 rfl) rfl
theorem q820 : (Jvm.Cond.methodLink "LetterHeaps" (250 : Nat) ({ cls := "LetterHeaps", name := "next", desc := "(II)I" } : Jvm.MethodName)) ∈ lw_all := lw_g (lw_at lw_m3 220 rfl) rfl
theorem q821 : (Jvm.Cond.privateMethod ({ cls := "LetterHeaps", name := "next", desc := "(II)I" } : Jvm.MethodName)) ∈ lw_tbl := lw_at lw_m3 221 rfl
theorem q822 : (Jvm.Cond.instanceMethod ({ cls := "LetterHeaps", name := "next", desc := "(II)I" } : Jvm.MethodName)) ∈ lw_all := lw_g (lw_at lw_m3 222 rfl) rfl
theorem q823 : (Jvm.Cond.code ({ cls := "LetterHeaps", name := "next", desc := "(II)I" } : Jvm.MethodName) prog_1_method_26_code (4 : Nat) (Option.some Jvm.ClassFile.FieldType.int)) ∈ lw_all := lw_g (lw_at lw_m3 223 rfl) rfl
theorem q825 : (Jvm.Cond.instanceMethod ({ cls := "LetterHeaps", name := "howMany", desc := "(II)J" } : Jvm.MethodName)) ∈ lw_all := lw_g (lw_at lw_m3 225 rfl) rfl
theorem q826 : (Jvm.Cond.selects "LetterHeaps" ({ cls := "LetterHeaps", name := "howMany", desc := "(II)J" } : Jvm.MethodName) ({ cls := "LetterHeaps", name := "howMany", desc := "(II)J" } : Jvm.MethodName)) ∈ lw_all := lw_g (lw_at lw_m3 226 rfl) rfl
theorem q827 : (Jvm.Cond.code ({ cls := "LetterHeaps", name := "howMany", desc := "(II)J" } : Jvm.MethodName) prog_1_method_29_code (4 : Nat) (Option.some Jvm.ClassFile.FieldType.long)) ∈ lw_all := lw_g (lw_at lw_m3 227 rfl) rfl
theorem q828 : (Jvm.Cond.constantLong "LetterHeaps" (257 : Nat) (-1 : Int64)) ∈ lw_all := lw_g (lw_at lw_m3 228 rfl) rfl
theorem q829 : (Jvm.Cond.methodLink "LetterHeaps" (253 : Nat) ({ cls := "LetterHeaps", name := "rowsTo", desc := "(II)J" } : Jvm.MethodName)) ∈ lw_all := lw_g (lw_at lw_m3 229 rfl) rfl
theorem q830 : (Jvm.Cond.privateMethod ({ cls := "LetterHeaps", name := "rowsTo", desc := "(II)J" } : Jvm.MethodName)) ∈ lw_tbl := lw_at lw_m3 230 rfl
theorem q831 : (Jvm.Cond.instanceMethod ({ cls := "LetterHeaps", name := "rowsTo", desc := "(II)J" } : Jvm.MethodName)) ∈ lw_all := lw_g (lw_at lw_m3 231 rfl) rfl
theorem q832 : (Jvm.Cond.code ({ cls := "LetterHeaps", name := "rowsTo", desc := "(II)J" } : Jvm.MethodName) prog_1_method_28_code (6 : Nat) (Option.some Jvm.ClassFile.FieldType.long)) ∈ lw_all := lw_g (lw_at lw_m3 232 rfl) rfl
theorem q834 : (Jvm.Cond.instanceMethod ({ cls := "LetterHeaps", name := "without", desc := "(II)J" } : Jvm.MethodName)) ∈ lw_all := lw_g (lw_at lw_m3 234 rfl) rfl
theorem q835 : (Jvm.Cond.selects "LetterHeaps" ({ cls := "LetterHeaps", name := "without", desc := "(II)J" } : Jvm.MethodName) ({ cls := "LetterHeaps", name := "without", desc := "(II)J" } : Jvm.MethodName)) ∈ lw_all := lw_g (lw_at lw_m3 235 rfl) rfl
theorem q836 : (Jvm.Cond.code ({ cls := "LetterHeaps", name := "without", desc := "(II)J" } : Jvm.MethodName) prog_1_method_31_code (6 : Nat) (Option.some Jvm.ClassFile.FieldType.long)) ∈ lw_all := lw_g (lw_at lw_m3 236 rfl) rfl
theorem q837 : (Jvm.Cond.constantLong "LetterHeaps" (259 : Nat) (-2 : Int64)) ∈ lw_all := lw_g (lw_at lw_m3 237 rfl) rfl
theorem q838 : (Jvm.Cond.methodLink "LetterHeaps" (261 : Nat) ({ cls := "LetterHeaps", name := "reachWithout", desc := "(II)J" } : Jvm.MethodName)) ∈ lw_all := lw_g (lw_at lw_m3 238 rfl) rfl
theorem q839 : (Jvm.Cond.privateMethod ({ cls := "LetterHeaps", name := "reachWithout", desc := "(II)J" } : Jvm.MethodName)) ∈ lw_tbl := lw_at lw_m3 239 rfl
theorem q840 : (Jvm.Cond.instanceMethod ({ cls := "LetterHeaps", name := "reachWithout", desc := "(II)J" } : Jvm.MethodName)) ∈ lw_all := lw_g (lw_at lw_m4 0 rfl) rfl
theorem q841 : (Jvm.Cond.code ({ cls := "LetterHeaps", name := "reachWithout", desc := "(II)J" } : Jvm.MethodName) prog_1_method_30_code (9 : Nat) (Option.some Jvm.ClassFile.FieldType.long)) ∈ lw_all := lw_g (lw_at lw_m4 1 rfl) rfl
theorem q843 : (Jvm.Cond.instanceMethod ({ cls := "LetterHeaps", name := "heap", desc := "(I)I" } : Jvm.MethodName)) ∈ lw_all := lw_g (lw_at lw_m4 3 rfl) rfl
theorem q844 : (Jvm.Cond.selects "LetterHeaps" ({ cls := "LetterHeaps", name := "heap", desc := "(I)I" } : Jvm.MethodName) ({ cls := "LetterHeaps", name := "heap", desc := "(I)I" } : Jvm.MethodName)) ∈ lw_all := lw_g (lw_at lw_m4 4 rfl) rfl
theorem q845 : (Jvm.Cond.code ({ cls := "LetterHeaps", name := "heap", desc := "(I)I" } : Jvm.MethodName) prog_1_method_33_code (2 : Nat) (Option.some Jvm.ClassFile.FieldType.int)) ∈ lw_all := lw_g (lw_at lw_m4 5 rfl) rfl
theorem q846 : (Jvm.Cond.methodLink "LetterHeaps" (264 : Nat) ({ cls := "LetterHeaps", name := "heapOf", desc := "(I)I" } : Jvm.MethodName)) ∈ lw_all := lw_g (lw_at lw_m4 6 rfl) rfl
theorem q847 : (Jvm.Cond.privateMethod ({ cls := "LetterHeaps", name := "heapOf", desc := "(I)I" } : Jvm.MethodName)) ∈ lw_tbl := lw_at lw_m4 7 rfl
theorem q848 : (Jvm.Cond.instanceMethod ({ cls := "LetterHeaps", name := "heapOf", desc := "(I)I" } : Jvm.MethodName)) ∈ lw_all := lw_g (lw_at lw_m4 8 rfl) rfl
theorem q849 : (Jvm.Cond.code ({ cls := "LetterHeaps", name := "heapOf", desc := "(I)I" } : Jvm.MethodName) prog_1_method_32_code (3 : Nat) (Option.some Jvm.ClassFile.FieldType.int)) ∈ lw_all := lw_g (lw_at lw_m4 9 rfl) rfl
theorem q851 : (Jvm.Cond.instanceMethod ({ cls := "LetterHeaps", name := "heaps", desc := "()I" } : Jvm.MethodName)) ∈ lw_all := lw_g (lw_at lw_m4 11 rfl) rfl
theorem q852 : (Jvm.Cond.selects "LetterHeaps" ({ cls := "LetterHeaps", name := "heaps", desc := "()I" } : Jvm.MethodName) ({ cls := "LetterHeaps", name := "heaps", desc := "()I" } : Jvm.MethodName)) ∈ lw_all := lw_g (lw_at lw_m4 12 rfl) rfl
theorem q853 : (Jvm.Cond.code ({ cls := "LetterHeaps", name := "heaps", desc := "()I" } : Jvm.MethodName) prog_1_method_34_code (3 : Nat) (Option.some Jvm.ClassFile.FieldType.int)) ∈ lw_all := lw_g (lw_at lw_m4 13 rfl) rfl
theorem q855 : (Jvm.Cond.instanceMethod ({ cls := "LetterHeaps", name := "far", desc := "(I)I" } : Jvm.MethodName)) ∈ lw_all := lw_g (lw_at lw_m4 15 rfl) rfl
theorem q856 : (Jvm.Cond.selects "LetterHeaps" ({ cls := "LetterHeaps", name := "far", desc := "(I)I" } : Jvm.MethodName) ({ cls := "LetterHeaps", name := "far", desc := "(I)I" } : Jvm.MethodName)) ∈ lw_all := lw_g (lw_at lw_m4 16 rfl) rfl
theorem q857 : (Jvm.Cond.code ({ cls := "LetterHeaps", name := "far", desc := "(I)I" } : Jvm.MethodName) prog_1_method_35_code (7 : Nat) (Option.some Jvm.ClassFile.FieldType.int)) ∈ lw_all := lw_g (lw_at lw_m4 17 rfl) rfl
theorem q859 : (Jvm.Cond.instanceMethod ({ cls := "LetterHeaps", name := "between", desc := "(I)I" } : Jvm.MethodName)) ∈ lw_all := lw_g (lw_at lw_m4 19 rfl) rfl
theorem q860 : (Jvm.Cond.selects "LetterHeaps" ({ cls := "LetterHeaps", name := "between", desc := "(I)I" } : Jvm.MethodName) ({ cls := "LetterHeaps", name := "between", desc := "(I)I" } : Jvm.MethodName)) ∈ lw_all := lw_g (lw_at lw_m4 20 rfl) rfl
theorem q861 : (Jvm.Cond.code ({ cls := "LetterHeaps", name := "between", desc := "(I)I" } : Jvm.MethodName) prog_1_method_37_code (5 : Nat) (Option.some Jvm.ClassFile.FieldType.int)) ∈ lw_all := lw_g (lw_at lw_m4 21 rfl) rfl
theorem q862 : (Jvm.Cond.methodLink "LetterHeaps" (268 : Nat) ({ cls := "LetterHeaps", name := "twosBy", desc := "(I)I" } : Jvm.MethodName)) ∈ lw_all := lw_g (lw_at lw_m4 22 rfl) rfl
theorem q863 : (Jvm.Cond.privateMethod ({ cls := "LetterHeaps", name := "twosBy", desc := "(I)I" } : Jvm.MethodName)) ∈ lw_tbl := lw_at lw_m4 23 rfl
theorem q864 : (Jvm.Cond.instanceMethod ({ cls := "LetterHeaps", name := "twosBy", desc := "(I)I" } : Jvm.MethodName)) ∈ lw_all := lw_g (lw_at lw_m4 24 rfl) rfl
theorem q865 : (Jvm.Cond.code ({ cls := "LetterHeaps", name := "twosBy", desc := "(I)I" } : Jvm.MethodName) prog_1_method_36_code (5 : Nat) (Option.some Jvm.ClassFile.FieldType.int)) ∈ lw_all := lw_g (lw_at lw_m4 25 rfl) rfl
theorem q867 : (Jvm.Cond.instanceMethod ({ cls := "LetterHeaps", name := "newWord", desc := "(I)I" } : Jvm.MethodName)) ∈ lw_all := lw_g (lw_at lw_m4 27 rfl) rfl
theorem q868 : (Jvm.Cond.selects "LetterHeaps" ({ cls := "LetterHeaps", name := "newWord", desc := "(I)I" } : Jvm.MethodName) ({ cls := "LetterHeaps", name := "newWord", desc := "(I)I" } : Jvm.MethodName)) ∈ lw_all := lw_g (lw_at lw_m4 28 rfl) rfl
theorem q869 : (Jvm.Cond.code ({ cls := "LetterHeaps", name := "newWord", desc := "(I)I" } : Jvm.MethodName) prog_1_method_42_code (5 : Nat) (Option.some Jvm.ClassFile.FieldType.int)) ∈ lw_all := lw_g (lw_at lw_m4 29 rfl) rfl
theorem q870 : (Jvm.Cond.methodLink "LetterHeaps" (293 : Nat) ({ cls := "LetterHeaps", name := "triesLetters", desc := "(LLetterHeaps$Line;IZ)V" } : Jvm.MethodName)) ∈ lw_all := lw_g (lw_at lw_m4 30 rfl) rfl
theorem q871 : (Jvm.Cond.privateMethod ({ cls := "LetterHeaps", name := "triesLetters", desc := "(LLetterHeaps$Line;IZ)V" } : Jvm.MethodName)) ∈ lw_tbl := lw_at lw_m4 31 rfl
theorem q872 : (Jvm.Cond.instanceMethod ({ cls := "LetterHeaps", name := "triesLetters", desc := "(LLetterHeaps$Line;IZ)V" } : Jvm.MethodName)) ∈ lw_all := lw_g (lw_at lw_m4 32 rfl) rfl
theorem q873 : (Jvm.Cond.code ({ cls := "LetterHeaps", name := "triesLetters", desc := "(LLetterHeaps$Line;IZ)V" } : Jvm.MethodName) prog_1_method_39_code (6 : Nat) (Option.none : Option Jvm.ClassFile.FieldType)) ∈ lw_all := lw_g (lw_at lw_m4 33 rfl) rfl
theorem q874 : (Jvm.Cond.methodLink "LetterHeaps" (290 : Nat) ({ cls := "LetterHeaps", name := "triesNew", desc := "()V" } : Jvm.MethodName)) ∈ lw_all := lw_g (lw_at lw_m4 34 rfl) rfl
theorem q875 : (Jvm.Cond.privateMethod ({ cls := "LetterHeaps", name := "triesNew", desc := "()V" } : Jvm.MethodName)) ∈ lw_tbl := lw_at lw_m4 35 rfl
theorem q876 : (Jvm.Cond.instanceMethod ({ cls := "LetterHeaps", name := "triesNew", desc := "()V" } : Jvm.MethodName)) ∈ lw_all := lw_g (lw_at lw_m4 36 rfl) rfl
theorem q877 : (Jvm.Cond.code ({ cls := "LetterHeaps", name := "triesNew", desc := "()V" } : Jvm.MethodName) prog_1_method_38_code (5 : Nat) (Option.none : Option Jvm.ClassFile.FieldType)) ∈ lw_all := lw_g (lw_at lw_m4 37 rfl) rfl
theorem q878 : (Jvm.Cond.methodLink "LetterHeaps" (271 : Nat) ({ cls := "LetterHeaps", name := "areOneOff", desc := "(LLetterHeaps$Line;LLetterHeaps$Line;)Z" } : Jvm.MethodName)) ∈ lw_all := lw_g (lw_at lw_m4 38 rfl) rfl
theorem q879 : (Jvm.Cond.privateMethod ({ cls := "LetterHeaps", name := "areOneOff", desc := "(LLetterHeaps$Line;LLetterHeaps$Line;)Z" } : Jvm.MethodName)) ∈ lw_tbl := lw_at lw_m4 39 rfl
theorem q880 : (Jvm.Cond.instanceMethod ({ cls := "LetterHeaps", name := "areOneOff", desc := "(LLetterHeaps$Line;LLetterHeaps$Line;)Z" } : Jvm.MethodName)) ∈ lw_all := lw_g (lw_at lw_m4 40 rfl) rfl
theorem q881 : (Jvm.Cond.code ({ cls := "LetterHeaps", name := "areOneOff", desc := "(LLetterHeaps$Line;LLetterHeaps$Line;)Z" } : Jvm.MethodName) prog_1_method_18_code (6 : Nat) (Option.some Jvm.ClassFile.FieldType.boolean)) ∈ lw_all := lw_g (lw_at lw_m4 41 rfl) rfl
theorem q882 : (Jvm.Cond.methodLink "LetterHeaps" (275 : Nat) ({ cls := "java/lang/Long", name := "bitCount", desc := "(J)I" } : Jvm.MethodName)) ∈ lw_all := lw_g (lw_at lw_m4 42 rfl) rfl
theorem q888 : (Jvm.Cond.methodLink "LetterHeaps" (287 : Nat) ({ cls := "LetterHeaps$Line", name := "isAhead", desc := "(LLetterHeaps$Line;)Z" } : Jvm.MethodName)) ∈ lw_all := lw_g (lw_at lw_m4 48 rfl) rfl
theorem q892 : (Jvm.Cond.methodLink "LetterHeaps" (297 : Nat) ({ cls := "LetterHeaps", name := "triesFewer", desc := "(LLetterHeaps$Line;I)V" } : Jvm.MethodName)) ∈ lw_all := lw_g (lw_at lw_m4 52 rfl) rfl
theorem q893 : (Jvm.Cond.privateMethod ({ cls := "LetterHeaps", name := "triesFewer", desc := "(LLetterHeaps$Line;I)V" } : Jvm.MethodName)) ∈ lw_tbl := lw_at lw_m4 53 rfl
theorem q894 : (Jvm.Cond.instanceMethod ({ cls := "LetterHeaps", name := "triesFewer", desc := "(LLetterHeaps$Line;I)V" } : Jvm.MethodName)) ∈ lw_all := lw_g (lw_at lw_m4 54 rfl) rfl
theorem q895 : (Jvm.Cond.code ({ cls := "LetterHeaps", name := "triesFewer", desc := "(LLetterHeaps$Line;I)V" } : Jvm.MethodName) prog_1_method_40_code (4 : Nat) (Option.none : Option Jvm.ClassFile.FieldType)) ∈ lw_all := lw_g (lw_at lw_m4 55 rfl) rfl
theorem q896 : (Jvm.Cond.methodLink "LetterHeaps" (301 : Nat) ({ cls := "LetterHeaps", name := "triesAbout", desc := "(LLetterHeaps$Line;I)V" } : Jvm.MethodName)) ∈ lw_all := lw_g (lw_at lw_m4 56 rfl) rfl
theorem q897 : (Jvm.Cond.privateMethod ({ cls := "LetterHeaps", name := "triesAbout", desc := "(LLetterHeaps$Line;I)V" } : Jvm.MethodName)) ∈ lw_tbl := lw_at lw_m4 57 rfl
theorem q898 : (Jvm.Cond.instanceMethod ({ cls := "LetterHeaps", name := "triesAbout", desc := "(LLetterHeaps$Line;I)V" } : Jvm.MethodName)) ∈ lw_all := lw_g (lw_at lw_m4 58 rfl) rfl
theorem q899 : (Jvm.Cond.code ({ cls := "LetterHeaps", name := "triesAbout", desc := "(LLetterHeaps$Line;I)V" } : Jvm.MethodName) prog_1_method_41_code (3 : Nat) (Option.none : Option Jvm.ClassFile.FieldType)) ∈ lw_all := lw_g (lw_at lw_m4 59 rfl) rfl
theorem q901 : (Jvm.Cond.instanceMethod ({ cls := "LetterHeaps", name := "walks", desc := "(III)J" } : Jvm.MethodName)) ∈ lw_all := lw_g (lw_at lw_m4 61 rfl) rfl
theorem q902 : (Jvm.Cond.selects "LetterHeaps" ({ cls := "LetterHeaps", name := "walks", desc := "(III)J" } : Jvm.MethodName) ({ cls := "LetterHeaps", name := "walks", desc := "(III)J" } : Jvm.MethodName)) ∈ lw_all := lw_g (lw_at lw_m4 62 rfl) rfl
theorem q903 : (Jvm.Cond.code ({ cls := "LetterHeaps", name := "walks", desc := "(III)J" } : Jvm.MethodName) prog_1_method_43_code (9 : Nat) (Option.some Jvm.ClassFile.FieldType.long)) ∈ lw_all := lw_g (lw_at lw_m4 63 rfl) rfl
theorem q905 : (Jvm.Cond.instanceMethod ({ cls := "LetterHeaps", name := "row", desc := "(II)I" } : Jvm.MethodName)) ∈ lw_all := lw_g (lw_at lw_m4 65 rfl) rfl
theorem q906 : (Jvm.Cond.selects "LetterHeaps" ({ cls := "LetterHeaps", name := "row", desc := "(II)I" } : Jvm.MethodName) ({ cls := "LetterHeaps", name := "row", desc := "(II)I" } : Jvm.MethodName)) ∈ lw_all := lw_g (lw_at lw_m4 66 rfl) rfl
theorem q907 : (Jvm.Cond.code ({ cls := "LetterHeaps", name := "row", desc := "(II)I" } : Jvm.MethodName) prog_1_method_49_code (10 : Nat) (Option.some Jvm.ClassFile.FieldType.int)) ∈ lw_all := lw_g (lw_at lw_m4 67 rfl) rfl
theorem q908 : (Jvm.Cond.methodLink "LetterHeaps" (314 : Nat) ({ cls := "LetterHeaps", name := "takesUsed", desc := "(I)Z" } : Jvm.MethodName)) ∈ lw_all := lw_g (lw_at lw_m4 68 rfl) rfl
theorem q909 : (Jvm.Cond.privateMethod ({ cls := "LetterHeaps", name := "takesUsed", desc := "(I)Z" } : Jvm.MethodName)) ∈ lw_tbl := lw_at lw_m4 69 rfl
theorem q910 : (Jvm.Cond.instanceMethod ({ cls := "LetterHeaps", name := "takesUsed", desc := "(I)Z" } : Jvm.MethodName)) ∈ lw_all := lw_g (lw_at lw_m4 70 rfl) rfl
theorem q911 : (Jvm.Cond.code ({ cls := "LetterHeaps", name := "takesUsed", desc := "(I)Z" } : Jvm.MethodName) prog_1_method_45_code (3 : Nat) (Option.some Jvm.ClassFile.FieldType.boolean)) ∈ lw_all := lw_g (lw_at lw_m4 71 rfl) rfl
theorem q912 : (Jvm.Cond.methodLink "LetterHeaps" (307 : Nat) ({ cls := "LetterHeaps", name := "takesWords", desc := "(I)Z" } : Jvm.MethodName)) ∈ lw_all := lw_g (lw_at lw_m4 72 rfl) rfl
theorem q913 : (Jvm.Cond.privateMethod ({ cls := "LetterHeaps", name := "takesWords", desc := "(I)Z" } : Jvm.MethodName)) ∈ lw_tbl := lw_at lw_m4 73 rfl
theorem q914 : (Jvm.Cond.instanceMethod ({ cls := "LetterHeaps", name := "takesWords", desc := "(I)Z" } : Jvm.MethodName)) ∈ lw_all := lw_g (lw_at lw_m4 74 rfl) rfl
theorem q915 : (Jvm.Cond.code ({ cls := "LetterHeaps", name := "takesWords", desc := "(I)Z" } : Jvm.MethodName) prog_1_method_44_code (5 : Nat) (Option.some Jvm.ClassFile.FieldType.boolean)) ∈ lw_all := lw_g (lw_at lw_m4 75 rfl) rfl
theorem q916 : (Jvm.Cond.methodLink "LetterHeaps" (317 : Nat) ({ cls := "LetterHeaps", name := "sorts", desc := "()V" } : Jvm.MethodName)) ∈ lw_all := lw_g (lw_at lw_m4 76 rfl) rfl
theorem q917 : (Jvm.Cond.privateMethod ({ cls := "LetterHeaps", name := "sorts", desc := "()V" } : Jvm.MethodName)) ∈ lw_tbl := lw_at lw_m4 77 rfl
theorem q918 : (Jvm.Cond.instanceMethod ({ cls := "LetterHeaps", name := "sorts", desc := "()V" } : Jvm.MethodName)) ∈ lw_all := lw_g (lw_at lw_m4 78 rfl) rfl
theorem q919 : (Jvm.Cond.code ({ cls := "LetterHeaps", name := "sorts", desc := "()V" } : Jvm.MethodName) prog_1_method_46_code (4 : Nat) (Option.none : Option Jvm.ClassFile.FieldType)) ∈ lw_all := lw_g (lw_at lw_m4 79 rfl) rfl
theorem q920 : (Jvm.Cond.methodLink "LetterHeaps" (320 : Nat) ({ cls := "LetterHeaps", name := "leastRest", desc := "(II)I" } : Jvm.MethodName)) ∈ lw_all := lw_g (lw_at lw_m4 80 rfl) rfl
theorem q921 : (Jvm.Cond.privateMethod ({ cls := "LetterHeaps", name := "leastRest", desc := "(II)I" } : Jvm.MethodName)) ∈ lw_tbl := lw_at lw_m4 81 rfl
theorem q922 : (Jvm.Cond.instanceMethod ({ cls := "LetterHeaps", name := "leastRest", desc := "(II)I" } : Jvm.MethodName)) ∈ lw_all := lw_g (lw_at lw_m4 82 rfl) rfl
theorem q923 : (Jvm.Cond.code ({ cls := "LetterHeaps", name := "leastRest", desc := "(II)I" } : Jvm.MethodName) prog_1_method_48_code (5 : Nat) (Option.some Jvm.ClassFile.FieldType.int)) ∈ lw_all := lw_g (lw_at lw_m4 83 rfl) rfl
theorem q924 : (Jvm.Cond.methodLink "LetterHeaps" (310 : Nat) ({ cls := "LetterHeaps", name := "restBy", desc := "(III)I" } : Jvm.MethodName)) ∈ lw_all := lw_g (lw_at lw_m4 84 rfl) rfl
theorem q925 : (Jvm.Cond.privateMethod ({ cls := "LetterHeaps", name := "restBy", desc := "(III)I" } : Jvm.MethodName)) ∈ lw_tbl := lw_at lw_m4 85 rfl
theorem q926 : (Jvm.Cond.instanceMethod ({ cls := "LetterHeaps", name := "restBy", desc := "(III)I" } : Jvm.MethodName)) ∈ lw_all := lw_g (lw_at lw_m4 86 rfl) rfl
theorem q927 : (Jvm.Cond.code ({ cls := "LetterHeaps", name := "restBy", desc := "(III)I" } : Jvm.MethodName) prog_1_method_47_code (5 : Nat) (Option.some Jvm.ClassFile.FieldType.int)) ∈ lw_all := lw_g (lw_at lw_m4 87 rfl) rfl
theorem q929 : (Jvm.Cond.instanceMethod ({ cls := "LetterHeaps", name := "game", desc := "(II)I" } : Jvm.MethodName)) ∈ lw_all := lw_g (lw_at lw_m4 89 rfl) rfl
theorem q930 : (Jvm.Cond.selects "LetterHeaps" ({ cls := "LetterHeaps", name := "game", desc := "(II)I" } : Jvm.MethodName) ({ cls := "LetterHeaps", name := "game", desc := "(II)I" } : Jvm.MethodName)) ∈ lw_all := lw_g (lw_at lw_m4 90 rfl) rfl
theorem q931 : (Jvm.Cond.code ({ cls := "LetterHeaps", name := "game", desc := "(II)I" } : Jvm.MethodName) prog_1_method_51_code (6 : Nat) (Option.some Jvm.ClassFile.FieldType.int)) ∈ lw_all := lw_g (lw_at lw_m4 91 rfl) rfl
theorem q932 : (Jvm.Cond.methodLink "LetterHeaps" (323 : Nat) ({ cls := "LetterHeaps", name := "winsBy", desc := "(III)Z" } : Jvm.MethodName)) ∈ lw_all := lw_g (lw_at lw_m4 92 rfl) rfl
theorem q933 : (Jvm.Cond.privateMethod ({ cls := "LetterHeaps", name := "winsBy", desc := "(III)Z" } : Jvm.MethodName)) ∈ lw_tbl := lw_at lw_m4 93 rfl
theorem q934 : (Jvm.Cond.instanceMethod ({ cls := "LetterHeaps", name := "winsBy", desc := "(III)Z" } : Jvm.MethodName)) ∈ lw_all := lw_g (lw_at lw_m4 94 rfl) rfl
theorem q935 : (Jvm.Cond.code ({ cls := "LetterHeaps", name := "winsBy", desc := "(III)Z" } : Jvm.MethodName) prog_1_method_50_code (4 : Nat) (Option.some Jvm.ClassFile.FieldType.boolean)) ∈ lw_all := lw_g (lw_at lw_m4 95 rfl) rfl
theorem q937 : (Jvm.Cond.instanceMethod ({ cls := "LetterHeaps", name := "farBy", desc := "(II)I" } : Jvm.MethodName)) ∈ lw_all := lw_g (lw_at lw_m4 97 rfl) rfl
theorem q938 : (Jvm.Cond.selects "LetterHeaps" ({ cls := "LetterHeaps", name := "farBy", desc := "(II)I" } : Jvm.MethodName) ({ cls := "LetterHeaps", name := "farBy", desc := "(II)I" } : Jvm.MethodName)) ∈ lw_all := lw_g (lw_at lw_m4 98 rfl) rfl
theorem q939 : (Jvm.Cond.code ({ cls := "LetterHeaps", name := "farBy", desc := "(II)I" } : Jvm.MethodName) prog_1_method_53_code (3 : Nat) (Option.some Jvm.ClassFile.FieldType.int)) ∈ lw_all := lw_g (lw_at lw_m4 99 rfl) rfl
theorem q940 : (Jvm.Cond.methodLink "LetterHeaps" (326 : Nat) ({ cls := "LetterHeaps", name := "farOf", desc := "(LLetterHeaps$Line;LLetterHeaps$Line;)I" } : Jvm.MethodName)) ∈ lw_all := lw_g (lw_at lw_m4 100 rfl) rfl
theorem q941 : (Jvm.Cond.privateMethod ({ cls := "LetterHeaps", name := "farOf", desc := "(LLetterHeaps$Line;LLetterHeaps$Line;)I" } : Jvm.MethodName)) ∈ lw_tbl := lw_at lw_m4 101 rfl
theorem q942 : (Jvm.Cond.instanceMethod ({ cls := "LetterHeaps", name := "farOf", desc := "(LLetterHeaps$Line;LLetterHeaps$Line;)I" } : Jvm.MethodName)) ∈ lw_all := lw_g (lw_at lw_m4 102 rfl) rfl
theorem q943 : (Jvm.Cond.code ({ cls := "LetterHeaps", name := "farOf", desc := "(LLetterHeaps$Line;LLetterHeaps$Line;)I" } : Jvm.MethodName) prog_1_method_52_code (6 : Nat) (Option.some Jvm.ClassFile.FieldType.int)) ∈ lw_all := lw_g (lw_at lw_m4 103 rfl) rfl
theorem q945 : (Jvm.Cond.instanceMethod ({ cls := "LetterHeaps", name := "near", desc := "(II)I" } : Jvm.MethodName)) ∈ lw_all := lw_g (lw_at lw_m4 105 rfl) rfl
theorem q946 : (Jvm.Cond.selects "LetterHeaps" ({ cls := "LetterHeaps", name := "near", desc := "(II)I" } : Jvm.MethodName) ({ cls := "LetterHeaps", name := "near", desc := "(II)I" } : Jvm.MethodName)) ∈ lw_all := lw_g (lw_at lw_m4 106 rfl) rfl
theorem q947 : (Jvm.Cond.code ({ cls := "LetterHeaps", name := "near", desc := "(II)I" } : Jvm.MethodName) prog_1_method_54_code (8 : Nat) (Option.some Jvm.ClassFile.FieldType.int)) ∈ lw_all := lw_g (lw_at lw_m4 107 rfl) rfl
theorem q949 : (Jvm.Cond.instanceMethod ({ cls := "LetterHeaps", name := "clear", desc := "(III)I" } : Jvm.MethodName)) ∈ lw_all := lw_g (lw_at lw_m4 109 rfl) rfl
theorem q950 : (Jvm.Cond.selects "LetterHeaps" ({ cls := "LetterHeaps", name := "clear", desc := "(III)I" } : Jvm.MethodName) ({ cls := "LetterHeaps", name := "clear", desc := "(III)I" } : Jvm.MethodName)) ∈ lw_all := lw_g (lw_at lw_m4 110 rfl) rfl
theorem q951 : (Jvm.Cond.code ({ cls := "LetterHeaps", name := "clear", desc := "(III)I" } : Jvm.MethodName) prog_1_method_55_code (8 : Nat) (Option.some Jvm.ClassFile.FieldType.int)) ∈ lw_all := lw_g (lw_at lw_m4 111 rfl) rfl
theorem q952 : (Jvm.Cond.methodLink "LetterHeaps" (329 : Nat) ({ cls := "java/lang/Integer", name := "bitCount", desc := "(I)I" } : Jvm.MethodName)) ∈ lw_all := lw_g (lw_at lw_m4 112 rfl) rfl
theorem q959 : (Jvm.Cond.instanceMethod ({ cls := "LetterHeaps", name := "rubbed", desc := "(I)J" } : Jvm.MethodName)) ∈ lw_all := lw_g (lw_at lw_m4 119 rfl) rfl
theorem q960 : (Jvm.Cond.selects "LetterHeaps" ({ cls := "LetterHeaps", name := "rubbed", desc := "(I)J" } : Jvm.MethodName) ({ cls := "LetterHeaps", name := "rubbed", desc := "(I)J" } : Jvm.MethodName)) ∈ lw_all := lw_g (lw_at lw_m4 120 rfl) rfl
theorem q961 : (Jvm.Cond.code ({ cls := "LetterHeaps", name := "rubbed", desc := "(I)J" } : Jvm.MethodName) prog_1_method_56_code (8 : Nat) (Option.some Jvm.ClassFile.FieldType.long)) ∈ lw_all := lw_g (lw_at lw_m4 121 rfl) rfl
theorem q963 : (Jvm.Cond.instanceMethod ({ cls := "LetterHeaps", name := "square", desc := "(II)I" } : Jvm.MethodName)) ∈ lw_all := lw_g (lw_at lw_m4 123 rfl) rfl
theorem q964 : (Jvm.Cond.selects "LetterHeaps" ({ cls := "LetterHeaps", name := "square", desc := "(II)I" } : Jvm.MethodName) ({ cls := "LetterHeaps", name := "square", desc := "(II)I" } : Jvm.MethodName)) ∈ lw_all := lw_g (lw_at lw_m4 124 rfl) rfl
theorem q965 : (Jvm.Cond.code ({ cls := "LetterHeaps", name := "square", desc := "(II)I" } : Jvm.MethodName) prog_1_method_59_code (3 : Nat) (Option.some Jvm.ClassFile.FieldType.int)) ∈ lw_all := lw_g (lw_at lw_m4 125 rfl) rfl
theorem q966 : (Jvm.Cond.methodLink "LetterHeaps" (339 : Nat) ({ cls := "LetterHeaps", name := "fills", desc := "(II)V" } : Jvm.MethodName)) ∈ lw_all := lw_g (lw_at lw_m4 126 rfl) rfl
theorem q967 : (Jvm.Cond.privateMethod ({ cls := "LetterHeaps", name := "fills", desc := "(II)V" } : Jvm.MethodName)) ∈ lw_tbl := lw_at lw_m4 127 rfl
theorem q968 : (Jvm.Cond.instanceMethod ({ cls := "LetterHeaps", name := "fills", desc := "(II)V" } : Jvm.MethodName)) ∈ lw_all := lw_g (lw_at lw_m4 128 rfl) rfl
theorem q969 : (Jvm.Cond.code ({ cls := "LetterHeaps", name := "fills", desc := "(II)V" } : Jvm.MethodName) prog_1_method_58_code (6 : Nat) (Option.none : Option Jvm.ClassFile.FieldType)) ∈ lw_all := lw_g (lw_at lw_m4 129 rfl) rfl
theorem q970 : (Jvm.Cond.methodLink "LetterHeaps" (336 : Nat) ({ cls := "LetterHeaps", name := "canColumn", desc := "(III)Z" } : Jvm.MethodName)) ∈ lw_all := lw_g (lw_at lw_m4 130 rfl) rfl
theorem q971 : (Jvm.Cond.privateMethod ({ cls := "LetterHeaps", name := "canColumn", desc := "(III)Z" } : Jvm.MethodName)) ∈ lw_tbl := lw_at lw_m4 131 rfl
theorem q972 : (Jvm.Cond.instanceMethod ({ cls := "LetterHeaps", name := "canColumn", desc := "(III)Z" } : Jvm.MethodName)) ∈ lw_all := lw_g (lw_at lw_m4 132 rfl) rfl
theorem q973 : (Jvm.Cond.code ({ cls := "LetterHeaps", name := "canColumn", desc := "(III)Z" } : Jvm.MethodName) prog_1_method_57_code (7 : Nat) (Option.some Jvm.ClassFile.FieldType.boolean)) ∈ lw_all := lw_g (lw_at lw_m4 133 rfl) rfl
theorem q975 : (Jvm.Cond.instanceMethod ({ cls := "LetterHeaps", name := "seed", desc := "(I)Z" } : Jvm.MethodName)) ∈ lw_all := lw_g (lw_at lw_m4 135 rfl) rfl
theorem q976 : (Jvm.Cond.selects "LetterHeaps" ({ cls := "LetterHeaps", name := "seed", desc := "(I)Z" } : Jvm.MethodName) ({ cls := "LetterHeaps", name := "seed", desc := "(I)Z" } : Jvm.MethodName)) ∈ lw_all := lw_g (lw_at lw_m4 136 rfl) rfl
theorem q977 : (Jvm.Cond.code ({ cls := "LetterHeaps", name := "seed", desc := "(I)Z" } : Jvm.MethodName) prog_1_method_60_code (2 : Nat) (Option.some Jvm.ClassFile.FieldType.boolean)) ∈ lw_all := lw_g (lw_at lw_m4 137 rfl) rfl
theorem q978 : (Jvm.Cond.constant "LetterHeaps" (342 : Nat) (65536 : Int32)) ∈ lw_all := lw_g (lw_at lw_m4 138 rfl) rfl
theorem q980 : (Jvm.Cond.instanceMethod ({ cls := "LetterHeaps", name := "draw", desc := "(III)I" } : Jvm.MethodName)) ∈ lw_all := lw_g (lw_at lw_m4 140 rfl) rfl
theorem q981 : (Jvm.Cond.selects "LetterHeaps" ({ cls := "LetterHeaps", name := "draw", desc := "(III)I" } : Jvm.MethodName) ({ cls := "LetterHeaps", name := "draw", desc := "(III)I" } : Jvm.MethodName)) ∈ lw_all := lw_g (lw_at lw_m4 141 rfl) rfl
theorem q982 : (Jvm.Cond.code ({ cls := "LetterHeaps", name := "draw", desc := "(III)I" } : Jvm.MethodName) prog_1_method_63_code (8 : Nat) (Option.some Jvm.ClassFile.FieldType.int)) ∈ lw_all := lw_g (lw_at lw_m4 142 rfl) rfl
theorem q983 : (Jvm.Cond.methodLink "LetterHeaps" (343 : Nat) ({ cls := "LetterHeaps", name := "stepsFrom", desc := "(I)I" } : Jvm.MethodName)) ∈ lw_all := lw_g (lw_at lw_m4 143 rfl) rfl
theorem q984 : (Jvm.Cond.privateMethod ({ cls := "LetterHeaps", name := "stepsFrom", desc := "(I)I" } : Jvm.MethodName)) ∈ lw_tbl := lw_at lw_m4 144 rfl
theorem q985 : (Jvm.Cond.instanceMethod ({ cls := "LetterHeaps", name := "stepsFrom", desc := "(I)I" } : Jvm.MethodName)) ∈ lw_all := lw_g (lw_at lw_m4 145 rfl) rfl
theorem q986 : (Jvm.Cond.code ({ cls := "LetterHeaps", name := "stepsFrom", desc := "(I)I" } : Jvm.MethodName) prog_1_method_61_code (4 : Nat) (Option.some Jvm.ClassFile.FieldType.int)) ∈ lw_all := lw_g (lw_at lw_m4 146 rfl) rfl
theorem q987 : (Jvm.Cond.methodLink "LetterHeaps" (346 : Nat) ({ cls := "LetterHeaps", name := "stepTo", desc := "(II)I" } : Jvm.MethodName)) ∈ lw_all := lw_g (lw_at lw_m4 147 rfl) rfl
theorem q988 : (Jvm.Cond.privateMethod ({ cls := "LetterHeaps", name := "stepTo", desc := "(II)I" } : Jvm.MethodName)) ∈ lw_tbl := lw_at lw_m4 148 rfl
theorem q989 : (Jvm.Cond.instanceMethod ({ cls := "LetterHeaps", name := "stepTo", desc := "(II)I" } : Jvm.MethodName)) ∈ lw_all := lw_g (lw_at lw_m4 149 rfl) rfl
theorem q990 : (Jvm.Cond.code ({ cls := "LetterHeaps", name := "stepTo", desc := "(II)I" } : Jvm.MethodName) prog_1_method_62_code (5 : Nat) (Option.some Jvm.ClassFile.FieldType.int)) ∈ lw_all := lw_g (lw_at lw_m4 150 rfl) rfl
theorem q992 : (Jvm.Cond.instanceMethod ({ cls := "LetterHeaps", name := "off", desc := "()I" } : Jvm.MethodName)) ∈ lw_all := lw_g (lw_at lw_m4 152 rfl) rfl
theorem q993 : (Jvm.Cond.selects "LetterHeaps" ({ cls := "LetterHeaps", name := "off", desc := "()I" } : Jvm.MethodName) ({ cls := "LetterHeaps", name := "off", desc := "()I" } : Jvm.MethodName)) ∈ lw_all := lw_g (lw_at lw_m4 153 rfl) rfl
theorem q994 : (Jvm.Cond.code ({ cls := "LetterHeaps", name := "off", desc := "()I" } : Jvm.MethodName) prog_1_method_64_code (1 : Nat) (Option.some Jvm.ClassFile.FieldType.int)) ∈ lw_all := lw_g (lw_at lw_m4 154 rfl) rfl
theorem q996 : (Jvm.Cond.instanceMethod ({ cls := "LetterHeaps", name := "check", desc := "(II)I" } : Jvm.MethodName)) ∈ lw_all := lw_g (lw_at lw_m4 156 rfl) rfl
theorem q997 : (Jvm.Cond.selects "LetterHeaps" ({ cls := "LetterHeaps", name := "check", desc := "(II)I" } : Jvm.MethodName) ({ cls := "LetterHeaps", name := "check", desc := "(II)I" } : Jvm.MethodName)) ∈ lw_all := lw_g (lw_at lw_m4 157 rfl) rfl
theorem q998 : (Jvm.Cond.code ({ cls := "LetterHeaps", name := "check", desc := "(II)I" } : Jvm.MethodName) prog_1_method_66_code (5 : Nat) (Option.some Jvm.ClassFile.FieldType.int)) ∈ lw_all := lw_g (lw_at lw_m4 158 rfl) rfl
theorem q999 : (Jvm.Cond.methodLink "LetterHeaps" (349 : Nat) ({ cls := "LetterHeaps", name := "numberAt", desc := "(I)I" } : Jvm.MethodName)) ∈ lw_all := lw_g (lw_at lw_m4 159 rfl) rfl
theorem q1000 : (Jvm.Cond.privateMethod ({ cls := "LetterHeaps", name := "numberAt", desc := "(I)I" } : Jvm.MethodName)) ∈ lw_tbl := lw_at lw_m4 160 rfl
theorem q1001 : (Jvm.Cond.instanceMethod ({ cls := "LetterHeaps", name := "numberAt", desc := "(I)I" } : Jvm.MethodName)) ∈ lw_all := lw_g (lw_at lw_m4 161 rfl) rfl
theorem q1002 : (Jvm.Cond.code ({ cls := "LetterHeaps", name := "numberAt", desc := "(I)I" } : Jvm.MethodName) prog_1_method_65_code (4 : Nat) (Option.some Jvm.ClassFile.FieldType.int)) ∈ lw_all := lw_g (lw_at lw_m4 162 rfl) rfl
theorem q1004 : (Jvm.Cond.instanceMethod ({ cls := "LetterHeaps", name := "count", desc := "(I)I" } : Jvm.MethodName)) ∈ lw_all := lw_g (lw_at lw_m4 164 rfl) rfl
theorem q1005 : (Jvm.Cond.selects "LetterHeaps" ({ cls := "LetterHeaps", name := "count", desc := "(I)I" } : Jvm.MethodName) ({ cls := "LetterHeaps", name := "count", desc := "(I)I" } : Jvm.MethodName)) ∈ lw_all := lw_g (lw_at lw_m4 165 rfl) rfl
theorem q1006 : (Jvm.Cond.code ({ cls := "LetterHeaps", name := "count", desc := "(I)I" } : Jvm.MethodName) prog_1_method_68_code (2 : Nat) (Option.some Jvm.ClassFile.FieldType.int)) ∈ lw_all := lw_g (lw_at lw_m4 166 rfl) rfl
theorem q1007 : (Jvm.Cond.methodLink "LetterHeaps" (352 : Nat) ({ cls := "LetterHeaps", name := "usedMany", desc := "()I" } : Jvm.MethodName)) ∈ lw_all := lw_g (lw_at lw_m4 167 rfl) rfl
theorem q1008 : (Jvm.Cond.privateMethod ({ cls := "LetterHeaps", name := "usedMany", desc := "()I" } : Jvm.MethodName)) ∈ lw_tbl := lw_at lw_m4 168 rfl
theorem q1009 : (Jvm.Cond.instanceMethod ({ cls := "LetterHeaps", name := "usedMany", desc := "()I" } : Jvm.MethodName)) ∈ lw_all := lw_g (lw_at lw_m4 169 rfl) rfl
theorem q1010 : (Jvm.Cond.code ({ cls := "LetterHeaps", name := "usedMany", desc := "()I" } : Jvm.MethodName) prog_1_method_67_code (3 : Nat) (Option.some Jvm.ClassFile.FieldType.int)) ∈ lw_all := lw_g (lw_at lw_m4 170 rfl) rfl
theorem in_X0 : ∀ w ∈ wsX00, w ∈ lw_all := lw_in wsX00 [308, 310, 312, 314, 316, 318, 320, 322, 324, 326, 328, 330, 332, 334, 336, 338, 340, 342, 344, 346, 348, 350, 352, 354, 356, 358, 360, 362, 364, 366, 368, 370, 372] (by decide +kernel) (by decide +kernel)
