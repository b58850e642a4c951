/-! ThroughPack -/
set_option maxRecDepth 100000
def RX1 : String := "ThroughPack"
def TX1 : u_T := fun k => match k with
  | 0 => ("ThroughPack", "now", "LThroughPack$State;", true)
  | 1 => ("ThroughPack", "image", "LThroughPack$State;", true)
  | 2 => ("ThroughPack", "wide", "I", true)
  | 3 => ("ThroughPack", "high", "I", true)
  | 4 => ("ThroughPack", "cells", "I", true)
  | 5 => ("ThroughPack", "tape", "[B", true)
  | 6 => ("ThroughPack", "taped", "I", false)
  | 7 => ("ThroughPack", "fault", "I", false)
  | 8 => ("ThroughPack", "faultAt", "I", false)
  | 9 => ("ThroughPack", "names", "[I", true)
  | 10 => ("ThroughPack", "drifted", "[I", true)
  | 11 => ("ThroughPack", "horizon", "I", false)
  | 12 => ("ThroughPack", "winds", "[I", true)
  | 13 => ("ThroughPack", "sea", "[[I", true)
  | 14 => ("ThroughPack", "best", "[I", true)
  | 15 => ("ThroughPack", "path", "[[I", true)
  | 16 => ("ThroughPack", "paths", "I", false)
  | 17 => ("ThroughPack", "next", "[[[I", true)
  | 18 => ("ThroughPack", "pushes", "[I", true)
  | 19 => ("ThroughPack", "open", "[I", true)
  | 20 => ("ThroughPack", "ended", "[I", true)
  | 21 => ("ThroughPack", "here", "[I", false)
  | _ => ("ThroughPack", "behind", "[I", false)
def tyX1 : Nat → FieldType := fun k => match k with
  | 0 => .object "ThroughPack$State"
  | 1 => .object "ThroughPack$State"
  | 2 => .int
  | 3 => .int
  | 4 => .int
  | 5 => .array .byte
  | 6 => .int
  | 7 => .int
  | 8 => .int
  | 9 => .array .int
  | 10 => .array .int
  | 11 => .int
  | 12 => .array .int
  | 13 => .array (.array .int)
  | 14 => .array .int
  | 15 => .array (.array .int)
  | 16 => .int
  | 17 => .array (.array (.array .int))
  | 18 => .array .int
  | 19 => .array .int
  | 20 => .array .int
  | 21 => .array .int
  | _ => .array .int
abbrev wsX10 : List Cond := u_ws RX1 TX1 23
set_option maxRecDepth 100000 in
theorem nmX1 : ∀ a, a < 23 → ∀ b, b < 23 → a ≠ b → (TX1 a).2.1 ≠ (TX1 b).2.1 := by decide +kernel
set_option maxRecDepth 100000 in
theorem tyX1_ok : ∀ k, k < 23 → parseFieldDescriptor (TX1 k).2.2.1 = some (tyX1 k) := by decide +kernel
abbrev cX1_init : ByteArray := prog_1_method_1_code
def yX1_init : MethodName := ⟨RX1, "<init>", "(II)V"⟩
def dkwX1_init_8 : List UInt8 := [180, 0, 84, 104, 181, 0, 87, 42, 180, 0, 16, 42, 180, 0, 12, 182, 0, 90, 177]
abbrev dktX1_init_8 : List UInt8 := dkwX1_init_8 ++ []
def dkwX1_init_7 : List UInt8 := [181, 0, 81, 42, 6, 16, 6, 28, 184, 0, 72, 184, 0, 78, 181, 0, 84, 42, 42, 180, 0, 81, 42]
abbrev dktX1_init_7 : List UInt8 := dkwX1_init_7 ++ dktX1_init_8
def dkwX1_init_6 : List UInt8 := [181, 0, 66, 42, 16, 36, 188, 10, 181, 0, 69, 42, 6, 16, 6, 27, 184, 0, 72, 184, 0, 78]
abbrev dktX1_init_6 : List UInt8 := dkwX1_init_6 ++ dktX1_init_7
def dkwX1_init_5 : List UInt8 := [181, 0, 57, 42, 16, 36, 188, 10, 181, 0, 60, 42, 7, 188, 10, 181, 0, 63, 42, 16, 36, 188, 10]
abbrev dktX1_init_5 : List UInt8 := dkwX1_init_5 ++ dktX1_init_6
def dkwX1_init_4 : List UInt8 := [197, 0, 40, 2, 181, 0, 49, 42, 6, 7, 16, 36, 197, 0, 52, 3, 181, 0, 54, 42, 16, 36, 188, 10]
abbrev dktX1_init_4 : List UInt8 := dkwX1_init_4 ++ dktX1_init_5
def dkwX1_init_3 : List UInt8 := [16, 13, 16, 36, 197, 0, 40, 2, 181, 0, 42, 42, 18, 45, 188, 10, 181, 0, 46, 42, 16, 13, 6]
abbrev dktX1_init_3 : List UInt8 := dkwX1_init_3 ++ dktX1_init_4
def dkwX1_init_2 : List UInt8 := [16, 11, 188, 10, 181, 0, 30, 42, 16, 36, 188, 10, 181, 0, 34, 42, 16, 12, 188, 10, 181, 0, 37, 42]
abbrev dktX1_init_2 : List UInt8 := dkwX1_init_2 ++ dktX1_init_3
def dkwX1_init_1 : List UInt8 := [181, 0, 16, 42, 17, 1, 44, 188, 8, 181, 0, 19, 42, 2, 181, 0, 23, 42, 2, 181, 0, 27, 42]
abbrev dktX1_init_1 : List UInt8 := dkwX1_init_1 ++ dktX1_init_2
def dkwX1_init_0 : List UInt8 := [42, 183, 0, 3, 42, 187, 0, 9, 89, 183, 0, 11, 181, 0, 12, 42, 187, 0, 9, 89, 183, 0, 11]
abbrev dktX1_init_0 : List UInt8 := dkwX1_init_0 ++ dktX1_init_1
theorem dksX1_init_0 : cX1_init.data.toList.drop 0 = dktX1_init_0 := by decide +kernel
theorem dksX1_init_1 : cX1_init.data.toList.drop 23 = dktX1_init_1 := dk_seg dksX1_init_0 23 rfl rfl
theorem dksX1_init_2 : cX1_init.data.toList.drop 46 = dktX1_init_2 := dk_seg dksX1_init_1 23 rfl rfl
theorem dksX1_init_3 : cX1_init.data.toList.drop 70 = dktX1_init_3 := dk_seg dksX1_init_2 24 rfl rfl
theorem dksX1_init_4 : cX1_init.data.toList.drop 93 = dktX1_init_4 := dk_seg dksX1_init_3 23 rfl rfl
theorem dksX1_init_5 : cX1_init.data.toList.drop 117 = dktX1_init_5 := dk_seg dksX1_init_4 24 rfl rfl
theorem dksX1_init_6 : cX1_init.data.toList.drop 140 = dktX1_init_6 := dk_seg dksX1_init_5 23 rfl rfl
theorem dksX1_init_7 : cX1_init.data.toList.drop 162 = dktX1_init_7 := dk_seg dksX1_init_6 22 rfl rfl
theorem dksX1_init_8 : cX1_init.data.toList.drop 185 = dktX1_init_8 := dk_seg dksX1_init_7 23 rfl rfl
theorem dX1_init_0 : decode cX1_init 0 = .ok (.aload_n 0, 1) := dk_42 (dk_at dksX1_init_0 0 rfl rfl)
theorem dX1_init_1 : decode cX1_init 1 = .ok (.invokespecial 3, 3) := dk_183 0 3 (dk_at dksX1_init_0 1 rfl rfl)
theorem dX1_init_4 : decode cX1_init 4 = .ok (.aload_n 0, 1) := dk_42 (dk_at dksX1_init_0 4 rfl rfl)
theorem dX1_init_5 : decode cX1_init 5 = .ok (.new 9, 3) := dk_187 0 9 (dk_at dksX1_init_0 5 rfl rfl)
theorem dX1_init_8 : decode cX1_init 8 = .ok (.dup, 1) := dk_89 (dk_at dksX1_init_0 8 rfl rfl)
theorem dX1_init_9 : decode cX1_init 9 = .ok (.invokespecial 11, 3) := dk_183 0 11 (dk_at dksX1_init_0 9 rfl rfl)
theorem dX1_init_12 : decode cX1_init 12 = .ok (.putfield 12, 3) := dk_181 0 12 (dk_at dksX1_init_0 12 rfl rfl)
theorem dX1_init_15 : decode cX1_init 15 = .ok (.aload_n 0, 1) := dk_42 (dk_at dksX1_init_0 15 rfl rfl)
theorem dX1_init_16 : decode cX1_init 16 = .ok (.new 9, 3) := dk_187 0 9 (dk_at dksX1_init_0 16 rfl rfl)
theorem dX1_init_19 : decode cX1_init 19 = .ok (.dup, 1) := dk_89 (dk_at dksX1_init_0 19 rfl rfl)
theorem dX1_init_20 : decode cX1_init 20 = .ok (.invokespecial 11, 3) := dk_183 0 11 (dk_at dksX1_init_0 20 rfl rfl)
theorem dX1_init_23 : decode cX1_init 23 = .ok (.putfield 16, 3) := dk_181 0 16 (dk_at dksX1_init_1 0 rfl rfl)
theorem dX1_init_26 : decode cX1_init 26 = .ok (.aload_n 0, 1) := dk_42 (dk_at dksX1_init_1 3 rfl rfl)
theorem dX1_init_27 : decode cX1_init 27 = .ok (.sipush 300, 3) := dk_17 1 44 (dk_at dksX1_init_1 4 rfl rfl)
theorem dX1_init_30 : decode cX1_init 30 = .ok (.newarray .byte, 2) := dk_188_8 (dk_at dksX1_init_1 7 rfl rfl)
theorem dX1_init_32 : decode cX1_init 32 = .ok (.putfield 19, 3) := dk_181 0 19 (dk_at dksX1_init_1 9 rfl rfl)
theorem dX1_init_35 : decode cX1_init 35 = .ok (.aload_n 0, 1) := dk_42 (dk_at dksX1_init_1 12 rfl rfl)
theorem dX1_init_36 : decode cX1_init 36 = .ok (.iconst (-1), 1) := dk_2 (dk_at dksX1_init_1 13 rfl rfl)
theorem dX1_init_37 : decode cX1_init 37 = .ok (.putfield 23, 3) := dk_181 0 23 (dk_at dksX1_init_1 14 rfl rfl)
theorem dX1_init_40 : decode cX1_init 40 = .ok (.aload_n 0, 1) := dk_42 (dk_at dksX1_init_1 17 rfl rfl)
theorem dX1_init_41 : decode cX1_init 41 = .ok (.iconst (-1), 1) := dk_2 (dk_at dksX1_init_1 18 rfl rfl)
theorem dX1_init_42 : decode cX1_init 42 = .ok (.putfield 27, 3) := dk_181 0 27 (dk_at dksX1_init_1 19 rfl rfl)
theorem dX1_init_45 : decode cX1_init 45 = .ok (.aload_n 0, 1) := dk_42 (dk_at dksX1_init_1 22 rfl rfl)
theorem dX1_init_46 : decode cX1_init 46 = .ok (.bipush 11, 2) := dk_16 11 (dk_at dksX1_init_2 0 rfl rfl)
theorem dX1_init_48 : decode cX1_init 48 = .ok (.newarray .int, 2) := dk_188_10 (dk_at dksX1_init_2 2 rfl rfl)
theorem dX1_init_50 : decode cX1_init 50 = .ok (.putfield 30, 3) := dk_181 0 30 (dk_at dksX1_init_2 4 rfl rfl)
theorem dX1_init_53 : decode cX1_init 53 = .ok (.aload_n 0, 1) := dk_42 (dk_at dksX1_init_2 7 rfl rfl)
theorem dX1_init_54 : decode cX1_init 54 = .ok (.bipush 36, 2) := dk_16 36 (dk_at dksX1_init_2 8 rfl rfl)
theorem dX1_init_56 : decode cX1_init 56 = .ok (.newarray .int, 2) := dk_188_10 (dk_at dksX1_init_2 10 rfl rfl)
theorem dX1_init_58 : decode cX1_init 58 = .ok (.putfield 34, 3) := dk_181 0 34 (dk_at dksX1_init_2 12 rfl rfl)
theorem dX1_init_61 : decode cX1_init 61 = .ok (.aload_n 0, 1) := dk_42 (dk_at dksX1_init_2 15 rfl rfl)
theorem dX1_init_62 : decode cX1_init 62 = .ok (.bipush 12, 2) := dk_16 12 (dk_at dksX1_init_2 16 rfl rfl)
theorem dX1_init_64 : decode cX1_init 64 = .ok (.newarray .int, 2) := dk_188_10 (dk_at dksX1_init_2 18 rfl rfl)
theorem dX1_init_66 : decode cX1_init 66 = .ok (.putfield 37, 3) := dk_181 0 37 (dk_at dksX1_init_2 20 rfl rfl)
theorem dX1_init_69 : decode cX1_init 69 = .ok (.aload_n 0, 1) := dk_42 (dk_at dksX1_init_2 23 rfl rfl)
theorem dX1_init_70 : decode cX1_init 70 = .ok (.bipush 13, 2) := dk_16 13 (dk_at dksX1_init_3 0 rfl rfl)
theorem dX1_init_72 : decode cX1_init 72 = .ok (.bipush 36, 2) := dk_16 36 (dk_at dksX1_init_3 2 rfl rfl)
theorem dX1_init_74 : decode cX1_init 74 = .ok (.multianewarray 40 2, 4) := by decide +kernel
theorem dX1_init_78 : decode cX1_init 78 = .ok (.putfield 42, 3) := dk_181 0 42 (dk_at dksX1_init_3 8 rfl rfl)
theorem dX1_init_81 : decode cX1_init 81 = .ok (.aload_n 0, 1) := dk_42 (dk_at dksX1_init_3 11 rfl rfl)
theorem dX1_init_82 : decode cX1_init 82 = .ok (.ldc 45, 2) := dk_18 45 (dk_at dksX1_init_3 12 rfl rfl)
theorem dX1_init_84 : decode cX1_init 84 = .ok (.newarray .int, 2) := dk_188_10 (dk_at dksX1_init_3 14 rfl rfl)
theorem dX1_init_86 : decode cX1_init 86 = .ok (.putfield 46, 3) := dk_181 0 46 (dk_at dksX1_init_3 16 rfl rfl)
theorem dX1_init_89 : decode cX1_init 89 = .ok (.aload_n 0, 1) := dk_42 (dk_at dksX1_init_3 19 rfl rfl)
theorem dX1_init_90 : decode cX1_init 90 = .ok (.bipush 13, 2) := dk_16 13 (dk_at dksX1_init_3 20 rfl rfl)
theorem dX1_init_92 : decode cX1_init 92 = .ok (.iconst 3, 1) := dk_6 (dk_at dksX1_init_3 22 rfl rfl)
theorem dX1_init_93 : decode cX1_init 93 = .ok (.multianewarray 40 2, 4) := by decide +kernel
theorem dX1_init_97 : decode cX1_init 97 = .ok (.putfield 49, 3) := dk_181 0 49 (dk_at dksX1_init_4 4 rfl rfl)
theorem dX1_init_100 : decode cX1_init 100 = .ok (.aload_n 0, 1) := dk_42 (dk_at dksX1_init_4 7 rfl rfl)
theorem dX1_init_101 : decode cX1_init 101 = .ok (.iconst 3, 1) := dk_6 (dk_at dksX1_init_4 8 rfl rfl)
theorem dX1_init_102 : decode cX1_init 102 = .ok (.iconst 4, 1) := dk_7 (dk_at dksX1_init_4 9 rfl rfl)
theorem dX1_init_103 : decode cX1_init 103 = .ok (.bipush 36, 2) := dk_16 36 (dk_at dksX1_init_4 10 rfl rfl)
theorem dX1_init_105 : decode cX1_init 105 = .ok (.multianewarray 52 3, 4) := by decide +kernel
theorem dX1_init_109 : decode cX1_init 109 = .ok (.putfield 54, 3) := dk_181 0 54 (dk_at dksX1_init_4 16 rfl rfl)
theorem dX1_init_112 : decode cX1_init 112 = .ok (.aload_n 0, 1) := dk_42 (dk_at dksX1_init_4 19 rfl rfl)
theorem dX1_init_113 : decode cX1_init 113 = .ok (.bipush 36, 2) := dk_16 36 (dk_at dksX1_init_4 20 rfl rfl)
theorem dX1_init_115 : decode cX1_init 115 = .ok (.newarray .int, 2) := dk_188_10 (dk_at dksX1_init_4 22 rfl rfl)
theorem dX1_init_117 : decode cX1_init 117 = .ok (.putfield 57, 3) := dk_181 0 57 (dk_at dksX1_init_5 0 rfl rfl)
theorem dX1_init_120 : decode cX1_init 120 = .ok (.aload_n 0, 1) := dk_42 (dk_at dksX1_init_5 3 rfl rfl)
theorem dX1_init_121 : decode cX1_init 121 = .ok (.bipush 36, 2) := dk_16 36 (dk_at dksX1_init_5 4 rfl rfl)
theorem dX1_init_123 : decode cX1_init 123 = .ok (.newarray .int, 2) := dk_188_10 (dk_at dksX1_init_5 6 rfl rfl)
theorem dX1_init_125 : decode cX1_init 125 = .ok (.putfield 60, 3) := dk_181 0 60 (dk_at dksX1_init_5 8 rfl rfl)
theorem dX1_init_128 : decode cX1_init 128 = .ok (.aload_n 0, 1) := dk_42 (dk_at dksX1_init_5 11 rfl rfl)
theorem dX1_init_129 : decode cX1_init 129 = .ok (.iconst 4, 1) := dk_7 (dk_at dksX1_init_5 12 rfl rfl)
theorem dX1_init_130 : decode cX1_init 130 = .ok (.newarray .int, 2) := dk_188_10 (dk_at dksX1_init_5 13 rfl rfl)
theorem dX1_init_132 : decode cX1_init 132 = .ok (.putfield 63, 3) := dk_181 0 63 (dk_at dksX1_init_5 15 rfl rfl)
theorem dX1_init_135 : decode cX1_init 135 = .ok (.aload_n 0, 1) := dk_42 (dk_at dksX1_init_5 18 rfl rfl)
theorem dX1_init_136 : decode cX1_init 136 = .ok (.bipush 36, 2) := dk_16 36 (dk_at dksX1_init_5 19 rfl rfl)
theorem dX1_init_138 : decode cX1_init 138 = .ok (.newarray .int, 2) := dk_188_10 (dk_at dksX1_init_5 21 rfl rfl)
theorem dX1_init_140 : decode cX1_init 140 = .ok (.putfield 66, 3) := dk_181 0 66 (dk_at dksX1_init_6 0 rfl rfl)
theorem dX1_init_143 : decode cX1_init 143 = .ok (.aload_n 0, 1) := dk_42 (dk_at dksX1_init_6 3 rfl rfl)
theorem dX1_init_144 : decode cX1_init 144 = .ok (.bipush 36, 2) := dk_16 36 (dk_at dksX1_init_6 4 rfl rfl)
theorem dX1_init_146 : decode cX1_init 146 = .ok (.newarray .int, 2) := dk_188_10 (dk_at dksX1_init_6 6 rfl rfl)
theorem dX1_init_148 : decode cX1_init 148 = .ok (.putfield 69, 3) := dk_181 0 69 (dk_at dksX1_init_6 8 rfl rfl)
theorem dX1_init_151 : decode cX1_init 151 = .ok (.aload_n 0, 1) := dk_42 (dk_at dksX1_init_6 11 rfl rfl)
theorem dX1_init_152 : decode cX1_init 152 = .ok (.iconst 3, 1) := dk_6 (dk_at dksX1_init_6 12 rfl rfl)
theorem dX1_init_153 : decode cX1_init 153 = .ok (.bipush 6, 2) := dk_16 6 (dk_at dksX1_init_6 13 rfl rfl)
theorem dX1_init_155 : decode cX1_init 155 = .ok (.iload_n 1, 1) := dk_27 (dk_at dksX1_init_6 15 rfl rfl)
theorem dX1_init_156 : decode cX1_init 156 = .ok (.invokestatic 72, 3) := dk_184 0 72 (dk_at dksX1_init_6 16 rfl rfl)
theorem dX1_init_159 : decode cX1_init 159 = .ok (.invokestatic 78, 3) := dk_184 0 78 (dk_at dksX1_init_6 19 rfl rfl)
theorem dX1_init_162 : decode cX1_init 162 = .ok (.putfield 81, 3) := dk_181 0 81 (dk_at dksX1_init_7 0 rfl rfl)
theorem dX1_init_165 : decode cX1_init 165 = .ok (.aload_n 0, 1) := dk_42 (dk_at dksX1_init_7 3 rfl rfl)
theorem dX1_init_166 : decode cX1_init 166 = .ok (.iconst 3, 1) := dk_6 (dk_at dksX1_init_7 4 rfl rfl)
theorem dX1_init_167 : decode cX1_init 167 = .ok (.bipush 6, 2) := dk_16 6 (dk_at dksX1_init_7 5 rfl rfl)
theorem dX1_init_169 : decode cX1_init 169 = .ok (.iload_n 2, 1) := dk_28 (dk_at dksX1_init_7 7 rfl rfl)
theorem dX1_init_170 : decode cX1_init 170 = .ok (.invokestatic 72, 3) := dk_184 0 72 (dk_at dksX1_init_7 8 rfl rfl)
theorem dX1_init_173 : decode cX1_init 173 = .ok (.invokestatic 78, 3) := dk_184 0 78 (dk_at dksX1_init_7 11 rfl rfl)
theorem dX1_init_176 : decode cX1_init 176 = .ok (.putfield 84, 3) := dk_181 0 84 (dk_at dksX1_init_7 14 rfl rfl)
theorem dX1_init_179 : decode cX1_init 179 = .ok (.aload_n 0, 1) := dk_42 (dk_at dksX1_init_7 17 rfl rfl)
theorem dX1_init_180 : decode cX1_init 180 = .ok (.aload_n 0, 1) := dk_42 (dk_at dksX1_init_7 18 rfl rfl)
theorem dX1_init_181 : decode cX1_init 181 = .ok (.getfield 81, 3) := dk_180 0 81 (dk_at dksX1_init_7 19 rfl rfl)
theorem dX1_init_184 : decode cX1_init 184 = .ok (.aload_n 0, 1) := dk_42 (dk_at dksX1_init_7 22 rfl rfl)
theorem dX1_init_185 : decode cX1_init 185 = .ok (.getfield 84, 3) := dk_180 0 84 (dk_at dksX1_init_8 0 rfl rfl)
theorem dX1_init_188 : decode cX1_init 188 = .ok (.imul, 1) := dk_104 (dk_at dksX1_init_8 3 rfl rfl)
theorem dX1_init_189 : decode cX1_init 189 = .ok (.putfield 87, 3) := dk_181 0 87 (dk_at dksX1_init_8 4 rfl rfl)
theorem dX1_init_192 : decode cX1_init 192 = .ok (.aload_n 0, 1) := dk_42 (dk_at dksX1_init_8 7 rfl rfl)
theorem dX1_init_193 : decode cX1_init 193 = .ok (.getfield 16, 3) := dk_180 0 16 (dk_at dksX1_init_8 8 rfl rfl)
theorem dX1_init_196 : decode cX1_init 196 = .ok (.aload_n 0, 1) := dk_42 (dk_at dksX1_init_8 11 rfl rfl)
theorem dX1_init_197 : decode cX1_init 197 = .ok (.getfield 12, 3) := dk_180 0 12 (dk_at dksX1_init_8 12 rfl rfl)
theorem dX1_init_200 : decode cX1_init 200 = .ok (.invokevirtual 90, 3) := dk_182 0 90 (dk_at dksX1_init_8 15 rfl rfl)
theorem dX1_init_203 : decode cX1_init 203 = .ok (.return_, 1) := dk_177 (dk_at dksX1_init_8 18 rfl rfl)
abbrev cX1_ice : ByteArray := prog_1_method_5_code
def yX1_ice : MethodName := ⟨RX1, "ice", "(II)Z"⟩
def dkwX1_ice_1 : List UInt8 := [180, 0, 102, 27, 28, 79, 4, 172]
abbrev dktX1_ice_1 : List UInt8 := dkwX1_ice_1 ++ []
def dkwX1_ice_0 : List UInt8 := [42, 27, 182, 0, 98, 153, 0, 13, 28, 3, 16, 99, 184, 0, 94, 154, 0, 5, 3, 172, 42, 180, 0, 12]
abbrev dktX1_ice_0 : List UInt8 := dkwX1_ice_0 ++ dktX1_ice_1
theorem dksX1_ice_0 : cX1_ice.data.toList.drop 0 = dktX1_ice_0 := by decide +kernel
theorem dksX1_ice_1 : cX1_ice.data.toList.drop 24 = dktX1_ice_1 := dk_seg dksX1_ice_0 24 rfl rfl
theorem dX1_ice_0 : decode cX1_ice 0 = .ok (.aload_n 0, 1) := dk_42 (dk_at dksX1_ice_0 0 rfl rfl)
theorem dX1_ice_1 : decode cX1_ice 1 = .ok (.iload_n 1, 1) := dk_27 (dk_at dksX1_ice_0 1 rfl rfl)
theorem dX1_ice_2 : decode cX1_ice 2 = .ok (.invokevirtual 98, 3) := dk_182 0 98 (dk_at dksX1_ice_0 2 rfl rfl)
theorem dX1_ice_5 : decode cX1_ice 5 = .ok (.ifCond .eq 13, 3) := dk_153 0 13 (dk_at dksX1_ice_0 5 rfl rfl)
theorem dX1_ice_8 : decode cX1_ice 8 = .ok (.iload_n 2, 1) := dk_28 (dk_at dksX1_ice_0 8 rfl rfl)
theorem dX1_ice_9 : decode cX1_ice 9 = .ok (.iconst 0, 1) := dk_3 (dk_at dksX1_ice_0 9 rfl rfl)
theorem dX1_ice_10 : decode cX1_ice 10 = .ok (.bipush 99, 2) := dk_16 99 (dk_at dksX1_ice_0 10 rfl rfl)
theorem dX1_ice_12 : decode cX1_ice 12 = .ok (.invokestatic 94, 3) := dk_184 0 94 (dk_at dksX1_ice_0 12 rfl rfl)
theorem dX1_ice_15 : decode cX1_ice 15 = .ok (.ifCond .ne 5, 3) := dk_154 0 5 (dk_at dksX1_ice_0 15 rfl rfl)
theorem dX1_ice_18 : decode cX1_ice 18 = .ok (.iconst 0, 1) := dk_3 (dk_at dksX1_ice_0 18 rfl rfl)
theorem dX1_ice_19 : decode cX1_ice 19 = .ok (.ireturn, 1) := dk_172 (dk_at dksX1_ice_0 19 rfl rfl)
theorem dX1_ice_20 : decode cX1_ice 20 = .ok (.aload_n 0, 1) := dk_42 (dk_at dksX1_ice_0 20 rfl rfl)
theorem dX1_ice_21 : decode cX1_ice 21 = .ok (.getfield 12, 3) := dk_180 0 12 (dk_at dksX1_ice_0 21 rfl rfl)
theorem dX1_ice_24 : decode cX1_ice 24 = .ok (.getfield 102, 3) := dk_180 0 102 (dk_at dksX1_ice_1 0 rfl rfl)
theorem dX1_ice_27 : decode cX1_ice 27 = .ok (.iload_n 1, 1) := dk_27 (dk_at dksX1_ice_1 3 rfl rfl)
theorem dX1_ice_28 : decode cX1_ice 28 = .ok (.iload_n 2, 1) := dk_28 (dk_at dksX1_ice_1 4 rfl rfl)
theorem dX1_ice_29 : decode cX1_ice 29 = .ok (.iastore, 1) := dk_79 (dk_at dksX1_ice_1 5 rfl rfl)
theorem dX1_ice_30 : decode cX1_ice 30 = .ok (.iconst 1, 1) := dk_4 (dk_at dksX1_ice_1 6 rfl rfl)
theorem dX1_ice_31 : decode cX1_ice 31 = .ok (.ireturn, 1) := dk_172 (dk_at dksX1_ice_1 7 rfl rfl)
abbrev cX1_isCell : ByteArray := prog_1_method_3_code
def yX1_isCell : MethodName := ⟨RX1, "isCell", "(I)Z"⟩
def dkwX1_isCell_0 : List UInt8 := [27, 3, 42, 180, 0, 87, 4, 100, 184, 0, 94, 172]
abbrev dktX1_isCell_0 : List UInt8 := dkwX1_isCell_0 ++ []
theorem dksX1_isCell_0 : cX1_isCell.data.toList.drop 0 = dktX1_isCell_0 := by decide +kernel
theorem dX1_isCell_0 : decode cX1_isCell 0 = .ok (.iload_n 1, 1) := dk_27 (dk_at dksX1_isCell_0 0 rfl rfl)
theorem dX1_isCell_1 : decode cX1_isCell 1 = .ok (.iconst 0, 1) := dk_3 (dk_at dksX1_isCell_0 1 rfl rfl)
theorem dX1_isCell_2 : decode cX1_isCell 2 = .ok (.aload_n 0, 1) := dk_42 (dk_at dksX1_isCell_0 2 rfl rfl)
theorem dX1_isCell_3 : decode cX1_isCell 3 = .ok (.getfield 87, 3) := dk_180 0 87 (dk_at dksX1_isCell_0 3 rfl rfl)
theorem dX1_isCell_6 : decode cX1_isCell 6 = .ok (.iconst 1, 1) := dk_4 (dk_at dksX1_isCell_0 6 rfl rfl)
theorem dX1_isCell_7 : decode cX1_isCell 7 = .ok (.isub, 1) := dk_100 (dk_at dksX1_isCell_0 7 rfl rfl)
theorem dX1_isCell_8 : decode cX1_isCell 8 = .ok (.invokestatic 94, 3) := dk_184 0 94 (dk_at dksX1_isCell_0 8 rfl rfl)
theorem dX1_isCell_11 : decode cX1_isCell 11 = .ok (.ireturn, 1) := dk_172 (dk_at dksX1_isCell_0 11 rfl rfl)
abbrev cX1_in : ByteArray := prog_1_method_2_code
def yX1_in : MethodName := ⟨RX1, "in", "(III)Z"⟩
def dkwX1_in_0 : List UInt8 := [26, 27, 161, 0, 12, 26, 28, 163, 0, 7, 4, 167, 0, 4, 3, 172]
abbrev dktX1_in_0 : List UInt8 := dkwX1_in_0 ++ []
theorem dksX1_in_0 : cX1_in.data.toList.drop 0 = dktX1_in_0 := by decide +kernel
theorem dX1_in_0 : decode cX1_in 0 = .ok (.iload_n 0, 1) := dk_26 (dk_at dksX1_in_0 0 rfl rfl)
theorem dX1_in_1 : decode cX1_in 1 = .ok (.iload_n 1, 1) := dk_27 (dk_at dksX1_in_0 1 rfl rfl)
theorem dX1_in_2 : decode cX1_in 2 = .ok (.if_icmp .lt 12, 3) := dk_161 0 12 (dk_at dksX1_in_0 2 rfl rfl)
theorem dX1_in_5 : decode cX1_in 5 = .ok (.iload_n 0, 1) := dk_26 (dk_at dksX1_in_0 5 rfl rfl)
theorem dX1_in_6 : decode cX1_in 6 = .ok (.iload_n 2, 1) := dk_28 (dk_at dksX1_in_0 6 rfl rfl)
theorem dX1_in_7 : decode cX1_in 7 = .ok (.if_icmp .gt 7, 3) := dk_163 0 7 (dk_at dksX1_in_0 7 rfl rfl)
theorem dX1_in_10 : decode cX1_in 10 = .ok (.iconst 1, 1) := dk_4 (dk_at dksX1_in_0 10 rfl rfl)
theorem dX1_in_11 : decode cX1_in 11 = .ok (.goto 4, 3) := dk_167 0 4 (dk_at dksX1_in_0 11 rfl rfl)
theorem dX1_in_14 : decode cX1_in 14 = .ok (.iconst 0, 1) := dk_3 (dk_at dksX1_in_0 14 rfl rfl)
theorem dX1_in_15 : decode cX1_in 15 = .ok (.ireturn, 1) := dk_172 (dk_at dksX1_in_0 15 rfl rfl)
abbrev cX1_iceAt : ByteArray := prog_1_method_6_code
def yX1_iceAt : MethodName := ⟨RX1, "iceAt", "(I)I"⟩
def dkwX1_iceAt_0 : List UInt8 := [42, 27, 182, 0, 98, 153, 0, 15, 42, 180, 0, 12, 180, 0, 102, 27, 46, 167, 0, 4, 2, 172]
abbrev dktX1_iceAt_0 : List UInt8 := dkwX1_iceAt_0 ++ []
theorem dksX1_iceAt_0 : cX1_iceAt.data.toList.drop 0 = dktX1_iceAt_0 := by decide +kernel
theorem dX1_iceAt_0 : decode cX1_iceAt 0 = .ok (.aload_n 0, 1) := dk_42 (dk_at dksX1_iceAt_0 0 rfl rfl)
theorem dX1_iceAt_1 : decode cX1_iceAt 1 = .ok (.iload_n 1, 1) := dk_27 (dk_at dksX1_iceAt_0 1 rfl rfl)
theorem dX1_iceAt_2 : decode cX1_iceAt 2 = .ok (.invokevirtual 98, 3) := dk_182 0 98 (dk_at dksX1_iceAt_0 2 rfl rfl)
theorem dX1_iceAt_5 : decode cX1_iceAt 5 = .ok (.ifCond .eq 15, 3) := dk_153 0 15 (dk_at dksX1_iceAt_0 5 rfl rfl)
theorem dX1_iceAt_8 : decode cX1_iceAt 8 = .ok (.aload_n 0, 1) := dk_42 (dk_at dksX1_iceAt_0 8 rfl rfl)
theorem dX1_iceAt_9 : decode cX1_iceAt 9 = .ok (.getfield 12, 3) := dk_180 0 12 (dk_at dksX1_iceAt_0 9 rfl rfl)
theorem dX1_iceAt_12 : decode cX1_iceAt 12 = .ok (.getfield 102, 3) := dk_180 0 102 (dk_at dksX1_iceAt_0 12 rfl rfl)
theorem dX1_iceAt_15 : decode cX1_iceAt 15 = .ok (.iload_n 1, 1) := dk_27 (dk_at dksX1_iceAt_0 15 rfl rfl)
theorem dX1_iceAt_16 : decode cX1_iceAt 16 = .ok (.iaload, 1) := dk_46 (dk_at dksX1_iceAt_0 16 rfl rfl)
theorem dX1_iceAt_17 : decode cX1_iceAt 17 = .ok (.goto 4, 3) := dk_167 0 4 (dk_at dksX1_iceAt_0 17 rfl rfl)
theorem dX1_iceAt_20 : decode cX1_iceAt 20 = .ok (.iconst (-1), 1) := dk_2 (dk_at dksX1_iceAt_0 20 rfl rfl)
theorem dX1_iceAt_21 : decode cX1_iceAt 21 = .ok (.ireturn, 1) := dk_172 (dk_at dksX1_iceAt_0 21 rfl rfl)
abbrev cX1_mark : ByteArray := prog_1_method_7_code
def yX1_mark : MethodName := ⟨RX1, "mark", "(IZZ)Z"⟩
def dkwX1_mark_1 : List UInt8 := [167, 0, 13, 42, 180, 0, 12, 180, 0, 109, 27, 29, 84, 4, 172]
abbrev dktX1_mark_1 : List UInt8 := dkwX1_mark_1 ++ []
def dkwX1_mark_0 : List UInt8 := [42, 27, 182, 0, 98, 154, 0, 5, 3, 172, 28, 153, 0, 16, 42, 180, 0, 12, 180, 0, 105, 27, 29, 84]
abbrev dktX1_mark_0 : List UInt8 := dkwX1_mark_0 ++ dktX1_mark_1
theorem dksX1_mark_0 : cX1_mark.data.toList.drop 0 = dktX1_mark_0 := by decide +kernel
theorem dksX1_mark_1 : cX1_mark.data.toList.drop 24 = dktX1_mark_1 := dk_seg dksX1_mark_0 24 rfl rfl
theorem dX1_mark_0 : decode cX1_mark 0 = .ok (.aload_n 0, 1) := dk_42 (dk_at dksX1_mark_0 0 rfl rfl)
theorem dX1_mark_1 : decode cX1_mark 1 = .ok (.iload_n 1, 1) := dk_27 (dk_at dksX1_mark_0 1 rfl rfl)
theorem dX1_mark_2 : decode cX1_mark 2 = .ok (.invokevirtual 98, 3) := dk_182 0 98 (dk_at dksX1_mark_0 2 rfl rfl)
theorem dX1_mark_5 : decode cX1_mark 5 = .ok (.ifCond .ne 5, 3) := dk_154 0 5 (dk_at dksX1_mark_0 5 rfl rfl)
theorem dX1_mark_8 : decode cX1_mark 8 = .ok (.iconst 0, 1) := dk_3 (dk_at dksX1_mark_0 8 rfl rfl)
theorem dX1_mark_9 : decode cX1_mark 9 = .ok (.ireturn, 1) := dk_172 (dk_at dksX1_mark_0 9 rfl rfl)
theorem dX1_mark_10 : decode cX1_mark 10 = .ok (.iload_n 2, 1) := dk_28 (dk_at dksX1_mark_0 10 rfl rfl)
theorem dX1_mark_11 : decode cX1_mark 11 = .ok (.ifCond .eq 16, 3) := dk_153 0 16 (dk_at dksX1_mark_0 11 rfl rfl)
theorem dX1_mark_14 : decode cX1_mark 14 = .ok (.aload_n 0, 1) := dk_42 (dk_at dksX1_mark_0 14 rfl rfl)
theorem dX1_mark_15 : decode cX1_mark 15 = .ok (.getfield 12, 3) := dk_180 0 12 (dk_at dksX1_mark_0 15 rfl rfl)
theorem dX1_mark_18 : decode cX1_mark 18 = .ok (.getfield 105, 3) := dk_180 0 105 (dk_at dksX1_mark_0 18 rfl rfl)
theorem dX1_mark_21 : decode cX1_mark 21 = .ok (.iload_n 1, 1) := dk_27 (dk_at dksX1_mark_0 21 rfl rfl)
theorem dX1_mark_22 : decode cX1_mark 22 = .ok (.iload_n 3, 1) := dk_29 (dk_at dksX1_mark_0 22 rfl rfl)
theorem dX1_mark_23 : decode cX1_mark 23 = .ok (.bastore, 1) := dk_84 (dk_at dksX1_mark_0 23 rfl rfl)
theorem dX1_mark_24 : decode cX1_mark 24 = .ok (.goto 13, 3) := dk_167 0 13 (dk_at dksX1_mark_1 0 rfl rfl)
theorem dX1_mark_27 : decode cX1_mark 27 = .ok (.aload_n 0, 1) := dk_42 (dk_at dksX1_mark_1 3 rfl rfl)
theorem dX1_mark_28 : decode cX1_mark 28 = .ok (.getfield 12, 3) := dk_180 0 12 (dk_at dksX1_mark_1 4 rfl rfl)
theorem dX1_mark_31 : decode cX1_mark 31 = .ok (.getfield 109, 3) := dk_180 0 109 (dk_at dksX1_mark_1 7 rfl rfl)
theorem dX1_mark_34 : decode cX1_mark 34 = .ok (.iload_n 1, 1) := dk_27 (dk_at dksX1_mark_1 10 rfl rfl)
theorem dX1_mark_35 : decode cX1_mark 35 = .ok (.iload_n 3, 1) := dk_29 (dk_at dksX1_mark_1 11 rfl rfl)
theorem dX1_mark_36 : decode cX1_mark 36 = .ok (.bastore, 1) := dk_84 (dk_at dksX1_mark_1 12 rfl rfl)
theorem dX1_mark_37 : decode cX1_mark 37 = .ok (.iconst 1, 1) := dk_4 (dk_at dksX1_mark_1 13 rfl rfl)
theorem dX1_mark_38 : decode cX1_mark 38 = .ok (.ireturn, 1) := dk_172 (dk_at dksX1_mark_1 14 rfl rfl)
abbrev cX1_edge : ByteArray := prog_1_method_8_code
def yX1_edge : MethodName := ⟨RX1, "edge", "(I)Z"⟩
def dkwX1_edge_1 : List UInt8 := [172]
abbrev dktX1_edge_1 : List UInt8 := dkwX1_edge_1 ++ []
def dkwX1_edge_0 : List UInt8 := [27, 3, 16, 99, 184, 0, 94, 154, 0, 5, 3, 172, 42, 180, 0, 12, 180, 0, 112, 16, 8, 27, 79, 4]
abbrev dktX1_edge_0 : List UInt8 := dkwX1_edge_0 ++ dktX1_edge_1
theorem dksX1_edge_0 : cX1_edge.data.toList.drop 0 = dktX1_edge_0 := by decide +kernel
theorem dksX1_edge_1 : cX1_edge.data.toList.drop 24 = dktX1_edge_1 := dk_seg dksX1_edge_0 24 rfl rfl
theorem dX1_edge_0 : decode cX1_edge 0 = .ok (.iload_n 1, 1) := dk_27 (dk_at dksX1_edge_0 0 rfl rfl)
theorem dX1_edge_1 : decode cX1_edge 1 = .ok (.iconst 0, 1) := dk_3 (dk_at dksX1_edge_0 1 rfl rfl)
theorem dX1_edge_2 : decode cX1_edge 2 = .ok (.bipush 99, 2) := dk_16 99 (dk_at dksX1_edge_0 2 rfl rfl)
theorem dX1_edge_4 : decode cX1_edge 4 = .ok (.invokestatic 94, 3) := dk_184 0 94 (dk_at dksX1_edge_0 4 rfl rfl)
theorem dX1_edge_7 : decode cX1_edge 7 = .ok (.ifCond .ne 5, 3) := dk_154 0 5 (dk_at dksX1_edge_0 7 rfl rfl)
theorem dX1_edge_10 : decode cX1_edge 10 = .ok (.iconst 0, 1) := dk_3 (dk_at dksX1_edge_0 10 rfl rfl)
theorem dX1_edge_11 : decode cX1_edge 11 = .ok (.ireturn, 1) := dk_172 (dk_at dksX1_edge_0 11 rfl rfl)
theorem dX1_edge_12 : decode cX1_edge 12 = .ok (.aload_n 0, 1) := dk_42 (dk_at dksX1_edge_0 12 rfl rfl)
theorem dX1_edge_13 : decode cX1_edge 13 = .ok (.getfield 12, 3) := dk_180 0 12 (dk_at dksX1_edge_0 13 rfl rfl)
theorem dX1_edge_16 : decode cX1_edge 16 = .ok (.getfield 112, 3) := dk_180 0 112 (dk_at dksX1_edge_0 16 rfl rfl)
theorem dX1_edge_19 : decode cX1_edge 19 = .ok (.bipush 8, 2) := dk_16 8 (dk_at dksX1_edge_0 19 rfl rfl)
theorem dX1_edge_21 : decode cX1_edge 21 = .ok (.iload_n 1, 1) := dk_27 (dk_at dksX1_edge_0 21 rfl rfl)
theorem dX1_edge_22 : decode cX1_edge 22 = .ok (.iastore, 1) := dk_79 (dk_at dksX1_edge_0 22 rfl rfl)
theorem dX1_edge_23 : decode cX1_edge 23 = .ok (.iconst 1, 1) := dk_4 (dk_at dksX1_edge_0 23 rfl rfl)
theorem dX1_edge_24 : decode cX1_edge 24 = .ok (.ireturn, 1) := dk_172 (dk_at dksX1_edge_1 0 rfl rfl)
abbrev cX1_drift : ByteArray := prog_1_method_9_code
def yX1_drift : MethodName := ⟨RX1, "drift", "(III)Z"⟩
def dkwX1_drift_2 : List UInt8 := [27, 50, 4, 29, 79, 4, 172]
abbrev dktX1_drift_2 : List UInt8 := dkwX1_drift_2 ++ []
def dkwX1_drift_1 : List UInt8 := [154, 0, 5, 3, 172, 42, 180, 0, 12, 180, 0, 118, 27, 50, 3, 28, 79, 42, 180, 0, 12, 180, 0, 118]
abbrev dktX1_drift_1 : List UInt8 := dkwX1_drift_1 ++ dktX1_drift_2
def dkwX1_drift_0 : List UInt8 := [27, 184, 0, 115, 153, 0, 21, 28, 2, 4, 184, 0, 94, 153, 0, 12, 29, 2, 4, 184, 0, 94]
abbrev dktX1_drift_0 : List UInt8 := dkwX1_drift_0 ++ dktX1_drift_1
theorem dksX1_drift_0 : cX1_drift.data.toList.drop 0 = dktX1_drift_0 := by decide +kernel
theorem dksX1_drift_1 : cX1_drift.data.toList.drop 22 = dktX1_drift_1 := dk_seg dksX1_drift_0 22 rfl rfl
theorem dksX1_drift_2 : cX1_drift.data.toList.drop 46 = dktX1_drift_2 := dk_seg dksX1_drift_1 24 rfl rfl
theorem dX1_drift_0 : decode cX1_drift 0 = .ok (.iload_n 1, 1) := dk_27 (dk_at dksX1_drift_0 0 rfl rfl)
theorem dX1_drift_1 : decode cX1_drift 1 = .ok (.invokestatic 115, 3) := dk_184 0 115 (dk_at dksX1_drift_0 1 rfl rfl)
theorem dX1_drift_4 : decode cX1_drift 4 = .ok (.ifCond .eq 21, 3) := dk_153 0 21 (dk_at dksX1_drift_0 4 rfl rfl)
theorem dX1_drift_7 : decode cX1_drift 7 = .ok (.iload_n 2, 1) := dk_28 (dk_at dksX1_drift_0 7 rfl rfl)
theorem dX1_drift_8 : decode cX1_drift 8 = .ok (.iconst (-1), 1) := dk_2 (dk_at dksX1_drift_0 8 rfl rfl)
theorem dX1_drift_9 : decode cX1_drift 9 = .ok (.iconst 1, 1) := dk_4 (dk_at dksX1_drift_0 9 rfl rfl)
theorem dX1_drift_10 : decode cX1_drift 10 = .ok (.invokestatic 94, 3) := dk_184 0 94 (dk_at dksX1_drift_0 10 rfl rfl)
theorem dX1_drift_13 : decode cX1_drift 13 = .ok (.ifCond .eq 12, 3) := dk_153 0 12 (dk_at dksX1_drift_0 13 rfl rfl)
theorem dX1_drift_16 : decode cX1_drift 16 = .ok (.iload_n 3, 1) := dk_29 (dk_at dksX1_drift_0 16 rfl rfl)
theorem dX1_drift_17 : decode cX1_drift 17 = .ok (.iconst (-1), 1) := dk_2 (dk_at dksX1_drift_0 17 rfl rfl)
theorem dX1_drift_18 : decode cX1_drift 18 = .ok (.iconst 1, 1) := dk_4 (dk_at dksX1_drift_0 18 rfl rfl)
theorem dX1_drift_19 : decode cX1_drift 19 = .ok (.invokestatic 94, 3) := dk_184 0 94 (dk_at dksX1_drift_0 19 rfl rfl)
theorem dX1_drift_22 : decode cX1_drift 22 = .ok (.ifCond .ne 5, 3) := dk_154 0 5 (dk_at dksX1_drift_1 0 rfl rfl)
theorem dX1_drift_25 : decode cX1_drift 25 = .ok (.iconst 0, 1) := dk_3 (dk_at dksX1_drift_1 3 rfl rfl)
theorem dX1_drift_26 : decode cX1_drift 26 = .ok (.ireturn, 1) := dk_172 (dk_at dksX1_drift_1 4 rfl rfl)
theorem dX1_drift_27 : decode cX1_drift 27 = .ok (.aload_n 0, 1) := dk_42 (dk_at dksX1_drift_1 5 rfl rfl)
theorem dX1_drift_28 : decode cX1_drift 28 = .ok (.getfield 12, 3) := dk_180 0 12 (dk_at dksX1_drift_1 6 rfl rfl)
theorem dX1_drift_31 : decode cX1_drift 31 = .ok (.getfield 118, 3) := dk_180 0 118 (dk_at dksX1_drift_1 9 rfl rfl)
theorem dX1_drift_34 : decode cX1_drift 34 = .ok (.iload_n 1, 1) := dk_27 (dk_at dksX1_drift_1 12 rfl rfl)
theorem dX1_drift_35 : decode cX1_drift 35 = .ok (.aaload, 1) := dk_50 (dk_at dksX1_drift_1 13 rfl rfl)
theorem dX1_drift_36 : decode cX1_drift 36 = .ok (.iconst 0, 1) := dk_3 (dk_at dksX1_drift_1 14 rfl rfl)
theorem dX1_drift_37 : decode cX1_drift 37 = .ok (.iload_n 2, 1) := dk_28 (dk_at dksX1_drift_1 15 rfl rfl)
theorem dX1_drift_38 : decode cX1_drift 38 = .ok (.iastore, 1) := dk_79 (dk_at dksX1_drift_1 16 rfl rfl)
theorem dX1_drift_39 : decode cX1_drift 39 = .ok (.aload_n 0, 1) := dk_42 (dk_at dksX1_drift_1 17 rfl rfl)
theorem dX1_drift_40 : decode cX1_drift 40 = .ok (.getfield 12, 3) := dk_180 0 12 (dk_at dksX1_drift_1 18 rfl rfl)
theorem dX1_drift_43 : decode cX1_drift 43 = .ok (.getfield 118, 3) := dk_180 0 118 (dk_at dksX1_drift_1 21 rfl rfl)
theorem dX1_drift_46 : decode cX1_drift 46 = .ok (.iload_n 1, 1) := dk_27 (dk_at dksX1_drift_2 0 rfl rfl)
theorem dX1_drift_47 : decode cX1_drift 47 = .ok (.aaload, 1) := dk_50 (dk_at dksX1_drift_2 1 rfl rfl)
theorem dX1_drift_48 : decode cX1_drift 48 = .ok (.iconst 1, 1) := dk_4 (dk_at dksX1_drift_2 2 rfl rfl)
theorem dX1_drift_49 : decode cX1_drift 49 = .ok (.iload_n 3, 1) := dk_29 (dk_at dksX1_drift_2 3 rfl rfl)
theorem dX1_drift_50 : decode cX1_drift 50 = .ok (.iastore, 1) := dk_79 (dk_at dksX1_drift_2 4 rfl rfl)
theorem dX1_drift_51 : decode cX1_drift 51 = .ok (.iconst 1, 1) := dk_4 (dk_at dksX1_drift_2 5 rfl rfl)
theorem dX1_drift_52 : decode cX1_drift 52 = .ok (.ireturn, 1) := dk_172 (dk_at dksX1_drift_2 6 rfl rfl)
abbrev cX1_isWind : ByteArray := prog_1_method_4_code
def yX1_isWind : MethodName := ⟨RX1, "isWind", "(I)Z"⟩
def dkwX1_isWind_0 : List UInt8 := [26, 3, 6, 184, 0, 94, 172]
abbrev dktX1_isWind_0 : List UInt8 := dkwX1_isWind_0 ++ []
theorem dksX1_isWind_0 : cX1_isWind.data.toList.drop 0 = dktX1_isWind_0 := by decide +kernel
theorem dX1_isWind_0 : decode cX1_isWind 0 = .ok (.iload_n 0, 1) := dk_26 (dk_at dksX1_isWind_0 0 rfl rfl)
theorem dX1_isWind_1 : decode cX1_isWind 1 = .ok (.iconst 0, 1) := dk_3 (dk_at dksX1_isWind_0 1 rfl rfl)
theorem dX1_isWind_2 : decode cX1_isWind 2 = .ok (.iconst 3, 1) := dk_6 (dk_at dksX1_isWind_0 2 rfl rfl)
theorem dX1_isWind_3 : decode cX1_isWind 3 = .ok (.invokestatic 94, 3) := dk_184 0 94 (dk_at dksX1_isWind_0 3 rfl rfl)
theorem dX1_isWind_6 : decode cX1_isWind 6 = .ok (.ireturn, 1) := dk_172 (dk_at dksX1_isWind_0 6 rfl rfl)
abbrev cX1_chances : ByteArray := prog_1_method_10_code
def yX1_chances : MethodName := ⟨RX1, "chances", "(IIIII)Z"⟩
def dkwX1_chances_4 : List UInt8 := [184, 0, 124, 4, 172]
abbrev dktX1_chances_4 : List UInt8 := dkwX1_chances_4 ++ []
def dkwX1_chances_3 : List UInt8 := [96, 16, 10, 159, 0, 5, 3, 172, 25, 6, 3, 42, 180, 0, 12, 180, 0, 121, 27, 50, 3, 7]
abbrev dktX1_chances_3 : List UInt8 := dkwX1_chances_3 ++ dktX1_chances_4
def dkwX1_chances_2 : List UInt8 := [16, 10, 184, 0, 94, 154, 0, 5, 3, 172, 132, 7, 1, 167, 255, 231, 28, 29, 96, 21, 4, 96, 21, 5]
abbrev dktX1_chances_2 : List UInt8 := dkwX1_chances_2 ++ dktX1_chances_3
def dkwX1_chances_1 : List UInt8 := [184, 0, 115, 154, 0, 5, 3, 172, 3, 54, 7, 21, 7, 7, 162, 0, 25, 25, 6, 21, 7, 46, 3]
abbrev dktX1_chances_1 : List UInt8 := dkwX1_chances_1 ++ dktX1_chances_2
def dkwX1_chances_0 : List UInt8 := [7, 188, 10, 89, 3, 28, 79, 89, 4, 29, 79, 89, 5, 21, 4, 79, 89, 6, 21, 5, 79, 58, 6, 27]
abbrev dktX1_chances_0 : List UInt8 := dkwX1_chances_0 ++ dktX1_chances_1
theorem dksX1_chances_0 : cX1_chances.data.toList.drop 0 = dktX1_chances_0 := by decide +kernel
theorem dksX1_chances_1 : cX1_chances.data.toList.drop 24 = dktX1_chances_1 := dk_seg dksX1_chances_0 24 rfl rfl
theorem dksX1_chances_2 : cX1_chances.data.toList.drop 47 = dktX1_chances_2 := dk_seg dksX1_chances_1 23 rfl rfl
theorem dksX1_chances_3 : cX1_chances.data.toList.drop 71 = dktX1_chances_3 := dk_seg dksX1_chances_2 24 rfl rfl
theorem dksX1_chances_4 : cX1_chances.data.toList.drop 93 = dktX1_chances_4 := dk_seg dksX1_chances_3 22 rfl rfl
theorem dX1_chances_0 : decode cX1_chances 0 = .ok (.iconst 4, 1) := dk_7 (dk_at dksX1_chances_0 0 rfl rfl)
theorem dX1_chances_1 : decode cX1_chances 1 = .ok (.newarray .int, 2) := dk_188_10 (dk_at dksX1_chances_0 1 rfl rfl)
theorem dX1_chances_3 : decode cX1_chances 3 = .ok (.dup, 1) := dk_89 (dk_at dksX1_chances_0 3 rfl rfl)
theorem dX1_chances_4 : decode cX1_chances 4 = .ok (.iconst 0, 1) := dk_3 (dk_at dksX1_chances_0 4 rfl rfl)
theorem dX1_chances_5 : decode cX1_chances 5 = .ok (.iload_n 2, 1) := dk_28 (dk_at dksX1_chances_0 5 rfl rfl)
theorem dX1_chances_6 : decode cX1_chances 6 = .ok (.iastore, 1) := dk_79 (dk_at dksX1_chances_0 6 rfl rfl)
theorem dX1_chances_7 : decode cX1_chances 7 = .ok (.dup, 1) := dk_89 (dk_at dksX1_chances_0 7 rfl rfl)
theorem dX1_chances_8 : decode cX1_chances 8 = .ok (.iconst 1, 1) := dk_4 (dk_at dksX1_chances_0 8 rfl rfl)
theorem dX1_chances_9 : decode cX1_chances 9 = .ok (.iload_n 3, 1) := dk_29 (dk_at dksX1_chances_0 9 rfl rfl)
theorem dX1_chances_10 : decode cX1_chances 10 = .ok (.iastore, 1) := dk_79 (dk_at dksX1_chances_0 10 rfl rfl)
theorem dX1_chances_11 : decode cX1_chances 11 = .ok (.dup, 1) := dk_89 (dk_at dksX1_chances_0 11 rfl rfl)
theorem dX1_chances_12 : decode cX1_chances 12 = .ok (.iconst 2, 1) := dk_5 (dk_at dksX1_chances_0 12 rfl rfl)
theorem dX1_chances_13 : decode cX1_chances 13 = .ok (.iload 4, 2) := dk_21 4 (dk_at dksX1_chances_0 13 rfl rfl)
theorem dX1_chances_15 : decode cX1_chances 15 = .ok (.iastore, 1) := dk_79 (dk_at dksX1_chances_0 15 rfl rfl)
theorem dX1_chances_16 : decode cX1_chances 16 = .ok (.dup, 1) := dk_89 (dk_at dksX1_chances_0 16 rfl rfl)
theorem dX1_chances_17 : decode cX1_chances 17 = .ok (.iconst 3, 1) := dk_6 (dk_at dksX1_chances_0 17 rfl rfl)
theorem dX1_chances_18 : decode cX1_chances 18 = .ok (.iload 5, 2) := dk_21 5 (dk_at dksX1_chances_0 18 rfl rfl)
theorem dX1_chances_20 : decode cX1_chances 20 = .ok (.iastore, 1) := dk_79 (dk_at dksX1_chances_0 20 rfl rfl)
theorem dX1_chances_21 : decode cX1_chances 21 = .ok (.astore 6, 2) := dk_58 6 (dk_at dksX1_chances_0 21 rfl rfl)
theorem dX1_chances_23 : decode cX1_chances 23 = .ok (.iload_n 1, 1) := dk_27 (dk_at dksX1_chances_0 23 rfl rfl)
theorem dX1_chances_24 : decode cX1_chances 24 = .ok (.invokestatic 115, 3) := dk_184 0 115 (dk_at dksX1_chances_1 0 rfl rfl)
theorem dX1_chances_27 : decode cX1_chances 27 = .ok (.ifCond .ne 5, 3) := dk_154 0 5 (dk_at dksX1_chances_1 3 rfl rfl)
theorem dX1_chances_30 : decode cX1_chances 30 = .ok (.iconst 0, 1) := dk_3 (dk_at dksX1_chances_1 6 rfl rfl)
theorem dX1_chances_31 : decode cX1_chances 31 = .ok (.ireturn, 1) := dk_172 (dk_at dksX1_chances_1 7 rfl rfl)
theorem dX1_chances_32 : decode cX1_chances 32 = .ok (.iconst 0, 1) := dk_3 (dk_at dksX1_chances_1 8 rfl rfl)
theorem dX1_chances_33 : decode cX1_chances 33 = .ok (.istore 7, 2) := dk_54 7 (dk_at dksX1_chances_1 9 rfl rfl)
theorem dX1_chances_35 : decode cX1_chances 35 = .ok (.iload 7, 2) := dk_21 7 (dk_at dksX1_chances_1 11 rfl rfl)
theorem dX1_chances_37 : decode cX1_chances 37 = .ok (.iconst 4, 1) := dk_7 (dk_at dksX1_chances_1 13 rfl rfl)
theorem dX1_chances_38 : decode cX1_chances 38 = .ok (.if_icmp .ge 25, 3) := dk_162 0 25 (dk_at dksX1_chances_1 14 rfl rfl)
theorem dX1_chances_41 : decode cX1_chances 41 = .ok (.aload 6, 2) := dk_25 6 (dk_at dksX1_chances_1 17 rfl rfl)
theorem dX1_chances_43 : decode cX1_chances 43 = .ok (.iload 7, 2) := dk_21 7 (dk_at dksX1_chances_1 19 rfl rfl)
theorem dX1_chances_45 : decode cX1_chances 45 = .ok (.iaload, 1) := dk_46 (dk_at dksX1_chances_1 21 rfl rfl)
theorem dX1_chances_46 : decode cX1_chances 46 = .ok (.iconst 0, 1) := dk_3 (dk_at dksX1_chances_1 22 rfl rfl)
theorem dX1_chances_47 : decode cX1_chances 47 = .ok (.bipush 10, 2) := dk_16 10 (dk_at dksX1_chances_2 0 rfl rfl)
theorem dX1_chances_49 : decode cX1_chances 49 = .ok (.invokestatic 94, 3) := dk_184 0 94 (dk_at dksX1_chances_2 2 rfl rfl)
theorem dX1_chances_52 : decode cX1_chances 52 = .ok (.ifCond .ne 5, 3) := dk_154 0 5 (dk_at dksX1_chances_2 5 rfl rfl)
theorem dX1_chances_55 : decode cX1_chances 55 = .ok (.iconst 0, 1) := dk_3 (dk_at dksX1_chances_2 8 rfl rfl)
theorem dX1_chances_56 : decode cX1_chances 56 = .ok (.ireturn, 1) := dk_172 (dk_at dksX1_chances_2 9 rfl rfl)
theorem dX1_chances_57 : decode cX1_chances 57 = .ok (.iinc 7 1, 3) := dk_132 7 1 (dk_at dksX1_chances_2 10 rfl rfl)
theorem dX1_chances_60 : decode cX1_chances 60 = .ok (.goto (-25), 3) := dk_167 255 231 (dk_at dksX1_chances_2 13 rfl rfl)
theorem dX1_chances_63 : decode cX1_chances 63 = .ok (.iload_n 2, 1) := dk_28 (dk_at dksX1_chances_2 16 rfl rfl)
theorem dX1_chances_64 : decode cX1_chances 64 = .ok (.iload_n 3, 1) := dk_29 (dk_at dksX1_chances_2 17 rfl rfl)
theorem dX1_chances_65 : decode cX1_chances 65 = .ok (.iadd, 1) := dk_96 (dk_at dksX1_chances_2 18 rfl rfl)
theorem dX1_chances_66 : decode cX1_chances 66 = .ok (.iload 4, 2) := dk_21 4 (dk_at dksX1_chances_2 19 rfl rfl)
theorem dX1_chances_68 : decode cX1_chances 68 = .ok (.iadd, 1) := dk_96 (dk_at dksX1_chances_2 21 rfl rfl)
theorem dX1_chances_69 : decode cX1_chances 69 = .ok (.iload 5, 2) := dk_21 5 (dk_at dksX1_chances_2 22 rfl rfl)
theorem dX1_chances_71 : decode cX1_chances 71 = .ok (.iadd, 1) := dk_96 (dk_at dksX1_chances_3 0 rfl rfl)
theorem dX1_chances_72 : decode cX1_chances 72 = .ok (.bipush 10, 2) := dk_16 10 (dk_at dksX1_chances_3 1 rfl rfl)
theorem dX1_chances_74 : decode cX1_chances 74 = .ok (.if_icmp .eq 5, 3) := dk_159 0 5 (dk_at dksX1_chances_3 3 rfl rfl)
theorem dX1_chances_77 : decode cX1_chances 77 = .ok (.iconst 0, 1) := dk_3 (dk_at dksX1_chances_3 6 rfl rfl)
theorem dX1_chances_78 : decode cX1_chances 78 = .ok (.ireturn, 1) := dk_172 (dk_at dksX1_chances_3 7 rfl rfl)
theorem dX1_chances_79 : decode cX1_chances 79 = .ok (.aload 6, 2) := dk_25 6 (dk_at dksX1_chances_3 8 rfl rfl)
theorem dX1_chances_81 : decode cX1_chances 81 = .ok (.iconst 0, 1) := dk_3 (dk_at dksX1_chances_3 10 rfl rfl)
theorem dX1_chances_82 : decode cX1_chances 82 = .ok (.aload_n 0, 1) := dk_42 (dk_at dksX1_chances_3 11 rfl rfl)
theorem dX1_chances_83 : decode cX1_chances 83 = .ok (.getfield 12, 3) := dk_180 0 12 (dk_at dksX1_chances_3 12 rfl rfl)
theorem dX1_chances_86 : decode cX1_chances 86 = .ok (.getfield 121, 3) := dk_180 0 121 (dk_at dksX1_chances_3 15 rfl rfl)
theorem dX1_chances_89 : decode cX1_chances 89 = .ok (.iload_n 1, 1) := dk_27 (dk_at dksX1_chances_3 18 rfl rfl)
theorem dX1_chances_90 : decode cX1_chances 90 = .ok (.aaload, 1) := dk_50 (dk_at dksX1_chances_3 19 rfl rfl)
theorem dX1_chances_91 : decode cX1_chances 91 = .ok (.iconst 0, 1) := dk_3 (dk_at dksX1_chances_3 20 rfl rfl)
theorem dX1_chances_92 : decode cX1_chances 92 = .ok (.iconst 4, 1) := dk_7 (dk_at dksX1_chances_3 21 rfl rfl)
theorem dX1_chances_93 : decode cX1_chances 93 = .ok (.invokestatic 124, 3) := dk_184 0 124 (dk_at dksX1_chances_4 0 rfl rfl)
theorem dX1_chances_96 : decode cX1_chances 96 = .ok (.iconst 1, 1) := dk_4 (dk_at dksX1_chances_4 3 rfl rfl)
theorem dX1_chances_97 : decode cX1_chances 97 = .ok (.ireturn, 1) := dk_172 (dk_at dksX1_chances_4 4 rfl rfl)
abbrev cX1_ship : ByteArray := prog_1_method_11_code
def yX1_ship : MethodName := ⟨RX1, "ship", "(III)Z"⟩
def dkwX1_ship_3 : List UInt8 := [3, 7, 184, 0, 124, 4, 172]
abbrev dktX1_ship_3 : List UInt8 := dkwX1_ship_3 ++ []
def dkwX1_ship_2 : List UInt8 := [29, 79, 89, 5, 3, 79, 89, 6, 3, 79, 58, 4, 25, 4, 3, 42, 180, 0, 12, 180, 0, 130, 27, 50]
abbrev dktX1_ship_2 : List UInt8 := dkwX1_ship_2 ++ dktX1_ship_3
def dkwX1_ship_1 : List UInt8 := [154, 0, 15, 27, 4, 160, 0, 8, 28, 2, 159, 0, 5, 3, 172, 7, 188, 10, 89, 3, 28, 79, 89, 4]
abbrev dktX1_ship_1 : List UInt8 := dkwX1_ship_1 ++ dktX1_ship_2
def dkwX1_ship_0 : List UInt8 := [27, 3, 4, 184, 0, 94, 153, 0, 31, 29, 3, 16, 99, 184, 0, 94, 153, 0, 21, 42, 28, 182, 0, 98]
abbrev dktX1_ship_0 : List UInt8 := dkwX1_ship_0 ++ dktX1_ship_1
theorem dksX1_ship_0 : cX1_ship.data.toList.drop 0 = dktX1_ship_0 := by decide +kernel
theorem dksX1_ship_1 : cX1_ship.data.toList.drop 24 = dktX1_ship_1 := dk_seg dksX1_ship_0 24 rfl rfl
theorem dksX1_ship_2 : cX1_ship.data.toList.drop 48 = dktX1_ship_2 := dk_seg dksX1_ship_1 24 rfl rfl
theorem dksX1_ship_3 : cX1_ship.data.toList.drop 72 = dktX1_ship_3 := dk_seg dksX1_ship_2 24 rfl rfl
theorem dX1_ship_0 : decode cX1_ship 0 = .ok (.iload_n 1, 1) := dk_27 (dk_at dksX1_ship_0 0 rfl rfl)
theorem dX1_ship_1 : decode cX1_ship 1 = .ok (.iconst 0, 1) := dk_3 (dk_at dksX1_ship_0 1 rfl rfl)
theorem dX1_ship_2 : decode cX1_ship 2 = .ok (.iconst 1, 1) := dk_4 (dk_at dksX1_ship_0 2 rfl rfl)
theorem dX1_ship_3 : decode cX1_ship 3 = .ok (.invokestatic 94, 3) := dk_184 0 94 (dk_at dksX1_ship_0 3 rfl rfl)
theorem dX1_ship_6 : decode cX1_ship 6 = .ok (.ifCond .eq 31, 3) := dk_153 0 31 (dk_at dksX1_ship_0 6 rfl rfl)
theorem dX1_ship_9 : decode cX1_ship 9 = .ok (.iload_n 3, 1) := dk_29 (dk_at dksX1_ship_0 9 rfl rfl)
theorem dX1_ship_10 : decode cX1_ship 10 = .ok (.iconst 0, 1) := dk_3 (dk_at dksX1_ship_0 10 rfl rfl)
theorem dX1_ship_11 : decode cX1_ship 11 = .ok (.bipush 99, 2) := dk_16 99 (dk_at dksX1_ship_0 11 rfl rfl)
theorem dX1_ship_13 : decode cX1_ship 13 = .ok (.invokestatic 94, 3) := dk_184 0 94 (dk_at dksX1_ship_0 13 rfl rfl)
theorem dX1_ship_16 : decode cX1_ship 16 = .ok (.ifCond .eq 21, 3) := dk_153 0 21 (dk_at dksX1_ship_0 16 rfl rfl)
theorem dX1_ship_19 : decode cX1_ship 19 = .ok (.aload_n 0, 1) := dk_42 (dk_at dksX1_ship_0 19 rfl rfl)
theorem dX1_ship_20 : decode cX1_ship 20 = .ok (.iload_n 2, 1) := dk_28 (dk_at dksX1_ship_0 20 rfl rfl)
theorem dX1_ship_21 : decode cX1_ship 21 = .ok (.invokevirtual 98, 3) := dk_182 0 98 (dk_at dksX1_ship_0 21 rfl rfl)
theorem dX1_ship_24 : decode cX1_ship 24 = .ok (.ifCond .ne 15, 3) := dk_154 0 15 (dk_at dksX1_ship_1 0 rfl rfl)
theorem dX1_ship_27 : decode cX1_ship 27 = .ok (.iload_n 1, 1) := dk_27 (dk_at dksX1_ship_1 3 rfl rfl)
theorem dX1_ship_28 : decode cX1_ship 28 = .ok (.iconst 1, 1) := dk_4 (dk_at dksX1_ship_1 4 rfl rfl)
theorem dX1_ship_29 : decode cX1_ship 29 = .ok (.if_icmp .ne 8, 3) := dk_160 0 8 (dk_at dksX1_ship_1 5 rfl rfl)
theorem dX1_ship_32 : decode cX1_ship 32 = .ok (.iload_n 2, 1) := dk_28 (dk_at dksX1_ship_1 8 rfl rfl)
theorem dX1_ship_33 : decode cX1_ship 33 = .ok (.iconst (-1), 1) := dk_2 (dk_at dksX1_ship_1 9 rfl rfl)
theorem dX1_ship_34 : decode cX1_ship 34 = .ok (.if_icmp .eq 5, 3) := dk_159 0 5 (dk_at dksX1_ship_1 10 rfl rfl)
theorem dX1_ship_37 : decode cX1_ship 37 = .ok (.iconst 0, 1) := dk_3 (dk_at dksX1_ship_1 13 rfl rfl)
theorem dX1_ship_38 : decode cX1_ship 38 = .ok (.ireturn, 1) := dk_172 (dk_at dksX1_ship_1 14 rfl rfl)
theorem dX1_ship_39 : decode cX1_ship 39 = .ok (.iconst 4, 1) := dk_7 (dk_at dksX1_ship_1 15 rfl rfl)
theorem dX1_ship_40 : decode cX1_ship 40 = .ok (.newarray .int, 2) := dk_188_10 (dk_at dksX1_ship_1 16 rfl rfl)
theorem dX1_ship_42 : decode cX1_ship 42 = .ok (.dup, 1) := dk_89 (dk_at dksX1_ship_1 18 rfl rfl)
theorem dX1_ship_43 : decode cX1_ship 43 = .ok (.iconst 0, 1) := dk_3 (dk_at dksX1_ship_1 19 rfl rfl)
theorem dX1_ship_44 : decode cX1_ship 44 = .ok (.iload_n 2, 1) := dk_28 (dk_at dksX1_ship_1 20 rfl rfl)
theorem dX1_ship_45 : decode cX1_ship 45 = .ok (.iastore, 1) := dk_79 (dk_at dksX1_ship_1 21 rfl rfl)
theorem dX1_ship_46 : decode cX1_ship 46 = .ok (.dup, 1) := dk_89 (dk_at dksX1_ship_1 22 rfl rfl)
theorem dX1_ship_47 : decode cX1_ship 47 = .ok (.iconst 1, 1) := dk_4 (dk_at dksX1_ship_1 23 rfl rfl)
theorem dX1_ship_48 : decode cX1_ship 48 = .ok (.iload_n 3, 1) := dk_29 (dk_at dksX1_ship_2 0 rfl rfl)
theorem dX1_ship_49 : decode cX1_ship 49 = .ok (.iastore, 1) := dk_79 (dk_at dksX1_ship_2 1 rfl rfl)
theorem dX1_ship_50 : decode cX1_ship 50 = .ok (.dup, 1) := dk_89 (dk_at dksX1_ship_2 2 rfl rfl)
theorem dX1_ship_51 : decode cX1_ship 51 = .ok (.iconst 2, 1) := dk_5 (dk_at dksX1_ship_2 3 rfl rfl)
theorem dX1_ship_52 : decode cX1_ship 52 = .ok (.iconst 0, 1) := dk_3 (dk_at dksX1_ship_2 4 rfl rfl)
theorem dX1_ship_53 : decode cX1_ship 53 = .ok (.iastore, 1) := dk_79 (dk_at dksX1_ship_2 5 rfl rfl)
theorem dX1_ship_54 : decode cX1_ship 54 = .ok (.dup, 1) := dk_89 (dk_at dksX1_ship_2 6 rfl rfl)
theorem dX1_ship_55 : decode cX1_ship 55 = .ok (.iconst 3, 1) := dk_6 (dk_at dksX1_ship_2 7 rfl rfl)
theorem dX1_ship_56 : decode cX1_ship 56 = .ok (.iconst 0, 1) := dk_3 (dk_at dksX1_ship_2 8 rfl rfl)
theorem dX1_ship_57 : decode cX1_ship 57 = .ok (.iastore, 1) := dk_79 (dk_at dksX1_ship_2 9 rfl rfl)
theorem dX1_ship_58 : decode cX1_ship 58 = .ok (.astore 4, 2) := dk_58 4 (dk_at dksX1_ship_2 10 rfl rfl)
theorem dX1_ship_60 : decode cX1_ship 60 = .ok (.aload 4, 2) := dk_25 4 (dk_at dksX1_ship_2 12 rfl rfl)
theorem dX1_ship_62 : decode cX1_ship 62 = .ok (.iconst 0, 1) := dk_3 (dk_at dksX1_ship_2 14 rfl rfl)
theorem dX1_ship_63 : decode cX1_ship 63 = .ok (.aload_n 0, 1) := dk_42 (dk_at dksX1_ship_2 15 rfl rfl)
theorem dX1_ship_64 : decode cX1_ship 64 = .ok (.getfield 12, 3) := dk_180 0 12 (dk_at dksX1_ship_2 16 rfl rfl)
theorem dX1_ship_67 : decode cX1_ship 67 = .ok (.getfield 130, 3) := dk_180 0 130 (dk_at dksX1_ship_2 19 rfl rfl)
theorem dX1_ship_70 : decode cX1_ship 70 = .ok (.iload_n 1, 1) := dk_27 (dk_at dksX1_ship_2 22 rfl rfl)
theorem dX1_ship_71 : decode cX1_ship 71 = .ok (.aaload, 1) := dk_50 (dk_at dksX1_ship_2 23 rfl rfl)
theorem dX1_ship_72 : decode cX1_ship 72 = .ok (.iconst 0, 1) := dk_3 (dk_at dksX1_ship_3 0 rfl rfl)
theorem dX1_ship_73 : decode cX1_ship 73 = .ok (.iconst 4, 1) := dk_7 (dk_at dksX1_ship_3 1 rfl rfl)
theorem dX1_ship_74 : decode cX1_ship 74 = .ok (.invokestatic 124, 3) := dk_184 0 124 (dk_at dksX1_ship_3 2 rfl rfl)
theorem dX1_ship_77 : decode cX1_ship 77 = .ok (.iconst 1, 1) := dk_4 (dk_at dksX1_ship_3 5 rfl rfl)
theorem dX1_ship_78 : decode cX1_ship 78 = .ok (.ireturn, 1) := dk_172 (dk_at dksX1_ship_3 6 rfl rfl)
abbrev cX1_costs : ByteArray := prog_1_method_12_code
def yX1_costs : MethodName := ⟨RX1, "costs", "(III)Z"⟩
def dkwX1_costs_2 : List UInt8 := [6, 29, 79, 58, 4, 25, 4, 3, 42, 180, 0, 12, 180, 0, 133, 3, 7, 184, 0, 124, 4, 172]
abbrev dktX1_costs_2 : List UInt8 := dkwX1_costs_2 ++ []
def dkwX1_costs_1 : List UInt8 := [184, 0, 94, 154, 0, 5, 3, 172, 7, 188, 10, 89, 3, 27, 79, 89, 4, 28, 79, 89, 5, 3, 79, 89]
abbrev dktX1_costs_1 : List UInt8 := dkwX1_costs_1 ++ dktX1_costs_2
def dkwX1_costs_0 : List UInt8 := [27, 3, 16, 99, 184, 0, 94, 153, 0, 23, 28, 3, 16, 99, 184, 0, 94, 153, 0, 13, 29, 3, 16, 99]
abbrev dktX1_costs_0 : List UInt8 := dkwX1_costs_0 ++ dktX1_costs_1
theorem dksX1_costs_0 : cX1_costs.data.toList.drop 0 = dktX1_costs_0 := by decide +kernel
theorem dksX1_costs_1 : cX1_costs.data.toList.drop 24 = dktX1_costs_1 := dk_seg dksX1_costs_0 24 rfl rfl
theorem dksX1_costs_2 : cX1_costs.data.toList.drop 48 = dktX1_costs_2 := dk_seg dksX1_costs_1 24 rfl rfl
theorem dX1_costs_0 : decode cX1_costs 0 = .ok (.iload_n 1, 1) := dk_27 (dk_at dksX1_costs_0 0 rfl rfl)
theorem dX1_costs_1 : decode cX1_costs 1 = .ok (.iconst 0, 1) := dk_3 (dk_at dksX1_costs_0 1 rfl rfl)
theorem dX1_costs_2 : decode cX1_costs 2 = .ok (.bipush 99, 2) := dk_16 99 (dk_at dksX1_costs_0 2 rfl rfl)
theorem dX1_costs_4 : decode cX1_costs 4 = .ok (.invokestatic 94, 3) := dk_184 0 94 (dk_at dksX1_costs_0 4 rfl rfl)
theorem dX1_costs_7 : decode cX1_costs 7 = .ok (.ifCond .eq 23, 3) := dk_153 0 23 (dk_at dksX1_costs_0 7 rfl rfl)
theorem dX1_costs_10 : decode cX1_costs 10 = .ok (.iload_n 2, 1) := dk_28 (dk_at dksX1_costs_0 10 rfl rfl)
theorem dX1_costs_11 : decode cX1_costs 11 = .ok (.iconst 0, 1) := dk_3 (dk_at dksX1_costs_0 11 rfl rfl)
theorem dX1_costs_12 : decode cX1_costs 12 = .ok (.bipush 99, 2) := dk_16 99 (dk_at dksX1_costs_0 12 rfl rfl)
theorem dX1_costs_14 : decode cX1_costs 14 = .ok (.invokestatic 94, 3) := dk_184 0 94 (dk_at dksX1_costs_0 14 rfl rfl)
theorem dX1_costs_17 : decode cX1_costs 17 = .ok (.ifCond .eq 13, 3) := dk_153 0 13 (dk_at dksX1_costs_0 17 rfl rfl)
theorem dX1_costs_20 : decode cX1_costs 20 = .ok (.iload_n 3, 1) := dk_29 (dk_at dksX1_costs_0 20 rfl rfl)
theorem dX1_costs_21 : decode cX1_costs 21 = .ok (.iconst 0, 1) := dk_3 (dk_at dksX1_costs_0 21 rfl rfl)
theorem dX1_costs_22 : decode cX1_costs 22 = .ok (.bipush 99, 2) := dk_16 99 (dk_at dksX1_costs_0 22 rfl rfl)
theorem dX1_costs_24 : decode cX1_costs 24 = .ok (.invokestatic 94, 3) := dk_184 0 94 (dk_at dksX1_costs_1 0 rfl rfl)
theorem dX1_costs_27 : decode cX1_costs 27 = .ok (.ifCond .ne 5, 3) := dk_154 0 5 (dk_at dksX1_costs_1 3 rfl rfl)
theorem dX1_costs_30 : decode cX1_costs 30 = .ok (.iconst 0, 1) := dk_3 (dk_at dksX1_costs_1 6 rfl rfl)
theorem dX1_costs_31 : decode cX1_costs 31 = .ok (.ireturn, 1) := dk_172 (dk_at dksX1_costs_1 7 rfl rfl)
theorem dX1_costs_32 : decode cX1_costs 32 = .ok (.iconst 4, 1) := dk_7 (dk_at dksX1_costs_1 8 rfl rfl)
theorem dX1_costs_33 : decode cX1_costs 33 = .ok (.newarray .int, 2) := dk_188_10 (dk_at dksX1_costs_1 9 rfl rfl)
theorem dX1_costs_35 : decode cX1_costs 35 = .ok (.dup, 1) := dk_89 (dk_at dksX1_costs_1 11 rfl rfl)
theorem dX1_costs_36 : decode cX1_costs 36 = .ok (.iconst 0, 1) := dk_3 (dk_at dksX1_costs_1 12 rfl rfl)
theorem dX1_costs_37 : decode cX1_costs 37 = .ok (.iload_n 1, 1) := dk_27 (dk_at dksX1_costs_1 13 rfl rfl)
theorem dX1_costs_38 : decode cX1_costs 38 = .ok (.iastore, 1) := dk_79 (dk_at dksX1_costs_1 14 rfl rfl)
theorem dX1_costs_39 : decode cX1_costs 39 = .ok (.dup, 1) := dk_89 (dk_at dksX1_costs_1 15 rfl rfl)
theorem dX1_costs_40 : decode cX1_costs 40 = .ok (.iconst 1, 1) := dk_4 (dk_at dksX1_costs_1 16 rfl rfl)
theorem dX1_costs_41 : decode cX1_costs 41 = .ok (.iload_n 2, 1) := dk_28 (dk_at dksX1_costs_1 17 rfl rfl)
theorem dX1_costs_42 : decode cX1_costs 42 = .ok (.iastore, 1) := dk_79 (dk_at dksX1_costs_1 18 rfl rfl)
theorem dX1_costs_43 : decode cX1_costs 43 = .ok (.dup, 1) := dk_89 (dk_at dksX1_costs_1 19 rfl rfl)
theorem dX1_costs_44 : decode cX1_costs 44 = .ok (.iconst 2, 1) := dk_5 (dk_at dksX1_costs_1 20 rfl rfl)
theorem dX1_costs_45 : decode cX1_costs 45 = .ok (.iconst 0, 1) := dk_3 (dk_at dksX1_costs_1 21 rfl rfl)
theorem dX1_costs_46 : decode cX1_costs 46 = .ok (.iastore, 1) := dk_79 (dk_at dksX1_costs_1 22 rfl rfl)
theorem dX1_costs_47 : decode cX1_costs 47 = .ok (.dup, 1) := dk_89 (dk_at dksX1_costs_1 23 rfl rfl)
theorem dX1_costs_48 : decode cX1_costs 48 = .ok (.iconst 3, 1) := dk_6 (dk_at dksX1_costs_2 0 rfl rfl)
theorem dX1_costs_49 : decode cX1_costs 49 = .ok (.iload_n 3, 1) := dk_29 (dk_at dksX1_costs_2 1 rfl rfl)
theorem dX1_costs_50 : decode cX1_costs 50 = .ok (.iastore, 1) := dk_79 (dk_at dksX1_costs_2 2 rfl rfl)
theorem dX1_costs_51 : decode cX1_costs 51 = .ok (.astore 4, 2) := dk_58 4 (dk_at dksX1_costs_2 3 rfl rfl)
theorem dX1_costs_53 : decode cX1_costs 53 = .ok (.aload 4, 2) := dk_25 4 (dk_at dksX1_costs_2 5 rfl rfl)
theorem dX1_costs_55 : decode cX1_costs 55 = .ok (.iconst 0, 1) := dk_3 (dk_at dksX1_costs_2 7 rfl rfl)
theorem dX1_costs_56 : decode cX1_costs 56 = .ok (.aload_n 0, 1) := dk_42 (dk_at dksX1_costs_2 8 rfl rfl)
theorem dX1_costs_57 : decode cX1_costs 57 = .ok (.getfield 12, 3) := dk_180 0 12 (dk_at dksX1_costs_2 9 rfl rfl)
theorem dX1_costs_60 : decode cX1_costs 60 = .ok (.getfield 133, 3) := dk_180 0 133 (dk_at dksX1_costs_2 12 rfl rfl)
theorem dX1_costs_63 : decode cX1_costs 63 = .ok (.iconst 0, 1) := dk_3 (dk_at dksX1_costs_2 15 rfl rfl)
theorem dX1_costs_64 : decode cX1_costs 64 = .ok (.iconst 4, 1) := dk_7 (dk_at dksX1_costs_2 16 rfl rfl)
theorem dX1_costs_65 : decode cX1_costs 65 = .ok (.invokestatic 124, 3) := dk_184 0 124 (dk_at dksX1_costs_2 17 rfl rfl)
theorem dX1_costs_68 : decode cX1_costs 68 = .ok (.iconst 1, 1) := dk_4 (dk_at dksX1_costs_2 20 rfl rfl)
theorem dX1_costs_69 : decode cX1_costs 69 = .ok (.ireturn, 1) := dk_172 (dk_at dksX1_costs_2 21 rfl rfl)
abbrev cX1_wind : ByteArray := prog_1_method_13_code
def yX1_wind : MethodName := ⟨RX1, "wind", "(I)Z"⟩
def dkwX1_wind_0 : List UInt8 := [27, 184, 0, 115, 154, 0, 5, 3, 172, 42, 180, 0, 12, 180, 0, 112, 4, 27, 79, 4, 172]
abbrev dktX1_wind_0 : List UInt8 := dkwX1_wind_0 ++ []
theorem dksX1_wind_0 : cX1_wind.data.toList.drop 0 = dktX1_wind_0 := by decide +kernel
theorem dX1_wind_0 : decode cX1_wind 0 = .ok (.iload_n 1, 1) := dk_27 (dk_at dksX1_wind_0 0 rfl rfl)
theorem dX1_wind_1 : decode cX1_wind 1 = .ok (.invokestatic 115, 3) := dk_184 0 115 (dk_at dksX1_wind_0 1 rfl rfl)
theorem dX1_wind_4 : decode cX1_wind 4 = .ok (.ifCond .ne 5, 3) := dk_154 0 5 (dk_at dksX1_wind_0 4 rfl rfl)
theorem dX1_wind_7 : decode cX1_wind 7 = .ok (.iconst 0, 1) := dk_3 (dk_at dksX1_wind_0 7 rfl rfl)
theorem dX1_wind_8 : decode cX1_wind 8 = .ok (.ireturn, 1) := dk_172 (dk_at dksX1_wind_0 8 rfl rfl)
theorem dX1_wind_9 : decode cX1_wind 9 = .ok (.aload_n 0, 1) := dk_42 (dk_at dksX1_wind_0 9 rfl rfl)
theorem dX1_wind_10 : decode cX1_wind 10 = .ok (.getfield 12, 3) := dk_180 0 12 (dk_at dksX1_wind_0 10 rfl rfl)
theorem dX1_wind_13 : decode cX1_wind 13 = .ok (.getfield 112, 3) := dk_180 0 112 (dk_at dksX1_wind_0 13 rfl rfl)
theorem dX1_wind_16 : decode cX1_wind 16 = .ok (.iconst 1, 1) := dk_4 (dk_at dksX1_wind_0 16 rfl rfl)
theorem dX1_wind_17 : decode cX1_wind 17 = .ok (.iload_n 1, 1) := dk_27 (dk_at dksX1_wind_0 17 rfl rfl)
theorem dX1_wind_18 : decode cX1_wind 18 = .ok (.iastore, 1) := dk_79 (dk_at dksX1_wind_0 18 rfl rfl)
theorem dX1_wind_19 : decode cX1_wind 19 = .ok (.iconst 1, 1) := dk_4 (dk_at dksX1_wind_0 19 rfl rfl)
theorem dX1_wind_20 : decode cX1_wind 20 = .ok (.ireturn, 1) := dk_172 (dk_at dksX1_wind_0 20 rfl rfl)
abbrev cX1_feed : ByteArray := prog_1_method_15_code
def yX1_feed : MethodName := ⟨RX1, "feed", "(IIIII)I"⟩
def dkwX1_feed_2 : List UInt8 := [172]
abbrev dktX1_feed_2 : List UInt8 := dkwX1_feed_2 ++ []
def dkwX1_feed_1 : List UInt8 := [182, 0, 139, 42, 29, 182, 0, 139, 42, 21, 4, 182, 0, 139, 42, 21, 5, 182, 0, 139, 42, 180, 0, 136]
abbrev dktX1_feed_1 : List UInt8 := dkwX1_feed_1 ++ dktX1_feed_2
def dkwX1_feed_0 : List UInt8 := [42, 180, 0, 136, 16, 20, 96, 17, 1, 44, 164, 0, 5, 2, 172, 42, 27, 182, 0, 139, 42, 28]
abbrev dktX1_feed_0 : List UInt8 := dkwX1_feed_0 ++ dktX1_feed_1
theorem dksX1_feed_0 : cX1_feed.data.toList.drop 0 = dktX1_feed_0 := by decide +kernel
theorem dksX1_feed_1 : cX1_feed.data.toList.drop 22 = dktX1_feed_1 := dk_seg dksX1_feed_0 22 rfl rfl
theorem dksX1_feed_2 : cX1_feed.data.toList.drop 46 = dktX1_feed_2 := dk_seg dksX1_feed_1 24 rfl rfl
theorem dX1_feed_0 : decode cX1_feed 0 = .ok (.aload_n 0, 1) := dk_42 (dk_at dksX1_feed_0 0 rfl rfl)
theorem dX1_feed_1 : decode cX1_feed 1 = .ok (.getfield 136, 3) := dk_180 0 136 (dk_at dksX1_feed_0 1 rfl rfl)
theorem dX1_feed_4 : decode cX1_feed 4 = .ok (.bipush 20, 2) := dk_16 20 (dk_at dksX1_feed_0 4 rfl rfl)
theorem dX1_feed_6 : decode cX1_feed 6 = .ok (.iadd, 1) := dk_96 (dk_at dksX1_feed_0 6 rfl rfl)
theorem dX1_feed_7 : decode cX1_feed 7 = .ok (.sipush 300, 3) := dk_17 1 44 (dk_at dksX1_feed_0 7 rfl rfl)
theorem dX1_feed_10 : decode cX1_feed 10 = .ok (.if_icmp .le 5, 3) := dk_164 0 5 (dk_at dksX1_feed_0 10 rfl rfl)
theorem dX1_feed_13 : decode cX1_feed 13 = .ok (.iconst (-1), 1) := dk_2 (dk_at dksX1_feed_0 13 rfl rfl)
theorem dX1_feed_14 : decode cX1_feed 14 = .ok (.ireturn, 1) := dk_172 (dk_at dksX1_feed_0 14 rfl rfl)
theorem dX1_feed_15 : decode cX1_feed 15 = .ok (.aload_n 0, 1) := dk_42 (dk_at dksX1_feed_0 15 rfl rfl)
theorem dX1_feed_16 : decode cX1_feed 16 = .ok (.iload_n 1, 1) := dk_27 (dk_at dksX1_feed_0 16 rfl rfl)
theorem dX1_feed_17 : decode cX1_feed 17 = .ok (.invokevirtual 139, 3) := dk_182 0 139 (dk_at dksX1_feed_0 17 rfl rfl)
theorem dX1_feed_20 : decode cX1_feed 20 = .ok (.aload_n 0, 1) := dk_42 (dk_at dksX1_feed_0 20 rfl rfl)
theorem dX1_feed_21 : decode cX1_feed 21 = .ok (.iload_n 2, 1) := dk_28 (dk_at dksX1_feed_0 21 rfl rfl)
theorem dX1_feed_22 : decode cX1_feed 22 = .ok (.invokevirtual 139, 3) := dk_182 0 139 (dk_at dksX1_feed_1 0 rfl rfl)
theorem dX1_feed_25 : decode cX1_feed 25 = .ok (.aload_n 0, 1) := dk_42 (dk_at dksX1_feed_1 3 rfl rfl)
theorem dX1_feed_26 : decode cX1_feed 26 = .ok (.iload_n 3, 1) := dk_29 (dk_at dksX1_feed_1 4 rfl rfl)
theorem dX1_feed_27 : decode cX1_feed 27 = .ok (.invokevirtual 139, 3) := dk_182 0 139 (dk_at dksX1_feed_1 5 rfl rfl)
theorem dX1_feed_30 : decode cX1_feed 30 = .ok (.aload_n 0, 1) := dk_42 (dk_at dksX1_feed_1 8 rfl rfl)
theorem dX1_feed_31 : decode cX1_feed 31 = .ok (.iload 4, 2) := dk_21 4 (dk_at dksX1_feed_1 9 rfl rfl)
theorem dX1_feed_33 : decode cX1_feed 33 = .ok (.invokevirtual 139, 3) := dk_182 0 139 (dk_at dksX1_feed_1 11 rfl rfl)
theorem dX1_feed_36 : decode cX1_feed 36 = .ok (.aload_n 0, 1) := dk_42 (dk_at dksX1_feed_1 14 rfl rfl)
theorem dX1_feed_37 : decode cX1_feed 37 = .ok (.iload 5, 2) := dk_21 5 (dk_at dksX1_feed_1 15 rfl rfl)
theorem dX1_feed_39 : decode cX1_feed 39 = .ok (.invokevirtual 139, 3) := dk_182 0 139 (dk_at dksX1_feed_1 17 rfl rfl)
theorem dX1_feed_42 : decode cX1_feed 42 = .ok (.aload_n 0, 1) := dk_42 (dk_at dksX1_feed_1 20 rfl rfl)
theorem dX1_feed_43 : decode cX1_feed 43 = .ok (.getfield 136, 3) := dk_180 0 136 (dk_at dksX1_feed_1 21 rfl rfl)
theorem dX1_feed_46 : decode cX1_feed 46 = .ok (.ireturn, 1) := dk_172 (dk_at dksX1_feed_2 0 rfl rfl)
abbrev cX1_put : ByteArray := prog_1_method_14_code
def yX1_put : MethodName := ⟨RX1, "put", "(I)V"⟩
def dkwX1_put_1 : List UInt8 := [180, 0, 136, 4, 96, 181, 0, 136, 132, 2, 248, 167, 255, 226, 177]
abbrev dktX1_put_1 : List UInt8 := dkwX1_put_1 ++ []
def dkwX1_put_0 : List UInt8 := [16, 24, 61, 28, 155, 0, 32, 42, 180, 0, 19, 42, 180, 0, 136, 27, 28, 122, 145, 84, 42, 89]
abbrev dktX1_put_0 : List UInt8 := dkwX1_put_0 ++ dktX1_put_1
theorem dksX1_put_0 : cX1_put.data.toList.drop 0 = dktX1_put_0 := by decide +kernel
theorem dksX1_put_1 : cX1_put.data.toList.drop 22 = dktX1_put_1 := dk_seg dksX1_put_0 22 rfl rfl
theorem dX1_put_0 : decode cX1_put 0 = .ok (.bipush 24, 2) := dk_16 24 (dk_at dksX1_put_0 0 rfl rfl)
theorem dX1_put_2 : decode cX1_put 2 = .ok (.istore_n 2, 1) := dk_61 (dk_at dksX1_put_0 2 rfl rfl)
theorem dX1_put_3 : decode cX1_put 3 = .ok (.iload_n 2, 1) := dk_28 (dk_at dksX1_put_0 3 rfl rfl)
theorem dX1_put_4 : decode cX1_put 4 = .ok (.ifCond .lt 32, 3) := dk_155 0 32 (dk_at dksX1_put_0 4 rfl rfl)
theorem dX1_put_7 : decode cX1_put 7 = .ok (.aload_n 0, 1) := dk_42 (dk_at dksX1_put_0 7 rfl rfl)
theorem dX1_put_8 : decode cX1_put 8 = .ok (.getfield 19, 3) := dk_180 0 19 (dk_at dksX1_put_0 8 rfl rfl)
theorem dX1_put_11 : decode cX1_put 11 = .ok (.aload_n 0, 1) := dk_42 (dk_at dksX1_put_0 11 rfl rfl)
theorem dX1_put_12 : decode cX1_put 12 = .ok (.getfield 136, 3) := dk_180 0 136 (dk_at dksX1_put_0 12 rfl rfl)
theorem dX1_put_15 : decode cX1_put 15 = .ok (.iload_n 1, 1) := dk_27 (dk_at dksX1_put_0 15 rfl rfl)
theorem dX1_put_16 : decode cX1_put 16 = .ok (.iload_n 2, 1) := dk_28 (dk_at dksX1_put_0 16 rfl rfl)
theorem dX1_put_17 : decode cX1_put 17 = .ok (.ishr, 1) := dk_122 (dk_at dksX1_put_0 17 rfl rfl)
theorem dX1_put_18 : decode cX1_put 18 = .ok (.i2b, 1) := dk_145 (dk_at dksX1_put_0 18 rfl rfl)
theorem dX1_put_19 : decode cX1_put 19 = .ok (.bastore, 1) := dk_84 (dk_at dksX1_put_0 19 rfl rfl)
theorem dX1_put_20 : decode cX1_put 20 = .ok (.aload_n 0, 1) := dk_42 (dk_at dksX1_put_0 20 rfl rfl)
theorem dX1_put_21 : decode cX1_put 21 = .ok (.dup, 1) := dk_89 (dk_at dksX1_put_0 21 rfl rfl)
theorem dX1_put_22 : decode cX1_put 22 = .ok (.getfield 136, 3) := dk_180 0 136 (dk_at dksX1_put_1 0 rfl rfl)
theorem dX1_put_25 : decode cX1_put 25 = .ok (.iconst 1, 1) := dk_4 (dk_at dksX1_put_1 3 rfl rfl)
theorem dX1_put_26 : decode cX1_put 26 = .ok (.iadd, 1) := dk_96 (dk_at dksX1_put_1 4 rfl rfl)
theorem dX1_put_27 : decode cX1_put 27 = .ok (.putfield 136, 3) := dk_181 0 136 (dk_at dksX1_put_1 5 rfl rfl)
theorem dX1_put_30 : decode cX1_put 30 = .ok (.iinc 2 (-8), 3) := dk_132 2 248 (dk_at dksX1_put_1 8 rfl rfl)
theorem dX1_put_33 : decode cX1_put 33 = .ok (.goto (-30), 3) := dk_167 255 226 (dk_at dksX1_put_1 11 rfl rfl)
theorem dX1_put_36 : decode cX1_put 36 = .ok (.return_, 1) := dk_177 (dk_at dksX1_put_1 14 rfl rfl)
abbrev cX1_end : ByteArray := prog_1_method_16_code
def yX1_end : MethodName := ⟨RX1, "end", "(I)I"⟩
def dkwX1_end_0 : List UInt8 := [27, 3, 42, 180, 0, 136, 184, 0, 94, 154, 0, 5, 2, 172, 42, 27, 181, 0, 136, 27, 172]
abbrev dktX1_end_0 : List UInt8 := dkwX1_end_0 ++ []
theorem dksX1_end_0 : cX1_end.data.toList.drop 0 = dktX1_end_0 := by decide +kernel
theorem dX1_end_0 : decode cX1_end 0 = .ok (.iload_n 1, 1) := dk_27 (dk_at dksX1_end_0 0 rfl rfl)
theorem dX1_end_1 : decode cX1_end 1 = .ok (.iconst 0, 1) := dk_3 (dk_at dksX1_end_0 1 rfl rfl)
theorem dX1_end_2 : decode cX1_end 2 = .ok (.aload_n 0, 1) := dk_42 (dk_at dksX1_end_0 2 rfl rfl)
theorem dX1_end_3 : decode cX1_end 3 = .ok (.getfield 136, 3) := dk_180 0 136 (dk_at dksX1_end_0 3 rfl rfl)
theorem dX1_end_6 : decode cX1_end 6 = .ok (.invokestatic 94, 3) := dk_184 0 94 (dk_at dksX1_end_0 6 rfl rfl)
theorem dX1_end_9 : decode cX1_end 9 = .ok (.ifCond .ne 5, 3) := dk_154 0 5 (dk_at dksX1_end_0 9 rfl rfl)
theorem dX1_end_12 : decode cX1_end 12 = .ok (.iconst (-1), 1) := dk_2 (dk_at dksX1_end_0 12 rfl rfl)
theorem dX1_end_13 : decode cX1_end 13 = .ok (.ireturn, 1) := dk_172 (dk_at dksX1_end_0 13 rfl rfl)
theorem dX1_end_14 : decode cX1_end 14 = .ok (.aload_n 0, 1) := dk_42 (dk_at dksX1_end_0 14 rfl rfl)
theorem dX1_end_15 : decode cX1_end 15 = .ok (.iload_n 1, 1) := dk_27 (dk_at dksX1_end_0 15 rfl rfl)
theorem dX1_end_16 : decode cX1_end 16 = .ok (.putfield 136, 3) := dk_181 0 136 (dk_at dksX1_end_0 16 rfl rfl)
theorem dX1_end_19 : decode cX1_end 19 = .ok (.iload_n 1, 1) := dk_27 (dk_at dksX1_end_0 19 rfl rfl)
theorem dX1_end_20 : decode cX1_end 20 = .ok (.ireturn, 1) := dk_172 (dk_at dksX1_end_0 20 rfl rfl)
abbrev cX1_text : ByteArray := prog_1_method_17_code
def yX1_text : MethodName := ⟨RX1, "text", "()I"⟩
def dkwX1_text_5 : List UInt8 := [79, 42, 180, 0, 12, 180, 0, 112, 5, 46, 4, 100, 172]
abbrev dktX1_text_5 : List UInt8 := dkwX1_text_5 ++ []
def dkwX1_text_4 : List UInt8 := [29, 172, 58, 4, 42, 3, 181, 0, 136, 25, 4, 191, 42, 180, 0, 12, 180, 0, 112, 5, 92, 46, 4, 96]
abbrev dktX1_text_4 : List UInt8 := dkwX1_text_4 ++ dktX1_text_5
def dkwX1_text_3 : List UInt8 := [77, 42, 44, 180, 0, 158, 181, 0, 23, 42, 44, 180, 0, 159, 181, 0, 27, 2, 62, 42, 3, 181, 0, 136]
abbrev dktX1_text_3 : List UInt8 := dkwX1_text_3 ++ dktX1_text_4
def dkwX1_text_2 : List UInt8 := [187, 0, 147, 89, 42, 180, 0, 19, 27, 183, 0, 149, 182, 0, 152, 83, 42, 3, 181, 0, 136, 167, 0, 39]
abbrev dktX1_text_2 : List UInt8 := dkwX1_text_2 ++ dktX1_text_3
def dkwX1_text_1 : List UInt8 := [181, 0, 23, 42, 2, 181, 0, 27, 42, 180, 0, 12, 180, 0, 143, 42, 180, 0, 12, 180, 0, 112, 5, 46]
abbrev dktX1_text_1 : List UInt8 := dkwX1_text_1 ++ dktX1_text_2
def dkwX1_text_0 : List UInt8 := [42, 180, 0, 12, 180, 0, 112, 5, 46, 7, 160, 0, 5, 2, 172, 42, 180, 0, 136, 60, 42, 3]
abbrev dktX1_text_0 : List UInt8 := dkwX1_text_0 ++ dktX1_text_1
theorem dksX1_text_0 : cX1_text.data.toList.drop 0 = dktX1_text_0 := by decide +kernel
theorem dksX1_text_1 : cX1_text.data.toList.drop 22 = dktX1_text_1 := dk_seg dksX1_text_0 22 rfl rfl
theorem dksX1_text_2 : cX1_text.data.toList.drop 46 = dktX1_text_2 := dk_seg dksX1_text_1 24 rfl rfl
theorem dksX1_text_3 : cX1_text.data.toList.drop 70 = dktX1_text_3 := dk_seg dksX1_text_2 24 rfl rfl
theorem dksX1_text_4 : cX1_text.data.toList.drop 94 = dktX1_text_4 := dk_seg dksX1_text_3 24 rfl rfl
theorem dksX1_text_5 : cX1_text.data.toList.drop 118 = dktX1_text_5 := dk_seg dksX1_text_4 24 rfl rfl
theorem dX1_text_0 : decode cX1_text 0 = .ok (.aload_n 0, 1) := dk_42 (dk_at dksX1_text_0 0 rfl rfl)
theorem dX1_text_1 : decode cX1_text 1 = .ok (.getfield 12, 3) := dk_180 0 12 (dk_at dksX1_text_0 1 rfl rfl)
theorem dX1_text_4 : decode cX1_text 4 = .ok (.getfield 112, 3) := dk_180 0 112 (dk_at dksX1_text_0 4 rfl rfl)
theorem dX1_text_7 : decode cX1_text 7 = .ok (.iconst 2, 1) := dk_5 (dk_at dksX1_text_0 7 rfl rfl)
theorem dX1_text_8 : decode cX1_text 8 = .ok (.iaload, 1) := dk_46 (dk_at dksX1_text_0 8 rfl rfl)
theorem dX1_text_9 : decode cX1_text 9 = .ok (.iconst 4, 1) := dk_7 (dk_at dksX1_text_0 9 rfl rfl)
theorem dX1_text_10 : decode cX1_text 10 = .ok (.if_icmp .ne 5, 3) := dk_160 0 5 (dk_at dksX1_text_0 10 rfl rfl)
theorem dX1_text_13 : decode cX1_text 13 = .ok (.iconst (-1), 1) := dk_2 (dk_at dksX1_text_0 13 rfl rfl)
theorem dX1_text_14 : decode cX1_text 14 = .ok (.ireturn, 1) := dk_172 (dk_at dksX1_text_0 14 rfl rfl)
theorem dX1_text_15 : decode cX1_text 15 = .ok (.aload_n 0, 1) := dk_42 (dk_at dksX1_text_0 15 rfl rfl)
theorem dX1_text_16 : decode cX1_text 16 = .ok (.getfield 136, 3) := dk_180 0 136 (dk_at dksX1_text_0 16 rfl rfl)
theorem dX1_text_19 : decode cX1_text 19 = .ok (.istore_n 1, 1) := dk_60 (dk_at dksX1_text_0 19 rfl rfl)
theorem dX1_text_20 : decode cX1_text 20 = .ok (.aload_n 0, 1) := dk_42 (dk_at dksX1_text_0 20 rfl rfl)
theorem dX1_text_21 : decode cX1_text 21 = .ok (.iconst 0, 1) := dk_3 (dk_at dksX1_text_0 21 rfl rfl)
theorem dX1_text_22 : decode cX1_text 22 = .ok (.putfield 23, 3) := dk_181 0 23 (dk_at dksX1_text_1 0 rfl rfl)
theorem dX1_text_25 : decode cX1_text 25 = .ok (.aload_n 0, 1) := dk_42 (dk_at dksX1_text_1 3 rfl rfl)
theorem dX1_text_26 : decode cX1_text 26 = .ok (.iconst (-1), 1) := dk_2 (dk_at dksX1_text_1 4 rfl rfl)
theorem dX1_text_27 : decode cX1_text 27 = .ok (.putfield 27, 3) := dk_181 0 27 (dk_at dksX1_text_1 5 rfl rfl)
theorem dX1_text_30 : decode cX1_text 30 = .ok (.aload_n 0, 1) := dk_42 (dk_at dksX1_text_1 8 rfl rfl)
theorem dX1_text_31 : decode cX1_text 31 = .ok (.getfield 12, 3) := dk_180 0 12 (dk_at dksX1_text_1 9 rfl rfl)
theorem dX1_text_34 : decode cX1_text 34 = .ok (.getfield 143, 3) := dk_180 0 143 (dk_at dksX1_text_1 12 rfl rfl)
theorem dX1_text_37 : decode cX1_text 37 = .ok (.aload_n 0, 1) := dk_42 (dk_at dksX1_text_1 15 rfl rfl)
theorem dX1_text_38 : decode cX1_text 38 = .ok (.getfield 12, 3) := dk_180 0 12 (dk_at dksX1_text_1 16 rfl rfl)
theorem dX1_text_41 : decode cX1_text 41 = .ok (.getfield 112, 3) := dk_180 0 112 (dk_at dksX1_text_1 19 rfl rfl)
theorem dX1_text_44 : decode cX1_text 44 = .ok (.iconst 2, 1) := dk_5 (dk_at dksX1_text_1 22 rfl rfl)
theorem dX1_text_45 : decode cX1_text 45 = .ok (.iaload, 1) := dk_46 (dk_at dksX1_text_1 23 rfl rfl)
theorem dX1_text_46 : decode cX1_text 46 = .ok (.new 147, 3) := dk_187 0 147 (dk_at dksX1_text_2 0 rfl rfl)
theorem dX1_text_49 : decode cX1_text 49 = .ok (.dup, 1) := dk_89 (dk_at dksX1_text_2 3 rfl rfl)
theorem dX1_text_50 : decode cX1_text 50 = .ok (.aload_n 0, 1) := dk_42 (dk_at dksX1_text_2 4 rfl rfl)
theorem dX1_text_51 : decode cX1_text 51 = .ok (.getfield 19, 3) := dk_180 0 19 (dk_at dksX1_text_2 5 rfl rfl)
theorem dX1_text_54 : decode cX1_text 54 = .ok (.iload_n 1, 1) := dk_27 (dk_at dksX1_text_2 8 rfl rfl)
theorem dX1_text_55 : decode cX1_text 55 = .ok (.invokespecial 149, 3) := dk_183 0 149 (dk_at dksX1_text_2 9 rfl rfl)
theorem dX1_text_58 : decode cX1_text 58 = .ok (.invokevirtual 152, 3) := dk_182 0 152 (dk_at dksX1_text_2 12 rfl rfl)
theorem dX1_text_61 : decode cX1_text 61 = .ok (.aastore, 1) := dk_83 (dk_at dksX1_text_2 15 rfl rfl)
theorem dX1_text_62 : decode cX1_text 62 = .ok (.aload_n 0, 1) := dk_42 (dk_at dksX1_text_2 16 rfl rfl)
theorem dX1_text_63 : decode cX1_text 63 = .ok (.iconst 0, 1) := dk_3 (dk_at dksX1_text_2 17 rfl rfl)
theorem dX1_text_64 : decode cX1_text 64 = .ok (.putfield 136, 3) := dk_181 0 136 (dk_at dksX1_text_2 18 rfl rfl)
theorem dX1_text_67 : decode cX1_text 67 = .ok (.goto 39, 3) := dk_167 0 39 (dk_at dksX1_text_2 21 rfl rfl)
theorem dX1_text_70 : decode cX1_text 70 = .ok (.astore_n 2, 1) := dk_77 (dk_at dksX1_text_3 0 rfl rfl)
theorem dX1_text_71 : decode cX1_text 71 = .ok (.aload_n 0, 1) := dk_42 (dk_at dksX1_text_3 1 rfl rfl)
theorem dX1_text_72 : decode cX1_text 72 = .ok (.aload_n 2, 1) := dk_44 (dk_at dksX1_text_3 2 rfl rfl)
theorem dX1_text_73 : decode cX1_text 73 = .ok (.getfield 158, 3) := dk_180 0 158 (dk_at dksX1_text_3 3 rfl rfl)
theorem dX1_text_76 : decode cX1_text 76 = .ok (.putfield 23, 3) := dk_181 0 23 (dk_at dksX1_text_3 6 rfl rfl)
theorem dX1_text_79 : decode cX1_text 79 = .ok (.aload_n 0, 1) := dk_42 (dk_at dksX1_text_3 9 rfl rfl)
theorem dX1_text_80 : decode cX1_text 80 = .ok (.aload_n 2, 1) := dk_44 (dk_at dksX1_text_3 10 rfl rfl)
theorem dX1_text_81 : decode cX1_text 81 = .ok (.getfield 159, 3) := dk_180 0 159 (dk_at dksX1_text_3 11 rfl rfl)
theorem dX1_text_84 : decode cX1_text 84 = .ok (.putfield 27, 3) := dk_181 0 27 (dk_at dksX1_text_3 14 rfl rfl)
theorem dX1_text_87 : decode cX1_text 87 = .ok (.iconst (-1), 1) := dk_2 (dk_at dksX1_text_3 17 rfl rfl)
theorem dX1_text_88 : decode cX1_text 88 = .ok (.istore_n 3, 1) := dk_62 (dk_at dksX1_text_3 18 rfl rfl)
theorem dX1_text_89 : decode cX1_text 89 = .ok (.aload_n 0, 1) := dk_42 (dk_at dksX1_text_3 19 rfl rfl)
theorem dX1_text_90 : decode cX1_text 90 = .ok (.iconst 0, 1) := dk_3 (dk_at dksX1_text_3 20 rfl rfl)
theorem dX1_text_91 : decode cX1_text 91 = .ok (.putfield 136, 3) := dk_181 0 136 (dk_at dksX1_text_3 21 rfl rfl)
theorem dX1_text_94 : decode cX1_text 94 = .ok (.iload_n 3, 1) := dk_29 (dk_at dksX1_text_4 0 rfl rfl)
theorem dX1_text_95 : decode cX1_text 95 = .ok (.ireturn, 1) := dk_172 (dk_at dksX1_text_4 1 rfl rfl)
theorem dX1_text_96 : decode cX1_text 96 = .ok (.astore 4, 2) := dk_58 4 (dk_at dksX1_text_4 2 rfl rfl)
theorem dX1_text_98 : decode cX1_text 98 = .ok (.aload_n 0, 1) := dk_42 (dk_at dksX1_text_4 4 rfl rfl)
theorem dX1_text_99 : decode cX1_text 99 = .ok (.iconst 0, 1) := dk_3 (dk_at dksX1_text_4 5 rfl rfl)
theorem dX1_text_100 : decode cX1_text 100 = .ok (.putfield 136, 3) := dk_181 0 136 (dk_at dksX1_text_4 6 rfl rfl)
theorem dX1_text_103 : decode cX1_text 103 = .ok (.aload 4, 2) := dk_25 4 (dk_at dksX1_text_4 9 rfl rfl)
theorem dX1_text_105 : decode cX1_text 105 = .ok (.athrow, 1) := dk_191 (dk_at dksX1_text_4 11 rfl rfl)
theorem dX1_text_106 : decode cX1_text 106 = .ok (.aload_n 0, 1) := dk_42 (dk_at dksX1_text_4 12 rfl rfl)
theorem dX1_text_107 : decode cX1_text 107 = .ok (.getfield 12, 3) := dk_180 0 12 (dk_at dksX1_text_4 13 rfl rfl)
theorem dX1_text_110 : decode cX1_text 110 = .ok (.getfield 112, 3) := dk_180 0 112 (dk_at dksX1_text_4 16 rfl rfl)
theorem dX1_text_113 : decode cX1_text 113 = .ok (.iconst 2, 1) := dk_5 (dk_at dksX1_text_4 19 rfl rfl)
theorem dX1_text_114 : decode cX1_text 114 = .ok (.dup2, 1) := dk_92 (dk_at dksX1_text_4 20 rfl rfl)
theorem dX1_text_115 : decode cX1_text 115 = .ok (.iaload, 1) := dk_46 (dk_at dksX1_text_4 21 rfl rfl)
theorem dX1_text_116 : decode cX1_text 116 = .ok (.iconst 1, 1) := dk_4 (dk_at dksX1_text_4 22 rfl rfl)
theorem dX1_text_117 : decode cX1_text 117 = .ok (.iadd, 1) := dk_96 (dk_at dksX1_text_4 23 rfl rfl)
theorem dX1_text_118 : decode cX1_text 118 = .ok (.iastore, 1) := dk_79 (dk_at dksX1_text_5 0 rfl rfl)
theorem dX1_text_119 : decode cX1_text 119 = .ok (.aload_n 0, 1) := dk_42 (dk_at dksX1_text_5 1 rfl rfl)
theorem dX1_text_120 : decode cX1_text 120 = .ok (.getfield 12, 3) := dk_180 0 12 (dk_at dksX1_text_5 2 rfl rfl)
theorem dX1_text_123 : decode cX1_text 123 = .ok (.getfield 112, 3) := dk_180 0 112 (dk_at dksX1_text_5 5 rfl rfl)
theorem dX1_text_126 : decode cX1_text 126 = .ok (.iconst 2, 1) := dk_5 (dk_at dksX1_text_5 8 rfl rfl)
theorem dX1_text_127 : decode cX1_text 127 = .ok (.iaload, 1) := dk_46 (dk_at dksX1_text_5 9 rfl rfl)
theorem dX1_text_128 : decode cX1_text 128 = .ok (.iconst 1, 1) := dk_4 (dk_at dksX1_text_5 10 rfl rfl)
theorem dX1_text_129 : decode cX1_text 129 = .ok (.isub, 1) := dk_100 (dk_at dksX1_text_5 11 rfl rfl)
theorem dX1_text_130 : decode cX1_text 130 = .ok (.ireturn, 1) := dk_172 (dk_at dksX1_text_5 12 rfl rfl)
abbrev cX1_fault : ByteArray := prog_1_method_18_code
def yX1_fault : MethodName := ⟨RX1, "fault", "(I)I"⟩
def dkwX1_fault_1 : List UInt8 := [172]
abbrev dktX1_fault_1 : List UInt8 := dkwX1_fault_1 ++ []
def dkwX1_fault_0 : List UInt8 := [27, 154, 0, 10, 42, 180, 0, 23, 167, 0, 16, 27, 4, 160, 0, 10, 42, 180, 0, 27, 167, 0, 4, 2]
abbrev dktX1_fault_0 : List UInt8 := dkwX1_fault_0 ++ dktX1_fault_1
theorem dksX1_fault_0 : cX1_fault.data.toList.drop 0 = dktX1_fault_0 := by decide +kernel
theorem dksX1_fault_1 : cX1_fault.data.toList.drop 24 = dktX1_fault_1 := dk_seg dksX1_fault_0 24 rfl rfl
theorem dX1_fault_0 : decode cX1_fault 0 = .ok (.iload_n 1, 1) := dk_27 (dk_at dksX1_fault_0 0 rfl rfl)
theorem dX1_fault_1 : decode cX1_fault 1 = .ok (.ifCond .ne 10, 3) := dk_154 0 10 (dk_at dksX1_fault_0 1 rfl rfl)
theorem dX1_fault_4 : decode cX1_fault 4 = .ok (.aload_n 0, 1) := dk_42 (dk_at dksX1_fault_0 4 rfl rfl)
theorem dX1_fault_5 : decode cX1_fault 5 = .ok (.getfield 23, 3) := dk_180 0 23 (dk_at dksX1_fault_0 5 rfl rfl)
theorem dX1_fault_8 : decode cX1_fault 8 = .ok (.goto 16, 3) := dk_167 0 16 (dk_at dksX1_fault_0 8 rfl rfl)
theorem dX1_fault_11 : decode cX1_fault 11 = .ok (.iload_n 1, 1) := dk_27 (dk_at dksX1_fault_0 11 rfl rfl)
theorem dX1_fault_12 : decode cX1_fault 12 = .ok (.iconst 1, 1) := dk_4 (dk_at dksX1_fault_0 12 rfl rfl)
theorem dX1_fault_13 : decode cX1_fault 13 = .ok (.if_icmp .ne 10, 3) := dk_160 0 10 (dk_at dksX1_fault_0 13 rfl rfl)
theorem dX1_fault_16 : decode cX1_fault 16 = .ok (.aload_n 0, 1) := dk_42 (dk_at dksX1_fault_0 16 rfl rfl)
theorem dX1_fault_17 : decode cX1_fault 17 = .ok (.getfield 27, 3) := dk_180 0 27 (dk_at dksX1_fault_0 17 rfl rfl)
theorem dX1_fault_20 : decode cX1_fault 20 = .ok (.goto 4, 3) := dk_167 0 4 (dk_at dksX1_fault_0 20 rfl rfl)
theorem dX1_fault_23 : decode cX1_fault 23 = .ok (.iconst (-1), 1) := dk_2 (dk_at dksX1_fault_0 23 rfl rfl)
theorem dX1_fault_24 : decode cX1_fault 24 = .ok (.ireturn, 1) := dk_172 (dk_at dksX1_fault_1 0 rfl rfl)
abbrev cX1_by : ByteArray := prog_1_method_20_code
def yX1_by : MethodName := ⟨RX1, "by", "(I)Z"⟩
def dkwX1_by_1 : List UInt8 := [79, 4, 172]
abbrev dktX1_by_1 : List UInt8 := dkwX1_by_1 ++ []
def dkwX1_by_0 : List UInt8 := [27, 2, 159, 0, 13, 42, 27, 182, 0, 162, 154, 0, 5, 3, 172, 42, 180, 0, 12, 180, 0, 112, 6, 27]
abbrev dktX1_by_0 : List UInt8 := dkwX1_by_0 ++ dktX1_by_1
theorem dksX1_by_0 : cX1_by.data.toList.drop 0 = dktX1_by_0 := by decide +kernel
theorem dksX1_by_1 : cX1_by.data.toList.drop 24 = dktX1_by_1 := dk_seg dksX1_by_0 24 rfl rfl
theorem dX1_by_0 : decode cX1_by 0 = .ok (.iload_n 1, 1) := dk_27 (dk_at dksX1_by_0 0 rfl rfl)
theorem dX1_by_1 : decode cX1_by 1 = .ok (.iconst (-1), 1) := dk_2 (dk_at dksX1_by_0 1 rfl rfl)
theorem dX1_by_2 : decode cX1_by 2 = .ok (.if_icmp .eq 13, 3) := dk_159 0 13 (dk_at dksX1_by_0 2 rfl rfl)
theorem dX1_by_5 : decode cX1_by 5 = .ok (.aload_n 0, 1) := dk_42 (dk_at dksX1_by_0 5 rfl rfl)
theorem dX1_by_6 : decode cX1_by 6 = .ok (.iload_n 1, 1) := dk_27 (dk_at dksX1_by_0 6 rfl rfl)
theorem dX1_by_7 : decode cX1_by 7 = .ok (.invokevirtual 162, 3) := dk_182 0 162 (dk_at dksX1_by_0 7 rfl rfl)
theorem dX1_by_10 : decode cX1_by 10 = .ok (.ifCond .ne 5, 3) := dk_154 0 5 (dk_at dksX1_by_0 10 rfl rfl)
theorem dX1_by_13 : decode cX1_by 13 = .ok (.iconst 0, 1) := dk_3 (dk_at dksX1_by_0 13 rfl rfl)
theorem dX1_by_14 : decode cX1_by 14 = .ok (.ireturn, 1) := dk_172 (dk_at dksX1_by_0 14 rfl rfl)
theorem dX1_by_15 : decode cX1_by 15 = .ok (.aload_n 0, 1) := dk_42 (dk_at dksX1_by_0 15 rfl rfl)
theorem dX1_by_16 : decode cX1_by 16 = .ok (.getfield 12, 3) := dk_180 0 12 (dk_at dksX1_by_0 16 rfl rfl)
theorem dX1_by_19 : decode cX1_by 19 = .ok (.getfield 112, 3) := dk_180 0 112 (dk_at dksX1_by_0 19 rfl rfl)
theorem dX1_by_22 : decode cX1_by 22 = .ok (.iconst 3, 1) := dk_6 (dk_at dksX1_by_0 22 rfl rfl)
theorem dX1_by_23 : decode cX1_by 23 = .ok (.iload_n 1, 1) := dk_27 (dk_at dksX1_by_0 23 rfl rfl)
theorem dX1_by_24 : decode cX1_by 24 = .ok (.iastore, 1) := dk_79 (dk_at dksX1_by_1 0 rfl rfl)
theorem dX1_by_25 : decode cX1_by 25 = .ok (.iconst 1, 1) := dk_4 (dk_at dksX1_by_1 1 rfl rfl)
theorem dX1_by_26 : decode cX1_by 26 = .ok (.ireturn, 1) := dk_172 (dk_at dksX1_by_1 2 rfl rfl)
abbrev cX1_isText : ByteArray := prog_1_method_19_code
def yX1_isText : MethodName := ⟨RX1, "isText", "(I)Z"⟩
def dkwX1_isText_0 : List UInt8 := [27, 3, 42, 180, 0, 12, 180, 0, 112, 5, 46, 4, 100, 184, 0, 94, 172]
abbrev dktX1_isText_0 : List UInt8 := dkwX1_isText_0 ++ []
theorem dksX1_isText_0 : cX1_isText.data.toList.drop 0 = dktX1_isText_0 := by decide +kernel
theorem dX1_isText_0 : decode cX1_isText 0 = .ok (.iload_n 1, 1) := dk_27 (dk_at dksX1_isText_0 0 rfl rfl)
theorem dX1_isText_1 : decode cX1_isText 1 = .ok (.iconst 0, 1) := dk_3 (dk_at dksX1_isText_0 1 rfl rfl)
theorem dX1_isText_2 : decode cX1_isText 2 = .ok (.aload_n 0, 1) := dk_42 (dk_at dksX1_isText_0 2 rfl rfl)
theorem dX1_isText_3 : decode cX1_isText 3 = .ok (.getfield 12, 3) := dk_180 0 12 (dk_at dksX1_isText_0 3 rfl rfl)
theorem dX1_isText_6 : decode cX1_isText 6 = .ok (.getfield 112, 3) := dk_180 0 112 (dk_at dksX1_isText_0 6 rfl rfl)
theorem dX1_isText_9 : decode cX1_isText 9 = .ok (.iconst 2, 1) := dk_5 (dk_at dksX1_isText_0 9 rfl rfl)
theorem dX1_isText_10 : decode cX1_isText 10 = .ok (.iaload, 1) := dk_46 (dk_at dksX1_isText_0 10 rfl rfl)
theorem dX1_isText_11 : decode cX1_isText 11 = .ok (.iconst 1, 1) := dk_4 (dk_at dksX1_isText_0 11 rfl rfl)
theorem dX1_isText_12 : decode cX1_isText 12 = .ok (.isub, 1) := dk_100 (dk_at dksX1_isText_0 12 rfl rfl)
theorem dX1_isText_13 : decode cX1_isText 13 = .ok (.invokestatic 94, 3) := dk_184 0 94 (dk_at dksX1_isText_0 13 rfl rfl)
theorem dX1_isText_16 : decode cX1_isText 16 = .ok (.ireturn, 1) := dk_172 (dk_at dksX1_isText_0 16 rfl rfl)
abbrev cX1_can : ByteArray := prog_1_method_34_code
def yX1_can : MethodName := ⟨RX1, "can", "(II)Z"⟩
def dkwX1_can_3 : List UInt8 := [180, 0, 12, 180, 0, 112, 3, 46, 182, 0, 232, 2, 159, 0, 7, 4, 167, 0, 4, 3, 172]
abbrev dktX1_can_3 : List UInt8 := dkwX1_can_3 ++ []
def dkwX1_can_2 : List UInt8 := [45, 4, 46, 45, 5, 46, 42, 180, 0, 12, 180, 0, 102, 42, 180, 0, 12, 180, 0, 112, 4, 46, 42]
abbrev dktX1_can_2 : List UInt8 := dkwX1_can_2 ++ dktX1_can_3
def dkwX1_can_1 : List UInt8 := [180, 0, 130, 27, 50, 78, 45, 3, 46, 2, 159, 0, 56, 45, 6, 46, 154, 0, 50, 42, 28, 45, 3, 46]
abbrev dktX1_can_1 : List UInt8 := dkwX1_can_1 ++ dktX1_can_2
def dkwX1_can_0 : List UInt8 := [27, 3, 4, 184, 0, 94, 153, 0, 10, 28, 184, 0, 229, 154, 0, 5, 3, 172, 42, 180, 0, 12]
abbrev dktX1_can_0 : List UInt8 := dkwX1_can_0 ++ dktX1_can_1
theorem dksX1_can_0 : cX1_can.data.toList.drop 0 = dktX1_can_0 := by decide +kernel
theorem dksX1_can_1 : cX1_can.data.toList.drop 22 = dktX1_can_1 := dk_seg dksX1_can_0 22 rfl rfl
theorem dksX1_can_2 : cX1_can.data.toList.drop 46 = dktX1_can_2 := dk_seg dksX1_can_1 24 rfl rfl
theorem dksX1_can_3 : cX1_can.data.toList.drop 69 = dktX1_can_3 := dk_seg dksX1_can_2 23 rfl rfl
theorem dX1_can_0 : decode cX1_can 0 = .ok (.iload_n 1, 1) := dk_27 (dk_at dksX1_can_0 0 rfl rfl)
theorem dX1_can_1 : decode cX1_can 1 = .ok (.iconst 0, 1) := dk_3 (dk_at dksX1_can_0 1 rfl rfl)
theorem dX1_can_2 : decode cX1_can 2 = .ok (.iconst 1, 1) := dk_4 (dk_at dksX1_can_0 2 rfl rfl)
theorem dX1_can_3 : decode cX1_can 3 = .ok (.invokestatic 94, 3) := dk_184 0 94 (dk_at dksX1_can_0 3 rfl rfl)
theorem dX1_can_6 : decode cX1_can 6 = .ok (.ifCond .eq 10, 3) := dk_153 0 10 (dk_at dksX1_can_0 6 rfl rfl)
theorem dX1_can_9 : decode cX1_can 9 = .ok (.iload_n 2, 1) := dk_28 (dk_at dksX1_can_0 9 rfl rfl)
theorem dX1_can_10 : decode cX1_can 10 = .ok (.invokestatic 229, 3) := dk_184 0 229 (dk_at dksX1_can_0 10 rfl rfl)
theorem dX1_can_13 : decode cX1_can 13 = .ok (.ifCond .ne 5, 3) := dk_154 0 5 (dk_at dksX1_can_0 13 rfl rfl)
theorem dX1_can_16 : decode cX1_can 16 = .ok (.iconst 0, 1) := dk_3 (dk_at dksX1_can_0 16 rfl rfl)
theorem dX1_can_17 : decode cX1_can 17 = .ok (.ireturn, 1) := dk_172 (dk_at dksX1_can_0 17 rfl rfl)
theorem dX1_can_18 : decode cX1_can 18 = .ok (.aload_n 0, 1) := dk_42 (dk_at dksX1_can_0 18 rfl rfl)
theorem dX1_can_19 : decode cX1_can 19 = .ok (.getfield 12, 3) := dk_180 0 12 (dk_at dksX1_can_0 19 rfl rfl)
theorem dX1_can_22 : decode cX1_can 22 = .ok (.getfield 130, 3) := dk_180 0 130 (dk_at dksX1_can_1 0 rfl rfl)
theorem dX1_can_25 : decode cX1_can 25 = .ok (.iload_n 1, 1) := dk_27 (dk_at dksX1_can_1 3 rfl rfl)
theorem dX1_can_26 : decode cX1_can 26 = .ok (.aaload, 1) := dk_50 (dk_at dksX1_can_1 4 rfl rfl)
theorem dX1_can_27 : decode cX1_can 27 = .ok (.astore_n 3, 1) := dk_78 (dk_at dksX1_can_1 5 rfl rfl)
theorem dX1_can_28 : decode cX1_can 28 = .ok (.aload_n 3, 1) := dk_45 (dk_at dksX1_can_1 6 rfl rfl)
theorem dX1_can_29 : decode cX1_can 29 = .ok (.iconst 0, 1) := dk_3 (dk_at dksX1_can_1 7 rfl rfl)
theorem dX1_can_30 : decode cX1_can 30 = .ok (.iaload, 1) := dk_46 (dk_at dksX1_can_1 8 rfl rfl)
theorem dX1_can_31 : decode cX1_can 31 = .ok (.iconst (-1), 1) := dk_2 (dk_at dksX1_can_1 9 rfl rfl)
theorem dX1_can_32 : decode cX1_can 32 = .ok (.if_icmp .eq 56, 3) := dk_159 0 56 (dk_at dksX1_can_1 10 rfl rfl)
theorem dX1_can_35 : decode cX1_can 35 = .ok (.aload_n 3, 1) := dk_45 (dk_at dksX1_can_1 13 rfl rfl)
theorem dX1_can_36 : decode cX1_can 36 = .ok (.iconst 3, 1) := dk_6 (dk_at dksX1_can_1 14 rfl rfl)
theorem dX1_can_37 : decode cX1_can 37 = .ok (.iaload, 1) := dk_46 (dk_at dksX1_can_1 15 rfl rfl)
theorem dX1_can_38 : decode cX1_can 38 = .ok (.ifCond .ne 50, 3) := dk_154 0 50 (dk_at dksX1_can_1 16 rfl rfl)
theorem dX1_can_41 : decode cX1_can 41 = .ok (.aload_n 0, 1) := dk_42 (dk_at dksX1_can_1 19 rfl rfl)
theorem dX1_can_42 : decode cX1_can 42 = .ok (.iload_n 2, 1) := dk_28 (dk_at dksX1_can_1 20 rfl rfl)
theorem dX1_can_43 : decode cX1_can 43 = .ok (.aload_n 3, 1) := dk_45 (dk_at dksX1_can_1 21 rfl rfl)
theorem dX1_can_44 : decode cX1_can 44 = .ok (.iconst 0, 1) := dk_3 (dk_at dksX1_can_1 22 rfl rfl)
theorem dX1_can_45 : decode cX1_can 45 = .ok (.iaload, 1) := dk_46 (dk_at dksX1_can_1 23 rfl rfl)
theorem dX1_can_46 : decode cX1_can 46 = .ok (.aload_n 3, 1) := dk_45 (dk_at dksX1_can_2 0 rfl rfl)
theorem dX1_can_47 : decode cX1_can 47 = .ok (.iconst 1, 1) := dk_4 (dk_at dksX1_can_2 1 rfl rfl)
theorem dX1_can_48 : decode cX1_can 48 = .ok (.iaload, 1) := dk_46 (dk_at dksX1_can_2 2 rfl rfl)
theorem dX1_can_49 : decode cX1_can 49 = .ok (.aload_n 3, 1) := dk_45 (dk_at dksX1_can_2 3 rfl rfl)
theorem dX1_can_50 : decode cX1_can 50 = .ok (.iconst 2, 1) := dk_5 (dk_at dksX1_can_2 4 rfl rfl)
theorem dX1_can_51 : decode cX1_can 51 = .ok (.iaload, 1) := dk_46 (dk_at dksX1_can_2 5 rfl rfl)
theorem dX1_can_52 : decode cX1_can 52 = .ok (.aload_n 0, 1) := dk_42 (dk_at dksX1_can_2 6 rfl rfl)
theorem dX1_can_53 : decode cX1_can 53 = .ok (.getfield 12, 3) := dk_180 0 12 (dk_at dksX1_can_2 7 rfl rfl)
theorem dX1_can_56 : decode cX1_can 56 = .ok (.getfield 102, 3) := dk_180 0 102 (dk_at dksX1_can_2 10 rfl rfl)
theorem dX1_can_59 : decode cX1_can 59 = .ok (.aload_n 0, 1) := dk_42 (dk_at dksX1_can_2 13 rfl rfl)
theorem dX1_can_60 : decode cX1_can 60 = .ok (.getfield 12, 3) := dk_180 0 12 (dk_at dksX1_can_2 14 rfl rfl)
theorem dX1_can_63 : decode cX1_can 63 = .ok (.getfield 112, 3) := dk_180 0 112 (dk_at dksX1_can_2 17 rfl rfl)
theorem dX1_can_66 : decode cX1_can 66 = .ok (.iconst 1, 1) := dk_4 (dk_at dksX1_can_2 20 rfl rfl)
theorem dX1_can_67 : decode cX1_can 67 = .ok (.iaload, 1) := dk_46 (dk_at dksX1_can_2 21 rfl rfl)
theorem dX1_can_68 : decode cX1_can 68 = .ok (.aload_n 0, 1) := dk_42 (dk_at dksX1_can_2 22 rfl rfl)
theorem dX1_can_69 : decode cX1_can 69 = .ok (.getfield 12, 3) := dk_180 0 12 (dk_at dksX1_can_3 0 rfl rfl)
theorem dX1_can_72 : decode cX1_can 72 = .ok (.getfield 112, 3) := dk_180 0 112 (dk_at dksX1_can_3 3 rfl rfl)
theorem dX1_can_75 : decode cX1_can 75 = .ok (.iconst 0, 1) := dk_3 (dk_at dksX1_can_3 6 rfl rfl)
theorem dX1_can_76 : decode cX1_can 76 = .ok (.iaload, 1) := dk_46 (dk_at dksX1_can_3 7 rfl rfl)
theorem dX1_can_77 : decode cX1_can 77 = .ok (.invokevirtual 232, 3) := dk_182 0 232 (dk_at dksX1_can_3 8 rfl rfl)
theorem dX1_can_80 : decode cX1_can 80 = .ok (.iconst (-1), 1) := dk_2 (dk_at dksX1_can_3 11 rfl rfl)
theorem dX1_can_81 : decode cX1_can 81 = .ok (.if_icmp .eq 7, 3) := dk_159 0 7 (dk_at dksX1_can_3 12 rfl rfl)
theorem dX1_can_84 : decode cX1_can 84 = .ok (.iconst 1, 1) := dk_4 (dk_at dksX1_can_3 15 rfl rfl)
theorem dX1_can_85 : decode cX1_can 85 = .ok (.goto 4, 3) := dk_167 0 4 (dk_at dksX1_can_3 16 rfl rfl)
theorem dX1_can_88 : decode cX1_can 88 = .ok (.iconst 0, 1) := dk_3 (dk_at dksX1_can_3 19 rfl rfl)
theorem dX1_can_89 : decode cX1_can 89 = .ok (.ireturn, 1) := dk_172 (dk_at dksX1_can_3 20 rfl rfl)
abbrev cX1_isOrder : ByteArray := prog_1_method_33_code
def yX1_isOrder : MethodName := ⟨RX1, "isOrder", "(I)Z"⟩
def dkwX1_isOrder_0 : List UInt8 := [26, 3, 16, 7, 184, 0, 94, 172]
abbrev dktX1_isOrder_0 : List UInt8 := dkwX1_isOrder_0 ++ []
theorem dksX1_isOrder_0 : cX1_isOrder.data.toList.drop 0 = dktX1_isOrder_0 := by decide +kernel
theorem dX1_isOrder_0 : decode cX1_isOrder 0 = .ok (.iload_n 0, 1) := dk_26 (dk_at dksX1_isOrder_0 0 rfl rfl)
theorem dX1_isOrder_1 : decode cX1_isOrder 1 = .ok (.iconst 0, 1) := dk_3 (dk_at dksX1_isOrder_0 1 rfl rfl)
theorem dX1_isOrder_2 : decode cX1_isOrder 2 = .ok (.bipush 7, 2) := dk_16 7 (dk_at dksX1_isOrder_0 2 rfl rfl)
theorem dX1_isOrder_4 : decode cX1_isOrder 4 = .ok (.invokestatic 94, 3) := dk_184 0 94 (dk_at dksX1_isOrder_0 4 rfl rfl)
theorem dX1_isOrder_7 : decode cX1_isOrder 7 = .ok (.ireturn, 1) := dk_172 (dk_at dksX1_isOrder_0 7 rfl rfl)
abbrev cX1_costOf : ByteArray := prog_1_method_32_code
def yX1_costOf : MethodName := ⟨RX1, "costOf", "(IIII[III)I"⟩
def dkwX1_costOf_5 : List UInt8 := [29, 163, 0, 8, 21, 8, 167, 0, 4, 2, 172]
abbrev dktX1_costOf_5 : List UInt8 := dkwX1_costOf_5 ++ []
def dkwX1_costOf_4 : List UInt8 := [182, 0, 222, 154, 0, 5, 2, 172, 42, 25, 5, 21, 9, 21, 6, 21, 7, 182, 0, 225, 54, 8, 21, 8]
abbrev dktX1_costOf_4 : List UInt8 := dkwX1_costOf_4 ++ dktX1_costOf_5
def dkwX1_costOf_3 : List UInt8 := [184, 0, 173, 182, 0, 165, 54, 9, 21, 9, 2, 159, 0, 18, 42, 25, 5, 21, 9, 21, 6, 21, 7]
abbrev dktX1_costOf_3 : List UInt8 := dkwX1_costOf_3 ++ dktX1_costOf_4
def dkwX1_costOf_2 : List UInt8 := [180, 0, 12, 180, 0, 133, 27, 7, 100, 46, 54, 8, 167, 0, 55, 42, 28, 27, 184, 0, 169, 27]
abbrev dktX1_costOf_2 : List UInt8 := dkwX1_costOf_2 ++ dktX1_costOf_3
def dkwX1_costOf_1 : List UInt8 := [160, 0, 7, 4, 167, 0, 4, 3, 159, 0, 5, 2, 172, 2, 54, 8, 27, 7, 161, 0, 19, 42]
abbrev dktX1_costOf_1 : List UInt8 := dkwX1_costOf_1 ++ dktX1_costOf_2
def dkwX1_costOf_0 : List UInt8 := [27, 16, 6, 160, 0, 5, 3, 172, 27, 16, 7, 160, 0, 7, 4, 167, 0, 4, 3, 21, 4, 4]
abbrev dktX1_costOf_0 : List UInt8 := dkwX1_costOf_0 ++ dktX1_costOf_1
theorem dksX1_costOf_0 : cX1_costOf.data.toList.drop 0 = dktX1_costOf_0 := by decide +kernel
theorem dksX1_costOf_1 : cX1_costOf.data.toList.drop 22 = dktX1_costOf_1 := dk_seg dksX1_costOf_0 22 rfl rfl
theorem dksX1_costOf_2 : cX1_costOf.data.toList.drop 44 = dktX1_costOf_2 := dk_seg dksX1_costOf_1 22 rfl rfl
theorem dksX1_costOf_3 : cX1_costOf.data.toList.drop 66 = dktX1_costOf_3 := dk_seg dksX1_costOf_2 22 rfl rfl
theorem dksX1_costOf_4 : cX1_costOf.data.toList.drop 89 = dktX1_costOf_4 := dk_seg dksX1_costOf_3 23 rfl rfl
theorem dksX1_costOf_5 : cX1_costOf.data.toList.drop 113 = dktX1_costOf_5 := dk_seg dksX1_costOf_4 24 rfl rfl
theorem dX1_costOf_0 : decode cX1_costOf 0 = .ok (.iload_n 1, 1) := dk_27 (dk_at dksX1_costOf_0 0 rfl rfl)
theorem dX1_costOf_1 : decode cX1_costOf 1 = .ok (.bipush 6, 2) := dk_16 6 (dk_at dksX1_costOf_0 1 rfl rfl)
theorem dX1_costOf_3 : decode cX1_costOf 3 = .ok (.if_icmp .ne 5, 3) := dk_160 0 5 (dk_at dksX1_costOf_0 3 rfl rfl)
theorem dX1_costOf_6 : decode cX1_costOf 6 = .ok (.iconst 0, 1) := dk_3 (dk_at dksX1_costOf_0 6 rfl rfl)
theorem dX1_costOf_7 : decode cX1_costOf 7 = .ok (.ireturn, 1) := dk_172 (dk_at dksX1_costOf_0 7 rfl rfl)
theorem dX1_costOf_8 : decode cX1_costOf 8 = .ok (.iload_n 1, 1) := dk_27 (dk_at dksX1_costOf_0 8 rfl rfl)
theorem dX1_costOf_9 : decode cX1_costOf 9 = .ok (.bipush 7, 2) := dk_16 7 (dk_at dksX1_costOf_0 9 rfl rfl)
theorem dX1_costOf_11 : decode cX1_costOf 11 = .ok (.if_icmp .ne 7, 3) := dk_160 0 7 (dk_at dksX1_costOf_0 11 rfl rfl)
theorem dX1_costOf_14 : decode cX1_costOf 14 = .ok (.iconst 1, 1) := dk_4 (dk_at dksX1_costOf_0 14 rfl rfl)
theorem dX1_costOf_15 : decode cX1_costOf 15 = .ok (.goto 4, 3) := dk_167 0 4 (dk_at dksX1_costOf_0 15 rfl rfl)
theorem dX1_costOf_18 : decode cX1_costOf 18 = .ok (.iconst 0, 1) := dk_3 (dk_at dksX1_costOf_0 18 rfl rfl)
theorem dX1_costOf_19 : decode cX1_costOf 19 = .ok (.iload 4, 2) := dk_21 4 (dk_at dksX1_costOf_0 19 rfl rfl)
theorem dX1_costOf_21 : decode cX1_costOf 21 = .ok (.iconst 1, 1) := dk_4 (dk_at dksX1_costOf_0 21 rfl rfl)
theorem dX1_costOf_22 : decode cX1_costOf 22 = .ok (.if_icmp .ne 7, 3) := dk_160 0 7 (dk_at dksX1_costOf_1 0 rfl rfl)
theorem dX1_costOf_25 : decode cX1_costOf 25 = .ok (.iconst 1, 1) := dk_4 (dk_at dksX1_costOf_1 3 rfl rfl)
theorem dX1_costOf_26 : decode cX1_costOf 26 = .ok (.goto 4, 3) := dk_167 0 4 (dk_at dksX1_costOf_1 4 rfl rfl)
theorem dX1_costOf_29 : decode cX1_costOf 29 = .ok (.iconst 0, 1) := dk_3 (dk_at dksX1_costOf_1 7 rfl rfl)
theorem dX1_costOf_30 : decode cX1_costOf 30 = .ok (.if_icmp .eq 5, 3) := dk_159 0 5 (dk_at dksX1_costOf_1 8 rfl rfl)
theorem dX1_costOf_33 : decode cX1_costOf 33 = .ok (.iconst (-1), 1) := dk_2 (dk_at dksX1_costOf_1 11 rfl rfl)
theorem dX1_costOf_34 : decode cX1_costOf 34 = .ok (.ireturn, 1) := dk_172 (dk_at dksX1_costOf_1 12 rfl rfl)
theorem dX1_costOf_35 : decode cX1_costOf 35 = .ok (.iconst (-1), 1) := dk_2 (dk_at dksX1_costOf_1 13 rfl rfl)
theorem dX1_costOf_36 : decode cX1_costOf 36 = .ok (.istore 8, 2) := dk_54 8 (dk_at dksX1_costOf_1 14 rfl rfl)
theorem dX1_costOf_38 : decode cX1_costOf 38 = .ok (.iload_n 1, 1) := dk_27 (dk_at dksX1_costOf_1 16 rfl rfl)
theorem dX1_costOf_39 : decode cX1_costOf 39 = .ok (.iconst 4, 1) := dk_7 (dk_at dksX1_costOf_1 17 rfl rfl)
theorem dX1_costOf_40 : decode cX1_costOf 40 = .ok (.if_icmp .lt 19, 3) := dk_161 0 19 (dk_at dksX1_costOf_1 18 rfl rfl)
theorem dX1_costOf_43 : decode cX1_costOf 43 = .ok (.aload_n 0, 1) := dk_42 (dk_at dksX1_costOf_1 21 rfl rfl)
theorem dX1_costOf_44 : decode cX1_costOf 44 = .ok (.getfield 12, 3) := dk_180 0 12 (dk_at dksX1_costOf_2 0 rfl rfl)
theorem dX1_costOf_47 : decode cX1_costOf 47 = .ok (.getfield 133, 3) := dk_180 0 133 (dk_at dksX1_costOf_2 3 rfl rfl)
theorem dX1_costOf_50 : decode cX1_costOf 50 = .ok (.iload_n 1, 1) := dk_27 (dk_at dksX1_costOf_2 6 rfl rfl)
theorem dX1_costOf_51 : decode cX1_costOf 51 = .ok (.iconst 4, 1) := dk_7 (dk_at dksX1_costOf_2 7 rfl rfl)
theorem dX1_costOf_52 : decode cX1_costOf 52 = .ok (.isub, 1) := dk_100 (dk_at dksX1_costOf_2 8 rfl rfl)
theorem dX1_costOf_53 : decode cX1_costOf 53 = .ok (.iaload, 1) := dk_46 (dk_at dksX1_costOf_2 9 rfl rfl)
theorem dX1_costOf_54 : decode cX1_costOf 54 = .ok (.istore 8, 2) := dk_54 8 (dk_at dksX1_costOf_2 10 rfl rfl)
theorem dX1_costOf_56 : decode cX1_costOf 56 = .ok (.goto 55, 3) := dk_167 0 55 (dk_at dksX1_costOf_2 12 rfl rfl)
theorem dX1_costOf_59 : decode cX1_costOf 59 = .ok (.aload_n 0, 1) := dk_42 (dk_at dksX1_costOf_2 15 rfl rfl)
theorem dX1_costOf_60 : decode cX1_costOf 60 = .ok (.iload_n 2, 1) := dk_28 (dk_at dksX1_costOf_2 16 rfl rfl)
theorem dX1_costOf_61 : decode cX1_costOf 61 = .ok (.iload_n 1, 1) := dk_27 (dk_at dksX1_costOf_2 17 rfl rfl)
theorem dX1_costOf_62 : decode cX1_costOf 62 = .ok (.invokestatic 169, 3) := dk_184 0 169 (dk_at dksX1_costOf_2 18 rfl rfl)
theorem dX1_costOf_65 : decode cX1_costOf 65 = .ok (.iload_n 1, 1) := dk_27 (dk_at dksX1_costOf_2 21 rfl rfl)
theorem dX1_costOf_66 : decode cX1_costOf 66 = .ok (.invokestatic 173, 3) := dk_184 0 173 (dk_at dksX1_costOf_3 0 rfl rfl)
theorem dX1_costOf_69 : decode cX1_costOf 69 = .ok (.invokevirtual 165, 3) := dk_182 0 165 (dk_at dksX1_costOf_3 3 rfl rfl)
theorem dX1_costOf_72 : decode cX1_costOf 72 = .ok (.istore 9, 2) := dk_54 9 (dk_at dksX1_costOf_3 6 rfl rfl)
theorem dX1_costOf_74 : decode cX1_costOf 74 = .ok (.iload 9, 2) := dk_21 9 (dk_at dksX1_costOf_3 8 rfl rfl)
theorem dX1_costOf_76 : decode cX1_costOf 76 = .ok (.iconst (-1), 1) := dk_2 (dk_at dksX1_costOf_3 10 rfl rfl)
theorem dX1_costOf_77 : decode cX1_costOf 77 = .ok (.if_icmp .eq 18, 3) := dk_159 0 18 (dk_at dksX1_costOf_3 11 rfl rfl)
theorem dX1_costOf_80 : decode cX1_costOf 80 = .ok (.aload_n 0, 1) := dk_42 (dk_at dksX1_costOf_3 14 rfl rfl)
theorem dX1_costOf_81 : decode cX1_costOf 81 = .ok (.aload 5, 2) := dk_25 5 (dk_at dksX1_costOf_3 15 rfl rfl)
theorem dX1_costOf_83 : decode cX1_costOf 83 = .ok (.iload 9, 2) := dk_21 9 (dk_at dksX1_costOf_3 17 rfl rfl)
theorem dX1_costOf_85 : decode cX1_costOf 85 = .ok (.iload 6, 2) := dk_21 6 (dk_at dksX1_costOf_3 19 rfl rfl)
theorem dX1_costOf_87 : decode cX1_costOf 87 = .ok (.iload 7, 2) := dk_21 7 (dk_at dksX1_costOf_3 21 rfl rfl)
theorem dX1_costOf_89 : decode cX1_costOf 89 = .ok (.invokevirtual 222, 3) := dk_182 0 222 (dk_at dksX1_costOf_4 0 rfl rfl)
theorem dX1_costOf_92 : decode cX1_costOf 92 = .ok (.ifCond .ne 5, 3) := dk_154 0 5 (dk_at dksX1_costOf_4 3 rfl rfl)
theorem dX1_costOf_95 : decode cX1_costOf 95 = .ok (.iconst (-1), 1) := dk_2 (dk_at dksX1_costOf_4 6 rfl rfl)
theorem dX1_costOf_96 : decode cX1_costOf 96 = .ok (.ireturn, 1) := dk_172 (dk_at dksX1_costOf_4 7 rfl rfl)
theorem dX1_costOf_97 : decode cX1_costOf 97 = .ok (.aload_n 0, 1) := dk_42 (dk_at dksX1_costOf_4 8 rfl rfl)
theorem dX1_costOf_98 : decode cX1_costOf 98 = .ok (.aload 5, 2) := dk_25 5 (dk_at dksX1_costOf_4 9 rfl rfl)
theorem dX1_costOf_100 : decode cX1_costOf 100 = .ok (.iload 9, 2) := dk_21 9 (dk_at dksX1_costOf_4 11 rfl rfl)
theorem dX1_costOf_102 : decode cX1_costOf 102 = .ok (.iload 6, 2) := dk_21 6 (dk_at dksX1_costOf_4 13 rfl rfl)
theorem dX1_costOf_104 : decode cX1_costOf 104 = .ok (.iload 7, 2) := dk_21 7 (dk_at dksX1_costOf_4 15 rfl rfl)
theorem dX1_costOf_106 : decode cX1_costOf 106 = .ok (.invokevirtual 225, 3) := dk_182 0 225 (dk_at dksX1_costOf_4 17 rfl rfl)
theorem dX1_costOf_109 : decode cX1_costOf 109 = .ok (.istore 8, 2) := dk_54 8 (dk_at dksX1_costOf_4 20 rfl rfl)
theorem dX1_costOf_111 : decode cX1_costOf 111 = .ok (.iload 8, 2) := dk_21 8 (dk_at dksX1_costOf_4 22 rfl rfl)
theorem dX1_costOf_113 : decode cX1_costOf 113 = .ok (.iload_n 3, 1) := dk_29 (dk_at dksX1_costOf_5 0 rfl rfl)
theorem dX1_costOf_114 : decode cX1_costOf 114 = .ok (.if_icmp .gt 8, 3) := dk_163 0 8 (dk_at dksX1_costOf_5 1 rfl rfl)
theorem dX1_costOf_117 : decode cX1_costOf 117 = .ok (.iload 8, 2) := dk_21 8 (dk_at dksX1_costOf_5 4 rfl rfl)
theorem dX1_costOf_119 : decode cX1_costOf 119 = .ok (.goto 4, 3) := dk_167 0 4 (dk_at dksX1_costOf_5 6 rfl rfl)
theorem dX1_costOf_122 : decode cX1_costOf 122 = .ok (.iconst (-1), 1) := dk_2 (dk_at dksX1_costOf_5 9 rfl rfl)
theorem dX1_costOf_123 : decode cX1_costOf 123 = .ok (.ireturn, 1) := dk_172 (dk_at dksX1_costOf_5 10 rfl rfl)
abbrev cX1_dx : ByteArray := prog_1_method_22_code
def yX1_dx : MethodName := ⟨RX1, "dx", "(I)I"⟩
def dkwX1_dx_0 : List UInt8 := [26, 4, 160, 0, 7, 4, 167, 0, 13, 26, 6, 160, 0, 7, 2, 167, 0, 4, 3, 172]
abbrev dktX1_dx_0 : List UInt8 := dkwX1_dx_0 ++ []
theorem dksX1_dx_0 : cX1_dx.data.toList.drop 0 = dktX1_dx_0 := by decide +kernel
theorem dX1_dx_0 : decode cX1_dx 0 = .ok (.iload_n 0, 1) := dk_26 (dk_at dksX1_dx_0 0 rfl rfl)
theorem dX1_dx_1 : decode cX1_dx 1 = .ok (.iconst 1, 1) := dk_4 (dk_at dksX1_dx_0 1 rfl rfl)
theorem dX1_dx_2 : decode cX1_dx 2 = .ok (.if_icmp .ne 7, 3) := dk_160 0 7 (dk_at dksX1_dx_0 2 rfl rfl)
theorem dX1_dx_5 : decode cX1_dx 5 = .ok (.iconst 1, 1) := dk_4 (dk_at dksX1_dx_0 5 rfl rfl)
theorem dX1_dx_6 : decode cX1_dx 6 = .ok (.goto 13, 3) := dk_167 0 13 (dk_at dksX1_dx_0 6 rfl rfl)
theorem dX1_dx_9 : decode cX1_dx 9 = .ok (.iload_n 0, 1) := dk_26 (dk_at dksX1_dx_0 9 rfl rfl)
theorem dX1_dx_10 : decode cX1_dx 10 = .ok (.iconst 3, 1) := dk_6 (dk_at dksX1_dx_0 10 rfl rfl)
theorem dX1_dx_11 : decode cX1_dx 11 = .ok (.if_icmp .ne 7, 3) := dk_160 0 7 (dk_at dksX1_dx_0 11 rfl rfl)
theorem dX1_dx_14 : decode cX1_dx 14 = .ok (.iconst (-1), 1) := dk_2 (dk_at dksX1_dx_0 14 rfl rfl)
theorem dX1_dx_15 : decode cX1_dx 15 = .ok (.goto 4, 3) := dk_167 0 4 (dk_at dksX1_dx_0 15 rfl rfl)
theorem dX1_dx_18 : decode cX1_dx 18 = .ok (.iconst 0, 1) := dk_3 (dk_at dksX1_dx_0 18 rfl rfl)
theorem dX1_dx_19 : decode cX1_dx 19 = .ok (.ireturn, 1) := dk_172 (dk_at dksX1_dx_0 19 rfl rfl)
abbrev cX1_dy : ByteArray := prog_1_method_23_code
def yX1_dy : MethodName := ⟨RX1, "dy", "(I)I"⟩
def dkwX1_dy_0 : List UInt8 := [26, 154, 0, 7, 2, 167, 0, 13, 26, 5, 160, 0, 7, 4, 167, 0, 4, 3, 172]
abbrev dktX1_dy_0 : List UInt8 := dkwX1_dy_0 ++ []
theorem dksX1_dy_0 : cX1_dy.data.toList.drop 0 = dktX1_dy_0 := by decide +kernel
theorem dX1_dy_0 : decode cX1_dy 0 = .ok (.iload_n 0, 1) := dk_26 (dk_at dksX1_dy_0 0 rfl rfl)
theorem dX1_dy_1 : decode cX1_dy 1 = .ok (.ifCond .ne 7, 3) := dk_154 0 7 (dk_at dksX1_dy_0 1 rfl rfl)
theorem dX1_dy_4 : decode cX1_dy 4 = .ok (.iconst (-1), 1) := dk_2 (dk_at dksX1_dy_0 4 rfl rfl)
theorem dX1_dy_5 : decode cX1_dy 5 = .ok (.goto 13, 3) := dk_167 0 13 (dk_at dksX1_dy_0 5 rfl rfl)
theorem dX1_dy_8 : decode cX1_dy 8 = .ok (.iload_n 0, 1) := dk_26 (dk_at dksX1_dy_0 8 rfl rfl)
theorem dX1_dy_9 : decode cX1_dy 9 = .ok (.iconst 2, 1) := dk_5 (dk_at dksX1_dy_0 9 rfl rfl)
theorem dX1_dy_10 : decode cX1_dy 10 = .ok (.if_icmp .ne 7, 3) := dk_160 0 7 (dk_at dksX1_dy_0 10 rfl rfl)
theorem dX1_dy_13 : decode cX1_dy 13 = .ok (.iconst 1, 1) := dk_4 (dk_at dksX1_dy_0 13 rfl rfl)
theorem dX1_dy_14 : decode cX1_dy 14 = .ok (.goto 4, 3) := dk_167 0 4 (dk_at dksX1_dy_0 14 rfl rfl)
theorem dX1_dy_17 : decode cX1_dy 17 = .ok (.iconst 0, 1) := dk_3 (dk_at dksX1_dy_0 17 rfl rfl)
theorem dX1_dy_18 : decode cX1_dy 18 = .ok (.ireturn, 1) := dk_172 (dk_at dksX1_dy_0 18 rfl rfl)
abbrev cX1_beside : ByteArray := prog_1_method_24_code
def yX1_beside : MethodName := ⟨RX1, "beside", "(III)I"⟩
def dkwX1_beside_2 : List UInt8 := [153, 0, 16, 21, 4, 42, 180, 0, 81, 21, 5, 104, 96, 167, 0, 4, 2, 172]
abbrev dktX1_beside_2 : List UInt8 := dkwX1_beside_2 ++ []
def dkwX1_beside_1 : List UInt8 := [180, 0, 81, 4, 100, 184, 0, 94, 153, 0, 31, 21, 5, 3, 42, 180, 0, 84, 4, 100, 184, 0, 94]
abbrev dktX1_beside_1 : List UInt8 := dkwX1_beside_1 ++ dktX1_beside_2
def dkwX1_beside_0 : List UInt8 := [27, 42, 180, 0, 81, 112, 28, 96, 54, 4, 27, 42, 180, 0, 81, 108, 29, 96, 54, 5, 21, 4, 3, 42]
abbrev dktX1_beside_0 : List UInt8 := dkwX1_beside_0 ++ dktX1_beside_1
theorem dksX1_beside_0 : cX1_beside.data.toList.drop 0 = dktX1_beside_0 := by decide +kernel
theorem dksX1_beside_1 : cX1_beside.data.toList.drop 24 = dktX1_beside_1 := dk_seg dksX1_beside_0 24 rfl rfl
theorem dksX1_beside_2 : cX1_beside.data.toList.drop 47 = dktX1_beside_2 := dk_seg dksX1_beside_1 23 rfl rfl
theorem dX1_beside_0 : decode cX1_beside 0 = .ok (.iload_n 1, 1) := dk_27 (dk_at dksX1_beside_0 0 rfl rfl)
theorem dX1_beside_1 : decode cX1_beside 1 = .ok (.aload_n 0, 1) := dk_42 (dk_at dksX1_beside_0 1 rfl rfl)
theorem dX1_beside_2 : decode cX1_beside 2 = .ok (.getfield 81, 3) := dk_180 0 81 (dk_at dksX1_beside_0 2 rfl rfl)
theorem dX1_beside_5 : decode cX1_beside 5 = .ok (.irem, 1) := dk_112 (dk_at dksX1_beside_0 5 rfl rfl)
theorem dX1_beside_6 : decode cX1_beside 6 = .ok (.iload_n 2, 1) := dk_28 (dk_at dksX1_beside_0 6 rfl rfl)
theorem dX1_beside_7 : decode cX1_beside 7 = .ok (.iadd, 1) := dk_96 (dk_at dksX1_beside_0 7 rfl rfl)
theorem dX1_beside_8 : decode cX1_beside 8 = .ok (.istore 4, 2) := dk_54 4 (dk_at dksX1_beside_0 8 rfl rfl)
theorem dX1_beside_10 : decode cX1_beside 10 = .ok (.iload_n 1, 1) := dk_27 (dk_at dksX1_beside_0 10 rfl rfl)
theorem dX1_beside_11 : decode cX1_beside 11 = .ok (.aload_n 0, 1) := dk_42 (dk_at dksX1_beside_0 11 rfl rfl)
theorem dX1_beside_12 : decode cX1_beside 12 = .ok (.getfield 81, 3) := dk_180 0 81 (dk_at dksX1_beside_0 12 rfl rfl)
theorem dX1_beside_15 : decode cX1_beside 15 = .ok (.idiv, 1) := dk_108 (dk_at dksX1_beside_0 15 rfl rfl)
theorem dX1_beside_16 : decode cX1_beside 16 = .ok (.iload_n 3, 1) := dk_29 (dk_at dksX1_beside_0 16 rfl rfl)
theorem dX1_beside_17 : decode cX1_beside 17 = .ok (.iadd, 1) := dk_96 (dk_at dksX1_beside_0 17 rfl rfl)
theorem dX1_beside_18 : decode cX1_beside 18 = .ok (.istore 5, 2) := dk_54 5 (dk_at dksX1_beside_0 18 rfl rfl)
theorem dX1_beside_20 : decode cX1_beside 20 = .ok (.iload 4, 2) := dk_21 4 (dk_at dksX1_beside_0 20 rfl rfl)
theorem dX1_beside_22 : decode cX1_beside 22 = .ok (.iconst 0, 1) := dk_3 (dk_at dksX1_beside_0 22 rfl rfl)
theorem dX1_beside_23 : decode cX1_beside 23 = .ok (.aload_n 0, 1) := dk_42 (dk_at dksX1_beside_0 23 rfl rfl)
theorem dX1_beside_24 : decode cX1_beside 24 = .ok (.getfield 81, 3) := dk_180 0 81 (dk_at dksX1_beside_1 0 rfl rfl)
theorem dX1_beside_27 : decode cX1_beside 27 = .ok (.iconst 1, 1) := dk_4 (dk_at dksX1_beside_1 3 rfl rfl)
theorem dX1_beside_28 : decode cX1_beside 28 = .ok (.isub, 1) := dk_100 (dk_at dksX1_beside_1 4 rfl rfl)
theorem dX1_beside_29 : decode cX1_beside 29 = .ok (.invokestatic 94, 3) := dk_184 0 94 (dk_at dksX1_beside_1 5 rfl rfl)
theorem dX1_beside_32 : decode cX1_beside 32 = .ok (.ifCond .eq 31, 3) := dk_153 0 31 (dk_at dksX1_beside_1 8 rfl rfl)
theorem dX1_beside_35 : decode cX1_beside 35 = .ok (.iload 5, 2) := dk_21 5 (dk_at dksX1_beside_1 11 rfl rfl)
theorem dX1_beside_37 : decode cX1_beside 37 = .ok (.iconst 0, 1) := dk_3 (dk_at dksX1_beside_1 13 rfl rfl)
theorem dX1_beside_38 : decode cX1_beside 38 = .ok (.aload_n 0, 1) := dk_42 (dk_at dksX1_beside_1 14 rfl rfl)
theorem dX1_beside_39 : decode cX1_beside 39 = .ok (.getfield 84, 3) := dk_180 0 84 (dk_at dksX1_beside_1 15 rfl rfl)
theorem dX1_beside_42 : decode cX1_beside 42 = .ok (.iconst 1, 1) := dk_4 (dk_at dksX1_beside_1 18 rfl rfl)
theorem dX1_beside_43 : decode cX1_beside 43 = .ok (.isub, 1) := dk_100 (dk_at dksX1_beside_1 19 rfl rfl)
theorem dX1_beside_44 : decode cX1_beside 44 = .ok (.invokestatic 94, 3) := dk_184 0 94 (dk_at dksX1_beside_1 20 rfl rfl)
theorem dX1_beside_47 : decode cX1_beside 47 = .ok (.ifCond .eq 16, 3) := dk_153 0 16 (dk_at dksX1_beside_2 0 rfl rfl)
theorem dX1_beside_50 : decode cX1_beside 50 = .ok (.iload 4, 2) := dk_21 4 (dk_at dksX1_beside_2 3 rfl rfl)
theorem dX1_beside_52 : decode cX1_beside 52 = .ok (.aload_n 0, 1) := dk_42 (dk_at dksX1_beside_2 5 rfl rfl)
theorem dX1_beside_53 : decode cX1_beside 53 = .ok (.getfield 81, 3) := dk_180 0 81 (dk_at dksX1_beside_2 6 rfl rfl)
theorem dX1_beside_56 : decode cX1_beside 56 = .ok (.iload 5, 2) := dk_21 5 (dk_at dksX1_beside_2 9 rfl rfl)
theorem dX1_beside_58 : decode cX1_beside 58 = .ok (.imul, 1) := dk_104 (dk_at dksX1_beside_2 11 rfl rfl)
theorem dX1_beside_59 : decode cX1_beside 59 = .ok (.iadd, 1) := dk_96 (dk_at dksX1_beside_2 12 rfl rfl)
theorem dX1_beside_60 : decode cX1_beside 60 = .ok (.goto 4, 3) := dk_167 0 4 (dk_at dksX1_beside_2 13 rfl rfl)
theorem dX1_beside_63 : decode cX1_beside 63 = .ok (.iconst (-1), 1) := dk_2 (dk_at dksX1_beside_2 16 rfl rfl)
theorem dX1_beside_64 : decode cX1_beside 64 = .ok (.ireturn, 1) := dk_172 (dk_at dksX1_beside_2 17 rfl rfl)
abbrev cX1_may : ByteArray := prog_1_method_27_code
def yX1_may : MethodName := ⟨RX1, "may", "([IIII)Z"⟩
def dkwX1_may_2 : List UInt8 := [180, 0, 179, 42, 180, 0, 30, 184, 0, 194, 172]
abbrev dktX1_may_2 : List UInt8 := dkwX1_may_2 ++ []
def dkwX1_may_1 : List UInt8 := [46, 16, 30, 163, 0, 7, 4, 167, 0, 4, 3, 172, 42, 43, 28, 29, 21, 4, 182, 0, 191, 25, 5]
abbrev dktX1_may_1 : List UInt8 := dkwX1_may_1 ++ dktX1_may_2
def dkwX1_may_0 : List UInt8 := [42, 182, 0, 176, 58, 5, 25, 5, 198, 0, 14, 25, 5, 180, 0, 179, 182, 0, 185, 153, 0, 17, 43, 28]
abbrev dktX1_may_0 : List UInt8 := dkwX1_may_0 ++ dktX1_may_1
theorem dksX1_may_0 : cX1_may.data.toList.drop 0 = dktX1_may_0 := by decide +kernel
theorem dksX1_may_1 : cX1_may.data.toList.drop 24 = dktX1_may_1 := dk_seg dksX1_may_0 24 rfl rfl
theorem dksX1_may_2 : cX1_may.data.toList.drop 47 = dktX1_may_2 := dk_seg dksX1_may_1 23 rfl rfl
theorem dX1_may_0 : decode cX1_may 0 = .ok (.aload_n 0, 1) := dk_42 (dk_at dksX1_may_0 0 rfl rfl)
theorem dX1_may_1 : decode cX1_may 1 = .ok (.invokevirtual 176, 3) := dk_182 0 176 (dk_at dksX1_may_0 1 rfl rfl)
theorem dX1_may_4 : decode cX1_may 4 = .ok (.astore 5, 2) := dk_58 5 (dk_at dksX1_may_0 4 rfl rfl)
theorem dX1_may_6 : decode cX1_may 6 = .ok (.aload 5, 2) := dk_25 5 (dk_at dksX1_may_0 6 rfl rfl)
theorem dX1_may_8 : decode cX1_may 8 = .ok (.ifnull 14, 3) := dk_198 0 14 (dk_at dksX1_may_0 8 rfl rfl)
theorem dX1_may_11 : decode cX1_may 11 = .ok (.aload 5, 2) := dk_25 5 (dk_at dksX1_may_0 11 rfl rfl)
theorem dX1_may_13 : decode cX1_may 13 = .ok (.getfield 179, 3) := dk_180 0 179 (dk_at dksX1_may_0 13 rfl rfl)
theorem dX1_may_16 : decode cX1_may 16 = .ok (.invokevirtual 185, 3) := dk_182 0 185 (dk_at dksX1_may_0 16 rfl rfl)
theorem dX1_may_19 : decode cX1_may 19 = .ok (.ifCond .eq 17, 3) := dk_153 0 17 (dk_at dksX1_may_0 19 rfl rfl)
theorem dX1_may_22 : decode cX1_may 22 = .ok (.aload_n 1, 1) := dk_43 (dk_at dksX1_may_0 22 rfl rfl)
theorem dX1_may_23 : decode cX1_may 23 = .ok (.iload_n 2, 1) := dk_28 (dk_at dksX1_may_0 23 rfl rfl)
theorem dX1_may_24 : decode cX1_may 24 = .ok (.iaload, 1) := dk_46 (dk_at dksX1_may_1 0 rfl rfl)
theorem dX1_may_25 : decode cX1_may 25 = .ok (.bipush 30, 2) := dk_16 30 (dk_at dksX1_may_1 1 rfl rfl)
theorem dX1_may_27 : decode cX1_may 27 = .ok (.if_icmp .gt 7, 3) := dk_163 0 7 (dk_at dksX1_may_1 3 rfl rfl)
theorem dX1_may_30 : decode cX1_may 30 = .ok (.iconst 1, 1) := dk_4 (dk_at dksX1_may_1 6 rfl rfl)
theorem dX1_may_31 : decode cX1_may 31 = .ok (.goto 4, 3) := dk_167 0 4 (dk_at dksX1_may_1 7 rfl rfl)
theorem dX1_may_34 : decode cX1_may 34 = .ok (.iconst 0, 1) := dk_3 (dk_at dksX1_may_1 10 rfl rfl)
theorem dX1_may_35 : decode cX1_may 35 = .ok (.ireturn, 1) := dk_172 (dk_at dksX1_may_1 11 rfl rfl)
theorem dX1_may_36 : decode cX1_may 36 = .ok (.aload_n 0, 1) := dk_42 (dk_at dksX1_may_1 12 rfl rfl)
theorem dX1_may_37 : decode cX1_may 37 = .ok (.aload_n 1, 1) := dk_43 (dk_at dksX1_may_1 13 rfl rfl)
theorem dX1_may_38 : decode cX1_may 38 = .ok (.iload_n 2, 1) := dk_28 (dk_at dksX1_may_1 14 rfl rfl)
theorem dX1_may_39 : decode cX1_may 39 = .ok (.iload_n 3, 1) := dk_29 (dk_at dksX1_may_1 15 rfl rfl)
theorem dX1_may_40 : decode cX1_may 40 = .ok (.iload 4, 2) := dk_21 4 (dk_at dksX1_may_1 16 rfl rfl)
theorem dX1_may_42 : decode cX1_may 42 = .ok (.invokevirtual 191, 3) := dk_182 0 191 (dk_at dksX1_may_1 18 rfl rfl)
theorem dX1_may_45 : decode cX1_may 45 = .ok (.aload 5, 2) := dk_25 5 (dk_at dksX1_may_1 21 rfl rfl)
theorem dX1_may_47 : decode cX1_may 47 = .ok (.getfield 179, 3) := dk_180 0 179 (dk_at dksX1_may_2 0 rfl rfl)
theorem dX1_may_50 : decode cX1_may 50 = .ok (.aload_n 0, 1) := dk_42 (dk_at dksX1_may_2 3 rfl rfl)
theorem dX1_may_51 : decode cX1_may 51 = .ok (.getfield 30, 3) := dk_180 0 30 (dk_at dksX1_may_2 4 rfl rfl)
theorem dX1_may_54 : decode cX1_may 54 = .ok (.invokestatic 194, 3) := dk_184 0 194 (dk_at dksX1_may_2 7 rfl rfl)
theorem dX1_may_57 : decode cX1_may 57 = .ok (.ireturn, 1) := dk_172 (dk_at dksX1_may_2 10 rfl rfl)
abbrev cX1_rules : ByteArray := prog_1_method_21_code
def yX1_rules : MethodName := ⟨RX1, "rules", "()LThroughPack$Text;"⟩
def dkwX1_rules_1 : List UInt8 := [42, 180, 0, 12, 180, 0, 112, 6, 46, 50, 176]
abbrev dktX1_rules_1 : List UInt8 := dkwX1_rules_1 ++ []
def dkwX1_rules_0 : List UInt8 := [42, 180, 0, 12, 180, 0, 112, 6, 46, 2, 160, 0, 7, 1, 167, 0, 20, 42, 180, 0, 12, 180, 0, 143]
abbrev dktX1_rules_0 : List UInt8 := dkwX1_rules_0 ++ dktX1_rules_1
theorem dksX1_rules_0 : cX1_rules.data.toList.drop 0 = dktX1_rules_0 := by decide +kernel
theorem dksX1_rules_1 : cX1_rules.data.toList.drop 24 = dktX1_rules_1 := dk_seg dksX1_rules_0 24 rfl rfl
theorem dX1_rules_0 : decode cX1_rules 0 = .ok (.aload_n 0, 1) := dk_42 (dk_at dksX1_rules_0 0 rfl rfl)
theorem dX1_rules_1 : decode cX1_rules 1 = .ok (.getfield 12, 3) := dk_180 0 12 (dk_at dksX1_rules_0 1 rfl rfl)
theorem dX1_rules_4 : decode cX1_rules 4 = .ok (.getfield 112, 3) := dk_180 0 112 (dk_at dksX1_rules_0 4 rfl rfl)
theorem dX1_rules_7 : decode cX1_rules 7 = .ok (.iconst 3, 1) := dk_6 (dk_at dksX1_rules_0 7 rfl rfl)
theorem dX1_rules_8 : decode cX1_rules 8 = .ok (.iaload, 1) := dk_46 (dk_at dksX1_rules_0 8 rfl rfl)
theorem dX1_rules_9 : decode cX1_rules 9 = .ok (.iconst (-1), 1) := dk_2 (dk_at dksX1_rules_0 9 rfl rfl)
theorem dX1_rules_10 : decode cX1_rules 10 = .ok (.if_icmp .ne 7, 3) := dk_160 0 7 (dk_at dksX1_rules_0 10 rfl rfl)
theorem dX1_rules_13 : decode cX1_rules 13 = .ok (.aconst_null, 1) := dk_1 (dk_at dksX1_rules_0 13 rfl rfl)
theorem dX1_rules_14 : decode cX1_rules 14 = .ok (.goto 20, 3) := dk_167 0 20 (dk_at dksX1_rules_0 14 rfl rfl)
theorem dX1_rules_17 : decode cX1_rules 17 = .ok (.aload_n 0, 1) := dk_42 (dk_at dksX1_rules_0 17 rfl rfl)
theorem dX1_rules_18 : decode cX1_rules 18 = .ok (.getfield 12, 3) := dk_180 0 12 (dk_at dksX1_rules_0 18 rfl rfl)
theorem dX1_rules_21 : decode cX1_rules 21 = .ok (.getfield 143, 3) := dk_180 0 143 (dk_at dksX1_rules_0 21 rfl rfl)
theorem dX1_rules_24 : decode cX1_rules 24 = .ok (.aload_n 0, 1) := dk_42 (dk_at dksX1_rules_1 0 rfl rfl)
theorem dX1_rules_25 : decode cX1_rules 25 = .ok (.getfield 12, 3) := dk_180 0 12 (dk_at dksX1_rules_1 1 rfl rfl)
theorem dX1_rules_28 : decode cX1_rules 28 = .ok (.getfield 112, 3) := dk_180 0 112 (dk_at dksX1_rules_1 4 rfl rfl)
theorem dX1_rules_31 : decode cX1_rules 31 = .ok (.iconst 3, 1) := dk_6 (dk_at dksX1_rules_1 7 rfl rfl)
theorem dX1_rules_32 : decode cX1_rules 32 = .ok (.iaload, 1) := dk_46 (dk_at dksX1_rules_1 8 rfl rfl)
theorem dX1_rules_33 : decode cX1_rules 33 = .ok (.aaload, 1) := dk_50 (dk_at dksX1_rules_1 9 rfl rfl)
theorem dX1_rules_34 : decode cX1_rules 34 = .ok (.areturn, 1) := dk_176 (dk_at dksX1_rules_1 10 rfl rfl)
abbrev cX1_names : ByteArray := prog_1_method_26_code
def yX1_names : MethodName := ⟨RX1, "names", "([IIII)V"⟩
def dkwX1_names_4 : List UInt8 := [180, 0, 81, 108, 79, 42, 180, 0, 30, 16, 7, 29, 79, 42, 180, 0, 30, 16, 8, 21, 4, 79, 177]
abbrev dktX1_names_4 : List UInt8 := dkwX1_names_4 ++ []
def dkwX1_names_3 : List UInt8 := [167, 255, 198, 42, 180, 0, 30, 8, 28, 42, 180, 0, 81, 112, 79, 42, 180, 0, 30, 16, 6, 28, 42]
abbrev dktX1_names_3 : List UInt8 := dkwX1_names_3 ++ dktX1_names_4
def dkwX1_names_2 : List UInt8 := [160, 0, 16, 42, 180, 0, 12, 180, 0, 112, 16, 8, 46, 167, 0, 7, 43, 21, 6, 46, 79, 132, 5, 1]
abbrev dktX1_names_2 : List UInt8 := dkwX1_names_2 ++ dktX1_names_3
def dkwX1_names_1 : List UInt8 := [184, 0, 169, 21, 5, 184, 0, 173, 182, 0, 165, 54, 6, 42, 180, 0, 30, 4, 21, 5, 96, 21, 6, 2]
abbrev dktX1_names_1 : List UInt8 := dkwX1_names_1 ++ dktX1_names_2
def dkwX1_names_0 : List UInt8 := [42, 180, 0, 30, 3, 43, 28, 46, 79, 3, 54, 5, 21, 5, 7, 162, 0, 58, 42, 28, 21, 5]
abbrev dktX1_names_0 : List UInt8 := dkwX1_names_0 ++ dktX1_names_1
theorem dksX1_names_0 : cX1_names.data.toList.drop 0 = dktX1_names_0 := by decide +kernel
theorem dksX1_names_1 : cX1_names.data.toList.drop 22 = dktX1_names_1 := dk_seg dksX1_names_0 22 rfl rfl
theorem dksX1_names_2 : cX1_names.data.toList.drop 46 = dktX1_names_2 := dk_seg dksX1_names_1 24 rfl rfl
theorem dksX1_names_3 : cX1_names.data.toList.drop 70 = dktX1_names_3 := dk_seg dksX1_names_2 24 rfl rfl
theorem dksX1_names_4 : cX1_names.data.toList.drop 93 = dktX1_names_4 := dk_seg dksX1_names_3 23 rfl rfl
theorem dX1_names_0 : decode cX1_names 0 = .ok (.aload_n 0, 1) := dk_42 (dk_at dksX1_names_0 0 rfl rfl)
theorem dX1_names_1 : decode cX1_names 1 = .ok (.getfield 30, 3) := dk_180 0 30 (dk_at dksX1_names_0 1 rfl rfl)
theorem dX1_names_4 : decode cX1_names 4 = .ok (.iconst 0, 1) := dk_3 (dk_at dksX1_names_0 4 rfl rfl)
theorem dX1_names_5 : decode cX1_names 5 = .ok (.aload_n 1, 1) := dk_43 (dk_at dksX1_names_0 5 rfl rfl)
theorem dX1_names_6 : decode cX1_names 6 = .ok (.iload_n 2, 1) := dk_28 (dk_at dksX1_names_0 6 rfl rfl)
theorem dX1_names_7 : decode cX1_names 7 = .ok (.iaload, 1) := dk_46 (dk_at dksX1_names_0 7 rfl rfl)
theorem dX1_names_8 : decode cX1_names 8 = .ok (.iastore, 1) := dk_79 (dk_at dksX1_names_0 8 rfl rfl)
theorem dX1_names_9 : decode cX1_names 9 = .ok (.iconst 0, 1) := dk_3 (dk_at dksX1_names_0 9 rfl rfl)
theorem dX1_names_10 : decode cX1_names 10 = .ok (.istore 5, 2) := dk_54 5 (dk_at dksX1_names_0 10 rfl rfl)
theorem dX1_names_12 : decode cX1_names 12 = .ok (.iload 5, 2) := dk_21 5 (dk_at dksX1_names_0 12 rfl rfl)
theorem dX1_names_14 : decode cX1_names 14 = .ok (.iconst 4, 1) := dk_7 (dk_at dksX1_names_0 14 rfl rfl)
theorem dX1_names_15 : decode cX1_names 15 = .ok (.if_icmp .ge 58, 3) := dk_162 0 58 (dk_at dksX1_names_0 15 rfl rfl)
theorem dX1_names_18 : decode cX1_names 18 = .ok (.aload_n 0, 1) := dk_42 (dk_at dksX1_names_0 18 rfl rfl)
theorem dX1_names_19 : decode cX1_names 19 = .ok (.iload_n 2, 1) := dk_28 (dk_at dksX1_names_0 19 rfl rfl)
theorem dX1_names_20 : decode cX1_names 20 = .ok (.iload 5, 2) := dk_21 5 (dk_at dksX1_names_0 20 rfl rfl)
theorem dX1_names_22 : decode cX1_names 22 = .ok (.invokestatic 169, 3) := dk_184 0 169 (dk_at dksX1_names_1 0 rfl rfl)
theorem dX1_names_25 : decode cX1_names 25 = .ok (.iload 5, 2) := dk_21 5 (dk_at dksX1_names_1 3 rfl rfl)
theorem dX1_names_27 : decode cX1_names 27 = .ok (.invokestatic 173, 3) := dk_184 0 173 (dk_at dksX1_names_1 5 rfl rfl)
theorem dX1_names_30 : decode cX1_names 30 = .ok (.invokevirtual 165, 3) := dk_182 0 165 (dk_at dksX1_names_1 8 rfl rfl)
theorem dX1_names_33 : decode cX1_names 33 = .ok (.istore 6, 2) := dk_54 6 (dk_at dksX1_names_1 11 rfl rfl)
theorem dX1_names_35 : decode cX1_names 35 = .ok (.aload_n 0, 1) := dk_42 (dk_at dksX1_names_1 13 rfl rfl)
theorem dX1_names_36 : decode cX1_names 36 = .ok (.getfield 30, 3) := dk_180 0 30 (dk_at dksX1_names_1 14 rfl rfl)
theorem dX1_names_39 : decode cX1_names 39 = .ok (.iconst 1, 1) := dk_4 (dk_at dksX1_names_1 17 rfl rfl)
theorem dX1_names_40 : decode cX1_names 40 = .ok (.iload 5, 2) := dk_21 5 (dk_at dksX1_names_1 18 rfl rfl)
theorem dX1_names_42 : decode cX1_names 42 = .ok (.iadd, 1) := dk_96 (dk_at dksX1_names_1 20 rfl rfl)
theorem dX1_names_43 : decode cX1_names 43 = .ok (.iload 6, 2) := dk_21 6 (dk_at dksX1_names_1 21 rfl rfl)
theorem dX1_names_45 : decode cX1_names 45 = .ok (.iconst (-1), 1) := dk_2 (dk_at dksX1_names_1 23 rfl rfl)
theorem dX1_names_46 : decode cX1_names 46 = .ok (.if_icmp .ne 16, 3) := dk_160 0 16 (dk_at dksX1_names_2 0 rfl rfl)
theorem dX1_names_49 : decode cX1_names 49 = .ok (.aload_n 0, 1) := dk_42 (dk_at dksX1_names_2 3 rfl rfl)
theorem dX1_names_50 : decode cX1_names 50 = .ok (.getfield 12, 3) := dk_180 0 12 (dk_at dksX1_names_2 4 rfl rfl)
theorem dX1_names_53 : decode cX1_names 53 = .ok (.getfield 112, 3) := dk_180 0 112 (dk_at dksX1_names_2 7 rfl rfl)
theorem dX1_names_56 : decode cX1_names 56 = .ok (.bipush 8, 2) := dk_16 8 (dk_at dksX1_names_2 10 rfl rfl)
theorem dX1_names_58 : decode cX1_names 58 = .ok (.iaload, 1) := dk_46 (dk_at dksX1_names_2 12 rfl rfl)
theorem dX1_names_59 : decode cX1_names 59 = .ok (.goto 7, 3) := dk_167 0 7 (dk_at dksX1_names_2 13 rfl rfl)
theorem dX1_names_62 : decode cX1_names 62 = .ok (.aload_n 1, 1) := dk_43 (dk_at dksX1_names_2 16 rfl rfl)
theorem dX1_names_63 : decode cX1_names 63 = .ok (.iload 6, 2) := dk_21 6 (dk_at dksX1_names_2 17 rfl rfl)
theorem dX1_names_65 : decode cX1_names 65 = .ok (.iaload, 1) := dk_46 (dk_at dksX1_names_2 19 rfl rfl)
theorem dX1_names_66 : decode cX1_names 66 = .ok (.iastore, 1) := dk_79 (dk_at dksX1_names_2 20 rfl rfl)
theorem dX1_names_67 : decode cX1_names 67 = .ok (.iinc 5 1, 3) := dk_132 5 1 (dk_at dksX1_names_2 21 rfl rfl)
theorem dX1_names_70 : decode cX1_names 70 = .ok (.goto (-58), 3) := dk_167 255 198 (dk_at dksX1_names_3 0 rfl rfl)
theorem dX1_names_73 : decode cX1_names 73 = .ok (.aload_n 0, 1) := dk_42 (dk_at dksX1_names_3 3 rfl rfl)
theorem dX1_names_74 : decode cX1_names 74 = .ok (.getfield 30, 3) := dk_180 0 30 (dk_at dksX1_names_3 4 rfl rfl)
theorem dX1_names_77 : decode cX1_names 77 = .ok (.iconst 5, 1) := dk_8 (dk_at dksX1_names_3 7 rfl rfl)
theorem dX1_names_78 : decode cX1_names 78 = .ok (.iload_n 2, 1) := dk_28 (dk_at dksX1_names_3 8 rfl rfl)
theorem dX1_names_79 : decode cX1_names 79 = .ok (.aload_n 0, 1) := dk_42 (dk_at dksX1_names_3 9 rfl rfl)
theorem dX1_names_80 : decode cX1_names 80 = .ok (.getfield 81, 3) := dk_180 0 81 (dk_at dksX1_names_3 10 rfl rfl)
theorem dX1_names_83 : decode cX1_names 83 = .ok (.irem, 1) := dk_112 (dk_at dksX1_names_3 13 rfl rfl)
theorem dX1_names_84 : decode cX1_names 84 = .ok (.iastore, 1) := dk_79 (dk_at dksX1_names_3 14 rfl rfl)
theorem dX1_names_85 : decode cX1_names 85 = .ok (.aload_n 0, 1) := dk_42 (dk_at dksX1_names_3 15 rfl rfl)
theorem dX1_names_86 : decode cX1_names 86 = .ok (.getfield 30, 3) := dk_180 0 30 (dk_at dksX1_names_3 16 rfl rfl)
theorem dX1_names_89 : decode cX1_names 89 = .ok (.bipush 6, 2) := dk_16 6 (dk_at dksX1_names_3 19 rfl rfl)
theorem dX1_names_91 : decode cX1_names 91 = .ok (.iload_n 2, 1) := dk_28 (dk_at dksX1_names_3 21 rfl rfl)
theorem dX1_names_92 : decode cX1_names 92 = .ok (.aload_n 0, 1) := dk_42 (dk_at dksX1_names_3 22 rfl rfl)
theorem dX1_names_93 : decode cX1_names 93 = .ok (.getfield 81, 3) := dk_180 0 81 (dk_at dksX1_names_4 0 rfl rfl)
theorem dX1_names_96 : decode cX1_names 96 = .ok (.idiv, 1) := dk_108 (dk_at dksX1_names_4 3 rfl rfl)
theorem dX1_names_97 : decode cX1_names 97 = .ok (.iastore, 1) := dk_79 (dk_at dksX1_names_4 4 rfl rfl)
theorem dX1_names_98 : decode cX1_names 98 = .ok (.aload_n 0, 1) := dk_42 (dk_at dksX1_names_4 5 rfl rfl)
theorem dX1_names_99 : decode cX1_names 99 = .ok (.getfield 30, 3) := dk_180 0 30 (dk_at dksX1_names_4 6 rfl rfl)
theorem dX1_names_102 : decode cX1_names 102 = .ok (.bipush 7, 2) := dk_16 7 (dk_at dksX1_names_4 9 rfl rfl)
theorem dX1_names_104 : decode cX1_names 104 = .ok (.iload_n 3, 1) := dk_29 (dk_at dksX1_names_4 11 rfl rfl)
theorem dX1_names_105 : decode cX1_names 105 = .ok (.iastore, 1) := dk_79 (dk_at dksX1_names_4 12 rfl rfl)
theorem dX1_names_106 : decode cX1_names 106 = .ok (.aload_n 0, 1) := dk_42 (dk_at dksX1_names_4 13 rfl rfl)
theorem dX1_names_107 : decode cX1_names 107 = .ok (.getfield 30, 3) := dk_180 0 30 (dk_at dksX1_names_4 14 rfl rfl)
theorem dX1_names_110 : decode cX1_names 110 = .ok (.bipush 8, 2) := dk_16 8 (dk_at dksX1_names_4 17 rfl rfl)
theorem dX1_names_112 : decode cX1_names 112 = .ok (.iload 4, 2) := dk_21 4 (dk_at dksX1_names_4 19 rfl rfl)
theorem dX1_names_114 : decode cX1_names 114 = .ok (.iastore, 1) := dk_79 (dk_at dksX1_names_4 21 rfl rfl)
theorem dX1_names_115 : decode cX1_names 115 = .ok (.return_, 1) := dk_177 (dk_at dksX1_names_4 22 rfl rfl)
abbrev cX1_costOf_2 : ByteArray := prog_1_method_28_code
def yX1_costOf_2 : MethodName := ⟨RX1, "costOf", "([IIII)I"⟩
def dkwX1_costOf_2_2 : List UInt8 := [180, 0, 30, 185, 0, 203, 2, 0, 184, 0, 209, 184, 0, 212, 136, 172]
abbrev dktX1_costOf_2_2 : List UInt8 := dkwX1_costOf_2_2 ++ []
def dkwX1_costOf_2_1 : List UInt8 := [16, 10, 108, 96, 172, 42, 43, 28, 29, 21, 4, 182, 0, 191, 9, 20, 0, 201, 25, 5, 180, 0, 198, 42]
abbrev dktX1_costOf_2_1 : List UInt8 := dkwX1_costOf_2_1 ++ dktX1_costOf_2_2
def dkwX1_costOf_2_0 : List UInt8 := [42, 182, 0, 176, 58, 5, 25, 5, 198, 0, 11, 25, 5, 180, 0, 198, 199, 0, 12, 4, 43, 28, 46]
abbrev dktX1_costOf_2_0 : List UInt8 := dkwX1_costOf_2_0 ++ dktX1_costOf_2_1
theorem dksX1_costOf_2_0 : cX1_costOf_2.data.toList.drop 0 = dktX1_costOf_2_0 := by decide +kernel
theorem dksX1_costOf_2_1 : cX1_costOf_2.data.toList.drop 23 = dktX1_costOf_2_1 := dk_seg dksX1_costOf_2_0 23 rfl rfl
theorem dksX1_costOf_2_2 : cX1_costOf_2.data.toList.drop 47 = dktX1_costOf_2_2 := dk_seg dksX1_costOf_2_1 24 rfl rfl
theorem dX1_costOf_2_0 : decode cX1_costOf_2 0 = .ok (.aload_n 0, 1) := dk_42 (dk_at dksX1_costOf_2_0 0 rfl rfl)
theorem dX1_costOf_2_1 : decode cX1_costOf_2 1 = .ok (.invokevirtual 176, 3) := dk_182 0 176 (dk_at dksX1_costOf_2_0 1 rfl rfl)
theorem dX1_costOf_2_4 : decode cX1_costOf_2 4 = .ok (.astore 5, 2) := dk_58 5 (dk_at dksX1_costOf_2_0 4 rfl rfl)
theorem dX1_costOf_2_6 : decode cX1_costOf_2 6 = .ok (.aload 5, 2) := dk_25 5 (dk_at dksX1_costOf_2_0 6 rfl rfl)
theorem dX1_costOf_2_8 : decode cX1_costOf_2 8 = .ok (.ifnull 11, 3) := dk_198 0 11 (dk_at dksX1_costOf_2_0 8 rfl rfl)
theorem dX1_costOf_2_11 : decode cX1_costOf_2 11 = .ok (.aload 5, 2) := dk_25 5 (dk_at dksX1_costOf_2_0 11 rfl rfl)
theorem dX1_costOf_2_13 : decode cX1_costOf_2 13 = .ok (.getfield 198, 3) := dk_180 0 198 (dk_at dksX1_costOf_2_0 13 rfl rfl)
theorem dX1_costOf_2_16 : decode cX1_costOf_2 16 = .ok (.ifnonnull 12, 3) := dk_199 0 12 (dk_at dksX1_costOf_2_0 16 rfl rfl)
theorem dX1_costOf_2_19 : decode cX1_costOf_2 19 = .ok (.iconst 1, 1) := dk_4 (dk_at dksX1_costOf_2_0 19 rfl rfl)
theorem dX1_costOf_2_20 : decode cX1_costOf_2 20 = .ok (.aload_n 1, 1) := dk_43 (dk_at dksX1_costOf_2_0 20 rfl rfl)
theorem dX1_costOf_2_21 : decode cX1_costOf_2 21 = .ok (.iload_n 2, 1) := dk_28 (dk_at dksX1_costOf_2_0 21 rfl rfl)
theorem dX1_costOf_2_22 : decode cX1_costOf_2 22 = .ok (.iaload, 1) := dk_46 (dk_at dksX1_costOf_2_0 22 rfl rfl)
theorem dX1_costOf_2_23 : decode cX1_costOf_2 23 = .ok (.bipush 10, 2) := dk_16 10 (dk_at dksX1_costOf_2_1 0 rfl rfl)
theorem dX1_costOf_2_25 : decode cX1_costOf_2 25 = .ok (.idiv, 1) := dk_108 (dk_at dksX1_costOf_2_1 2 rfl rfl)
theorem dX1_costOf_2_26 : decode cX1_costOf_2 26 = .ok (.iadd, 1) := dk_96 (dk_at dksX1_costOf_2_1 3 rfl rfl)
theorem dX1_costOf_2_27 : decode cX1_costOf_2 27 = .ok (.ireturn, 1) := dk_172 (dk_at dksX1_costOf_2_1 4 rfl rfl)
theorem dX1_costOf_2_28 : decode cX1_costOf_2 28 = .ok (.aload_n 0, 1) := dk_42 (dk_at dksX1_costOf_2_1 5 rfl rfl)
theorem dX1_costOf_2_29 : decode cX1_costOf_2 29 = .ok (.aload_n 1, 1) := dk_43 (dk_at dksX1_costOf_2_1 6 rfl rfl)
theorem dX1_costOf_2_30 : decode cX1_costOf_2 30 = .ok (.iload_n 2, 1) := dk_28 (dk_at dksX1_costOf_2_1 7 rfl rfl)
theorem dX1_costOf_2_31 : decode cX1_costOf_2 31 = .ok (.iload_n 3, 1) := dk_29 (dk_at dksX1_costOf_2_1 8 rfl rfl)
theorem dX1_costOf_2_32 : decode cX1_costOf_2 32 = .ok (.iload 4, 2) := dk_21 4 (dk_at dksX1_costOf_2_1 9 rfl rfl)
theorem dX1_costOf_2_34 : decode cX1_costOf_2 34 = .ok (.invokevirtual 191, 3) := dk_182 0 191 (dk_at dksX1_costOf_2_1 11 rfl rfl)
theorem dX1_costOf_2_37 : decode cX1_costOf_2 37 = .ok (.lconst 0, 1) := dk_9 (dk_at dksX1_costOf_2_1 14 rfl rfl)
theorem dX1_costOf_2_38 : decode cX1_costOf_2 38 = .ok (.ldc2_w 201, 3) := dk_20 0 201 (dk_at dksX1_costOf_2_1 15 rfl rfl)
theorem dX1_costOf_2_41 : decode cX1_costOf_2 41 = .ok (.aload 5, 2) := dk_25 5 (dk_at dksX1_costOf_2_1 18 rfl rfl)
theorem dX1_costOf_2_43 : decode cX1_costOf_2 43 = .ok (.getfield 198, 3) := dk_180 0 198 (dk_at dksX1_costOf_2_1 20 rfl rfl)
theorem dX1_costOf_2_46 : decode cX1_costOf_2 46 = .ok (.aload_n 0, 1) := dk_42 (dk_at dksX1_costOf_2_1 23 rfl rfl)
theorem dX1_costOf_2_47 : decode cX1_costOf_2 47 = .ok (.getfield 30, 3) := dk_180 0 30 (dk_at dksX1_costOf_2_2 0 rfl rfl)
theorem dX1_costOf_2_50 : decode cX1_costOf_2 50 = .ok (.invokeinterface 203 2, 5) := by decide +kernel
theorem dX1_costOf_2_55 : decode cX1_costOf_2 55 = .ok (.invokestatic 209, 3) := dk_184 0 209 (dk_at dksX1_costOf_2_2 8 rfl rfl)
theorem dX1_costOf_2_58 : decode cX1_costOf_2 58 = .ok (.invokestatic 212, 3) := dk_184 0 212 (dk_at dksX1_costOf_2_2 11 rfl rfl)
theorem dX1_costOf_2_61 : decode cX1_costOf_2 61 = .ok (.l2i, 1) := dk_136 (dk_at dksX1_costOf_2_2 14 rfl rfl)
theorem dX1_costOf_2_62 : decode cX1_costOf_2 62 = .ok (.ireturn, 1) := dk_172 (dk_at dksX1_costOf_2_2 15 rfl rfl)
abbrev cX1_watch : ByteArray := prog_1_method_36_code
def yX1_watch : MethodName := ⟨RX1, "watch", "(III)I"⟩
def dkwX1_watch_18 : List UInt8 := [96, 79, 21, 5, 153, 0, 7, 4, 167, 0, 4, 3, 21, 7, 153, 0, 7, 5, 167, 0, 4, 3, 96, 172]
abbrev dktX1_watch_18 : List UInt8 := dkwX1_watch_18 ++ []
def dkwX1_watch_17 : List UInt8 := [167, 255, 172, 42, 180, 0, 12, 180, 0, 112, 4, 27, 79, 42, 180, 0, 12, 180, 0, 112, 3, 92, 46, 4]
abbrev dktX1_watch_17 : List UInt8 := dkwX1_watch_17 ++ dktX1_watch_18
def dkwX1_watch_16 : List UInt8 := [27, 50, 3, 46, 42, 180, 0, 12, 180, 0, 118, 27, 50, 4, 46, 182, 0, 165, 79, 132, 8, 1]
abbrev dktX1_watch_16 : List UInt8 := dkwX1_watch_16 ++ dktX1_watch_17
def dkwX1_watch_15 : List UInt8 := [21, 8, 50, 3, 42, 42, 180, 0, 12, 180, 0, 251, 21, 8, 50, 3, 46, 42, 180, 0, 12, 180, 0, 118]
abbrev dktX1_watch_15 : List UInt8 := dkwX1_watch_15 ++ dktX1_watch_16
def dkwX1_watch_14 : List UInt8 := [42, 180, 0, 12, 180, 0, 251, 21, 8, 50, 3, 46, 2, 159, 0, 53, 42, 180, 0, 12, 180, 0, 251]
abbrev dktX1_watch_14 : List UInt8 := dkwX1_watch_14 ++ dktX1_watch_15
def dkwX1_watch_13 : List UInt8 := [132, 8, 1, 167, 255, 117, 3, 54, 8, 21, 8, 42, 180, 0, 12, 180, 0, 112, 16, 7, 46, 162, 0, 75]
abbrev dktX1_watch_13 : List UInt8 := dkwX1_watch_13 ++ dktX1_watch_14
def dkwX1_watch_12 : List UInt8 := [46, 27, 42, 180, 0, 12, 180, 0, 112, 3, 46, 182, 0, 249, 153, 0, 8, 25, 9, 6, 5, 79]
abbrev dktX1_watch_12 : List UInt8 := dkwX1_watch_12 ++ dktX1_watch_13
def dkwX1_watch_11 : List UInt8 := [25, 9, 3, 42, 25, 9, 3, 46, 27, 182, 0, 246, 79, 42, 42, 180, 0, 12, 180, 0, 102, 25, 9, 3]
abbrev dktX1_watch_11 : List UInt8 := dkwX1_watch_11 ++ dktX1_watch_12
def dkwX1_watch_10 : List UInt8 := [21, 10, 7, 161, 0, 9, 21, 10, 8, 160, 0, 7, 4, 167, 0, 4, 3, 54, 11, 21, 11, 154, 0, 16]
abbrev dktX1_watch_10 : List UInt8 := dkwX1_watch_10 ++ dktX1_watch_11
def dkwX1_watch_9 : List UInt8 := [167, 0, 4, 29, 54, 10, 21, 8, 154, 0, 11, 21, 5, 153, 0, 27, 167, 0, 8, 21, 7, 153, 0, 19]
abbrev dktX1_watch_9 : List UInt8 := dkwX1_watch_9 ++ dktX1_watch_10
def dkwX1_watch_8 : List UInt8 := [25, 9, 3, 46, 2, 159, 0, 113, 25, 9, 6, 46, 153, 0, 6, 167, 0, 103, 21, 8, 154, 0, 7, 28]
abbrev dktX1_watch_8 : List UInt8 := dkwX1_watch_8 ++ dktX1_watch_9
def dkwX1_watch_7 : List UInt8 := [184, 0, 124, 3, 54, 8, 21, 8, 5, 162, 0, 139, 42, 180, 0, 12, 180, 0, 130, 21, 8, 50, 58, 9]
abbrev dktX1_watch_7 : List UInt8 := dkwX1_watch_7 ++ dktX1_watch_8
def dkwX1_watch_6 : List UInt8 := [182, 0, 242, 42, 180, 0, 54, 3, 50, 3, 50, 3, 42, 180, 0, 12, 180, 0, 102, 3, 42, 180, 0, 87]
abbrev dktX1_watch_6 : List UInt8 := dkwX1_watch_6 ++ dktX1_watch_7
def dkwX1_watch_5 : List UInt8 := [180, 0, 12, 180, 0, 102, 42, 180, 0, 54, 3, 50, 3, 50, 27, 42, 180, 0, 12, 180, 0, 112, 3, 46]
abbrev dktX1_watch_5 : List UInt8 := dkwX1_watch_5 ++ dktX1_watch_6
def dkwX1_watch_4 : List UInt8 := [3, 79, 42, 4, 29, 182, 0, 239, 54, 7, 42, 180, 0, 12, 180, 0, 102, 21, 4, 21, 6, 79, 42, 42]
abbrev dktX1_watch_4 : List UInt8 := dkwX1_watch_4 ++ dktX1_watch_5
def dkwX1_watch_3 : List UInt8 := [21, 4, 46, 54, 6, 21, 5, 153, 0, 19, 28, 7, 162, 0, 14, 42, 180, 0, 12, 180, 0, 102, 21, 4]
abbrev dktX1_watch_3 : List UInt8 := dkwX1_watch_3 ++ dktX1_watch_4
def dkwX1_watch_2 : List UInt8 := [180, 0, 130, 3, 50, 3, 46, 54, 4, 42, 3, 28, 182, 0, 239, 54, 5, 42, 180, 0, 12, 180, 0, 102]
abbrev dktX1_watch_2 : List UInt8 := dkwX1_watch_2 ++ dktX1_watch_3
def dkwX1_watch_1 : List UInt8 := [153, 0, 17, 42, 180, 0, 12, 180, 0, 112, 3, 46, 16, 99, 160, 0, 5, 2, 172, 42, 180, 0, 12]
abbrev dktX1_watch_1 : List UInt8 := dkwX1_watch_1 ++ dktX1_watch_2
def dkwX1_watch_0 : List UInt8 := [27, 184, 0, 115, 153, 0, 37, 28, 2, 16, 7, 184, 0, 94, 153, 0, 27, 29, 2, 16, 7, 184, 0, 94]
abbrev dktX1_watch_0 : List UInt8 := dkwX1_watch_0 ++ dktX1_watch_1
theorem dksX1_watch_0 : cX1_watch.data.toList.drop 0 = dktX1_watch_0 := by decide +kernel
theorem dksX1_watch_1 : cX1_watch.data.toList.drop 24 = dktX1_watch_1 := dk_seg dksX1_watch_0 24 rfl rfl
theorem dksX1_watch_2 : cX1_watch.data.toList.drop 47 = dktX1_watch_2 := dk_seg dksX1_watch_1 23 rfl rfl
theorem dksX1_watch_3 : cX1_watch.data.toList.drop 71 = dktX1_watch_3 := dk_seg dksX1_watch_2 24 rfl rfl
theorem dksX1_watch_4 : cX1_watch.data.toList.drop 95 = dktX1_watch_4 := dk_seg dksX1_watch_3 24 rfl rfl
theorem dksX1_watch_5 : cX1_watch.data.toList.drop 119 = dktX1_watch_5 := dk_seg dksX1_watch_4 24 rfl rfl
theorem dksX1_watch_6 : cX1_watch.data.toList.drop 143 = dktX1_watch_6 := dk_seg dksX1_watch_5 24 rfl rfl
theorem dksX1_watch_7 : cX1_watch.data.toList.drop 167 = dktX1_watch_7 := dk_seg dksX1_watch_6 24 rfl rfl
theorem dksX1_watch_8 : cX1_watch.data.toList.drop 191 = dktX1_watch_8 := dk_seg dksX1_watch_7 24 rfl rfl
theorem dksX1_watch_9 : cX1_watch.data.toList.drop 215 = dktX1_watch_9 := dk_seg dksX1_watch_8 24 rfl rfl
theorem dksX1_watch_10 : cX1_watch.data.toList.drop 239 = dktX1_watch_10 := dk_seg dksX1_watch_9 24 rfl rfl
theorem dksX1_watch_11 : cX1_watch.data.toList.drop 263 = dktX1_watch_11 := dk_seg dksX1_watch_10 24 rfl rfl
theorem dksX1_watch_12 : cX1_watch.data.toList.drop 287 = dktX1_watch_12 := dk_seg dksX1_watch_11 24 rfl rfl
theorem dksX1_watch_13 : cX1_watch.data.toList.drop 309 = dktX1_watch_13 := dk_seg dksX1_watch_12 22 rfl rfl
theorem dksX1_watch_14 : cX1_watch.data.toList.drop 333 = dktX1_watch_14 := dk_seg dksX1_watch_13 24 rfl rfl
theorem dksX1_watch_15 : cX1_watch.data.toList.drop 356 = dktX1_watch_15 := dk_seg dksX1_watch_14 23 rfl rfl
theorem dksX1_watch_16 : cX1_watch.data.toList.drop 380 = dktX1_watch_16 := dk_seg dksX1_watch_15 24 rfl rfl
theorem dksX1_watch_17 : cX1_watch.data.toList.drop 402 = dktX1_watch_17 := dk_seg dksX1_watch_16 22 rfl rfl
theorem dksX1_watch_18 : cX1_watch.data.toList.drop 426 = dktX1_watch_18 := dk_seg dksX1_watch_17 24 rfl rfl
theorem dX1_watch_0 : decode cX1_watch 0 = .ok (.iload_n 1, 1) := dk_27 (dk_at dksX1_watch_0 0 rfl rfl)
theorem dX1_watch_1 : decode cX1_watch 1 = .ok (.invokestatic 115, 3) := dk_184 0 115 (dk_at dksX1_watch_0 1 rfl rfl)
theorem dX1_watch_4 : decode cX1_watch 4 = .ok (.ifCond .eq 37, 3) := dk_153 0 37 (dk_at dksX1_watch_0 4 rfl rfl)
theorem dX1_watch_7 : decode cX1_watch 7 = .ok (.iload_n 2, 1) := dk_28 (dk_at dksX1_watch_0 7 rfl rfl)
theorem dX1_watch_8 : decode cX1_watch 8 = .ok (.iconst (-1), 1) := dk_2 (dk_at dksX1_watch_0 8 rfl rfl)
theorem dX1_watch_9 : decode cX1_watch 9 = .ok (.bipush 7, 2) := dk_16 7 (dk_at dksX1_watch_0 9 rfl rfl)
theorem dX1_watch_11 : decode cX1_watch 11 = .ok (.invokestatic 94, 3) := dk_184 0 94 (dk_at dksX1_watch_0 11 rfl rfl)
theorem dX1_watch_14 : decode cX1_watch 14 = .ok (.ifCond .eq 27, 3) := dk_153 0 27 (dk_at dksX1_watch_0 14 rfl rfl)
theorem dX1_watch_17 : decode cX1_watch 17 = .ok (.iload_n 3, 1) := dk_29 (dk_at dksX1_watch_0 17 rfl rfl)
theorem dX1_watch_18 : decode cX1_watch 18 = .ok (.iconst (-1), 1) := dk_2 (dk_at dksX1_watch_0 18 rfl rfl)
theorem dX1_watch_19 : decode cX1_watch 19 = .ok (.bipush 7, 2) := dk_16 7 (dk_at dksX1_watch_0 19 rfl rfl)
theorem dX1_watch_21 : decode cX1_watch 21 = .ok (.invokestatic 94, 3) := dk_184 0 94 (dk_at dksX1_watch_0 21 rfl rfl)
theorem dX1_watch_24 : decode cX1_watch 24 = .ok (.ifCond .eq 17, 3) := dk_153 0 17 (dk_at dksX1_watch_1 0 rfl rfl)
theorem dX1_watch_27 : decode cX1_watch 27 = .ok (.aload_n 0, 1) := dk_42 (dk_at dksX1_watch_1 3 rfl rfl)
theorem dX1_watch_28 : decode cX1_watch 28 = .ok (.getfield 12, 3) := dk_180 0 12 (dk_at dksX1_watch_1 4 rfl rfl)
theorem dX1_watch_31 : decode cX1_watch 31 = .ok (.getfield 112, 3) := dk_180 0 112 (dk_at dksX1_watch_1 7 rfl rfl)
theorem dX1_watch_34 : decode cX1_watch 34 = .ok (.iconst 0, 1) := dk_3 (dk_at dksX1_watch_1 10 rfl rfl)
theorem dX1_watch_35 : decode cX1_watch 35 = .ok (.iaload, 1) := dk_46 (dk_at dksX1_watch_1 11 rfl rfl)
theorem dX1_watch_36 : decode cX1_watch 36 = .ok (.bipush 99, 2) := dk_16 99 (dk_at dksX1_watch_1 12 rfl rfl)
theorem dX1_watch_38 : decode cX1_watch 38 = .ok (.if_icmp .ne 5, 3) := dk_160 0 5 (dk_at dksX1_watch_1 14 rfl rfl)
theorem dX1_watch_41 : decode cX1_watch 41 = .ok (.iconst (-1), 1) := dk_2 (dk_at dksX1_watch_1 17 rfl rfl)
theorem dX1_watch_42 : decode cX1_watch 42 = .ok (.ireturn, 1) := dk_172 (dk_at dksX1_watch_1 18 rfl rfl)
theorem dX1_watch_43 : decode cX1_watch 43 = .ok (.aload_n 0, 1) := dk_42 (dk_at dksX1_watch_1 19 rfl rfl)
theorem dX1_watch_44 : decode cX1_watch 44 = .ok (.getfield 12, 3) := dk_180 0 12 (dk_at dksX1_watch_1 20 rfl rfl)
theorem dX1_watch_47 : decode cX1_watch 47 = .ok (.getfield 130, 3) := dk_180 0 130 (dk_at dksX1_watch_2 0 rfl rfl)
theorem dX1_watch_50 : decode cX1_watch 50 = .ok (.iconst 0, 1) := dk_3 (dk_at dksX1_watch_2 3 rfl rfl)
theorem dX1_watch_51 : decode cX1_watch 51 = .ok (.aaload, 1) := dk_50 (dk_at dksX1_watch_2 4 rfl rfl)
theorem dX1_watch_52 : decode cX1_watch 52 = .ok (.iconst 0, 1) := dk_3 (dk_at dksX1_watch_2 5 rfl rfl)
theorem dX1_watch_53 : decode cX1_watch 53 = .ok (.iaload, 1) := dk_46 (dk_at dksX1_watch_2 6 rfl rfl)
theorem dX1_watch_54 : decode cX1_watch 54 = .ok (.istore 4, 2) := dk_54 4 (dk_at dksX1_watch_2 7 rfl rfl)
theorem dX1_watch_56 : decode cX1_watch 56 = .ok (.aload_n 0, 1) := dk_42 (dk_at dksX1_watch_2 9 rfl rfl)
theorem dX1_watch_57 : decode cX1_watch 57 = .ok (.iconst 0, 1) := dk_3 (dk_at dksX1_watch_2 10 rfl rfl)
theorem dX1_watch_58 : decode cX1_watch 58 = .ok (.iload_n 2, 1) := dk_28 (dk_at dksX1_watch_2 11 rfl rfl)
theorem dX1_watch_59 : decode cX1_watch 59 = .ok (.invokevirtual 239, 3) := dk_182 0 239 (dk_at dksX1_watch_2 12 rfl rfl)
theorem dX1_watch_62 : decode cX1_watch 62 = .ok (.istore 5, 2) := dk_54 5 (dk_at dksX1_watch_2 15 rfl rfl)
theorem dX1_watch_64 : decode cX1_watch 64 = .ok (.aload_n 0, 1) := dk_42 (dk_at dksX1_watch_2 17 rfl rfl)
theorem dX1_watch_65 : decode cX1_watch 65 = .ok (.getfield 12, 3) := dk_180 0 12 (dk_at dksX1_watch_2 18 rfl rfl)
theorem dX1_watch_68 : decode cX1_watch 68 = .ok (.getfield 102, 3) := dk_180 0 102 (dk_at dksX1_watch_2 21 rfl rfl)
theorem dX1_watch_71 : decode cX1_watch 71 = .ok (.iload 4, 2) := dk_21 4 (dk_at dksX1_watch_3 0 rfl rfl)
theorem dX1_watch_73 : decode cX1_watch 73 = .ok (.iaload, 1) := dk_46 (dk_at dksX1_watch_3 2 rfl rfl)
theorem dX1_watch_74 : decode cX1_watch 74 = .ok (.istore 6, 2) := dk_54 6 (dk_at dksX1_watch_3 3 rfl rfl)
theorem dX1_watch_76 : decode cX1_watch 76 = .ok (.iload 5, 2) := dk_21 5 (dk_at dksX1_watch_3 5 rfl rfl)
theorem dX1_watch_78 : decode cX1_watch 78 = .ok (.ifCond .eq 19, 3) := dk_153 0 19 (dk_at dksX1_watch_3 7 rfl rfl)
theorem dX1_watch_81 : decode cX1_watch 81 = .ok (.iload_n 2, 1) := dk_28 (dk_at dksX1_watch_3 10 rfl rfl)
theorem dX1_watch_82 : decode cX1_watch 82 = .ok (.iconst 4, 1) := dk_7 (dk_at dksX1_watch_3 11 rfl rfl)
theorem dX1_watch_83 : decode cX1_watch 83 = .ok (.if_icmp .ge 14, 3) := dk_162 0 14 (dk_at dksX1_watch_3 12 rfl rfl)
theorem dX1_watch_86 : decode cX1_watch 86 = .ok (.aload_n 0, 1) := dk_42 (dk_at dksX1_watch_3 15 rfl rfl)
theorem dX1_watch_87 : decode cX1_watch 87 = .ok (.getfield 12, 3) := dk_180 0 12 (dk_at dksX1_watch_3 16 rfl rfl)
theorem dX1_watch_90 : decode cX1_watch 90 = .ok (.getfield 102, 3) := dk_180 0 102 (dk_at dksX1_watch_3 19 rfl rfl)
theorem dX1_watch_93 : decode cX1_watch 93 = .ok (.iload 4, 2) := dk_21 4 (dk_at dksX1_watch_3 22 rfl rfl)
theorem dX1_watch_95 : decode cX1_watch 95 = .ok (.iconst 0, 1) := dk_3 (dk_at dksX1_watch_4 0 rfl rfl)
theorem dX1_watch_96 : decode cX1_watch 96 = .ok (.iastore, 1) := dk_79 (dk_at dksX1_watch_4 1 rfl rfl)
theorem dX1_watch_97 : decode cX1_watch 97 = .ok (.aload_n 0, 1) := dk_42 (dk_at dksX1_watch_4 2 rfl rfl)
theorem dX1_watch_98 : decode cX1_watch 98 = .ok (.iconst 1, 1) := dk_4 (dk_at dksX1_watch_4 3 rfl rfl)
theorem dX1_watch_99 : decode cX1_watch 99 = .ok (.iload_n 3, 1) := dk_29 (dk_at dksX1_watch_4 4 rfl rfl)
theorem dX1_watch_100 : decode cX1_watch 100 = .ok (.invokevirtual 239, 3) := dk_182 0 239 (dk_at dksX1_watch_4 5 rfl rfl)
theorem dX1_watch_103 : decode cX1_watch 103 = .ok (.istore 7, 2) := dk_54 7 (dk_at dksX1_watch_4 8 rfl rfl)
theorem dX1_watch_105 : decode cX1_watch 105 = .ok (.aload_n 0, 1) := dk_42 (dk_at dksX1_watch_4 10 rfl rfl)
theorem dX1_watch_106 : decode cX1_watch 106 = .ok (.getfield 12, 3) := dk_180 0 12 (dk_at dksX1_watch_4 11 rfl rfl)
theorem dX1_watch_109 : decode cX1_watch 109 = .ok (.getfield 102, 3) := dk_180 0 102 (dk_at dksX1_watch_4 14 rfl rfl)
theorem dX1_watch_112 : decode cX1_watch 112 = .ok (.iload 4, 2) := dk_21 4 (dk_at dksX1_watch_4 17 rfl rfl)
theorem dX1_watch_114 : decode cX1_watch 114 = .ok (.iload 6, 2) := dk_21 6 (dk_at dksX1_watch_4 19 rfl rfl)
theorem dX1_watch_116 : decode cX1_watch 116 = .ok (.iastore, 1) := dk_79 (dk_at dksX1_watch_4 21 rfl rfl)
theorem dX1_watch_117 : decode cX1_watch 117 = .ok (.aload_n 0, 1) := dk_42 (dk_at dksX1_watch_4 22 rfl rfl)
theorem dX1_watch_118 : decode cX1_watch 118 = .ok (.aload_n 0, 1) := dk_42 (dk_at dksX1_watch_4 23 rfl rfl)
theorem dX1_watch_119 : decode cX1_watch 119 = .ok (.getfield 12, 3) := dk_180 0 12 (dk_at dksX1_watch_5 0 rfl rfl)
theorem dX1_watch_122 : decode cX1_watch 122 = .ok (.getfield 102, 3) := dk_180 0 102 (dk_at dksX1_watch_5 3 rfl rfl)
theorem dX1_watch_125 : decode cX1_watch 125 = .ok (.aload_n 0, 1) := dk_42 (dk_at dksX1_watch_5 6 rfl rfl)
theorem dX1_watch_126 : decode cX1_watch 126 = .ok (.getfield 54, 3) := dk_180 0 54 (dk_at dksX1_watch_5 7 rfl rfl)
theorem dX1_watch_129 : decode cX1_watch 129 = .ok (.iconst 0, 1) := dk_3 (dk_at dksX1_watch_5 10 rfl rfl)
theorem dX1_watch_130 : decode cX1_watch 130 = .ok (.aaload, 1) := dk_50 (dk_at dksX1_watch_5 11 rfl rfl)
theorem dX1_watch_131 : decode cX1_watch 131 = .ok (.iconst 0, 1) := dk_3 (dk_at dksX1_watch_5 12 rfl rfl)
theorem dX1_watch_132 : decode cX1_watch 132 = .ok (.aaload, 1) := dk_50 (dk_at dksX1_watch_5 13 rfl rfl)
theorem dX1_watch_133 : decode cX1_watch 133 = .ok (.iload_n 1, 1) := dk_27 (dk_at dksX1_watch_5 14 rfl rfl)
theorem dX1_watch_134 : decode cX1_watch 134 = .ok (.aload_n 0, 1) := dk_42 (dk_at dksX1_watch_5 15 rfl rfl)
theorem dX1_watch_135 : decode cX1_watch 135 = .ok (.getfield 12, 3) := dk_180 0 12 (dk_at dksX1_watch_5 16 rfl rfl)
theorem dX1_watch_138 : decode cX1_watch 138 = .ok (.getfield 112, 3) := dk_180 0 112 (dk_at dksX1_watch_5 19 rfl rfl)
theorem dX1_watch_141 : decode cX1_watch 141 = .ok (.iconst 0, 1) := dk_3 (dk_at dksX1_watch_5 22 rfl rfl)
theorem dX1_watch_142 : decode cX1_watch 142 = .ok (.iaload, 1) := dk_46 (dk_at dksX1_watch_5 23 rfl rfl)
theorem dX1_watch_143 : decode cX1_watch 143 = .ok (.invokevirtual 242, 3) := dk_182 0 242 (dk_at dksX1_watch_6 0 rfl rfl)
theorem dX1_watch_146 : decode cX1_watch 146 = .ok (.aload_n 0, 1) := dk_42 (dk_at dksX1_watch_6 3 rfl rfl)
theorem dX1_watch_147 : decode cX1_watch 147 = .ok (.getfield 54, 3) := dk_180 0 54 (dk_at dksX1_watch_6 4 rfl rfl)
theorem dX1_watch_150 : decode cX1_watch 150 = .ok (.iconst 0, 1) := dk_3 (dk_at dksX1_watch_6 7 rfl rfl)
theorem dX1_watch_151 : decode cX1_watch 151 = .ok (.aaload, 1) := dk_50 (dk_at dksX1_watch_6 8 rfl rfl)
theorem dX1_watch_152 : decode cX1_watch 152 = .ok (.iconst 0, 1) := dk_3 (dk_at dksX1_watch_6 9 rfl rfl)
theorem dX1_watch_153 : decode cX1_watch 153 = .ok (.aaload, 1) := dk_50 (dk_at dksX1_watch_6 10 rfl rfl)
theorem dX1_watch_154 : decode cX1_watch 154 = .ok (.iconst 0, 1) := dk_3 (dk_at dksX1_watch_6 11 rfl rfl)
theorem dX1_watch_155 : decode cX1_watch 155 = .ok (.aload_n 0, 1) := dk_42 (dk_at dksX1_watch_6 12 rfl rfl)
theorem dX1_watch_156 : decode cX1_watch 156 = .ok (.getfield 12, 3) := dk_180 0 12 (dk_at dksX1_watch_6 13 rfl rfl)
theorem dX1_watch_159 : decode cX1_watch 159 = .ok (.getfield 102, 3) := dk_180 0 102 (dk_at dksX1_watch_6 16 rfl rfl)
theorem dX1_watch_162 : decode cX1_watch 162 = .ok (.iconst 0, 1) := dk_3 (dk_at dksX1_watch_6 19 rfl rfl)
theorem dX1_watch_163 : decode cX1_watch 163 = .ok (.aload_n 0, 1) := dk_42 (dk_at dksX1_watch_6 20 rfl rfl)
theorem dX1_watch_164 : decode cX1_watch 164 = .ok (.getfield 87, 3) := dk_180 0 87 (dk_at dksX1_watch_6 21 rfl rfl)
theorem dX1_watch_167 : decode cX1_watch 167 = .ok (.invokestatic 124, 3) := dk_184 0 124 (dk_at dksX1_watch_7 0 rfl rfl)
theorem dX1_watch_170 : decode cX1_watch 170 = .ok (.iconst 0, 1) := dk_3 (dk_at dksX1_watch_7 3 rfl rfl)
theorem dX1_watch_171 : decode cX1_watch 171 = .ok (.istore 8, 2) := dk_54 8 (dk_at dksX1_watch_7 4 rfl rfl)
theorem dX1_watch_173 : decode cX1_watch 173 = .ok (.iload 8, 2) := dk_21 8 (dk_at dksX1_watch_7 6 rfl rfl)
theorem dX1_watch_175 : decode cX1_watch 175 = .ok (.iconst 2, 1) := dk_5 (dk_at dksX1_watch_7 8 rfl rfl)
theorem dX1_watch_176 : decode cX1_watch 176 = .ok (.if_icmp .ge 139, 3) := dk_162 0 139 (dk_at dksX1_watch_7 9 rfl rfl)
theorem dX1_watch_179 : decode cX1_watch 179 = .ok (.aload_n 0, 1) := dk_42 (dk_at dksX1_watch_7 12 rfl rfl)
theorem dX1_watch_180 : decode cX1_watch 180 = .ok (.getfield 12, 3) := dk_180 0 12 (dk_at dksX1_watch_7 13 rfl rfl)
theorem dX1_watch_183 : decode cX1_watch 183 = .ok (.getfield 130, 3) := dk_180 0 130 (dk_at dksX1_watch_7 16 rfl rfl)
theorem dX1_watch_186 : decode cX1_watch 186 = .ok (.iload 8, 2) := dk_21 8 (dk_at dksX1_watch_7 19 rfl rfl)
theorem dX1_watch_188 : decode cX1_watch 188 = .ok (.aaload, 1) := dk_50 (dk_at dksX1_watch_7 21 rfl rfl)
theorem dX1_watch_189 : decode cX1_watch 189 = .ok (.astore 9, 2) := dk_58 9 (dk_at dksX1_watch_7 22 rfl rfl)
theorem dX1_watch_191 : decode cX1_watch 191 = .ok (.aload 9, 2) := dk_25 9 (dk_at dksX1_watch_8 0 rfl rfl)
theorem dX1_watch_193 : decode cX1_watch 193 = .ok (.iconst 0, 1) := dk_3 (dk_at dksX1_watch_8 2 rfl rfl)
theorem dX1_watch_194 : decode cX1_watch 194 = .ok (.iaload, 1) := dk_46 (dk_at dksX1_watch_8 3 rfl rfl)
theorem dX1_watch_195 : decode cX1_watch 195 = .ok (.iconst (-1), 1) := dk_2 (dk_at dksX1_watch_8 4 rfl rfl)
theorem dX1_watch_196 : decode cX1_watch 196 = .ok (.if_icmp .eq 113, 3) := dk_159 0 113 (dk_at dksX1_watch_8 5 rfl rfl)
theorem dX1_watch_199 : decode cX1_watch 199 = .ok (.aload 9, 2) := dk_25 9 (dk_at dksX1_watch_8 8 rfl rfl)
theorem dX1_watch_201 : decode cX1_watch 201 = .ok (.iconst 3, 1) := dk_6 (dk_at dksX1_watch_8 10 rfl rfl)
theorem dX1_watch_202 : decode cX1_watch 202 = .ok (.iaload, 1) := dk_46 (dk_at dksX1_watch_8 11 rfl rfl)
theorem dX1_watch_203 : decode cX1_watch 203 = .ok (.ifCond .eq 6, 3) := dk_153 0 6 (dk_at dksX1_watch_8 12 rfl rfl)
theorem dX1_watch_206 : decode cX1_watch 206 = .ok (.goto 103, 3) := dk_167 0 103 (dk_at dksX1_watch_8 15 rfl rfl)
theorem dX1_watch_209 : decode cX1_watch 209 = .ok (.iload 8, 2) := dk_21 8 (dk_at dksX1_watch_8 18 rfl rfl)
theorem dX1_watch_211 : decode cX1_watch 211 = .ok (.ifCond .ne 7, 3) := dk_154 0 7 (dk_at dksX1_watch_8 20 rfl rfl)
theorem dX1_watch_214 : decode cX1_watch 214 = .ok (.iload_n 2, 1) := dk_28 (dk_at dksX1_watch_8 23 rfl rfl)
theorem dX1_watch_215 : decode cX1_watch 215 = .ok (.goto 4, 3) := dk_167 0 4 (dk_at dksX1_watch_9 0 rfl rfl)
theorem dX1_watch_218 : decode cX1_watch 218 = .ok (.iload_n 3, 1) := dk_29 (dk_at dksX1_watch_9 3 rfl rfl)
theorem dX1_watch_219 : decode cX1_watch 219 = .ok (.istore 10, 2) := dk_54 10 (dk_at dksX1_watch_9 4 rfl rfl)
theorem dX1_watch_221 : decode cX1_watch 221 = .ok (.iload 8, 2) := dk_21 8 (dk_at dksX1_watch_9 6 rfl rfl)
theorem dX1_watch_223 : decode cX1_watch 223 = .ok (.ifCond .ne 11, 3) := dk_154 0 11 (dk_at dksX1_watch_9 8 rfl rfl)
theorem dX1_watch_226 : decode cX1_watch 226 = .ok (.iload 5, 2) := dk_21 5 (dk_at dksX1_watch_9 11 rfl rfl)
theorem dX1_watch_228 : decode cX1_watch 228 = .ok (.ifCond .eq 27, 3) := dk_153 0 27 (dk_at dksX1_watch_9 13 rfl rfl)
theorem dX1_watch_231 : decode cX1_watch 231 = .ok (.goto 8, 3) := dk_167 0 8 (dk_at dksX1_watch_9 16 rfl rfl)
theorem dX1_watch_234 : decode cX1_watch 234 = .ok (.iload 7, 2) := dk_21 7 (dk_at dksX1_watch_9 19 rfl rfl)
theorem dX1_watch_236 : decode cX1_watch 236 = .ok (.ifCond .eq 19, 3) := dk_153 0 19 (dk_at dksX1_watch_9 21 rfl rfl)
theorem dX1_watch_239 : decode cX1_watch 239 = .ok (.iload 10, 2) := dk_21 10 (dk_at dksX1_watch_10 0 rfl rfl)
theorem dX1_watch_241 : decode cX1_watch 241 = .ok (.iconst 4, 1) := dk_7 (dk_at dksX1_watch_10 2 rfl rfl)
theorem dX1_watch_242 : decode cX1_watch 242 = .ok (.if_icmp .lt 9, 3) := dk_161 0 9 (dk_at dksX1_watch_10 3 rfl rfl)
theorem dX1_watch_245 : decode cX1_watch 245 = .ok (.iload 10, 2) := dk_21 10 (dk_at dksX1_watch_10 6 rfl rfl)
theorem dX1_watch_247 : decode cX1_watch 247 = .ok (.iconst 5, 1) := dk_8 (dk_at dksX1_watch_10 8 rfl rfl)
theorem dX1_watch_248 : decode cX1_watch 248 = .ok (.if_icmp .ne 7, 3) := dk_160 0 7 (dk_at dksX1_watch_10 9 rfl rfl)
theorem dX1_watch_251 : decode cX1_watch 251 = .ok (.iconst 1, 1) := dk_4 (dk_at dksX1_watch_10 12 rfl rfl)
theorem dX1_watch_252 : decode cX1_watch 252 = .ok (.goto 4, 3) := dk_167 0 4 (dk_at dksX1_watch_10 13 rfl rfl)
theorem dX1_watch_255 : decode cX1_watch 255 = .ok (.iconst 0, 1) := dk_3 (dk_at dksX1_watch_10 16 rfl rfl)
theorem dX1_watch_256 : decode cX1_watch 256 = .ok (.istore 11, 2) := dk_54 11 (dk_at dksX1_watch_10 17 rfl rfl)
theorem dX1_watch_258 : decode cX1_watch 258 = .ok (.iload 11, 2) := dk_21 11 (dk_at dksX1_watch_10 19 rfl rfl)
theorem dX1_watch_260 : decode cX1_watch 260 = .ok (.ifCond .ne 16, 3) := dk_154 0 16 (dk_at dksX1_watch_10 21 rfl rfl)
theorem dX1_watch_263 : decode cX1_watch 263 = .ok (.aload 9, 2) := dk_25 9 (dk_at dksX1_watch_11 0 rfl rfl)
theorem dX1_watch_265 : decode cX1_watch 265 = .ok (.iconst 0, 1) := dk_3 (dk_at dksX1_watch_11 2 rfl rfl)
theorem dX1_watch_266 : decode cX1_watch 266 = .ok (.aload_n 0, 1) := dk_42 (dk_at dksX1_watch_11 3 rfl rfl)
theorem dX1_watch_267 : decode cX1_watch 267 = .ok (.aload 9, 2) := dk_25 9 (dk_at dksX1_watch_11 4 rfl rfl)
theorem dX1_watch_269 : decode cX1_watch 269 = .ok (.iconst 0, 1) := dk_3 (dk_at dksX1_watch_11 6 rfl rfl)
theorem dX1_watch_270 : decode cX1_watch 270 = .ok (.iaload, 1) := dk_46 (dk_at dksX1_watch_11 7 rfl rfl)
theorem dX1_watch_271 : decode cX1_watch 271 = .ok (.iload_n 1, 1) := dk_27 (dk_at dksX1_watch_11 8 rfl rfl)
theorem dX1_watch_272 : decode cX1_watch 272 = .ok (.invokevirtual 246, 3) := dk_182 0 246 (dk_at dksX1_watch_11 9 rfl rfl)
theorem dX1_watch_275 : decode cX1_watch 275 = .ok (.iastore, 1) := dk_79 (dk_at dksX1_watch_11 12 rfl rfl)
theorem dX1_watch_276 : decode cX1_watch 276 = .ok (.aload_n 0, 1) := dk_42 (dk_at dksX1_watch_11 13 rfl rfl)
theorem dX1_watch_277 : decode cX1_watch 277 = .ok (.aload_n 0, 1) := dk_42 (dk_at dksX1_watch_11 14 rfl rfl)
theorem dX1_watch_278 : decode cX1_watch 278 = .ok (.getfield 12, 3) := dk_180 0 12 (dk_at dksX1_watch_11 15 rfl rfl)
theorem dX1_watch_281 : decode cX1_watch 281 = .ok (.getfield 102, 3) := dk_180 0 102 (dk_at dksX1_watch_11 18 rfl rfl)
theorem dX1_watch_284 : decode cX1_watch 284 = .ok (.aload 9, 2) := dk_25 9 (dk_at dksX1_watch_11 21 rfl rfl)
theorem dX1_watch_286 : decode cX1_watch 286 = .ok (.iconst 0, 1) := dk_3 (dk_at dksX1_watch_11 23 rfl rfl)
theorem dX1_watch_287 : decode cX1_watch 287 = .ok (.iaload, 1) := dk_46 (dk_at dksX1_watch_12 0 rfl rfl)
theorem dX1_watch_288 : decode cX1_watch 288 = .ok (.iload_n 1, 1) := dk_27 (dk_at dksX1_watch_12 1 rfl rfl)
theorem dX1_watch_289 : decode cX1_watch 289 = .ok (.aload_n 0, 1) := dk_42 (dk_at dksX1_watch_12 2 rfl rfl)
theorem dX1_watch_290 : decode cX1_watch 290 = .ok (.getfield 12, 3) := dk_180 0 12 (dk_at dksX1_watch_12 3 rfl rfl)
theorem dX1_watch_293 : decode cX1_watch 293 = .ok (.getfield 112, 3) := dk_180 0 112 (dk_at dksX1_watch_12 6 rfl rfl)
theorem dX1_watch_296 : decode cX1_watch 296 = .ok (.iconst 0, 1) := dk_3 (dk_at dksX1_watch_12 9 rfl rfl)
theorem dX1_watch_297 : decode cX1_watch 297 = .ok (.iaload, 1) := dk_46 (dk_at dksX1_watch_12 10 rfl rfl)
theorem dX1_watch_298 : decode cX1_watch 298 = .ok (.invokevirtual 249, 3) := dk_182 0 249 (dk_at dksX1_watch_12 11 rfl rfl)
theorem dX1_watch_301 : decode cX1_watch 301 = .ok (.ifCond .eq 8, 3) := dk_153 0 8 (dk_at dksX1_watch_12 14 rfl rfl)
theorem dX1_watch_304 : decode cX1_watch 304 = .ok (.aload 9, 2) := dk_25 9 (dk_at dksX1_watch_12 17 rfl rfl)
theorem dX1_watch_306 : decode cX1_watch 306 = .ok (.iconst 3, 1) := dk_6 (dk_at dksX1_watch_12 19 rfl rfl)
theorem dX1_watch_307 : decode cX1_watch 307 = .ok (.iconst 2, 1) := dk_5 (dk_at dksX1_watch_12 20 rfl rfl)
theorem dX1_watch_308 : decode cX1_watch 308 = .ok (.iastore, 1) := dk_79 (dk_at dksX1_watch_12 21 rfl rfl)
theorem dX1_watch_309 : decode cX1_watch 309 = .ok (.iinc 8 1, 3) := dk_132 8 1 (dk_at dksX1_watch_13 0 rfl rfl)
theorem dX1_watch_312 : decode cX1_watch 312 = .ok (.goto (-139), 3) := dk_167 255 117 (dk_at dksX1_watch_13 3 rfl rfl)
theorem dX1_watch_315 : decode cX1_watch 315 = .ok (.iconst 0, 1) := dk_3 (dk_at dksX1_watch_13 6 rfl rfl)
theorem dX1_watch_316 : decode cX1_watch 316 = .ok (.istore 8, 2) := dk_54 8 (dk_at dksX1_watch_13 7 rfl rfl)
theorem dX1_watch_318 : decode cX1_watch 318 = .ok (.iload 8, 2) := dk_21 8 (dk_at dksX1_watch_13 9 rfl rfl)
theorem dX1_watch_320 : decode cX1_watch 320 = .ok (.aload_n 0, 1) := dk_42 (dk_at dksX1_watch_13 11 rfl rfl)
theorem dX1_watch_321 : decode cX1_watch 321 = .ok (.getfield 12, 3) := dk_180 0 12 (dk_at dksX1_watch_13 12 rfl rfl)
theorem dX1_watch_324 : decode cX1_watch 324 = .ok (.getfield 112, 3) := dk_180 0 112 (dk_at dksX1_watch_13 15 rfl rfl)
theorem dX1_watch_327 : decode cX1_watch 327 = .ok (.bipush 7, 2) := dk_16 7 (dk_at dksX1_watch_13 18 rfl rfl)
theorem dX1_watch_329 : decode cX1_watch 329 = .ok (.iaload, 1) := dk_46 (dk_at dksX1_watch_13 20 rfl rfl)
theorem dX1_watch_330 : decode cX1_watch 330 = .ok (.if_icmp .ge 75, 3) := dk_162 0 75 (dk_at dksX1_watch_13 21 rfl rfl)
theorem dX1_watch_333 : decode cX1_watch 333 = .ok (.aload_n 0, 1) := dk_42 (dk_at dksX1_watch_14 0 rfl rfl)
theorem dX1_watch_334 : decode cX1_watch 334 = .ok (.getfield 12, 3) := dk_180 0 12 (dk_at dksX1_watch_14 1 rfl rfl)
theorem dX1_watch_337 : decode cX1_watch 337 = .ok (.getfield 251, 3) := dk_180 0 251 (dk_at dksX1_watch_14 4 rfl rfl)
theorem dX1_watch_340 : decode cX1_watch 340 = .ok (.iload 8, 2) := dk_21 8 (dk_at dksX1_watch_14 7 rfl rfl)
theorem dX1_watch_342 : decode cX1_watch 342 = .ok (.aaload, 1) := dk_50 (dk_at dksX1_watch_14 9 rfl rfl)
theorem dX1_watch_343 : decode cX1_watch 343 = .ok (.iconst 0, 1) := dk_3 (dk_at dksX1_watch_14 10 rfl rfl)
theorem dX1_watch_344 : decode cX1_watch 344 = .ok (.iaload, 1) := dk_46 (dk_at dksX1_watch_14 11 rfl rfl)
theorem dX1_watch_345 : decode cX1_watch 345 = .ok (.iconst (-1), 1) := dk_2 (dk_at dksX1_watch_14 12 rfl rfl)
theorem dX1_watch_346 : decode cX1_watch 346 = .ok (.if_icmp .eq 53, 3) := dk_159 0 53 (dk_at dksX1_watch_14 13 rfl rfl)
theorem dX1_watch_349 : decode cX1_watch 349 = .ok (.aload_n 0, 1) := dk_42 (dk_at dksX1_watch_14 16 rfl rfl)
theorem dX1_watch_350 : decode cX1_watch 350 = .ok (.getfield 12, 3) := dk_180 0 12 (dk_at dksX1_watch_14 17 rfl rfl)
theorem dX1_watch_353 : decode cX1_watch 353 = .ok (.getfield 251, 3) := dk_180 0 251 (dk_at dksX1_watch_14 20 rfl rfl)
theorem dX1_watch_356 : decode cX1_watch 356 = .ok (.iload 8, 2) := dk_21 8 (dk_at dksX1_watch_15 0 rfl rfl)
theorem dX1_watch_358 : decode cX1_watch 358 = .ok (.aaload, 1) := dk_50 (dk_at dksX1_watch_15 2 rfl rfl)
theorem dX1_watch_359 : decode cX1_watch 359 = .ok (.iconst 0, 1) := dk_3 (dk_at dksX1_watch_15 3 rfl rfl)
theorem dX1_watch_360 : decode cX1_watch 360 = .ok (.aload_n 0, 1) := dk_42 (dk_at dksX1_watch_15 4 rfl rfl)
theorem dX1_watch_361 : decode cX1_watch 361 = .ok (.aload_n 0, 1) := dk_42 (dk_at dksX1_watch_15 5 rfl rfl)
theorem dX1_watch_362 : decode cX1_watch 362 = .ok (.getfield 12, 3) := dk_180 0 12 (dk_at dksX1_watch_15 6 rfl rfl)
theorem dX1_watch_365 : decode cX1_watch 365 = .ok (.getfield 251, 3) := dk_180 0 251 (dk_at dksX1_watch_15 9 rfl rfl)
theorem dX1_watch_368 : decode cX1_watch 368 = .ok (.iload 8, 2) := dk_21 8 (dk_at dksX1_watch_15 12 rfl rfl)
theorem dX1_watch_370 : decode cX1_watch 370 = .ok (.aaload, 1) := dk_50 (dk_at dksX1_watch_15 14 rfl rfl)
theorem dX1_watch_371 : decode cX1_watch 371 = .ok (.iconst 0, 1) := dk_3 (dk_at dksX1_watch_15 15 rfl rfl)
theorem dX1_watch_372 : decode cX1_watch 372 = .ok (.iaload, 1) := dk_46 (dk_at dksX1_watch_15 16 rfl rfl)
theorem dX1_watch_373 : decode cX1_watch 373 = .ok (.aload_n 0, 1) := dk_42 (dk_at dksX1_watch_15 17 rfl rfl)
theorem dX1_watch_374 : decode cX1_watch 374 = .ok (.getfield 12, 3) := dk_180 0 12 (dk_at dksX1_watch_15 18 rfl rfl)
theorem dX1_watch_377 : decode cX1_watch 377 = .ok (.getfield 118, 3) := dk_180 0 118 (dk_at dksX1_watch_15 21 rfl rfl)
theorem dX1_watch_380 : decode cX1_watch 380 = .ok (.iload_n 1, 1) := dk_27 (dk_at dksX1_watch_16 0 rfl rfl)
theorem dX1_watch_381 : decode cX1_watch 381 = .ok (.aaload, 1) := dk_50 (dk_at dksX1_watch_16 1 rfl rfl)
theorem dX1_watch_382 : decode cX1_watch 382 = .ok (.iconst 0, 1) := dk_3 (dk_at dksX1_watch_16 2 rfl rfl)
theorem dX1_watch_383 : decode cX1_watch 383 = .ok (.iaload, 1) := dk_46 (dk_at dksX1_watch_16 3 rfl rfl)
theorem dX1_watch_384 : decode cX1_watch 384 = .ok (.aload_n 0, 1) := dk_42 (dk_at dksX1_watch_16 4 rfl rfl)
theorem dX1_watch_385 : decode cX1_watch 385 = .ok (.getfield 12, 3) := dk_180 0 12 (dk_at dksX1_watch_16 5 rfl rfl)
theorem dX1_watch_388 : decode cX1_watch 388 = .ok (.getfield 118, 3) := dk_180 0 118 (dk_at dksX1_watch_16 8 rfl rfl)
theorem dX1_watch_391 : decode cX1_watch 391 = .ok (.iload_n 1, 1) := dk_27 (dk_at dksX1_watch_16 11 rfl rfl)
theorem dX1_watch_392 : decode cX1_watch 392 = .ok (.aaload, 1) := dk_50 (dk_at dksX1_watch_16 12 rfl rfl)
theorem dX1_watch_393 : decode cX1_watch 393 = .ok (.iconst 1, 1) := dk_4 (dk_at dksX1_watch_16 13 rfl rfl)
theorem dX1_watch_394 : decode cX1_watch 394 = .ok (.iaload, 1) := dk_46 (dk_at dksX1_watch_16 14 rfl rfl)
theorem dX1_watch_395 : decode cX1_watch 395 = .ok (.invokevirtual 165, 3) := dk_182 0 165 (dk_at dksX1_watch_16 15 rfl rfl)
theorem dX1_watch_398 : decode cX1_watch 398 = .ok (.iastore, 1) := dk_79 (dk_at dksX1_watch_16 18 rfl rfl)
theorem dX1_watch_399 : decode cX1_watch 399 = .ok (.iinc 8 1, 3) := dk_132 8 1 (dk_at dksX1_watch_16 19 rfl rfl)
theorem dX1_watch_402 : decode cX1_watch 402 = .ok (.goto (-84), 3) := dk_167 255 172 (dk_at dksX1_watch_17 0 rfl rfl)
theorem dX1_watch_405 : decode cX1_watch 405 = .ok (.aload_n 0, 1) := dk_42 (dk_at dksX1_watch_17 3 rfl rfl)
theorem dX1_watch_406 : decode cX1_watch 406 = .ok (.getfield 12, 3) := dk_180 0 12 (dk_at dksX1_watch_17 4 rfl rfl)
theorem dX1_watch_409 : decode cX1_watch 409 = .ok (.getfield 112, 3) := dk_180 0 112 (dk_at dksX1_watch_17 7 rfl rfl)
theorem dX1_watch_412 : decode cX1_watch 412 = .ok (.iconst 1, 1) := dk_4 (dk_at dksX1_watch_17 10 rfl rfl)
theorem dX1_watch_413 : decode cX1_watch 413 = .ok (.iload_n 1, 1) := dk_27 (dk_at dksX1_watch_17 11 rfl rfl)
theorem dX1_watch_414 : decode cX1_watch 414 = .ok (.iastore, 1) := dk_79 (dk_at dksX1_watch_17 12 rfl rfl)
theorem dX1_watch_415 : decode cX1_watch 415 = .ok (.aload_n 0, 1) := dk_42 (dk_at dksX1_watch_17 13 rfl rfl)
theorem dX1_watch_416 : decode cX1_watch 416 = .ok (.getfield 12, 3) := dk_180 0 12 (dk_at dksX1_watch_17 14 rfl rfl)
theorem dX1_watch_419 : decode cX1_watch 419 = .ok (.getfield 112, 3) := dk_180 0 112 (dk_at dksX1_watch_17 17 rfl rfl)
theorem dX1_watch_422 : decode cX1_watch 422 = .ok (.iconst 0, 1) := dk_3 (dk_at dksX1_watch_17 20 rfl rfl)
theorem dX1_watch_423 : decode cX1_watch 423 = .ok (.dup2, 1) := dk_92 (dk_at dksX1_watch_17 21 rfl rfl)
theorem dX1_watch_424 : decode cX1_watch 424 = .ok (.iaload, 1) := dk_46 (dk_at dksX1_watch_17 22 rfl rfl)
theorem dX1_watch_425 : decode cX1_watch 425 = .ok (.iconst 1, 1) := dk_4 (dk_at dksX1_watch_17 23 rfl rfl)
theorem dX1_watch_426 : decode cX1_watch 426 = .ok (.iadd, 1) := dk_96 (dk_at dksX1_watch_18 0 rfl rfl)
theorem dX1_watch_427 : decode cX1_watch 427 = .ok (.iastore, 1) := dk_79 (dk_at dksX1_watch_18 1 rfl rfl)
theorem dX1_watch_428 : decode cX1_watch 428 = .ok (.iload 5, 2) := dk_21 5 (dk_at dksX1_watch_18 2 rfl rfl)
theorem dX1_watch_430 : decode cX1_watch 430 = .ok (.ifCond .eq 7, 3) := dk_153 0 7 (dk_at dksX1_watch_18 4 rfl rfl)
theorem dX1_watch_433 : decode cX1_watch 433 = .ok (.iconst 1, 1) := dk_4 (dk_at dksX1_watch_18 7 rfl rfl)
theorem dX1_watch_434 : decode cX1_watch 434 = .ok (.goto 4, 3) := dk_167 0 4 (dk_at dksX1_watch_18 8 rfl rfl)
theorem dX1_watch_437 : decode cX1_watch 437 = .ok (.iconst 0, 1) := dk_3 (dk_at dksX1_watch_18 11 rfl rfl)
theorem dX1_watch_438 : decode cX1_watch 438 = .ok (.iload 7, 2) := dk_21 7 (dk_at dksX1_watch_18 12 rfl rfl)
theorem dX1_watch_440 : decode cX1_watch 440 = .ok (.ifCond .eq 7, 3) := dk_153 0 7 (dk_at dksX1_watch_18 14 rfl rfl)
theorem dX1_watch_443 : decode cX1_watch 443 = .ok (.iconst 2, 1) := dk_5 (dk_at dksX1_watch_18 17 rfl rfl)
theorem dX1_watch_444 : decode cX1_watch 444 = .ok (.goto 4, 3) := dk_167 0 4 (dk_at dksX1_watch_18 18 rfl rfl)
theorem dX1_watch_447 : decode cX1_watch 447 = .ok (.iconst 0, 1) := dk_3 (dk_at dksX1_watch_18 21 rfl rfl)
theorem dX1_watch_448 : decode cX1_watch 448 = .ok (.iadd, 1) := dk_96 (dk_at dksX1_watch_18 22 rfl rfl)
theorem dX1_watch_449 : decode cX1_watch 449 = .ok (.ireturn, 1) := dk_172 (dk_at dksX1_watch_18 23 rfl rfl)
abbrev cX1_does : ByteArray := prog_1_method_35_code
def yX1_does : MethodName := ⟨RX1, "does", "(II)Z"⟩
def dkwX1_does_5 : List UInt8 := [16, 6, 161, 0, 17, 45, 5, 28, 16, 6, 160, 0, 7, 4, 167, 0, 4, 3, 79, 4, 172]
abbrev dktX1_does_5 : List UInt8 := dkwX1_does_5 ++ []
def dkwX1_does_4 : List UInt8 := [79, 45, 6, 42, 180, 0, 12, 180, 0, 109, 45, 3, 46, 51, 153, 0, 7, 4, 167, 0, 4, 3, 79, 28]
abbrev dktX1_does_4 : List UInt8 := dkwX1_does_4 ++ dktX1_does_5
def dkwX1_does_3 : List UInt8 := [100, 79, 28, 7, 162, 0, 43, 45, 3, 42, 45, 3, 46, 28, 184, 0, 169, 28, 184, 0, 173, 182, 0, 165]
abbrev dktX1_does_3 : List UInt8 := dkwX1_does_3 ++ dktX1_does_4
def dkwX1_does_2 : List UInt8 := [180, 0, 102, 42, 180, 0, 12, 180, 0, 112, 4, 46, 42, 180, 0, 12, 180, 0, 112, 3, 46, 182, 0, 232]
abbrev dktX1_does_2 : List UInt8 := dkwX1_does_2 ++ dktX1_does_3
def dkwX1_does_1 : List UInt8 := [154, 0, 5, 3, 172, 45, 4, 92, 46, 42, 28, 45, 3, 46, 45, 4, 46, 45, 5, 46, 42, 180, 0, 12]
abbrev dktX1_does_1 : List UInt8 := dkwX1_does_1 ++ dktX1_does_2
def dkwX1_does_0 : List UInt8 := [42, 180, 0, 12, 180, 0, 130, 27, 50, 78, 28, 184, 0, 229, 153, 0, 12, 42, 27, 28, 182, 0, 235]
abbrev dktX1_does_0 : List UInt8 := dkwX1_does_0 ++ dktX1_does_1
theorem dksX1_does_0 : cX1_does.data.toList.drop 0 = dktX1_does_0 := by decide +kernel
theorem dksX1_does_1 : cX1_does.data.toList.drop 23 = dktX1_does_1 := dk_seg dksX1_does_0 23 rfl rfl
theorem dksX1_does_2 : cX1_does.data.toList.drop 47 = dktX1_does_2 := dk_seg dksX1_does_1 24 rfl rfl
theorem dksX1_does_3 : cX1_does.data.toList.drop 71 = dktX1_does_3 := dk_seg dksX1_does_2 24 rfl rfl
theorem dksX1_does_4 : cX1_does.data.toList.drop 95 = dktX1_does_4 := dk_seg dksX1_does_3 24 rfl rfl
theorem dksX1_does_5 : cX1_does.data.toList.drop 119 = dktX1_does_5 := dk_seg dksX1_does_4 24 rfl rfl
theorem dX1_does_0 : decode cX1_does 0 = .ok (.aload_n 0, 1) := dk_42 (dk_at dksX1_does_0 0 rfl rfl)
theorem dX1_does_1 : decode cX1_does 1 = .ok (.getfield 12, 3) := dk_180 0 12 (dk_at dksX1_does_0 1 rfl rfl)
theorem dX1_does_4 : decode cX1_does 4 = .ok (.getfield 130, 3) := dk_180 0 130 (dk_at dksX1_does_0 4 rfl rfl)
theorem dX1_does_7 : decode cX1_does 7 = .ok (.iload_n 1, 1) := dk_27 (dk_at dksX1_does_0 7 rfl rfl)
theorem dX1_does_8 : decode cX1_does 8 = .ok (.aaload, 1) := dk_50 (dk_at dksX1_does_0 8 rfl rfl)
theorem dX1_does_9 : decode cX1_does 9 = .ok (.astore_n 3, 1) := dk_78 (dk_at dksX1_does_0 9 rfl rfl)
theorem dX1_does_10 : decode cX1_does 10 = .ok (.iload_n 2, 1) := dk_28 (dk_at dksX1_does_0 10 rfl rfl)
theorem dX1_does_11 : decode cX1_does 11 = .ok (.invokestatic 229, 3) := dk_184 0 229 (dk_at dksX1_does_0 11 rfl rfl)
theorem dX1_does_14 : decode cX1_does 14 = .ok (.ifCond .eq 12, 3) := dk_153 0 12 (dk_at dksX1_does_0 14 rfl rfl)
theorem dX1_does_17 : decode cX1_does 17 = .ok (.aload_n 0, 1) := dk_42 (dk_at dksX1_does_0 17 rfl rfl)
theorem dX1_does_18 : decode cX1_does 18 = .ok (.iload_n 1, 1) := dk_27 (dk_at dksX1_does_0 18 rfl rfl)
theorem dX1_does_19 : decode cX1_does 19 = .ok (.iload_n 2, 1) := dk_28 (dk_at dksX1_does_0 19 rfl rfl)
theorem dX1_does_20 : decode cX1_does 20 = .ok (.invokevirtual 235, 3) := dk_182 0 235 (dk_at dksX1_does_0 20 rfl rfl)
theorem dX1_does_23 : decode cX1_does 23 = .ok (.ifCond .ne 5, 3) := dk_154 0 5 (dk_at dksX1_does_1 0 rfl rfl)
theorem dX1_does_26 : decode cX1_does 26 = .ok (.iconst 0, 1) := dk_3 (dk_at dksX1_does_1 3 rfl rfl)
theorem dX1_does_27 : decode cX1_does 27 = .ok (.ireturn, 1) := dk_172 (dk_at dksX1_does_1 4 rfl rfl)
theorem dX1_does_28 : decode cX1_does 28 = .ok (.aload_n 3, 1) := dk_45 (dk_at dksX1_does_1 5 rfl rfl)
theorem dX1_does_29 : decode cX1_does 29 = .ok (.iconst 1, 1) := dk_4 (dk_at dksX1_does_1 6 rfl rfl)
theorem dX1_does_30 : decode cX1_does 30 = .ok (.dup2, 1) := dk_92 (dk_at dksX1_does_1 7 rfl rfl)
theorem dX1_does_31 : decode cX1_does 31 = .ok (.iaload, 1) := dk_46 (dk_at dksX1_does_1 8 rfl rfl)
theorem dX1_does_32 : decode cX1_does 32 = .ok (.aload_n 0, 1) := dk_42 (dk_at dksX1_does_1 9 rfl rfl)
theorem dX1_does_33 : decode cX1_does 33 = .ok (.iload_n 2, 1) := dk_28 (dk_at dksX1_does_1 10 rfl rfl)
theorem dX1_does_34 : decode cX1_does 34 = .ok (.aload_n 3, 1) := dk_45 (dk_at dksX1_does_1 11 rfl rfl)
theorem dX1_does_35 : decode cX1_does 35 = .ok (.iconst 0, 1) := dk_3 (dk_at dksX1_does_1 12 rfl rfl)
theorem dX1_does_36 : decode cX1_does 36 = .ok (.iaload, 1) := dk_46 (dk_at dksX1_does_1 13 rfl rfl)
theorem dX1_does_37 : decode cX1_does 37 = .ok (.aload_n 3, 1) := dk_45 (dk_at dksX1_does_1 14 rfl rfl)
theorem dX1_does_38 : decode cX1_does 38 = .ok (.iconst 1, 1) := dk_4 (dk_at dksX1_does_1 15 rfl rfl)
theorem dX1_does_39 : decode cX1_does 39 = .ok (.iaload, 1) := dk_46 (dk_at dksX1_does_1 16 rfl rfl)
theorem dX1_does_40 : decode cX1_does 40 = .ok (.aload_n 3, 1) := dk_45 (dk_at dksX1_does_1 17 rfl rfl)
theorem dX1_does_41 : decode cX1_does 41 = .ok (.iconst 2, 1) := dk_5 (dk_at dksX1_does_1 18 rfl rfl)
theorem dX1_does_42 : decode cX1_does 42 = .ok (.iaload, 1) := dk_46 (dk_at dksX1_does_1 19 rfl rfl)
theorem dX1_does_43 : decode cX1_does 43 = .ok (.aload_n 0, 1) := dk_42 (dk_at dksX1_does_1 20 rfl rfl)
theorem dX1_does_44 : decode cX1_does 44 = .ok (.getfield 12, 3) := dk_180 0 12 (dk_at dksX1_does_1 21 rfl rfl)
theorem dX1_does_47 : decode cX1_does 47 = .ok (.getfield 102, 3) := dk_180 0 102 (dk_at dksX1_does_2 0 rfl rfl)
theorem dX1_does_50 : decode cX1_does 50 = .ok (.aload_n 0, 1) := dk_42 (dk_at dksX1_does_2 3 rfl rfl)
theorem dX1_does_51 : decode cX1_does 51 = .ok (.getfield 12, 3) := dk_180 0 12 (dk_at dksX1_does_2 4 rfl rfl)
theorem dX1_does_54 : decode cX1_does 54 = .ok (.getfield 112, 3) := dk_180 0 112 (dk_at dksX1_does_2 7 rfl rfl)
theorem dX1_does_57 : decode cX1_does 57 = .ok (.iconst 1, 1) := dk_4 (dk_at dksX1_does_2 10 rfl rfl)
theorem dX1_does_58 : decode cX1_does 58 = .ok (.iaload, 1) := dk_46 (dk_at dksX1_does_2 11 rfl rfl)
theorem dX1_does_59 : decode cX1_does 59 = .ok (.aload_n 0, 1) := dk_42 (dk_at dksX1_does_2 12 rfl rfl)
theorem dX1_does_60 : decode cX1_does 60 = .ok (.getfield 12, 3) := dk_180 0 12 (dk_at dksX1_does_2 13 rfl rfl)
theorem dX1_does_63 : decode cX1_does 63 = .ok (.getfield 112, 3) := dk_180 0 112 (dk_at dksX1_does_2 16 rfl rfl)
theorem dX1_does_66 : decode cX1_does 66 = .ok (.iconst 0, 1) := dk_3 (dk_at dksX1_does_2 19 rfl rfl)
theorem dX1_does_67 : decode cX1_does 67 = .ok (.iaload, 1) := dk_46 (dk_at dksX1_does_2 20 rfl rfl)
theorem dX1_does_68 : decode cX1_does 68 = .ok (.invokevirtual 232, 3) := dk_182 0 232 (dk_at dksX1_does_2 21 rfl rfl)
theorem dX1_does_71 : decode cX1_does 71 = .ok (.isub, 1) := dk_100 (dk_at dksX1_does_3 0 rfl rfl)
theorem dX1_does_72 : decode cX1_does 72 = .ok (.iastore, 1) := dk_79 (dk_at dksX1_does_3 1 rfl rfl)
theorem dX1_does_73 : decode cX1_does 73 = .ok (.iload_n 2, 1) := dk_28 (dk_at dksX1_does_3 2 rfl rfl)
theorem dX1_does_74 : decode cX1_does 74 = .ok (.iconst 4, 1) := dk_7 (dk_at dksX1_does_3 3 rfl rfl)
theorem dX1_does_75 : decode cX1_does 75 = .ok (.if_icmp .ge 43, 3) := dk_162 0 43 (dk_at dksX1_does_3 4 rfl rfl)
theorem dX1_does_78 : decode cX1_does 78 = .ok (.aload_n 3, 1) := dk_45 (dk_at dksX1_does_3 7 rfl rfl)
theorem dX1_does_79 : decode cX1_does 79 = .ok (.iconst 0, 1) := dk_3 (dk_at dksX1_does_3 8 rfl rfl)
theorem dX1_does_80 : decode cX1_does 80 = .ok (.aload_n 0, 1) := dk_42 (dk_at dksX1_does_3 9 rfl rfl)
theorem dX1_does_81 : decode cX1_does 81 = .ok (.aload_n 3, 1) := dk_45 (dk_at dksX1_does_3 10 rfl rfl)
theorem dX1_does_82 : decode cX1_does 82 = .ok (.iconst 0, 1) := dk_3 (dk_at dksX1_does_3 11 rfl rfl)
theorem dX1_does_83 : decode cX1_does 83 = .ok (.iaload, 1) := dk_46 (dk_at dksX1_does_3 12 rfl rfl)
theorem dX1_does_84 : decode cX1_does 84 = .ok (.iload_n 2, 1) := dk_28 (dk_at dksX1_does_3 13 rfl rfl)
theorem dX1_does_85 : decode cX1_does 85 = .ok (.invokestatic 169, 3) := dk_184 0 169 (dk_at dksX1_does_3 14 rfl rfl)
theorem dX1_does_88 : decode cX1_does 88 = .ok (.iload_n 2, 1) := dk_28 (dk_at dksX1_does_3 17 rfl rfl)
theorem dX1_does_89 : decode cX1_does 89 = .ok (.invokestatic 173, 3) := dk_184 0 173 (dk_at dksX1_does_3 18 rfl rfl)
theorem dX1_does_92 : decode cX1_does 92 = .ok (.invokevirtual 165, 3) := dk_182 0 165 (dk_at dksX1_does_3 21 rfl rfl)
theorem dX1_does_95 : decode cX1_does 95 = .ok (.iastore, 1) := dk_79 (dk_at dksX1_does_4 0 rfl rfl)
theorem dX1_does_96 : decode cX1_does 96 = .ok (.aload_n 3, 1) := dk_45 (dk_at dksX1_does_4 1 rfl rfl)
theorem dX1_does_97 : decode cX1_does 97 = .ok (.iconst 3, 1) := dk_6 (dk_at dksX1_does_4 2 rfl rfl)
theorem dX1_does_98 : decode cX1_does 98 = .ok (.aload_n 0, 1) := dk_42 (dk_at dksX1_does_4 3 rfl rfl)
theorem dX1_does_99 : decode cX1_does 99 = .ok (.getfield 12, 3) := dk_180 0 12 (dk_at dksX1_does_4 4 rfl rfl)
theorem dX1_does_102 : decode cX1_does 102 = .ok (.getfield 109, 3) := dk_180 0 109 (dk_at dksX1_does_4 7 rfl rfl)
theorem dX1_does_105 : decode cX1_does 105 = .ok (.aload_n 3, 1) := dk_45 (dk_at dksX1_does_4 10 rfl rfl)
theorem dX1_does_106 : decode cX1_does 106 = .ok (.iconst 0, 1) := dk_3 (dk_at dksX1_does_4 11 rfl rfl)
theorem dX1_does_107 : decode cX1_does 107 = .ok (.iaload, 1) := dk_46 (dk_at dksX1_does_4 12 rfl rfl)
theorem dX1_does_108 : decode cX1_does 108 = .ok (.baload, 1) := dk_51 (dk_at dksX1_does_4 13 rfl rfl)
theorem dX1_does_109 : decode cX1_does 109 = .ok (.ifCond .eq 7, 3) := dk_153 0 7 (dk_at dksX1_does_4 14 rfl rfl)
theorem dX1_does_112 : decode cX1_does 112 = .ok (.iconst 1, 1) := dk_4 (dk_at dksX1_does_4 17 rfl rfl)
theorem dX1_does_113 : decode cX1_does 113 = .ok (.goto 4, 3) := dk_167 0 4 (dk_at dksX1_does_4 18 rfl rfl)
theorem dX1_does_116 : decode cX1_does 116 = .ok (.iconst 0, 1) := dk_3 (dk_at dksX1_does_4 21 rfl rfl)
theorem dX1_does_117 : decode cX1_does 117 = .ok (.iastore, 1) := dk_79 (dk_at dksX1_does_4 22 rfl rfl)
theorem dX1_does_118 : decode cX1_does 118 = .ok (.iload_n 2, 1) := dk_28 (dk_at dksX1_does_4 23 rfl rfl)
theorem dX1_does_119 : decode cX1_does 119 = .ok (.bipush 6, 2) := dk_16 6 (dk_at dksX1_does_5 0 rfl rfl)
theorem dX1_does_121 : decode cX1_does 121 = .ok (.if_icmp .lt 17, 3) := dk_161 0 17 (dk_at dksX1_does_5 2 rfl rfl)
theorem dX1_does_124 : decode cX1_does 124 = .ok (.aload_n 3, 1) := dk_45 (dk_at dksX1_does_5 5 rfl rfl)
theorem dX1_does_125 : decode cX1_does 125 = .ok (.iconst 2, 1) := dk_5 (dk_at dksX1_does_5 6 rfl rfl)
theorem dX1_does_126 : decode cX1_does 126 = .ok (.iload_n 2, 1) := dk_28 (dk_at dksX1_does_5 7 rfl rfl)
theorem dX1_does_127 : decode cX1_does 127 = .ok (.bipush 6, 2) := dk_16 6 (dk_at dksX1_does_5 8 rfl rfl)
theorem dX1_does_129 : decode cX1_does 129 = .ok (.if_icmp .ne 7, 3) := dk_160 0 7 (dk_at dksX1_does_5 10 rfl rfl)
theorem dX1_does_132 : decode cX1_does 132 = .ok (.iconst 1, 1) := dk_4 (dk_at dksX1_does_5 13 rfl rfl)
theorem dX1_does_133 : decode cX1_does 133 = .ok (.goto 4, 3) := dk_167 0 4 (dk_at dksX1_does_5 14 rfl rfl)
theorem dX1_does_136 : decode cX1_does 136 = .ok (.iconst 0, 1) := dk_3 (dk_at dksX1_does_5 17 rfl rfl)
theorem dX1_does_137 : decode cX1_does 137 = .ok (.iastore, 1) := dk_79 (dk_at dksX1_does_5 18 rfl rfl)
theorem dX1_does_138 : decode cX1_does 138 = .ok (.iconst 1, 1) := dk_4 (dk_at dksX1_does_5 19 rfl rfl)
theorem dX1_does_139 : decode cX1_does 139 = .ok (.ireturn, 1) := dk_172 (dk_at dksX1_does_5 20 rfl rfl)
abbrev cX1_goes : ByteArray := prog_1_method_31_code
def yX1_goes : MethodName := ⟨RX1, "goes", "([I[III)V"⟩
def dkwX1_goes_7 : List UInt8 := [79, 132, 6, 1, 167, 255, 175, 177]
abbrev dktX1_goes_7 : List UInt8 := dkwX1_goes_7 ++ []
def dkwX1_goes_6 : List UInt8 := [20, 0, 201, 25, 5, 180, 0, 220, 42, 180, 0, 30, 185, 0, 203, 2, 0, 184, 0, 209, 184, 0, 212, 136]
abbrev dktX1_goes_6 : List UInt8 := dkwX1_goes_6 ++ dktX1_goes_7
def dkwX1_goes_5 : List UInt8 := [199, 0, 6, 167, 0, 45, 42, 42, 180, 0, 34, 21, 6, 29, 21, 4, 182, 0, 191, 44, 21, 6, 9]
abbrev dktX1_goes_5 : List UInt8 := dkwX1_goes_5 ++ dktX1_goes_6
def dkwX1_goes_4 : List UInt8 := [162, 0, 78, 44, 21, 6, 42, 180, 0, 34, 21, 6, 46, 79, 25, 5, 198, 0, 56, 25, 5, 180, 0, 220]
abbrev dktX1_goes_4 : List UInt8 := dkwX1_goes_4 ++ dktX1_goes_5
def dkwX1_goes_3 : List UInt8 := [46, 79, 132, 5, 1, 167, 255, 182, 42, 182, 0, 176, 58, 5, 3, 54, 6, 21, 6, 42, 180, 0, 87]
abbrev dktX1_goes_3 : List UInt8 := dkwX1_goes_3 ++ dktX1_goes_4
def dkwX1_goes_2 : List UInt8 := [21, 5, 21, 6, 2, 160, 0, 16, 42, 180, 0, 12, 180, 0, 112, 16, 8, 46, 167, 0, 7, 43, 21, 6]
abbrev dktX1_goes_2 : List UInt8 := dkwX1_goes_2 ++ dktX1_goes_3
def dkwX1_goes_1 : List UInt8 := [3, 46, 116, 42, 180, 0, 12, 180, 0, 118, 29, 50, 4, 46, 116, 182, 0, 165, 54, 6, 42, 180, 0, 34]
abbrev dktX1_goes_1 : List UInt8 := dkwX1_goes_1 ++ dktX1_goes_2
def dkwX1_goes_0 : List UInt8 := [3, 54, 5, 21, 5, 42, 180, 0, 87, 162, 0, 71, 42, 21, 5, 42, 180, 0, 12, 180, 0, 118, 29, 50]
abbrev dktX1_goes_0 : List UInt8 := dkwX1_goes_0 ++ dktX1_goes_1
theorem dksX1_goes_0 : cX1_goes.data.toList.drop 0 = dktX1_goes_0 := by decide +kernel
theorem dksX1_goes_1 : cX1_goes.data.toList.drop 24 = dktX1_goes_1 := dk_seg dksX1_goes_0 24 rfl rfl
theorem dksX1_goes_2 : cX1_goes.data.toList.drop 48 = dktX1_goes_2 := dk_seg dksX1_goes_1 24 rfl rfl
theorem dksX1_goes_3 : cX1_goes.data.toList.drop 72 = dktX1_goes_3 := dk_seg dksX1_goes_2 24 rfl rfl
theorem dksX1_goes_4 : cX1_goes.data.toList.drop 95 = dktX1_goes_4 := dk_seg dksX1_goes_3 23 rfl rfl
theorem dksX1_goes_5 : cX1_goes.data.toList.drop 119 = dktX1_goes_5 := dk_seg dksX1_goes_4 24 rfl rfl
theorem dksX1_goes_6 : cX1_goes.data.toList.drop 142 = dktX1_goes_6 := dk_seg dksX1_goes_5 23 rfl rfl
theorem dksX1_goes_7 : cX1_goes.data.toList.drop 166 = dktX1_goes_7 := dk_seg dksX1_goes_6 24 rfl rfl
theorem dX1_goes_0 : decode cX1_goes 0 = .ok (.iconst 0, 1) := dk_3 (dk_at dksX1_goes_0 0 rfl rfl)
theorem dX1_goes_1 : decode cX1_goes 1 = .ok (.istore 5, 2) := dk_54 5 (dk_at dksX1_goes_0 1 rfl rfl)
theorem dX1_goes_3 : decode cX1_goes 3 = .ok (.iload 5, 2) := dk_21 5 (dk_at dksX1_goes_0 3 rfl rfl)
theorem dX1_goes_5 : decode cX1_goes 5 = .ok (.aload_n 0, 1) := dk_42 (dk_at dksX1_goes_0 5 rfl rfl)
theorem dX1_goes_6 : decode cX1_goes 6 = .ok (.getfield 87, 3) := dk_180 0 87 (dk_at dksX1_goes_0 6 rfl rfl)
theorem dX1_goes_9 : decode cX1_goes 9 = .ok (.if_icmp .ge 71, 3) := dk_162 0 71 (dk_at dksX1_goes_0 9 rfl rfl)
theorem dX1_goes_12 : decode cX1_goes 12 = .ok (.aload_n 0, 1) := dk_42 (dk_at dksX1_goes_0 12 rfl rfl)
theorem dX1_goes_13 : decode cX1_goes 13 = .ok (.iload 5, 2) := dk_21 5 (dk_at dksX1_goes_0 13 rfl rfl)
theorem dX1_goes_15 : decode cX1_goes 15 = .ok (.aload_n 0, 1) := dk_42 (dk_at dksX1_goes_0 15 rfl rfl)
theorem dX1_goes_16 : decode cX1_goes 16 = .ok (.getfield 12, 3) := dk_180 0 12 (dk_at dksX1_goes_0 16 rfl rfl)
theorem dX1_goes_19 : decode cX1_goes 19 = .ok (.getfield 118, 3) := dk_180 0 118 (dk_at dksX1_goes_0 19 rfl rfl)
theorem dX1_goes_22 : decode cX1_goes 22 = .ok (.iload_n 3, 1) := dk_29 (dk_at dksX1_goes_0 22 rfl rfl)
theorem dX1_goes_23 : decode cX1_goes 23 = .ok (.aaload, 1) := dk_50 (dk_at dksX1_goes_0 23 rfl rfl)
theorem dX1_goes_24 : decode cX1_goes 24 = .ok (.iconst 0, 1) := dk_3 (dk_at dksX1_goes_1 0 rfl rfl)
theorem dX1_goes_25 : decode cX1_goes 25 = .ok (.iaload, 1) := dk_46 (dk_at dksX1_goes_1 1 rfl rfl)
theorem dX1_goes_26 : decode cX1_goes 26 = .ok (.ineg, 1) := dk_116 (dk_at dksX1_goes_1 2 rfl rfl)
theorem dX1_goes_27 : decode cX1_goes 27 = .ok (.aload_n 0, 1) := dk_42 (dk_at dksX1_goes_1 3 rfl rfl)
theorem dX1_goes_28 : decode cX1_goes 28 = .ok (.getfield 12, 3) := dk_180 0 12 (dk_at dksX1_goes_1 4 rfl rfl)
theorem dX1_goes_31 : decode cX1_goes 31 = .ok (.getfield 118, 3) := dk_180 0 118 (dk_at dksX1_goes_1 7 rfl rfl)
theorem dX1_goes_34 : decode cX1_goes 34 = .ok (.iload_n 3, 1) := dk_29 (dk_at dksX1_goes_1 10 rfl rfl)
theorem dX1_goes_35 : decode cX1_goes 35 = .ok (.aaload, 1) := dk_50 (dk_at dksX1_goes_1 11 rfl rfl)
theorem dX1_goes_36 : decode cX1_goes 36 = .ok (.iconst 1, 1) := dk_4 (dk_at dksX1_goes_1 12 rfl rfl)
theorem dX1_goes_37 : decode cX1_goes 37 = .ok (.iaload, 1) := dk_46 (dk_at dksX1_goes_1 13 rfl rfl)
theorem dX1_goes_38 : decode cX1_goes 38 = .ok (.ineg, 1) := dk_116 (dk_at dksX1_goes_1 14 rfl rfl)
theorem dX1_goes_39 : decode cX1_goes 39 = .ok (.invokevirtual 165, 3) := dk_182 0 165 (dk_at dksX1_goes_1 15 rfl rfl)
theorem dX1_goes_42 : decode cX1_goes 42 = .ok (.istore 6, 2) := dk_54 6 (dk_at dksX1_goes_1 18 rfl rfl)
theorem dX1_goes_44 : decode cX1_goes 44 = .ok (.aload_n 0, 1) := dk_42 (dk_at dksX1_goes_1 20 rfl rfl)
theorem dX1_goes_45 : decode cX1_goes 45 = .ok (.getfield 34, 3) := dk_180 0 34 (dk_at dksX1_goes_1 21 rfl rfl)
theorem dX1_goes_48 : decode cX1_goes 48 = .ok (.iload 5, 2) := dk_21 5 (dk_at dksX1_goes_2 0 rfl rfl)
theorem dX1_goes_50 : decode cX1_goes 50 = .ok (.iload 6, 2) := dk_21 6 (dk_at dksX1_goes_2 2 rfl rfl)
theorem dX1_goes_52 : decode cX1_goes 52 = .ok (.iconst (-1), 1) := dk_2 (dk_at dksX1_goes_2 4 rfl rfl)
theorem dX1_goes_53 : decode cX1_goes 53 = .ok (.if_icmp .ne 16, 3) := dk_160 0 16 (dk_at dksX1_goes_2 5 rfl rfl)
theorem dX1_goes_56 : decode cX1_goes 56 = .ok (.aload_n 0, 1) := dk_42 (dk_at dksX1_goes_2 8 rfl rfl)
theorem dX1_goes_57 : decode cX1_goes 57 = .ok (.getfield 12, 3) := dk_180 0 12 (dk_at dksX1_goes_2 9 rfl rfl)
theorem dX1_goes_60 : decode cX1_goes 60 = .ok (.getfield 112, 3) := dk_180 0 112 (dk_at dksX1_goes_2 12 rfl rfl)
theorem dX1_goes_63 : decode cX1_goes 63 = .ok (.bipush 8, 2) := dk_16 8 (dk_at dksX1_goes_2 15 rfl rfl)
theorem dX1_goes_65 : decode cX1_goes 65 = .ok (.iaload, 1) := dk_46 (dk_at dksX1_goes_2 17 rfl rfl)
theorem dX1_goes_66 : decode cX1_goes 66 = .ok (.goto 7, 3) := dk_167 0 7 (dk_at dksX1_goes_2 18 rfl rfl)
theorem dX1_goes_69 : decode cX1_goes 69 = .ok (.aload_n 1, 1) := dk_43 (dk_at dksX1_goes_2 21 rfl rfl)
theorem dX1_goes_70 : decode cX1_goes 70 = .ok (.iload 6, 2) := dk_21 6 (dk_at dksX1_goes_2 22 rfl rfl)
theorem dX1_goes_72 : decode cX1_goes 72 = .ok (.iaload, 1) := dk_46 (dk_at dksX1_goes_3 0 rfl rfl)
theorem dX1_goes_73 : decode cX1_goes 73 = .ok (.iastore, 1) := dk_79 (dk_at dksX1_goes_3 1 rfl rfl)
theorem dX1_goes_74 : decode cX1_goes 74 = .ok (.iinc 5 1, 3) := dk_132 5 1 (dk_at dksX1_goes_3 2 rfl rfl)
theorem dX1_goes_77 : decode cX1_goes 77 = .ok (.goto (-74), 3) := dk_167 255 182 (dk_at dksX1_goes_3 5 rfl rfl)
theorem dX1_goes_80 : decode cX1_goes 80 = .ok (.aload_n 0, 1) := dk_42 (dk_at dksX1_goes_3 8 rfl rfl)
theorem dX1_goes_81 : decode cX1_goes 81 = .ok (.invokevirtual 176, 3) := dk_182 0 176 (dk_at dksX1_goes_3 9 rfl rfl)
theorem dX1_goes_84 : decode cX1_goes 84 = .ok (.astore 5, 2) := dk_58 5 (dk_at dksX1_goes_3 12 rfl rfl)
theorem dX1_goes_86 : decode cX1_goes 86 = .ok (.iconst 0, 1) := dk_3 (dk_at dksX1_goes_3 14 rfl rfl)
theorem dX1_goes_87 : decode cX1_goes 87 = .ok (.istore 6, 2) := dk_54 6 (dk_at dksX1_goes_3 15 rfl rfl)
theorem dX1_goes_89 : decode cX1_goes 89 = .ok (.iload 6, 2) := dk_21 6 (dk_at dksX1_goes_3 17 rfl rfl)
theorem dX1_goes_91 : decode cX1_goes 91 = .ok (.aload_n 0, 1) := dk_42 (dk_at dksX1_goes_3 19 rfl rfl)
theorem dX1_goes_92 : decode cX1_goes 92 = .ok (.getfield 87, 3) := dk_180 0 87 (dk_at dksX1_goes_3 20 rfl rfl)
theorem dX1_goes_95 : decode cX1_goes 95 = .ok (.if_icmp .ge 78, 3) := dk_162 0 78 (dk_at dksX1_goes_4 0 rfl rfl)
theorem dX1_goes_98 : decode cX1_goes 98 = .ok (.aload_n 2, 1) := dk_44 (dk_at dksX1_goes_4 3 rfl rfl)
theorem dX1_goes_99 : decode cX1_goes 99 = .ok (.iload 6, 2) := dk_21 6 (dk_at dksX1_goes_4 4 rfl rfl)
theorem dX1_goes_101 : decode cX1_goes 101 = .ok (.aload_n 0, 1) := dk_42 (dk_at dksX1_goes_4 6 rfl rfl)
theorem dX1_goes_102 : decode cX1_goes 102 = .ok (.getfield 34, 3) := dk_180 0 34 (dk_at dksX1_goes_4 7 rfl rfl)
theorem dX1_goes_105 : decode cX1_goes 105 = .ok (.iload 6, 2) := dk_21 6 (dk_at dksX1_goes_4 10 rfl rfl)
theorem dX1_goes_107 : decode cX1_goes 107 = .ok (.iaload, 1) := dk_46 (dk_at dksX1_goes_4 12 rfl rfl)
theorem dX1_goes_108 : decode cX1_goes 108 = .ok (.iastore, 1) := dk_79 (dk_at dksX1_goes_4 13 rfl rfl)
theorem dX1_goes_109 : decode cX1_goes 109 = .ok (.aload 5, 2) := dk_25 5 (dk_at dksX1_goes_4 14 rfl rfl)
theorem dX1_goes_111 : decode cX1_goes 111 = .ok (.ifnull 56, 3) := dk_198 0 56 (dk_at dksX1_goes_4 16 rfl rfl)
theorem dX1_goes_114 : decode cX1_goes 114 = .ok (.aload 5, 2) := dk_25 5 (dk_at dksX1_goes_4 19 rfl rfl)
theorem dX1_goes_116 : decode cX1_goes 116 = .ok (.getfield 220, 3) := dk_180 0 220 (dk_at dksX1_goes_4 21 rfl rfl)
theorem dX1_goes_119 : decode cX1_goes 119 = .ok (.ifnonnull 6, 3) := dk_199 0 6 (dk_at dksX1_goes_5 0 rfl rfl)
theorem dX1_goes_122 : decode cX1_goes 122 = .ok (.goto 45, 3) := dk_167 0 45 (dk_at dksX1_goes_5 3 rfl rfl)
theorem dX1_goes_125 : decode cX1_goes 125 = .ok (.aload_n 0, 1) := dk_42 (dk_at dksX1_goes_5 6 rfl rfl)
theorem dX1_goes_126 : decode cX1_goes 126 = .ok (.aload_n 0, 1) := dk_42 (dk_at dksX1_goes_5 7 rfl rfl)
theorem dX1_goes_127 : decode cX1_goes 127 = .ok (.getfield 34, 3) := dk_180 0 34 (dk_at dksX1_goes_5 8 rfl rfl)
theorem dX1_goes_130 : decode cX1_goes 130 = .ok (.iload 6, 2) := dk_21 6 (dk_at dksX1_goes_5 11 rfl rfl)
theorem dX1_goes_132 : decode cX1_goes 132 = .ok (.iload_n 3, 1) := dk_29 (dk_at dksX1_goes_5 13 rfl rfl)
theorem dX1_goes_133 : decode cX1_goes 133 = .ok (.iload 4, 2) := dk_21 4 (dk_at dksX1_goes_5 14 rfl rfl)
theorem dX1_goes_135 : decode cX1_goes 135 = .ok (.invokevirtual 191, 3) := dk_182 0 191 (dk_at dksX1_goes_5 16 rfl rfl)
theorem dX1_goes_138 : decode cX1_goes 138 = .ok (.aload_n 2, 1) := dk_44 (dk_at dksX1_goes_5 19 rfl rfl)
theorem dX1_goes_139 : decode cX1_goes 139 = .ok (.iload 6, 2) := dk_21 6 (dk_at dksX1_goes_5 20 rfl rfl)
theorem dX1_goes_141 : decode cX1_goes 141 = .ok (.lconst 0, 1) := dk_9 (dk_at dksX1_goes_5 22 rfl rfl)
theorem dX1_goes_142 : decode cX1_goes 142 = .ok (.ldc2_w 201, 3) := dk_20 0 201 (dk_at dksX1_goes_6 0 rfl rfl)
theorem dX1_goes_145 : decode cX1_goes 145 = .ok (.aload 5, 2) := dk_25 5 (dk_at dksX1_goes_6 3 rfl rfl)
theorem dX1_goes_147 : decode cX1_goes 147 = .ok (.getfield 220, 3) := dk_180 0 220 (dk_at dksX1_goes_6 5 rfl rfl)
theorem dX1_goes_150 : decode cX1_goes 150 = .ok (.aload_n 0, 1) := dk_42 (dk_at dksX1_goes_6 8 rfl rfl)
theorem dX1_goes_151 : decode cX1_goes 151 = .ok (.getfield 30, 3) := dk_180 0 30 (dk_at dksX1_goes_6 9 rfl rfl)
theorem dX1_goes_154 : decode cX1_goes 154 = .ok (.invokeinterface 203 2, 5) := by decide +kernel
theorem dX1_goes_159 : decode cX1_goes 159 = .ok (.invokestatic 209, 3) := dk_184 0 209 (dk_at dksX1_goes_6 17 rfl rfl)
theorem dX1_goes_162 : decode cX1_goes 162 = .ok (.invokestatic 212, 3) := dk_184 0 212 (dk_at dksX1_goes_6 20 rfl rfl)
theorem dX1_goes_165 : decode cX1_goes 165 = .ok (.l2i, 1) := dk_136 (dk_at dksX1_goes_6 23 rfl rfl)
theorem dX1_goes_166 : decode cX1_goes 166 = .ok (.iastore, 1) := dk_79 (dk_at dksX1_goes_7 0 rfl rfl)
theorem dX1_goes_167 : decode cX1_goes 167 = .ok (.iinc 6 1, 3) := dk_132 6 1 (dk_at dksX1_goes_7 1 rfl rfl)
theorem dX1_goes_170 : decode cX1_goes 170 = .ok (.goto (-81), 3) := dk_167 255 175 (dk_at dksX1_goes_7 4 rfl rfl)
theorem dX1_goes_173 : decode cX1_goes 173 = .ok (.return_, 1) := dk_177 (dk_at dksX1_goes_7 7 rfl rfl)
abbrev cX1_drifts : ByteArray := prog_1_method_25_code
def yX1_drifts : MethodName := ⟨RX1, "drifts", "(II)I"⟩
def dkwX1_drifts_1 : List UInt8 := [182, 0, 165, 62, 29, 2, 160, 0, 7, 27, 167, 0, 4, 29, 172]
abbrev dktX1_drifts_1 : List UInt8 := dkwX1_drifts_1 ++ []
def dkwX1_drifts_0 : List UInt8 := [42, 27, 42, 180, 0, 12, 180, 0, 118, 28, 50, 3, 46, 42, 180, 0, 12, 180, 0, 118, 28, 50, 4, 46]
abbrev dktX1_drifts_0 : List UInt8 := dkwX1_drifts_0 ++ dktX1_drifts_1
theorem dksX1_drifts_0 : cX1_drifts.data.toList.drop 0 = dktX1_drifts_0 := by decide +kernel
theorem dksX1_drifts_1 : cX1_drifts.data.toList.drop 24 = dktX1_drifts_1 := dk_seg dksX1_drifts_0 24 rfl rfl
theorem dX1_drifts_0 : decode cX1_drifts 0 = .ok (.aload_n 0, 1) := dk_42 (dk_at dksX1_drifts_0 0 rfl rfl)
theorem dX1_drifts_1 : decode cX1_drifts 1 = .ok (.iload_n 1, 1) := dk_27 (dk_at dksX1_drifts_0 1 rfl rfl)
theorem dX1_drifts_2 : decode cX1_drifts 2 = .ok (.aload_n 0, 1) := dk_42 (dk_at dksX1_drifts_0 2 rfl rfl)
theorem dX1_drifts_3 : decode cX1_drifts 3 = .ok (.getfield 12, 3) := dk_180 0 12 (dk_at dksX1_drifts_0 3 rfl rfl)
theorem dX1_drifts_6 : decode cX1_drifts 6 = .ok (.getfield 118, 3) := dk_180 0 118 (dk_at dksX1_drifts_0 6 rfl rfl)
theorem dX1_drifts_9 : decode cX1_drifts 9 = .ok (.iload_n 2, 1) := dk_28 (dk_at dksX1_drifts_0 9 rfl rfl)
theorem dX1_drifts_10 : decode cX1_drifts 10 = .ok (.aaload, 1) := dk_50 (dk_at dksX1_drifts_0 10 rfl rfl)
theorem dX1_drifts_11 : decode cX1_drifts 11 = .ok (.iconst 0, 1) := dk_3 (dk_at dksX1_drifts_0 11 rfl rfl)
theorem dX1_drifts_12 : decode cX1_drifts 12 = .ok (.iaload, 1) := dk_46 (dk_at dksX1_drifts_0 12 rfl rfl)
theorem dX1_drifts_13 : decode cX1_drifts 13 = .ok (.aload_n 0, 1) := dk_42 (dk_at dksX1_drifts_0 13 rfl rfl)
theorem dX1_drifts_14 : decode cX1_drifts 14 = .ok (.getfield 12, 3) := dk_180 0 12 (dk_at dksX1_drifts_0 14 rfl rfl)
theorem dX1_drifts_17 : decode cX1_drifts 17 = .ok (.getfield 118, 3) := dk_180 0 118 (dk_at dksX1_drifts_0 17 rfl rfl)
theorem dX1_drifts_20 : decode cX1_drifts 20 = .ok (.iload_n 2, 1) := dk_28 (dk_at dksX1_drifts_0 20 rfl rfl)
theorem dX1_drifts_21 : decode cX1_drifts 21 = .ok (.aaload, 1) := dk_50 (dk_at dksX1_drifts_0 21 rfl rfl)
theorem dX1_drifts_22 : decode cX1_drifts 22 = .ok (.iconst 1, 1) := dk_4 (dk_at dksX1_drifts_0 22 rfl rfl)
theorem dX1_drifts_23 : decode cX1_drifts 23 = .ok (.iaload, 1) := dk_46 (dk_at dksX1_drifts_0 23 rfl rfl)
theorem dX1_drifts_24 : decode cX1_drifts 24 = .ok (.invokevirtual 165, 3) := dk_182 0 165 (dk_at dksX1_drifts_1 0 rfl rfl)
theorem dX1_drifts_27 : decode cX1_drifts 27 = .ok (.istore_n 3, 1) := dk_62 (dk_at dksX1_drifts_1 3 rfl rfl)
theorem dX1_drifts_28 : decode cX1_drifts 28 = .ok (.iload_n 3, 1) := dk_29 (dk_at dksX1_drifts_1 4 rfl rfl)
theorem dX1_drifts_29 : decode cX1_drifts 29 = .ok (.iconst (-1), 1) := dk_2 (dk_at dksX1_drifts_1 5 rfl rfl)
theorem dX1_drifts_30 : decode cX1_drifts 30 = .ok (.if_icmp .ne 7, 3) := dk_160 0 7 (dk_at dksX1_drifts_1 6 rfl rfl)
theorem dX1_drifts_33 : decode cX1_drifts 33 = .ok (.iload_n 1, 1) := dk_27 (dk_at dksX1_drifts_1 9 rfl rfl)
theorem dX1_drifts_34 : decode cX1_drifts 34 = .ok (.goto 4, 3) := dk_167 0 4 (dk_at dksX1_drifts_1 10 rfl rfl)
theorem dX1_drifts_37 : decode cX1_drifts 37 = .ok (.iload_n 3, 1) := dk_29 (dk_at dksX1_drifts_1 13 rfl rfl)
theorem dX1_drifts_38 : decode cX1_drifts 38 = .ok (.ireturn, 1) := dk_172 (dk_at dksX1_drifts_1 14 rfl rfl)
abbrev cX1_nips : ByteArray := prog_1_method_29_code
def yX1_nips : MethodName := ⟨RX1, "nips", "([IIII)Z"⟩
def dkwX1_nips_1 : List UInt8 := [180, 0, 214, 42, 180, 0, 30, 184, 0, 194, 172]
abbrev dktX1_nips_1 : List UInt8 := dkwX1_nips_1 ++ []
def dkwX1_nips_0 : List UInt8 := [42, 182, 0, 176, 58, 5, 25, 5, 199, 0, 5, 3, 172, 42, 43, 28, 29, 21, 4, 182, 0, 191, 25, 5]
abbrev dktX1_nips_0 : List UInt8 := dkwX1_nips_0 ++ dktX1_nips_1
theorem dksX1_nips_0 : cX1_nips.data.toList.drop 0 = dktX1_nips_0 := by decide +kernel
theorem dksX1_nips_1 : cX1_nips.data.toList.drop 24 = dktX1_nips_1 := dk_seg dksX1_nips_0 24 rfl rfl
theorem dX1_nips_0 : decode cX1_nips 0 = .ok (.aload_n 0, 1) := dk_42 (dk_at dksX1_nips_0 0 rfl rfl)
theorem dX1_nips_1 : decode cX1_nips 1 = .ok (.invokevirtual 176, 3) := dk_182 0 176 (dk_at dksX1_nips_0 1 rfl rfl)
theorem dX1_nips_4 : decode cX1_nips 4 = .ok (.astore 5, 2) := dk_58 5 (dk_at dksX1_nips_0 4 rfl rfl)
theorem dX1_nips_6 : decode cX1_nips 6 = .ok (.aload 5, 2) := dk_25 5 (dk_at dksX1_nips_0 6 rfl rfl)
theorem dX1_nips_8 : decode cX1_nips 8 = .ok (.ifnonnull 5, 3) := dk_199 0 5 (dk_at dksX1_nips_0 8 rfl rfl)
theorem dX1_nips_11 : decode cX1_nips 11 = .ok (.iconst 0, 1) := dk_3 (dk_at dksX1_nips_0 11 rfl rfl)
theorem dX1_nips_12 : decode cX1_nips 12 = .ok (.ireturn, 1) := dk_172 (dk_at dksX1_nips_0 12 rfl rfl)
theorem dX1_nips_13 : decode cX1_nips 13 = .ok (.aload_n 0, 1) := dk_42 (dk_at dksX1_nips_0 13 rfl rfl)
theorem dX1_nips_14 : decode cX1_nips 14 = .ok (.aload_n 1, 1) := dk_43 (dk_at dksX1_nips_0 14 rfl rfl)
theorem dX1_nips_15 : decode cX1_nips 15 = .ok (.iload_n 2, 1) := dk_28 (dk_at dksX1_nips_0 15 rfl rfl)
theorem dX1_nips_16 : decode cX1_nips 16 = .ok (.iload_n 3, 1) := dk_29 (dk_at dksX1_nips_0 16 rfl rfl)
theorem dX1_nips_17 : decode cX1_nips 17 = .ok (.iload 4, 2) := dk_21 4 (dk_at dksX1_nips_0 17 rfl rfl)
theorem dX1_nips_19 : decode cX1_nips 19 = .ok (.invokevirtual 191, 3) := dk_182 0 191 (dk_at dksX1_nips_0 19 rfl rfl)
theorem dX1_nips_22 : decode cX1_nips 22 = .ok (.aload 5, 2) := dk_25 5 (dk_at dksX1_nips_0 22 rfl rfl)
theorem dX1_nips_24 : decode cX1_nips 24 = .ok (.getfield 214, 3) := dk_180 0 214 (dk_at dksX1_nips_1 0 rfl rfl)
theorem dX1_nips_27 : decode cX1_nips 27 = .ok (.aload_n 0, 1) := dk_42 (dk_at dksX1_nips_1 3 rfl rfl)
theorem dX1_nips_28 : decode cX1_nips 28 = .ok (.getfield 30, 3) := dk_180 0 30 (dk_at dksX1_nips_1 4 rfl rfl)
theorem dX1_nips_31 : decode cX1_nips 31 = .ok (.invokestatic 194, 3) := dk_184 0 194 (dk_at dksX1_nips_1 7 rfl rfl)
theorem dX1_nips_34 : decode cX1_nips 34 = .ok (.ireturn, 1) := dk_172 (dk_at dksX1_nips_1 10 rfl rfl)
abbrev cX1_of : ByteArray := prog_1_method_37_code
def yX1_of : MethodName := ⟨RX1, "of", "(II)I"⟩
def dkwX1_of_2 : List UInt8 := [167, 0, 4, 2, 172]
abbrev dktX1_of_2 : List UInt8 := dkwX1_of_2 ++ []
def dkwX1_of_1 : List UInt8 := [180, 0, 130, 27, 50, 3, 46, 2, 159, 0, 17, 42, 180, 0, 12, 180, 0, 130, 27, 50, 28, 46]
abbrev dktX1_of_1 : List UInt8 := dkwX1_of_1 ++ dktX1_of_2
def dkwX1_of_0 : List UInt8 := [27, 3, 4, 184, 0, 94, 153, 0, 41, 28, 3, 6, 184, 0, 94, 153, 0, 32, 42, 180, 0, 12]
abbrev dktX1_of_0 : List UInt8 := dkwX1_of_0 ++ dktX1_of_1
theorem dksX1_of_0 : cX1_of.data.toList.drop 0 = dktX1_of_0 := by decide +kernel
theorem dksX1_of_1 : cX1_of.data.toList.drop 22 = dktX1_of_1 := dk_seg dksX1_of_0 22 rfl rfl
theorem dksX1_of_2 : cX1_of.data.toList.drop 44 = dktX1_of_2 := dk_seg dksX1_of_1 22 rfl rfl
theorem dX1_of_0 : decode cX1_of 0 = .ok (.iload_n 1, 1) := dk_27 (dk_at dksX1_of_0 0 rfl rfl)
theorem dX1_of_1 : decode cX1_of 1 = .ok (.iconst 0, 1) := dk_3 (dk_at dksX1_of_0 1 rfl rfl)
theorem dX1_of_2 : decode cX1_of 2 = .ok (.iconst 1, 1) := dk_4 (dk_at dksX1_of_0 2 rfl rfl)
theorem dX1_of_3 : decode cX1_of 3 = .ok (.invokestatic 94, 3) := dk_184 0 94 (dk_at dksX1_of_0 3 rfl rfl)
theorem dX1_of_6 : decode cX1_of 6 = .ok (.ifCond .eq 41, 3) := dk_153 0 41 (dk_at dksX1_of_0 6 rfl rfl)
theorem dX1_of_9 : decode cX1_of 9 = .ok (.iload_n 2, 1) := dk_28 (dk_at dksX1_of_0 9 rfl rfl)
theorem dX1_of_10 : decode cX1_of 10 = .ok (.iconst 0, 1) := dk_3 (dk_at dksX1_of_0 10 rfl rfl)
theorem dX1_of_11 : decode cX1_of 11 = .ok (.iconst 3, 1) := dk_6 (dk_at dksX1_of_0 11 rfl rfl)
theorem dX1_of_12 : decode cX1_of 12 = .ok (.invokestatic 94, 3) := dk_184 0 94 (dk_at dksX1_of_0 12 rfl rfl)
theorem dX1_of_15 : decode cX1_of 15 = .ok (.ifCond .eq 32, 3) := dk_153 0 32 (dk_at dksX1_of_0 15 rfl rfl)
theorem dX1_of_18 : decode cX1_of 18 = .ok (.aload_n 0, 1) := dk_42 (dk_at dksX1_of_0 18 rfl rfl)
theorem dX1_of_19 : decode cX1_of 19 = .ok (.getfield 12, 3) := dk_180 0 12 (dk_at dksX1_of_0 19 rfl rfl)
theorem dX1_of_22 : decode cX1_of 22 = .ok (.getfield 130, 3) := dk_180 0 130 (dk_at dksX1_of_1 0 rfl rfl)
theorem dX1_of_25 : decode cX1_of 25 = .ok (.iload_n 1, 1) := dk_27 (dk_at dksX1_of_1 3 rfl rfl)
theorem dX1_of_26 : decode cX1_of 26 = .ok (.aaload, 1) := dk_50 (dk_at dksX1_of_1 4 rfl rfl)
theorem dX1_of_27 : decode cX1_of 27 = .ok (.iconst 0, 1) := dk_3 (dk_at dksX1_of_1 5 rfl rfl)
theorem dX1_of_28 : decode cX1_of 28 = .ok (.iaload, 1) := dk_46 (dk_at dksX1_of_1 6 rfl rfl)
theorem dX1_of_29 : decode cX1_of 29 = .ok (.iconst (-1), 1) := dk_2 (dk_at dksX1_of_1 7 rfl rfl)
theorem dX1_of_30 : decode cX1_of 30 = .ok (.if_icmp .eq 17, 3) := dk_159 0 17 (dk_at dksX1_of_1 8 rfl rfl)
theorem dX1_of_33 : decode cX1_of 33 = .ok (.aload_n 0, 1) := dk_42 (dk_at dksX1_of_1 11 rfl rfl)
theorem dX1_of_34 : decode cX1_of 34 = .ok (.getfield 12, 3) := dk_180 0 12 (dk_at dksX1_of_1 12 rfl rfl)
theorem dX1_of_37 : decode cX1_of 37 = .ok (.getfield 130, 3) := dk_180 0 130 (dk_at dksX1_of_1 15 rfl rfl)
theorem dX1_of_40 : decode cX1_of 40 = .ok (.iload_n 1, 1) := dk_27 (dk_at dksX1_of_1 18 rfl rfl)
theorem dX1_of_41 : decode cX1_of 41 = .ok (.aaload, 1) := dk_50 (dk_at dksX1_of_1 19 rfl rfl)
theorem dX1_of_42 : decode cX1_of 42 = .ok (.iload_n 2, 1) := dk_28 (dk_at dksX1_of_1 20 rfl rfl)
theorem dX1_of_43 : decode cX1_of 43 = .ok (.iaload, 1) := dk_46 (dk_at dksX1_of_1 21 rfl rfl)
theorem dX1_of_44 : decode cX1_of 44 = .ok (.goto 4, 3) := dk_167 0 4 (dk_at dksX1_of_2 0 rfl rfl)
theorem dX1_of_47 : decode cX1_of 47 = .ok (.iconst (-1), 1) := dk_2 (dk_at dksX1_of_2 3 rfl rfl)
theorem dX1_of_48 : decode cX1_of 48 = .ok (.ireturn, 1) := dk_172 (dk_at dksX1_of_2 4 rfl rfl)
abbrev cX1_soonest : ByteArray := prog_1_method_48_code
def yX1_soonest : MethodName := ⟨RX1, "soonest", "(I)I"⟩
def dkwX1_soonest_8 : List UInt8 := [21, 7, 21, 4, 184, 1, 24, 54, 4, 132, 6, 1, 167, 255, 171, 2, 172]
abbrev dktX1_soonest_8 : List UInt8 := dkwX1_soonest_8 ++ []
def dkwX1_soonest_7 : List UInt8 := [21, 6, 21, 7, 28, 29, 21, 4, 182, 1, 15, 100, 62, 42, 21, 6, 21, 7, 28, 182, 1, 18, 61]
abbrev dktX1_soonest_7 : List UInt8 := dkwX1_soonest_7 ++ dktX1_soonest_8
def dkwX1_soonest_6 : List UInt8 := [159, 0, 9, 132, 7, 1, 167, 255, 236, 21, 6, 27, 16, 10, 100, 160, 0, 6, 21, 7, 172, 29, 42]
abbrev dktX1_soonest_6 : List UInt8 := dkwX1_soonest_6 ++ dktX1_soonest_7
def dkwX1_soonest_5 : List UInt8 := [16, 100, 108, 162, 0, 81, 3, 54, 7, 42, 21, 6, 28, 29, 21, 4, 21, 7, 182, 1, 11, 21, 5]
abbrev dktX1_soonest_5 : List UInt8 := dkwX1_soonest_5 ++ dktX1_soonest_6
def dkwX1_soonest_4 : List UInt8 := [21, 5, 16, 100, 108, 167, 0, 11, 16, 99, 21, 5, 16, 100, 112, 100, 172, 3, 54, 6, 21, 6, 21, 5]
abbrev dktX1_soonest_4 : List UInt8 := dkwX1_soonest_4 ++ dktX1_soonest_5
def dkwX1_soonest_3 : List UInt8 := [182, 1, 27, 54, 5, 21, 5, 19, 1, 10, 160, 0, 5, 2, 172, 27, 5, 162, 0, 24, 27, 154, 0, 11]
abbrev dktX1_soonest_3 : List UInt8 := dkwX1_soonest_3 ++ dktX1_soonest_4
def dkwX1_soonest_2 : List UInt8 := [46, 61, 42, 182, 1, 31, 4, 46, 62, 42, 182, 1, 31, 5, 46, 54, 4, 42, 3, 28, 29, 21, 4]
abbrev dktX1_soonest_2 : List UInt8 := dkwX1_soonest_2 ++ dktX1_soonest_3
def dkwX1_soonest_1 : List UInt8 := [6, 46, 153, 0, 5, 2, 172, 42, 182, 1, 34, 42, 180, 0, 46, 2, 184, 1, 37, 42, 182, 1, 31, 3]
abbrev dktX1_soonest_1 : List UInt8 := dkwX1_soonest_1 ++ dktX1_soonest_2
def dkwX1_soonest_0 : List UInt8 := [27, 3, 4, 184, 0, 94, 154, 0, 14, 27, 16, 10, 16, 21, 184, 0, 94, 153, 0, 12, 42, 182, 1, 31]
abbrev dktX1_soonest_0 : List UInt8 := dkwX1_soonest_0 ++ dktX1_soonest_1
theorem dksX1_soonest_0 : cX1_soonest.data.toList.drop 0 = dktX1_soonest_0 := by decide +kernel
theorem dksX1_soonest_1 : cX1_soonest.data.toList.drop 24 = dktX1_soonest_1 := dk_seg dksX1_soonest_0 24 rfl rfl
theorem dksX1_soonest_2 : cX1_soonest.data.toList.drop 48 = dktX1_soonest_2 := dk_seg dksX1_soonest_1 24 rfl rfl
theorem dksX1_soonest_3 : cX1_soonest.data.toList.drop 71 = dktX1_soonest_3 := dk_seg dksX1_soonest_2 23 rfl rfl
theorem dksX1_soonest_4 : cX1_soonest.data.toList.drop 95 = dktX1_soonest_4 := dk_seg dksX1_soonest_3 24 rfl rfl
theorem dksX1_soonest_5 : cX1_soonest.data.toList.drop 119 = dktX1_soonest_5 := dk_seg dksX1_soonest_4 24 rfl rfl
theorem dksX1_soonest_6 : cX1_soonest.data.toList.drop 142 = dktX1_soonest_6 := dk_seg dksX1_soonest_5 23 rfl rfl
theorem dksX1_soonest_7 : cX1_soonest.data.toList.drop 165 = dktX1_soonest_7 := dk_seg dksX1_soonest_6 23 rfl rfl
theorem dksX1_soonest_8 : cX1_soonest.data.toList.drop 188 = dktX1_soonest_8 := dk_seg dksX1_soonest_7 23 rfl rfl
theorem dX1_soonest_0 : decode cX1_soonest 0 = .ok (.iload_n 1, 1) := dk_27 (dk_at dksX1_soonest_0 0 rfl rfl)
theorem dX1_soonest_1 : decode cX1_soonest 1 = .ok (.iconst 0, 1) := dk_3 (dk_at dksX1_soonest_0 1 rfl rfl)
theorem dX1_soonest_2 : decode cX1_soonest 2 = .ok (.iconst 1, 1) := dk_4 (dk_at dksX1_soonest_0 2 rfl rfl)
theorem dX1_soonest_3 : decode cX1_soonest 3 = .ok (.invokestatic 94, 3) := dk_184 0 94 (dk_at dksX1_soonest_0 3 rfl rfl)
theorem dX1_soonest_6 : decode cX1_soonest 6 = .ok (.ifCond .ne 14, 3) := dk_154 0 14 (dk_at dksX1_soonest_0 6 rfl rfl)
theorem dX1_soonest_9 : decode cX1_soonest 9 = .ok (.iload_n 1, 1) := dk_27 (dk_at dksX1_soonest_0 9 rfl rfl)
theorem dX1_soonest_10 : decode cX1_soonest 10 = .ok (.bipush 10, 2) := dk_16 10 (dk_at dksX1_soonest_0 10 rfl rfl)
theorem dX1_soonest_12 : decode cX1_soonest 12 = .ok (.bipush 21, 2) := dk_16 21 (dk_at dksX1_soonest_0 12 rfl rfl)
theorem dX1_soonest_14 : decode cX1_soonest 14 = .ok (.invokestatic 94, 3) := dk_184 0 94 (dk_at dksX1_soonest_0 14 rfl rfl)
theorem dX1_soonest_17 : decode cX1_soonest 17 = .ok (.ifCond .eq 12, 3) := dk_153 0 12 (dk_at dksX1_soonest_0 17 rfl rfl)
theorem dX1_soonest_20 : decode cX1_soonest 20 = .ok (.aload_n 0, 1) := dk_42 (dk_at dksX1_soonest_0 20 rfl rfl)
theorem dX1_soonest_21 : decode cX1_soonest 21 = .ok (.invokevirtual 287, 3) := dk_182 1 31 (dk_at dksX1_soonest_0 21 rfl rfl)
theorem dX1_soonest_24 : decode cX1_soonest 24 = .ok (.iconst 3, 1) := dk_6 (dk_at dksX1_soonest_1 0 rfl rfl)
theorem dX1_soonest_25 : decode cX1_soonest 25 = .ok (.iaload, 1) := dk_46 (dk_at dksX1_soonest_1 1 rfl rfl)
theorem dX1_soonest_26 : decode cX1_soonest 26 = .ok (.ifCond .eq 5, 3) := dk_153 0 5 (dk_at dksX1_soonest_1 2 rfl rfl)
theorem dX1_soonest_29 : decode cX1_soonest 29 = .ok (.iconst (-1), 1) := dk_2 (dk_at dksX1_soonest_1 5 rfl rfl)
theorem dX1_soonest_30 : decode cX1_soonest 30 = .ok (.ireturn, 1) := dk_172 (dk_at dksX1_soonest_1 6 rfl rfl)
theorem dX1_soonest_31 : decode cX1_soonest 31 = .ok (.aload_n 0, 1) := dk_42 (dk_at dksX1_soonest_1 7 rfl rfl)
theorem dX1_soonest_32 : decode cX1_soonest 32 = .ok (.invokevirtual 290, 3) := dk_182 1 34 (dk_at dksX1_soonest_1 8 rfl rfl)
theorem dX1_soonest_35 : decode cX1_soonest 35 = .ok (.aload_n 0, 1) := dk_42 (dk_at dksX1_soonest_1 11 rfl rfl)
theorem dX1_soonest_36 : decode cX1_soonest 36 = .ok (.getfield 46, 3) := dk_180 0 46 (dk_at dksX1_soonest_1 12 rfl rfl)
theorem dX1_soonest_39 : decode cX1_soonest 39 = .ok (.iconst (-1), 1) := dk_2 (dk_at dksX1_soonest_1 15 rfl rfl)
theorem dX1_soonest_40 : decode cX1_soonest 40 = .ok (.invokestatic 293, 3) := dk_184 1 37 (dk_at dksX1_soonest_1 16 rfl rfl)
theorem dX1_soonest_43 : decode cX1_soonest 43 = .ok (.aload_n 0, 1) := dk_42 (dk_at dksX1_soonest_1 19 rfl rfl)
theorem dX1_soonest_44 : decode cX1_soonest 44 = .ok (.invokevirtual 287, 3) := dk_182 1 31 (dk_at dksX1_soonest_1 20 rfl rfl)
theorem dX1_soonest_47 : decode cX1_soonest 47 = .ok (.iconst 0, 1) := dk_3 (dk_at dksX1_soonest_1 23 rfl rfl)
theorem dX1_soonest_48 : decode cX1_soonest 48 = .ok (.iaload, 1) := dk_46 (dk_at dksX1_soonest_2 0 rfl rfl)
theorem dX1_soonest_49 : decode cX1_soonest 49 = .ok (.istore_n 2, 1) := dk_61 (dk_at dksX1_soonest_2 1 rfl rfl)
theorem dX1_soonest_50 : decode cX1_soonest 50 = .ok (.aload_n 0, 1) := dk_42 (dk_at dksX1_soonest_2 2 rfl rfl)
theorem dX1_soonest_51 : decode cX1_soonest 51 = .ok (.invokevirtual 287, 3) := dk_182 1 31 (dk_at dksX1_soonest_2 3 rfl rfl)
theorem dX1_soonest_54 : decode cX1_soonest 54 = .ok (.iconst 1, 1) := dk_4 (dk_at dksX1_soonest_2 6 rfl rfl)
theorem dX1_soonest_55 : decode cX1_soonest 55 = .ok (.iaload, 1) := dk_46 (dk_at dksX1_soonest_2 7 rfl rfl)
theorem dX1_soonest_56 : decode cX1_soonest 56 = .ok (.istore_n 3, 1) := dk_62 (dk_at dksX1_soonest_2 8 rfl rfl)
theorem dX1_soonest_57 : decode cX1_soonest 57 = .ok (.aload_n 0, 1) := dk_42 (dk_at dksX1_soonest_2 9 rfl rfl)
theorem dX1_soonest_58 : decode cX1_soonest 58 = .ok (.invokevirtual 287, 3) := dk_182 1 31 (dk_at dksX1_soonest_2 10 rfl rfl)
theorem dX1_soonest_61 : decode cX1_soonest 61 = .ok (.iconst 2, 1) := dk_5 (dk_at dksX1_soonest_2 13 rfl rfl)
theorem dX1_soonest_62 : decode cX1_soonest 62 = .ok (.iaload, 1) := dk_46 (dk_at dksX1_soonest_2 14 rfl rfl)
theorem dX1_soonest_63 : decode cX1_soonest 63 = .ok (.istore 4, 2) := dk_54 4 (dk_at dksX1_soonest_2 15 rfl rfl)
theorem dX1_soonest_65 : decode cX1_soonest 65 = .ok (.aload_n 0, 1) := dk_42 (dk_at dksX1_soonest_2 17 rfl rfl)
theorem dX1_soonest_66 : decode cX1_soonest 66 = .ok (.iconst 0, 1) := dk_3 (dk_at dksX1_soonest_2 18 rfl rfl)
theorem dX1_soonest_67 : decode cX1_soonest 67 = .ok (.iload_n 2, 1) := dk_28 (dk_at dksX1_soonest_2 19 rfl rfl)
theorem dX1_soonest_68 : decode cX1_soonest 68 = .ok (.iload_n 3, 1) := dk_29 (dk_at dksX1_soonest_2 20 rfl rfl)
theorem dX1_soonest_69 : decode cX1_soonest 69 = .ok (.iload 4, 2) := dk_21 4 (dk_at dksX1_soonest_2 21 rfl rfl)
theorem dX1_soonest_71 : decode cX1_soonest 71 = .ok (.invokevirtual 283, 3) := dk_182 1 27 (dk_at dksX1_soonest_3 0 rfl rfl)
theorem dX1_soonest_74 : decode cX1_soonest 74 = .ok (.istore 5, 2) := dk_54 5 (dk_at dksX1_soonest_3 3 rfl rfl)
theorem dX1_soonest_76 : decode cX1_soonest 76 = .ok (.iload 5, 2) := dk_21 5 (dk_at dksX1_soonest_3 5 rfl rfl)
theorem dX1_soonest_78 : decode cX1_soonest 78 = .ok (.ldc_w 266, 3) := dk_19 1 10 (dk_at dksX1_soonest_3 7 rfl rfl)
theorem dX1_soonest_81 : decode cX1_soonest 81 = .ok (.if_icmp .ne 5, 3) := dk_160 0 5 (dk_at dksX1_soonest_3 10 rfl rfl)
theorem dX1_soonest_84 : decode cX1_soonest 84 = .ok (.iconst (-1), 1) := dk_2 (dk_at dksX1_soonest_3 13 rfl rfl)
theorem dX1_soonest_85 : decode cX1_soonest 85 = .ok (.ireturn, 1) := dk_172 (dk_at dksX1_soonest_3 14 rfl rfl)
theorem dX1_soonest_86 : decode cX1_soonest 86 = .ok (.iload_n 1, 1) := dk_27 (dk_at dksX1_soonest_3 15 rfl rfl)
theorem dX1_soonest_87 : decode cX1_soonest 87 = .ok (.iconst 2, 1) := dk_5 (dk_at dksX1_soonest_3 16 rfl rfl)
theorem dX1_soonest_88 : decode cX1_soonest 88 = .ok (.if_icmp .ge 24, 3) := dk_162 0 24 (dk_at dksX1_soonest_3 17 rfl rfl)
theorem dX1_soonest_91 : decode cX1_soonest 91 = .ok (.iload_n 1, 1) := dk_27 (dk_at dksX1_soonest_3 20 rfl rfl)
theorem dX1_soonest_92 : decode cX1_soonest 92 = .ok (.ifCond .ne 11, 3) := dk_154 0 11 (dk_at dksX1_soonest_3 21 rfl rfl)
theorem dX1_soonest_95 : decode cX1_soonest 95 = .ok (.iload 5, 2) := dk_21 5 (dk_at dksX1_soonest_4 0 rfl rfl)
theorem dX1_soonest_97 : decode cX1_soonest 97 = .ok (.bipush 100, 2) := dk_16 100 (dk_at dksX1_soonest_4 2 rfl rfl)
theorem dX1_soonest_99 : decode cX1_soonest 99 = .ok (.idiv, 1) := dk_108 (dk_at dksX1_soonest_4 4 rfl rfl)
theorem dX1_soonest_100 : decode cX1_soonest 100 = .ok (.goto 11, 3) := dk_167 0 11 (dk_at dksX1_soonest_4 5 rfl rfl)
theorem dX1_soonest_103 : decode cX1_soonest 103 = .ok (.bipush 99, 2) := dk_16 99 (dk_at dksX1_soonest_4 8 rfl rfl)
theorem dX1_soonest_105 : decode cX1_soonest 105 = .ok (.iload 5, 2) := dk_21 5 (dk_at dksX1_soonest_4 10 rfl rfl)
theorem dX1_soonest_107 : decode cX1_soonest 107 = .ok (.bipush 100, 2) := dk_16 100 (dk_at dksX1_soonest_4 12 rfl rfl)
theorem dX1_soonest_109 : decode cX1_soonest 109 = .ok (.irem, 1) := dk_112 (dk_at dksX1_soonest_4 14 rfl rfl)
theorem dX1_soonest_110 : decode cX1_soonest 110 = .ok (.isub, 1) := dk_100 (dk_at dksX1_soonest_4 15 rfl rfl)
theorem dX1_soonest_111 : decode cX1_soonest 111 = .ok (.ireturn, 1) := dk_172 (dk_at dksX1_soonest_4 16 rfl rfl)
theorem dX1_soonest_112 : decode cX1_soonest 112 = .ok (.iconst 0, 1) := dk_3 (dk_at dksX1_soonest_4 17 rfl rfl)
theorem dX1_soonest_113 : decode cX1_soonest 113 = .ok (.istore 6, 2) := dk_54 6 (dk_at dksX1_soonest_4 18 rfl rfl)
theorem dX1_soonest_115 : decode cX1_soonest 115 = .ok (.iload 6, 2) := dk_21 6 (dk_at dksX1_soonest_4 20 rfl rfl)
theorem dX1_soonest_117 : decode cX1_soonest 117 = .ok (.iload 5, 2) := dk_21 5 (dk_at dksX1_soonest_4 22 rfl rfl)
theorem dX1_soonest_119 : decode cX1_soonest 119 = .ok (.bipush 100, 2) := dk_16 100 (dk_at dksX1_soonest_5 0 rfl rfl)
theorem dX1_soonest_121 : decode cX1_soonest 121 = .ok (.idiv, 1) := dk_108 (dk_at dksX1_soonest_5 2 rfl rfl)
theorem dX1_soonest_122 : decode cX1_soonest 122 = .ok (.if_icmp .ge 81, 3) := dk_162 0 81 (dk_at dksX1_soonest_5 3 rfl rfl)
theorem dX1_soonest_125 : decode cX1_soonest 125 = .ok (.iconst 0, 1) := dk_3 (dk_at dksX1_soonest_5 6 rfl rfl)
theorem dX1_soonest_126 : decode cX1_soonest 126 = .ok (.istore 7, 2) := dk_54 7 (dk_at dksX1_soonest_5 7 rfl rfl)
theorem dX1_soonest_128 : decode cX1_soonest 128 = .ok (.aload_n 0, 1) := dk_42 (dk_at dksX1_soonest_5 9 rfl rfl)
theorem dX1_soonest_129 : decode cX1_soonest 129 = .ok (.iload 6, 2) := dk_21 6 (dk_at dksX1_soonest_5 10 rfl rfl)
theorem dX1_soonest_131 : decode cX1_soonest 131 = .ok (.iload_n 2, 1) := dk_28 (dk_at dksX1_soonest_5 12 rfl rfl)
theorem dX1_soonest_132 : decode cX1_soonest 132 = .ok (.iload_n 3, 1) := dk_29 (dk_at dksX1_soonest_5 13 rfl rfl)
theorem dX1_soonest_133 : decode cX1_soonest 133 = .ok (.iload 4, 2) := dk_21 4 (dk_at dksX1_soonest_5 14 rfl rfl)
theorem dX1_soonest_135 : decode cX1_soonest 135 = .ok (.iload 7, 2) := dk_21 7 (dk_at dksX1_soonest_5 16 rfl rfl)
theorem dX1_soonest_137 : decode cX1_soonest 137 = .ok (.invokevirtual 267, 3) := dk_182 1 11 (dk_at dksX1_soonest_5 18 rfl rfl)
theorem dX1_soonest_140 : decode cX1_soonest 140 = .ok (.iload 5, 2) := dk_21 5 (dk_at dksX1_soonest_5 21 rfl rfl)
theorem dX1_soonest_142 : decode cX1_soonest 142 = .ok (.if_icmp .eq 9, 3) := dk_159 0 9 (dk_at dksX1_soonest_6 0 rfl rfl)
theorem dX1_soonest_145 : decode cX1_soonest 145 = .ok (.iinc 7 1, 3) := dk_132 7 1 (dk_at dksX1_soonest_6 3 rfl rfl)
theorem dX1_soonest_148 : decode cX1_soonest 148 = .ok (.goto (-20), 3) := dk_167 255 236 (dk_at dksX1_soonest_6 6 rfl rfl)
theorem dX1_soonest_151 : decode cX1_soonest 151 = .ok (.iload 6, 2) := dk_21 6 (dk_at dksX1_soonest_6 9 rfl rfl)
theorem dX1_soonest_153 : decode cX1_soonest 153 = .ok (.iload_n 1, 1) := dk_27 (dk_at dksX1_soonest_6 11 rfl rfl)
theorem dX1_soonest_154 : decode cX1_soonest 154 = .ok (.bipush 10, 2) := dk_16 10 (dk_at dksX1_soonest_6 12 rfl rfl)
theorem dX1_soonest_156 : decode cX1_soonest 156 = .ok (.isub, 1) := dk_100 (dk_at dksX1_soonest_6 14 rfl rfl)
theorem dX1_soonest_157 : decode cX1_soonest 157 = .ok (.if_icmp .ne 6, 3) := dk_160 0 6 (dk_at dksX1_soonest_6 15 rfl rfl)
theorem dX1_soonest_160 : decode cX1_soonest 160 = .ok (.iload 7, 2) := dk_21 7 (dk_at dksX1_soonest_6 18 rfl rfl)
theorem dX1_soonest_162 : decode cX1_soonest 162 = .ok (.ireturn, 1) := dk_172 (dk_at dksX1_soonest_6 20 rfl rfl)
theorem dX1_soonest_163 : decode cX1_soonest 163 = .ok (.iload_n 3, 1) := dk_29 (dk_at dksX1_soonest_6 21 rfl rfl)
theorem dX1_soonest_164 : decode cX1_soonest 164 = .ok (.aload_n 0, 1) := dk_42 (dk_at dksX1_soonest_6 22 rfl rfl)
theorem dX1_soonest_165 : decode cX1_soonest 165 = .ok (.iload 6, 2) := dk_21 6 (dk_at dksX1_soonest_7 0 rfl rfl)
theorem dX1_soonest_167 : decode cX1_soonest 167 = .ok (.iload 7, 2) := dk_21 7 (dk_at dksX1_soonest_7 2 rfl rfl)
theorem dX1_soonest_169 : decode cX1_soonest 169 = .ok (.iload_n 2, 1) := dk_28 (dk_at dksX1_soonest_7 4 rfl rfl)
theorem dX1_soonest_170 : decode cX1_soonest 170 = .ok (.iload_n 3, 1) := dk_29 (dk_at dksX1_soonest_7 5 rfl rfl)
theorem dX1_soonest_171 : decode cX1_soonest 171 = .ok (.iload 4, 2) := dk_21 4 (dk_at dksX1_soonest_7 6 rfl rfl)
theorem dX1_soonest_173 : decode cX1_soonest 173 = .ok (.invokevirtual 271, 3) := dk_182 1 15 (dk_at dksX1_soonest_7 8 rfl rfl)
theorem dX1_soonest_176 : decode cX1_soonest 176 = .ok (.isub, 1) := dk_100 (dk_at dksX1_soonest_7 11 rfl rfl)
theorem dX1_soonest_177 : decode cX1_soonest 177 = .ok (.istore_n 3, 1) := dk_62 (dk_at dksX1_soonest_7 12 rfl rfl)
theorem dX1_soonest_178 : decode cX1_soonest 178 = .ok (.aload_n 0, 1) := dk_42 (dk_at dksX1_soonest_7 13 rfl rfl)
theorem dX1_soonest_179 : decode cX1_soonest 179 = .ok (.iload 6, 2) := dk_21 6 (dk_at dksX1_soonest_7 14 rfl rfl)
theorem dX1_soonest_181 : decode cX1_soonest 181 = .ok (.iload 7, 2) := dk_21 7 (dk_at dksX1_soonest_7 16 rfl rfl)
theorem dX1_soonest_183 : decode cX1_soonest 183 = .ok (.iload_n 2, 1) := dk_28 (dk_at dksX1_soonest_7 18 rfl rfl)
theorem dX1_soonest_184 : decode cX1_soonest 184 = .ok (.invokevirtual 274, 3) := dk_182 1 18 (dk_at dksX1_soonest_7 19 rfl rfl)
theorem dX1_soonest_187 : decode cX1_soonest 187 = .ok (.istore_n 2, 1) := dk_61 (dk_at dksX1_soonest_7 22 rfl rfl)
theorem dX1_soonest_188 : decode cX1_soonest 188 = .ok (.iload 7, 2) := dk_21 7 (dk_at dksX1_soonest_8 0 rfl rfl)
theorem dX1_soonest_190 : decode cX1_soonest 190 = .ok (.iload 4, 2) := dk_21 4 (dk_at dksX1_soonest_8 2 rfl rfl)
theorem dX1_soonest_192 : decode cX1_soonest 192 = .ok (.invokestatic 280, 3) := dk_184 1 24 (dk_at dksX1_soonest_8 4 rfl rfl)
theorem dX1_soonest_195 : decode cX1_soonest 195 = .ok (.istore 4, 2) := dk_54 4 (dk_at dksX1_soonest_8 7 rfl rfl)
theorem dX1_soonest_197 : decode cX1_soonest 197 = .ok (.iinc 6 1, 3) := dk_132 6 1 (dk_at dksX1_soonest_8 9 rfl rfl)
theorem dX1_soonest_200 : decode cX1_soonest 200 = .ok (.goto (-85), 3) := dk_167 255 171 (dk_at dksX1_soonest_8 12 rfl rfl)
theorem dX1_soonest_203 : decode cX1_soonest 203 = .ok (.iconst (-1), 1) := dk_2 (dk_at dksX1_soonest_8 15 rfl rfl)
theorem dX1_soonest_204 : decode cX1_soonest 204 = .ok (.ireturn, 1) := dk_172 (dk_at dksX1_soonest_8 16 rfl rfl)
abbrev cX1_ship_2 : ByteArray := prog_1_method_47_code
def yX1_ship_2 : MethodName := ⟨RX1, "ship", "()[I"⟩
def dkwX1_ship_2_0 : List UInt8 := [42, 180, 0, 12, 180, 0, 130, 3, 50, 176]
abbrev dktX1_ship_2_0 : List UInt8 := dkwX1_ship_2_0 ++ []
theorem dksX1_ship_2_0 : cX1_ship_2.data.toList.drop 0 = dktX1_ship_2_0 := by decide +kernel
theorem dX1_ship_2_0 : decode cX1_ship_2 0 = .ok (.aload_n 0, 1) := dk_42 (dk_at dksX1_ship_2_0 0 rfl rfl)
theorem dX1_ship_2_1 : decode cX1_ship_2 1 = .ok (.getfield 12, 3) := dk_180 0 12 (dk_at dksX1_ship_2_0 1 rfl rfl)
theorem dX1_ship_2_4 : decode cX1_ship_2 4 = .ok (.getfield 130, 3) := dk_180 0 130 (dk_at dksX1_ship_2_0 4 rfl rfl)
theorem dX1_ship_2_7 : decode cX1_ship_2 7 = .ok (.iconst 0, 1) := dk_3 (dk_at dksX1_ship_2_0 7 rfl rfl)
theorem dX1_ship_2_8 : decode cX1_ship_2 8 = .ok (.aaload, 1) := dk_50 (dk_at dksX1_ship_2_0 8 rfl rfl)
theorem dX1_ship_2_9 : decode cX1_ship_2 9 = .ok (.areturn, 1) := dk_176 (dk_at dksX1_ship_2_0 9 rfl rfl)
abbrev cX1_laysAhead : ByteArray := prog_1_method_39_code
def yX1_laysAhead : MethodName := ⟨RX1, "laysAhead", "()V"⟩
def dkwX1_laysAhead_1 : List UInt8 := [180, 0, 37, 3, 16, 12, 184, 0, 124, 42, 182, 1, 4, 177]
abbrev dktX1_laysAhead_1 : List UInt8 := dkwX1_laysAhead_1 ++ []
def dkwX1_laysAhead_0 : List UInt8 := [42, 42, 180, 0, 12, 180, 0, 112, 7, 46, 181, 0, 254, 42, 180, 0, 12, 180, 1, 1, 3, 42]
abbrev dktX1_laysAhead_0 : List UInt8 := dkwX1_laysAhead_0 ++ dktX1_laysAhead_1
theorem dksX1_laysAhead_0 : cX1_laysAhead.data.toList.drop 0 = dktX1_laysAhead_0 := by decide +kernel
theorem dksX1_laysAhead_1 : cX1_laysAhead.data.toList.drop 22 = dktX1_laysAhead_1 := dk_seg dksX1_laysAhead_0 22 rfl rfl
theorem dX1_laysAhead_0 : decode cX1_laysAhead 0 = .ok (.aload_n 0, 1) := dk_42 (dk_at dksX1_laysAhead_0 0 rfl rfl)
theorem dX1_laysAhead_1 : decode cX1_laysAhead 1 = .ok (.aload_n 0, 1) := dk_42 (dk_at dksX1_laysAhead_0 1 rfl rfl)
theorem dX1_laysAhead_2 : decode cX1_laysAhead 2 = .ok (.getfield 12, 3) := dk_180 0 12 (dk_at dksX1_laysAhead_0 2 rfl rfl)
theorem dX1_laysAhead_5 : decode cX1_laysAhead 5 = .ok (.getfield 112, 3) := dk_180 0 112 (dk_at dksX1_laysAhead_0 5 rfl rfl)
theorem dX1_laysAhead_8 : decode cX1_laysAhead 8 = .ok (.iconst 4, 1) := dk_7 (dk_at dksX1_laysAhead_0 8 rfl rfl)
theorem dX1_laysAhead_9 : decode cX1_laysAhead 9 = .ok (.iaload, 1) := dk_46 (dk_at dksX1_laysAhead_0 9 rfl rfl)
theorem dX1_laysAhead_10 : decode cX1_laysAhead 10 = .ok (.putfield 254, 3) := dk_181 0 254 (dk_at dksX1_laysAhead_0 10 rfl rfl)
theorem dX1_laysAhead_13 : decode cX1_laysAhead 13 = .ok (.aload_n 0, 1) := dk_42 (dk_at dksX1_laysAhead_0 13 rfl rfl)
theorem dX1_laysAhead_14 : decode cX1_laysAhead 14 = .ok (.getfield 12, 3) := dk_180 0 12 (dk_at dksX1_laysAhead_0 14 rfl rfl)
theorem dX1_laysAhead_17 : decode cX1_laysAhead 17 = .ok (.getfield 257, 3) := dk_180 1 1 (dk_at dksX1_laysAhead_0 17 rfl rfl)
theorem dX1_laysAhead_20 : decode cX1_laysAhead 20 = .ok (.iconst 0, 1) := dk_3 (dk_at dksX1_laysAhead_0 20 rfl rfl)
theorem dX1_laysAhead_21 : decode cX1_laysAhead 21 = .ok (.aload_n 0, 1) := dk_42 (dk_at dksX1_laysAhead_0 21 rfl rfl)
theorem dX1_laysAhead_22 : decode cX1_laysAhead 22 = .ok (.getfield 37, 3) := dk_180 0 37 (dk_at dksX1_laysAhead_1 0 rfl rfl)
theorem dX1_laysAhead_25 : decode cX1_laysAhead 25 = .ok (.iconst 0, 1) := dk_3 (dk_at dksX1_laysAhead_1 3 rfl rfl)
theorem dX1_laysAhead_26 : decode cX1_laysAhead 26 = .ok (.bipush 12, 2) := dk_16 12 (dk_at dksX1_laysAhead_1 4 rfl rfl)
theorem dX1_laysAhead_28 : decode cX1_laysAhead 28 = .ok (.invokestatic 124, 3) := dk_184 0 124 (dk_at dksX1_laysAhead_1 6 rfl rfl)
theorem dX1_laysAhead_31 : decode cX1_laysAhead 31 = .ok (.aload_n 0, 1) := dk_42 (dk_at dksX1_laysAhead_1 9 rfl rfl)
theorem dX1_laysAhead_32 : decode cX1_laysAhead 32 = .ok (.invokevirtual 260, 3) := dk_182 1 4 (dk_at dksX1_laysAhead_1 10 rfl rfl)
theorem dX1_laysAhead_35 : decode cX1_laysAhead 35 = .ok (.return_, 1) := dk_177 (dk_at dksX1_laysAhead_1 13 rfl rfl)
abbrev cX1_laysSea : ByteArray := prog_1_method_38_code
def yX1_laysSea : MethodName := ⟨RX1, "laysSea", "()V"⟩
def dkwX1_laysSea_3 : List UInt8 := [167, 255, 210, 177]
abbrev dktX1_laysSea_3 : List UInt8 := dkwX1_laysSea_3 ++ []
def dkwX1_laysSea_2 : List UInt8 := [180, 0, 37, 27, 46, 42, 180, 0, 12, 180, 0, 112, 3, 46, 27, 96, 182, 0, 242, 132, 1, 1]
abbrev dktX1_laysSea_2 : List UInt8 := dkwX1_laysSea_2 ++ dktX1_laysSea_3
def dkwX1_laysSea_1 : List UInt8 := [180, 0, 254, 162, 0, 44, 42, 42, 180, 0, 42, 27, 50, 42, 180, 0, 42, 27, 4, 96, 50, 42]
abbrev dktX1_laysSea_1 : List UInt8 := dkwX1_laysSea_1 ++ dktX1_laysSea_2
def dkwX1_laysSea_0 : List UInt8 := [42, 180, 0, 12, 180, 0, 102, 3, 42, 180, 0, 42, 3, 50, 3, 16, 36, 184, 0, 124, 3, 60, 27, 42]
abbrev dktX1_laysSea_0 : List UInt8 := dkwX1_laysSea_0 ++ dktX1_laysSea_1
theorem dksX1_laysSea_0 : cX1_laysSea.data.toList.drop 0 = dktX1_laysSea_0 := by decide +kernel
theorem dksX1_laysSea_1 : cX1_laysSea.data.toList.drop 24 = dktX1_laysSea_1 := dk_seg dksX1_laysSea_0 24 rfl rfl
theorem dksX1_laysSea_2 : cX1_laysSea.data.toList.drop 46 = dktX1_laysSea_2 := dk_seg dksX1_laysSea_1 22 rfl rfl
theorem dksX1_laysSea_3 : cX1_laysSea.data.toList.drop 68 = dktX1_laysSea_3 := dk_seg dksX1_laysSea_2 22 rfl rfl
theorem dX1_laysSea_0 : decode cX1_laysSea 0 = .ok (.aload_n 0, 1) := dk_42 (dk_at dksX1_laysSea_0 0 rfl rfl)
theorem dX1_laysSea_1 : decode cX1_laysSea 1 = .ok (.getfield 12, 3) := dk_180 0 12 (dk_at dksX1_laysSea_0 1 rfl rfl)
theorem dX1_laysSea_4 : decode cX1_laysSea 4 = .ok (.getfield 102, 3) := dk_180 0 102 (dk_at dksX1_laysSea_0 4 rfl rfl)
theorem dX1_laysSea_7 : decode cX1_laysSea 7 = .ok (.iconst 0, 1) := dk_3 (dk_at dksX1_laysSea_0 7 rfl rfl)
theorem dX1_laysSea_8 : decode cX1_laysSea 8 = .ok (.aload_n 0, 1) := dk_42 (dk_at dksX1_laysSea_0 8 rfl rfl)
theorem dX1_laysSea_9 : decode cX1_laysSea 9 = .ok (.getfield 42, 3) := dk_180 0 42 (dk_at dksX1_laysSea_0 9 rfl rfl)
theorem dX1_laysSea_12 : decode cX1_laysSea 12 = .ok (.iconst 0, 1) := dk_3 (dk_at dksX1_laysSea_0 12 rfl rfl)
theorem dX1_laysSea_13 : decode cX1_laysSea 13 = .ok (.aaload, 1) := dk_50 (dk_at dksX1_laysSea_0 13 rfl rfl)
theorem dX1_laysSea_14 : decode cX1_laysSea 14 = .ok (.iconst 0, 1) := dk_3 (dk_at dksX1_laysSea_0 14 rfl rfl)
theorem dX1_laysSea_15 : decode cX1_laysSea 15 = .ok (.bipush 36, 2) := dk_16 36 (dk_at dksX1_laysSea_0 15 rfl rfl)
theorem dX1_laysSea_17 : decode cX1_laysSea 17 = .ok (.invokestatic 124, 3) := dk_184 0 124 (dk_at dksX1_laysSea_0 17 rfl rfl)
theorem dX1_laysSea_20 : decode cX1_laysSea 20 = .ok (.iconst 0, 1) := dk_3 (dk_at dksX1_laysSea_0 20 rfl rfl)
theorem dX1_laysSea_21 : decode cX1_laysSea 21 = .ok (.istore_n 1, 1) := dk_60 (dk_at dksX1_laysSea_0 21 rfl rfl)
theorem dX1_laysSea_22 : decode cX1_laysSea 22 = .ok (.iload_n 1, 1) := dk_27 (dk_at dksX1_laysSea_0 22 rfl rfl)
theorem dX1_laysSea_23 : decode cX1_laysSea 23 = .ok (.aload_n 0, 1) := dk_42 (dk_at dksX1_laysSea_0 23 rfl rfl)
theorem dX1_laysSea_24 : decode cX1_laysSea 24 = .ok (.getfield 254, 3) := dk_180 0 254 (dk_at dksX1_laysSea_1 0 rfl rfl)
theorem dX1_laysSea_27 : decode cX1_laysSea 27 = .ok (.if_icmp .ge 44, 3) := dk_162 0 44 (dk_at dksX1_laysSea_1 3 rfl rfl)
theorem dX1_laysSea_30 : decode cX1_laysSea 30 = .ok (.aload_n 0, 1) := dk_42 (dk_at dksX1_laysSea_1 6 rfl rfl)
theorem dX1_laysSea_31 : decode cX1_laysSea 31 = .ok (.aload_n 0, 1) := dk_42 (dk_at dksX1_laysSea_1 7 rfl rfl)
theorem dX1_laysSea_32 : decode cX1_laysSea 32 = .ok (.getfield 42, 3) := dk_180 0 42 (dk_at dksX1_laysSea_1 8 rfl rfl)
theorem dX1_laysSea_35 : decode cX1_laysSea 35 = .ok (.iload_n 1, 1) := dk_27 (dk_at dksX1_laysSea_1 11 rfl rfl)
theorem dX1_laysSea_36 : decode cX1_laysSea 36 = .ok (.aaload, 1) := dk_50 (dk_at dksX1_laysSea_1 12 rfl rfl)
theorem dX1_laysSea_37 : decode cX1_laysSea 37 = .ok (.aload_n 0, 1) := dk_42 (dk_at dksX1_laysSea_1 13 rfl rfl)
theorem dX1_laysSea_38 : decode cX1_laysSea 38 = .ok (.getfield 42, 3) := dk_180 0 42 (dk_at dksX1_laysSea_1 14 rfl rfl)
theorem dX1_laysSea_41 : decode cX1_laysSea 41 = .ok (.iload_n 1, 1) := dk_27 (dk_at dksX1_laysSea_1 17 rfl rfl)
theorem dX1_laysSea_42 : decode cX1_laysSea 42 = .ok (.iconst 1, 1) := dk_4 (dk_at dksX1_laysSea_1 18 rfl rfl)
theorem dX1_laysSea_43 : decode cX1_laysSea 43 = .ok (.iadd, 1) := dk_96 (dk_at dksX1_laysSea_1 19 rfl rfl)
theorem dX1_laysSea_44 : decode cX1_laysSea 44 = .ok (.aaload, 1) := dk_50 (dk_at dksX1_laysSea_1 20 rfl rfl)
theorem dX1_laysSea_45 : decode cX1_laysSea 45 = .ok (.aload_n 0, 1) := dk_42 (dk_at dksX1_laysSea_1 21 rfl rfl)
theorem dX1_laysSea_46 : decode cX1_laysSea 46 = .ok (.getfield 37, 3) := dk_180 0 37 (dk_at dksX1_laysSea_2 0 rfl rfl)
theorem dX1_laysSea_49 : decode cX1_laysSea 49 = .ok (.iload_n 1, 1) := dk_27 (dk_at dksX1_laysSea_2 3 rfl rfl)
theorem dX1_laysSea_50 : decode cX1_laysSea 50 = .ok (.iaload, 1) := dk_46 (dk_at dksX1_laysSea_2 4 rfl rfl)
theorem dX1_laysSea_51 : decode cX1_laysSea 51 = .ok (.aload_n 0, 1) := dk_42 (dk_at dksX1_laysSea_2 5 rfl rfl)
theorem dX1_laysSea_52 : decode cX1_laysSea 52 = .ok (.getfield 12, 3) := dk_180 0 12 (dk_at dksX1_laysSea_2 6 rfl rfl)
theorem dX1_laysSea_55 : decode cX1_laysSea 55 = .ok (.getfield 112, 3) := dk_180 0 112 (dk_at dksX1_laysSea_2 9 rfl rfl)
theorem dX1_laysSea_58 : decode cX1_laysSea 58 = .ok (.iconst 0, 1) := dk_3 (dk_at dksX1_laysSea_2 12 rfl rfl)
theorem dX1_laysSea_59 : decode cX1_laysSea 59 = .ok (.iaload, 1) := dk_46 (dk_at dksX1_laysSea_2 13 rfl rfl)
theorem dX1_laysSea_60 : decode cX1_laysSea 60 = .ok (.iload_n 1, 1) := dk_27 (dk_at dksX1_laysSea_2 14 rfl rfl)
theorem dX1_laysSea_61 : decode cX1_laysSea 61 = .ok (.iadd, 1) := dk_96 (dk_at dksX1_laysSea_2 15 rfl rfl)
theorem dX1_laysSea_62 : decode cX1_laysSea 62 = .ok (.invokevirtual 242, 3) := dk_182 0 242 (dk_at dksX1_laysSea_2 16 rfl rfl)
theorem dX1_laysSea_65 : decode cX1_laysSea 65 = .ok (.iinc 1 1, 3) := dk_132 1 1 (dk_at dksX1_laysSea_2 19 rfl rfl)
theorem dX1_laysSea_68 : decode cX1_laysSea 68 = .ok (.goto (-46), 3) := dk_167 255 210 (dk_at dksX1_laysSea_3 0 rfl rfl)
theorem dX1_laysSea_71 : decode cX1_laysSea 71 = .ok (.return_, 1) := dk_177 (dk_at dksX1_laysSea_3 3 rfl rfl)
abbrev cX1_soonest_2 : ByteArray := prog_1_method_45_code
def yX1_soonest_2 : MethodName := ⟨RX1, "soonest", "(IIII)I"⟩
def dkwX1_soonest_2_4 : List UInt8 := [21, 6, 79, 21, 6, 172]
abbrev dktX1_soonest_2_4 : List UInt8 := dkwX1_soonest_2_4 ++ []
def dkwX1_soonest_2_3 : List UInt8 := [21, 4, 21, 7, 182, 1, 11, 184, 0, 72, 54, 6, 132, 7, 1, 167, 255, 228, 42, 180, 0, 46, 21, 5]
abbrev dktX1_soonest_2_3 : List UInt8 := dkwX1_soonest_2_3 ++ dktX1_soonest_2_4
def dkwX1_soonest_2_2 : List UInt8 := [46, 172, 19, 1, 10, 54, 6, 3, 54, 7, 21, 7, 16, 7, 163, 0, 27, 21, 6, 42, 27, 28, 29]
abbrev dktX1_soonest_2_2 : List UInt8 := dkwX1_soonest_2_2 ++ dktX1_soonest_2_3
def dkwX1_soonest_2_1 : List UInt8 := [104, 96, 21, 4, 96, 54, 5, 42, 180, 0, 46, 21, 5, 46, 2, 159, 0, 11, 42, 180, 0, 46, 21, 5]
abbrev dktX1_soonest_2_1 : List UInt8 := dkwX1_soonest_2_1 ++ dktX1_soonest_2_2
def dkwX1_soonest_2_0 : List UInt8 := [27, 42, 180, 0, 254, 160, 0, 7, 19, 1, 10, 172, 17, 0, 200, 16, 36, 27, 104, 28, 96, 104, 5, 29]
abbrev dktX1_soonest_2_0 : List UInt8 := dkwX1_soonest_2_0 ++ dktX1_soonest_2_1
theorem dksX1_soonest_2_0 : cX1_soonest_2.data.toList.drop 0 = dktX1_soonest_2_0 := by decide +kernel
theorem dksX1_soonest_2_1 : cX1_soonest_2.data.toList.drop 24 = dktX1_soonest_2_1 := dk_seg dksX1_soonest_2_0 24 rfl rfl
theorem dksX1_soonest_2_2 : cX1_soonest_2.data.toList.drop 48 = dktX1_soonest_2_2 := dk_seg dksX1_soonest_2_1 24 rfl rfl
theorem dksX1_soonest_2_3 : cX1_soonest_2.data.toList.drop 71 = dktX1_soonest_2_3 := dk_seg dksX1_soonest_2_2 23 rfl rfl
theorem dksX1_soonest_2_4 : cX1_soonest_2.data.toList.drop 95 = dktX1_soonest_2_4 := dk_seg dksX1_soonest_2_3 24 rfl rfl
theorem dX1_soonest_2_0 : decode cX1_soonest_2 0 = .ok (.iload_n 1, 1) := dk_27 (dk_at dksX1_soonest_2_0 0 rfl rfl)
theorem dX1_soonest_2_1 : decode cX1_soonest_2 1 = .ok (.aload_n 0, 1) := dk_42 (dk_at dksX1_soonest_2_0 1 rfl rfl)
theorem dX1_soonest_2_2 : decode cX1_soonest_2 2 = .ok (.getfield 254, 3) := dk_180 0 254 (dk_at dksX1_soonest_2_0 2 rfl rfl)
theorem dX1_soonest_2_5 : decode cX1_soonest_2 5 = .ok (.if_icmp .ne 7, 3) := dk_160 0 7 (dk_at dksX1_soonest_2_0 5 rfl rfl)
theorem dX1_soonest_2_8 : decode cX1_soonest_2 8 = .ok (.ldc_w 266, 3) := dk_19 1 10 (dk_at dksX1_soonest_2_0 8 rfl rfl)
theorem dX1_soonest_2_11 : decode cX1_soonest_2 11 = .ok (.ireturn, 1) := dk_172 (dk_at dksX1_soonest_2_0 11 rfl rfl)
theorem dX1_soonest_2_12 : decode cX1_soonest_2 12 = .ok (.sipush 200, 3) := dk_17 0 200 (dk_at dksX1_soonest_2_0 12 rfl rfl)
theorem dX1_soonest_2_15 : decode cX1_soonest_2 15 = .ok (.bipush 36, 2) := dk_16 36 (dk_at dksX1_soonest_2_0 15 rfl rfl)
theorem dX1_soonest_2_17 : decode cX1_soonest_2 17 = .ok (.iload_n 1, 1) := dk_27 (dk_at dksX1_soonest_2_0 17 rfl rfl)
theorem dX1_soonest_2_18 : decode cX1_soonest_2 18 = .ok (.imul, 1) := dk_104 (dk_at dksX1_soonest_2_0 18 rfl rfl)
theorem dX1_soonest_2_19 : decode cX1_soonest_2 19 = .ok (.iload_n 2, 1) := dk_28 (dk_at dksX1_soonest_2_0 19 rfl rfl)
theorem dX1_soonest_2_20 : decode cX1_soonest_2 20 = .ok (.iadd, 1) := dk_96 (dk_at dksX1_soonest_2_0 20 rfl rfl)
theorem dX1_soonest_2_21 : decode cX1_soonest_2 21 = .ok (.imul, 1) := dk_104 (dk_at dksX1_soonest_2_0 21 rfl rfl)
theorem dX1_soonest_2_22 : decode cX1_soonest_2 22 = .ok (.iconst 2, 1) := dk_5 (dk_at dksX1_soonest_2_0 22 rfl rfl)
theorem dX1_soonest_2_23 : decode cX1_soonest_2 23 = .ok (.iload_n 3, 1) := dk_29 (dk_at dksX1_soonest_2_0 23 rfl rfl)
theorem dX1_soonest_2_24 : decode cX1_soonest_2 24 = .ok (.imul, 1) := dk_104 (dk_at dksX1_soonest_2_1 0 rfl rfl)
theorem dX1_soonest_2_25 : decode cX1_soonest_2 25 = .ok (.iadd, 1) := dk_96 (dk_at dksX1_soonest_2_1 1 rfl rfl)
theorem dX1_soonest_2_26 : decode cX1_soonest_2 26 = .ok (.iload 4, 2) := dk_21 4 (dk_at dksX1_soonest_2_1 2 rfl rfl)
theorem dX1_soonest_2_28 : decode cX1_soonest_2 28 = .ok (.iadd, 1) := dk_96 (dk_at dksX1_soonest_2_1 4 rfl rfl)
theorem dX1_soonest_2_29 : decode cX1_soonest_2 29 = .ok (.istore 5, 2) := dk_54 5 (dk_at dksX1_soonest_2_1 5 rfl rfl)
theorem dX1_soonest_2_31 : decode cX1_soonest_2 31 = .ok (.aload_n 0, 1) := dk_42 (dk_at dksX1_soonest_2_1 7 rfl rfl)
theorem dX1_soonest_2_32 : decode cX1_soonest_2 32 = .ok (.getfield 46, 3) := dk_180 0 46 (dk_at dksX1_soonest_2_1 8 rfl rfl)
theorem dX1_soonest_2_35 : decode cX1_soonest_2 35 = .ok (.iload 5, 2) := dk_21 5 (dk_at dksX1_soonest_2_1 11 rfl rfl)
theorem dX1_soonest_2_37 : decode cX1_soonest_2 37 = .ok (.iaload, 1) := dk_46 (dk_at dksX1_soonest_2_1 13 rfl rfl)
theorem dX1_soonest_2_38 : decode cX1_soonest_2 38 = .ok (.iconst (-1), 1) := dk_2 (dk_at dksX1_soonest_2_1 14 rfl rfl)
theorem dX1_soonest_2_39 : decode cX1_soonest_2 39 = .ok (.if_icmp .eq 11, 3) := dk_159 0 11 (dk_at dksX1_soonest_2_1 15 rfl rfl)
theorem dX1_soonest_2_42 : decode cX1_soonest_2 42 = .ok (.aload_n 0, 1) := dk_42 (dk_at dksX1_soonest_2_1 18 rfl rfl)
theorem dX1_soonest_2_43 : decode cX1_soonest_2 43 = .ok (.getfield 46, 3) := dk_180 0 46 (dk_at dksX1_soonest_2_1 19 rfl rfl)
theorem dX1_soonest_2_46 : decode cX1_soonest_2 46 = .ok (.iload 5, 2) := dk_21 5 (dk_at dksX1_soonest_2_1 22 rfl rfl)
theorem dX1_soonest_2_48 : decode cX1_soonest_2 48 = .ok (.iaload, 1) := dk_46 (dk_at dksX1_soonest_2_2 0 rfl rfl)
theorem dX1_soonest_2_49 : decode cX1_soonest_2 49 = .ok (.ireturn, 1) := dk_172 (dk_at dksX1_soonest_2_2 1 rfl rfl)
theorem dX1_soonest_2_50 : decode cX1_soonest_2 50 = .ok (.ldc_w 266, 3) := dk_19 1 10 (dk_at dksX1_soonest_2_2 2 rfl rfl)
theorem dX1_soonest_2_53 : decode cX1_soonest_2 53 = .ok (.istore 6, 2) := dk_54 6 (dk_at dksX1_soonest_2_2 5 rfl rfl)
theorem dX1_soonest_2_55 : decode cX1_soonest_2 55 = .ok (.iconst 0, 1) := dk_3 (dk_at dksX1_soonest_2_2 7 rfl rfl)
theorem dX1_soonest_2_56 : decode cX1_soonest_2 56 = .ok (.istore 7, 2) := dk_54 7 (dk_at dksX1_soonest_2_2 8 rfl rfl)
theorem dX1_soonest_2_58 : decode cX1_soonest_2 58 = .ok (.iload 7, 2) := dk_21 7 (dk_at dksX1_soonest_2_2 10 rfl rfl)
theorem dX1_soonest_2_60 : decode cX1_soonest_2 60 = .ok (.bipush 7, 2) := dk_16 7 (dk_at dksX1_soonest_2_2 12 rfl rfl)
theorem dX1_soonest_2_62 : decode cX1_soonest_2 62 = .ok (.if_icmp .gt 27, 3) := dk_163 0 27 (dk_at dksX1_soonest_2_2 14 rfl rfl)
theorem dX1_soonest_2_65 : decode cX1_soonest_2 65 = .ok (.iload 6, 2) := dk_21 6 (dk_at dksX1_soonest_2_2 17 rfl rfl)
theorem dX1_soonest_2_67 : decode cX1_soonest_2 67 = .ok (.aload_n 0, 1) := dk_42 (dk_at dksX1_soonest_2_2 19 rfl rfl)
theorem dX1_soonest_2_68 : decode cX1_soonest_2 68 = .ok (.iload_n 1, 1) := dk_27 (dk_at dksX1_soonest_2_2 20 rfl rfl)
theorem dX1_soonest_2_69 : decode cX1_soonest_2 69 = .ok (.iload_n 2, 1) := dk_28 (dk_at dksX1_soonest_2_2 21 rfl rfl)
theorem dX1_soonest_2_70 : decode cX1_soonest_2 70 = .ok (.iload_n 3, 1) := dk_29 (dk_at dksX1_soonest_2_2 22 rfl rfl)
theorem dX1_soonest_2_71 : decode cX1_soonest_2 71 = .ok (.iload 4, 2) := dk_21 4 (dk_at dksX1_soonest_2_3 0 rfl rfl)
theorem dX1_soonest_2_73 : decode cX1_soonest_2 73 = .ok (.iload 7, 2) := dk_21 7 (dk_at dksX1_soonest_2_3 2 rfl rfl)
theorem dX1_soonest_2_75 : decode cX1_soonest_2 75 = .ok (.invokevirtual 267, 3) := dk_182 1 11 (dk_at dksX1_soonest_2_3 4 rfl rfl)
theorem dX1_soonest_2_78 : decode cX1_soonest_2 78 = .ok (.invokestatic 72, 3) := dk_184 0 72 (dk_at dksX1_soonest_2_3 7 rfl rfl)
theorem dX1_soonest_2_81 : decode cX1_soonest_2 81 = .ok (.istore 6, 2) := dk_54 6 (dk_at dksX1_soonest_2_3 10 rfl rfl)
theorem dX1_soonest_2_83 : decode cX1_soonest_2 83 = .ok (.iinc 7 1, 3) := dk_132 7 1 (dk_at dksX1_soonest_2_3 12 rfl rfl)
theorem dX1_soonest_2_86 : decode cX1_soonest_2 86 = .ok (.goto (-28), 3) := dk_167 255 228 (dk_at dksX1_soonest_2_3 15 rfl rfl)
theorem dX1_soonest_2_89 : decode cX1_soonest_2 89 = .ok (.aload_n 0, 1) := dk_42 (dk_at dksX1_soonest_2_3 18 rfl rfl)
theorem dX1_soonest_2_90 : decode cX1_soonest_2 90 = .ok (.getfield 46, 3) := dk_180 0 46 (dk_at dksX1_soonest_2_3 19 rfl rfl)
theorem dX1_soonest_2_93 : decode cX1_soonest_2 93 = .ok (.iload 5, 2) := dk_21 5 (dk_at dksX1_soonest_2_3 22 rfl rfl)
theorem dX1_soonest_2_95 : decode cX1_soonest_2 95 = .ok (.iload 6, 2) := dk_21 6 (dk_at dksX1_soonest_2_4 0 rfl rfl)
theorem dX1_soonest_2_97 : decode cX1_soonest_2 97 = .ok (.iastore, 1) := dk_79 (dk_at dksX1_soonest_2_4 2 rfl rfl)
theorem dX1_soonest_2_98 : decode cX1_soonest_2 98 = .ok (.iload 6, 2) := dk_21 6 (dk_at dksX1_soonest_2_4 3 rfl rfl)
theorem dX1_soonest_2_100 : decode cX1_soonest_2 100 = .ok (.ireturn, 1) := dk_172 (dk_at dksX1_soonest_2_4 5 rfl rfl)
abbrev cX1_soonestBy : ByteArray := prog_1_method_46_code
def yX1_soonestBy : MethodName := ⟨RX1, "soonestBy", "(IIIII)I"⟩
def dkwX1_soonestBy_4 : List UInt8 := [21, 4, 184, 1, 24, 182, 1, 27, 172]
abbrev dktX1_soonestBy_4 : List UInt8 := dkwX1_soonestBy_4 ++ []
def dkwX1_soonestBy_3 : List UInt8 := [182, 1, 21, 153, 0, 9, 19, 1, 10, 167, 0, 23, 42, 27, 4, 96, 21, 7, 29, 21, 6, 100, 21, 5]
abbrev dktX1_soonestBy_3 : List UInt8 := dkwX1_soonestBy_3 ++ dktX1_soonestBy_4
def dkwX1_soonestBy_2 : List UInt8 := [51, 153, 0, 18, 16, 100, 27, 4, 96, 104, 16, 99, 96, 29, 21, 6, 100, 100, 172, 42, 27, 21, 7]
abbrev dktX1_soonestBy_2 : List UInt8 := dkwX1_soonestBy_2 ++ dktX1_soonestBy_3
def dkwX1_soonestBy_1 : List UInt8 := [27, 21, 5, 28, 182, 1, 18, 54, 7, 21, 5, 7, 162, 0, 31, 42, 180, 0, 12, 180, 0, 109, 21, 7]
abbrev dktX1_soonestBy_1 : List UInt8 := dkwX1_soonestBy_1 ++ dktX1_soonestBy_2
def dkwX1_soonestBy_0 : List UInt8 := [42, 27, 21, 5, 28, 29, 21, 4, 182, 1, 15, 54, 6, 21, 6, 2, 160, 0, 7, 19, 1, 10, 172, 42]
abbrev dktX1_soonestBy_0 : List UInt8 := dkwX1_soonestBy_0 ++ dktX1_soonestBy_1
theorem dksX1_soonestBy_0 : cX1_soonestBy.data.toList.drop 0 = dktX1_soonestBy_0 := by decide +kernel
theorem dksX1_soonestBy_1 : cX1_soonestBy.data.toList.drop 24 = dktX1_soonestBy_1 := dk_seg dksX1_soonestBy_0 24 rfl rfl
theorem dksX1_soonestBy_2 : cX1_soonestBy.data.toList.drop 48 = dktX1_soonestBy_2 := dk_seg dksX1_soonestBy_1 24 rfl rfl
theorem dksX1_soonestBy_3 : cX1_soonestBy.data.toList.drop 71 = dktX1_soonestBy_3 := dk_seg dksX1_soonestBy_2 23 rfl rfl
theorem dksX1_soonestBy_4 : cX1_soonestBy.data.toList.drop 95 = dktX1_soonestBy_4 := dk_seg dksX1_soonestBy_3 24 rfl rfl
theorem dX1_soonestBy_0 : decode cX1_soonestBy 0 = .ok (.aload_n 0, 1) := dk_42 (dk_at dksX1_soonestBy_0 0 rfl rfl)
theorem dX1_soonestBy_1 : decode cX1_soonestBy 1 = .ok (.iload_n 1, 1) := dk_27 (dk_at dksX1_soonestBy_0 1 rfl rfl)
theorem dX1_soonestBy_2 : decode cX1_soonestBy 2 = .ok (.iload 5, 2) := dk_21 5 (dk_at dksX1_soonestBy_0 2 rfl rfl)
theorem dX1_soonestBy_4 : decode cX1_soonestBy 4 = .ok (.iload_n 2, 1) := dk_28 (dk_at dksX1_soonestBy_0 4 rfl rfl)
theorem dX1_soonestBy_5 : decode cX1_soonestBy 5 = .ok (.iload_n 3, 1) := dk_29 (dk_at dksX1_soonestBy_0 5 rfl rfl)
theorem dX1_soonestBy_6 : decode cX1_soonestBy 6 = .ok (.iload 4, 2) := dk_21 4 (dk_at dksX1_soonestBy_0 6 rfl rfl)
theorem dX1_soonestBy_8 : decode cX1_soonestBy 8 = .ok (.invokevirtual 271, 3) := dk_182 1 15 (dk_at dksX1_soonestBy_0 8 rfl rfl)
theorem dX1_soonestBy_11 : decode cX1_soonestBy 11 = .ok (.istore 6, 2) := dk_54 6 (dk_at dksX1_soonestBy_0 11 rfl rfl)
theorem dX1_soonestBy_13 : decode cX1_soonestBy 13 = .ok (.iload 6, 2) := dk_21 6 (dk_at dksX1_soonestBy_0 13 rfl rfl)
theorem dX1_soonestBy_15 : decode cX1_soonestBy 15 = .ok (.iconst (-1), 1) := dk_2 (dk_at dksX1_soonestBy_0 15 rfl rfl)
theorem dX1_soonestBy_16 : decode cX1_soonestBy 16 = .ok (.if_icmp .ne 7, 3) := dk_160 0 7 (dk_at dksX1_soonestBy_0 16 rfl rfl)
theorem dX1_soonestBy_19 : decode cX1_soonestBy 19 = .ok (.ldc_w 266, 3) := dk_19 1 10 (dk_at dksX1_soonestBy_0 19 rfl rfl)
theorem dX1_soonestBy_22 : decode cX1_soonestBy 22 = .ok (.ireturn, 1) := dk_172 (dk_at dksX1_soonestBy_0 22 rfl rfl)
theorem dX1_soonestBy_23 : decode cX1_soonestBy 23 = .ok (.aload_n 0, 1) := dk_42 (dk_at dksX1_soonestBy_0 23 rfl rfl)
theorem dX1_soonestBy_24 : decode cX1_soonestBy 24 = .ok (.iload_n 1, 1) := dk_27 (dk_at dksX1_soonestBy_1 0 rfl rfl)
theorem dX1_soonestBy_25 : decode cX1_soonestBy 25 = .ok (.iload 5, 2) := dk_21 5 (dk_at dksX1_soonestBy_1 1 rfl rfl)
theorem dX1_soonestBy_27 : decode cX1_soonestBy 27 = .ok (.iload_n 2, 1) := dk_28 (dk_at dksX1_soonestBy_1 3 rfl rfl)
theorem dX1_soonestBy_28 : decode cX1_soonestBy 28 = .ok (.invokevirtual 274, 3) := dk_182 1 18 (dk_at dksX1_soonestBy_1 4 rfl rfl)
theorem dX1_soonestBy_31 : decode cX1_soonestBy 31 = .ok (.istore 7, 2) := dk_54 7 (dk_at dksX1_soonestBy_1 7 rfl rfl)
theorem dX1_soonestBy_33 : decode cX1_soonestBy 33 = .ok (.iload 5, 2) := dk_21 5 (dk_at dksX1_soonestBy_1 9 rfl rfl)
theorem dX1_soonestBy_35 : decode cX1_soonestBy 35 = .ok (.iconst 4, 1) := dk_7 (dk_at dksX1_soonestBy_1 11 rfl rfl)
theorem dX1_soonestBy_36 : decode cX1_soonestBy 36 = .ok (.if_icmp .ge 31, 3) := dk_162 0 31 (dk_at dksX1_soonestBy_1 12 rfl rfl)
theorem dX1_soonestBy_39 : decode cX1_soonestBy 39 = .ok (.aload_n 0, 1) := dk_42 (dk_at dksX1_soonestBy_1 15 rfl rfl)
theorem dX1_soonestBy_40 : decode cX1_soonestBy 40 = .ok (.getfield 12, 3) := dk_180 0 12 (dk_at dksX1_soonestBy_1 16 rfl rfl)
theorem dX1_soonestBy_43 : decode cX1_soonestBy 43 = .ok (.getfield 109, 3) := dk_180 0 109 (dk_at dksX1_soonestBy_1 19 rfl rfl)
theorem dX1_soonestBy_46 : decode cX1_soonestBy 46 = .ok (.iload 7, 2) := dk_21 7 (dk_at dksX1_soonestBy_1 22 rfl rfl)
theorem dX1_soonestBy_48 : decode cX1_soonestBy 48 = .ok (.baload, 1) := dk_51 (dk_at dksX1_soonestBy_2 0 rfl rfl)
theorem dX1_soonestBy_49 : decode cX1_soonestBy 49 = .ok (.ifCond .eq 18, 3) := dk_153 0 18 (dk_at dksX1_soonestBy_2 1 rfl rfl)
theorem dX1_soonestBy_52 : decode cX1_soonestBy 52 = .ok (.bipush 100, 2) := dk_16 100 (dk_at dksX1_soonestBy_2 4 rfl rfl)
theorem dX1_soonestBy_54 : decode cX1_soonestBy 54 = .ok (.iload_n 1, 1) := dk_27 (dk_at dksX1_soonestBy_2 6 rfl rfl)
theorem dX1_soonestBy_55 : decode cX1_soonestBy 55 = .ok (.iconst 1, 1) := dk_4 (dk_at dksX1_soonestBy_2 7 rfl rfl)
theorem dX1_soonestBy_56 : decode cX1_soonestBy 56 = .ok (.iadd, 1) := dk_96 (dk_at dksX1_soonestBy_2 8 rfl rfl)
theorem dX1_soonestBy_57 : decode cX1_soonestBy 57 = .ok (.imul, 1) := dk_104 (dk_at dksX1_soonestBy_2 9 rfl rfl)
theorem dX1_soonestBy_58 : decode cX1_soonestBy 58 = .ok (.bipush 99, 2) := dk_16 99 (dk_at dksX1_soonestBy_2 10 rfl rfl)
theorem dX1_soonestBy_60 : decode cX1_soonestBy 60 = .ok (.iadd, 1) := dk_96 (dk_at dksX1_soonestBy_2 12 rfl rfl)
theorem dX1_soonestBy_61 : decode cX1_soonestBy 61 = .ok (.iload_n 3, 1) := dk_29 (dk_at dksX1_soonestBy_2 13 rfl rfl)
theorem dX1_soonestBy_62 : decode cX1_soonestBy 62 = .ok (.iload 6, 2) := dk_21 6 (dk_at dksX1_soonestBy_2 14 rfl rfl)
theorem dX1_soonestBy_64 : decode cX1_soonestBy 64 = .ok (.isub, 1) := dk_100 (dk_at dksX1_soonestBy_2 16 rfl rfl)
theorem dX1_soonestBy_65 : decode cX1_soonestBy 65 = .ok (.isub, 1) := dk_100 (dk_at dksX1_soonestBy_2 17 rfl rfl)
theorem dX1_soonestBy_66 : decode cX1_soonestBy 66 = .ok (.ireturn, 1) := dk_172 (dk_at dksX1_soonestBy_2 18 rfl rfl)
theorem dX1_soonestBy_67 : decode cX1_soonestBy 67 = .ok (.aload_n 0, 1) := dk_42 (dk_at dksX1_soonestBy_2 19 rfl rfl)
theorem dX1_soonestBy_68 : decode cX1_soonestBy 68 = .ok (.iload_n 1, 1) := dk_27 (dk_at dksX1_soonestBy_2 20 rfl rfl)
theorem dX1_soonestBy_69 : decode cX1_soonestBy 69 = .ok (.iload 7, 2) := dk_21 7 (dk_at dksX1_soonestBy_2 21 rfl rfl)
theorem dX1_soonestBy_71 : decode cX1_soonestBy 71 = .ok (.invokevirtual 277, 3) := dk_182 1 21 (dk_at dksX1_soonestBy_3 0 rfl rfl)
theorem dX1_soonestBy_74 : decode cX1_soonestBy 74 = .ok (.ifCond .eq 9, 3) := dk_153 0 9 (dk_at dksX1_soonestBy_3 3 rfl rfl)
theorem dX1_soonestBy_77 : decode cX1_soonestBy 77 = .ok (.ldc_w 266, 3) := dk_19 1 10 (dk_at dksX1_soonestBy_3 6 rfl rfl)
theorem dX1_soonestBy_80 : decode cX1_soonestBy 80 = .ok (.goto 23, 3) := dk_167 0 23 (dk_at dksX1_soonestBy_3 9 rfl rfl)
theorem dX1_soonestBy_83 : decode cX1_soonestBy 83 = .ok (.aload_n 0, 1) := dk_42 (dk_at dksX1_soonestBy_3 12 rfl rfl)
theorem dX1_soonestBy_84 : decode cX1_soonestBy 84 = .ok (.iload_n 1, 1) := dk_27 (dk_at dksX1_soonestBy_3 13 rfl rfl)
theorem dX1_soonestBy_85 : decode cX1_soonestBy 85 = .ok (.iconst 1, 1) := dk_4 (dk_at dksX1_soonestBy_3 14 rfl rfl)
theorem dX1_soonestBy_86 : decode cX1_soonestBy 86 = .ok (.iadd, 1) := dk_96 (dk_at dksX1_soonestBy_3 15 rfl rfl)
theorem dX1_soonestBy_87 : decode cX1_soonestBy 87 = .ok (.iload 7, 2) := dk_21 7 (dk_at dksX1_soonestBy_3 16 rfl rfl)
theorem dX1_soonestBy_89 : decode cX1_soonestBy 89 = .ok (.iload_n 3, 1) := dk_29 (dk_at dksX1_soonestBy_3 18 rfl rfl)
theorem dX1_soonestBy_90 : decode cX1_soonestBy 90 = .ok (.iload 6, 2) := dk_21 6 (dk_at dksX1_soonestBy_3 19 rfl rfl)
theorem dX1_soonestBy_92 : decode cX1_soonestBy 92 = .ok (.isub, 1) := dk_100 (dk_at dksX1_soonestBy_3 21 rfl rfl)
theorem dX1_soonestBy_93 : decode cX1_soonestBy 93 = .ok (.iload 5, 2) := dk_21 5 (dk_at dksX1_soonestBy_3 22 rfl rfl)
theorem dX1_soonestBy_95 : decode cX1_soonestBy 95 = .ok (.iload 4, 2) := dk_21 4 (dk_at dksX1_soonestBy_4 0 rfl rfl)
theorem dX1_soonestBy_97 : decode cX1_soonestBy 97 = .ok (.invokestatic 280, 3) := dk_184 1 24 (dk_at dksX1_soonestBy_4 2 rfl rfl)
theorem dX1_soonestBy_100 : decode cX1_soonestBy 100 = .ok (.invokevirtual 283, 3) := dk_182 1 27 (dk_at dksX1_soonestBy_4 5 rfl rfl)
theorem dX1_soonestBy_103 : decode cX1_soonestBy 103 = .ok (.ireturn, 1) := dk_172 (dk_at dksX1_soonestBy_4 8 rfl rfl)
abbrev cX1_costAt : ByteArray := prog_1_method_41_code
def yX1_costAt : MethodName := ⟨RX1, "costAt", "(IIIII)I"⟩
def dkwX1_costAt_1 : List UInt8 := [180, 0, 112, 3, 46, 27, 96, 182, 0, 232, 172]
abbrev dktX1_costAt_1 : List UInt8 := dkwX1_costAt_1 ++ []
def dkwX1_costAt_0 : List UInt8 := [42, 28, 29, 21, 4, 21, 5, 42, 180, 0, 42, 27, 50, 42, 27, 182, 1, 7, 42, 180, 0, 12]
abbrev dktX1_costAt_0 : List UInt8 := dkwX1_costAt_0 ++ dktX1_costAt_1
theorem dksX1_costAt_0 : cX1_costAt.data.toList.drop 0 = dktX1_costAt_0 := by decide +kernel
theorem dksX1_costAt_1 : cX1_costAt.data.toList.drop 22 = dktX1_costAt_1 := dk_seg dksX1_costAt_0 22 rfl rfl
theorem dX1_costAt_0 : decode cX1_costAt 0 = .ok (.aload_n 0, 1) := dk_42 (dk_at dksX1_costAt_0 0 rfl rfl)
theorem dX1_costAt_1 : decode cX1_costAt 1 = .ok (.iload_n 2, 1) := dk_28 (dk_at dksX1_costAt_0 1 rfl rfl)
theorem dX1_costAt_2 : decode cX1_costAt 2 = .ok (.iload_n 3, 1) := dk_29 (dk_at dksX1_costAt_0 2 rfl rfl)
theorem dX1_costAt_3 : decode cX1_costAt 3 = .ok (.iload 4, 2) := dk_21 4 (dk_at dksX1_costAt_0 3 rfl rfl)
theorem dX1_costAt_5 : decode cX1_costAt 5 = .ok (.iload 5, 2) := dk_21 5 (dk_at dksX1_costAt_0 5 rfl rfl)
theorem dX1_costAt_7 : decode cX1_costAt 7 = .ok (.aload_n 0, 1) := dk_42 (dk_at dksX1_costAt_0 7 rfl rfl)
theorem dX1_costAt_8 : decode cX1_costAt 8 = .ok (.getfield 42, 3) := dk_180 0 42 (dk_at dksX1_costAt_0 8 rfl rfl)
theorem dX1_costAt_11 : decode cX1_costAt 11 = .ok (.iload_n 1, 1) := dk_27 (dk_at dksX1_costAt_0 11 rfl rfl)
theorem dX1_costAt_12 : decode cX1_costAt 12 = .ok (.aaload, 1) := dk_50 (dk_at dksX1_costAt_0 12 rfl rfl)
theorem dX1_costAt_13 : decode cX1_costAt 13 = .ok (.aload_n 0, 1) := dk_42 (dk_at dksX1_costAt_0 13 rfl rfl)
theorem dX1_costAt_14 : decode cX1_costAt 14 = .ok (.iload_n 1, 1) := dk_27 (dk_at dksX1_costAt_0 14 rfl rfl)
theorem dX1_costAt_15 : decode cX1_costAt 15 = .ok (.invokevirtual 263, 3) := dk_182 1 7 (dk_at dksX1_costAt_0 15 rfl rfl)
theorem dX1_costAt_18 : decode cX1_costAt 18 = .ok (.aload_n 0, 1) := dk_42 (dk_at dksX1_costAt_0 18 rfl rfl)
theorem dX1_costAt_19 : decode cX1_costAt 19 = .ok (.getfield 12, 3) := dk_180 0 12 (dk_at dksX1_costAt_0 19 rfl rfl)
theorem dX1_costAt_22 : decode cX1_costAt 22 = .ok (.getfield 112, 3) := dk_180 0 112 (dk_at dksX1_costAt_1 0 rfl rfl)
theorem dX1_costAt_25 : decode cX1_costAt 25 = .ok (.iconst 0, 1) := dk_3 (dk_at dksX1_costAt_1 3 rfl rfl)
theorem dX1_costAt_26 : decode cX1_costAt 26 = .ok (.iaload, 1) := dk_46 (dk_at dksX1_costAt_1 4 rfl rfl)
theorem dX1_costAt_27 : decode cX1_costAt 27 = .ok (.iload_n 1, 1) := dk_27 (dk_at dksX1_costAt_1 5 rfl rfl)
theorem dX1_costAt_28 : decode cX1_costAt 28 = .ok (.iadd, 1) := dk_96 (dk_at dksX1_costAt_1 6 rfl rfl)
theorem dX1_costAt_29 : decode cX1_costAt 29 = .ok (.invokevirtual 232, 3) := dk_182 0 232 (dk_at dksX1_costAt_1 7 rfl rfl)
theorem dX1_costAt_32 : decode cX1_costAt 32 = .ok (.ireturn, 1) := dk_172 (dk_at dksX1_costAt_1 10 rfl rfl)
abbrev cX1_windAt : ByteArray := prog_1_method_40_code
def yX1_windAt : MethodName := ⟨RX1, "windAt", "(I)I"⟩
def dkwX1_windAt_1 : List UInt8 := [172]
abbrev dktX1_windAt_1 : List UInt8 := dkwX1_windAt_1 ++ []
def dkwX1_windAt_0 : List UInt8 := [27, 154, 0, 15, 42, 180, 0, 12, 180, 0, 112, 4, 46, 167, 0, 11, 42, 180, 0, 37, 27, 4, 100, 46]
abbrev dktX1_windAt_0 : List UInt8 := dkwX1_windAt_0 ++ dktX1_windAt_1
theorem dksX1_windAt_0 : cX1_windAt.data.toList.drop 0 = dktX1_windAt_0 := by decide +kernel
theorem dksX1_windAt_1 : cX1_windAt.data.toList.drop 24 = dktX1_windAt_1 := dk_seg dksX1_windAt_0 24 rfl rfl
theorem dX1_windAt_0 : decode cX1_windAt 0 = .ok (.iload_n 1, 1) := dk_27 (dk_at dksX1_windAt_0 0 rfl rfl)
theorem dX1_windAt_1 : decode cX1_windAt 1 = .ok (.ifCond .ne 15, 3) := dk_154 0 15 (dk_at dksX1_windAt_0 1 rfl rfl)
theorem dX1_windAt_4 : decode cX1_windAt 4 = .ok (.aload_n 0, 1) := dk_42 (dk_at dksX1_windAt_0 4 rfl rfl)
theorem dX1_windAt_5 : decode cX1_windAt 5 = .ok (.getfield 12, 3) := dk_180 0 12 (dk_at dksX1_windAt_0 5 rfl rfl)
theorem dX1_windAt_8 : decode cX1_windAt 8 = .ok (.getfield 112, 3) := dk_180 0 112 (dk_at dksX1_windAt_0 8 rfl rfl)
theorem dX1_windAt_11 : decode cX1_windAt 11 = .ok (.iconst 1, 1) := dk_4 (dk_at dksX1_windAt_0 11 rfl rfl)
theorem dX1_windAt_12 : decode cX1_windAt 12 = .ok (.iaload, 1) := dk_46 (dk_at dksX1_windAt_0 12 rfl rfl)
theorem dX1_windAt_13 : decode cX1_windAt 13 = .ok (.goto 11, 3) := dk_167 0 11 (dk_at dksX1_windAt_0 13 rfl rfl)
theorem dX1_windAt_16 : decode cX1_windAt 16 = .ok (.aload_n 0, 1) := dk_42 (dk_at dksX1_windAt_0 16 rfl rfl)
theorem dX1_windAt_17 : decode cX1_windAt 17 = .ok (.getfield 37, 3) := dk_180 0 37 (dk_at dksX1_windAt_0 17 rfl rfl)
theorem dX1_windAt_20 : decode cX1_windAt 20 = .ok (.iload_n 1, 1) := dk_27 (dk_at dksX1_windAt_0 20 rfl rfl)
theorem dX1_windAt_21 : decode cX1_windAt 21 = .ok (.iconst 1, 1) := dk_4 (dk_at dksX1_windAt_0 21 rfl rfl)
theorem dX1_windAt_22 : decode cX1_windAt 22 = .ok (.isub, 1) := dk_100 (dk_at dksX1_windAt_0 22 rfl rfl)
theorem dX1_windAt_23 : decode cX1_windAt 23 = .ok (.iaload, 1) := dk_46 (dk_at dksX1_windAt_0 23 rfl rfl)
theorem dX1_windAt_24 : decode cX1_windAt 24 = .ok (.ireturn, 1) := dk_172 (dk_at dksX1_windAt_1 0 rfl rfl)
abbrev cX1_cellBehind : ByteArray := prog_1_method_42_code
def yX1_cellBehind : MethodName := ⟨RX1, "cellBehind", "(III)I"⟩
def dkwX1_cellBehind_1 : List UInt8 := [160, 0, 7, 29, 167, 0, 14, 42, 29, 42, 180, 0, 37, 27, 46, 182, 0, 246, 172]
abbrev dktX1_cellBehind_1 : List UInt8 := dkwX1_cellBehind_1 ++ []
def dkwX1_cellBehind_0 : List UInt8 := [28, 7, 162, 0, 19, 42, 29, 28, 184, 0, 169, 28, 184, 0, 173, 182, 0, 165, 167, 0, 23, 28, 8]
abbrev dktX1_cellBehind_0 : List UInt8 := dkwX1_cellBehind_0 ++ dktX1_cellBehind_1
theorem dksX1_cellBehind_0 : cX1_cellBehind.data.toList.drop 0 = dktX1_cellBehind_0 := by decide +kernel
theorem dksX1_cellBehind_1 : cX1_cellBehind.data.toList.drop 23 = dktX1_cellBehind_1 := dk_seg dksX1_cellBehind_0 23 rfl rfl
theorem dX1_cellBehind_0 : decode cX1_cellBehind 0 = .ok (.iload_n 2, 1) := dk_28 (dk_at dksX1_cellBehind_0 0 rfl rfl)
theorem dX1_cellBehind_1 : decode cX1_cellBehind 1 = .ok (.iconst 4, 1) := dk_7 (dk_at dksX1_cellBehind_0 1 rfl rfl)
theorem dX1_cellBehind_2 : decode cX1_cellBehind 2 = .ok (.if_icmp .ge 19, 3) := dk_162 0 19 (dk_at dksX1_cellBehind_0 2 rfl rfl)
theorem dX1_cellBehind_5 : decode cX1_cellBehind 5 = .ok (.aload_n 0, 1) := dk_42 (dk_at dksX1_cellBehind_0 5 rfl rfl)
theorem dX1_cellBehind_6 : decode cX1_cellBehind 6 = .ok (.iload_n 3, 1) := dk_29 (dk_at dksX1_cellBehind_0 6 rfl rfl)
theorem dX1_cellBehind_7 : decode cX1_cellBehind 7 = .ok (.iload_n 2, 1) := dk_28 (dk_at dksX1_cellBehind_0 7 rfl rfl)
theorem dX1_cellBehind_8 : decode cX1_cellBehind 8 = .ok (.invokestatic 169, 3) := dk_184 0 169 (dk_at dksX1_cellBehind_0 8 rfl rfl)
theorem dX1_cellBehind_11 : decode cX1_cellBehind 11 = .ok (.iload_n 2, 1) := dk_28 (dk_at dksX1_cellBehind_0 11 rfl rfl)
theorem dX1_cellBehind_12 : decode cX1_cellBehind 12 = .ok (.invokestatic 173, 3) := dk_184 0 173 (dk_at dksX1_cellBehind_0 12 rfl rfl)
theorem dX1_cellBehind_15 : decode cX1_cellBehind 15 = .ok (.invokevirtual 165, 3) := dk_182 0 165 (dk_at dksX1_cellBehind_0 15 rfl rfl)
theorem dX1_cellBehind_18 : decode cX1_cellBehind 18 = .ok (.goto 23, 3) := dk_167 0 23 (dk_at dksX1_cellBehind_0 18 rfl rfl)
theorem dX1_cellBehind_21 : decode cX1_cellBehind 21 = .ok (.iload_n 2, 1) := dk_28 (dk_at dksX1_cellBehind_0 21 rfl rfl)
theorem dX1_cellBehind_22 : decode cX1_cellBehind 22 = .ok (.iconst 5, 1) := dk_8 (dk_at dksX1_cellBehind_0 22 rfl rfl)
theorem dX1_cellBehind_23 : decode cX1_cellBehind 23 = .ok (.if_icmp .ne 7, 3) := dk_160 0 7 (dk_at dksX1_cellBehind_1 0 rfl rfl)
theorem dX1_cellBehind_26 : decode cX1_cellBehind 26 = .ok (.iload_n 3, 1) := dk_29 (dk_at dksX1_cellBehind_1 3 rfl rfl)
theorem dX1_cellBehind_27 : decode cX1_cellBehind 27 = .ok (.goto 14, 3) := dk_167 0 14 (dk_at dksX1_cellBehind_1 4 rfl rfl)
theorem dX1_cellBehind_30 : decode cX1_cellBehind 30 = .ok (.aload_n 0, 1) := dk_42 (dk_at dksX1_cellBehind_1 7 rfl rfl)
theorem dX1_cellBehind_31 : decode cX1_cellBehind 31 = .ok (.iload_n 3, 1) := dk_29 (dk_at dksX1_cellBehind_1 8 rfl rfl)
theorem dX1_cellBehind_32 : decode cX1_cellBehind 32 = .ok (.aload_n 0, 1) := dk_42 (dk_at dksX1_cellBehind_1 9 rfl rfl)
theorem dX1_cellBehind_33 : decode cX1_cellBehind 33 = .ok (.getfield 37, 3) := dk_180 0 37 (dk_at dksX1_cellBehind_1 10 rfl rfl)
theorem dX1_cellBehind_36 : decode cX1_cellBehind 36 = .ok (.iload_n 1, 1) := dk_27 (dk_at dksX1_cellBehind_1 13 rfl rfl)
theorem dX1_cellBehind_37 : decode cX1_cellBehind 37 = .ok (.iaload, 1) := dk_46 (dk_at dksX1_cellBehind_1 14 rfl rfl)
theorem dX1_cellBehind_38 : decode cX1_cellBehind 38 = .ok (.invokevirtual 246, 3) := dk_182 0 246 (dk_at dksX1_cellBehind_1 15 rfl rfl)
theorem dX1_cellBehind_41 : decode cX1_cellBehind 41 = .ok (.ireturn, 1) := dk_172 (dk_at dksX1_cellBehind_1 18 rfl rfl)
abbrev cX1_nippedAt : ByteArray := prog_1_method_43_code
def yX1_nippedAt : MethodName := ⟨RX1, "nippedAt", "(II)Z"⟩
def dkwX1_nippedAt_1 : List UInt8 := [46, 27, 96, 182, 0, 249, 172]
abbrev dktX1_nippedAt_1 : List UInt8 := dkwX1_nippedAt_1 ++ []
def dkwX1_nippedAt_0 : List UInt8 := [42, 42, 180, 0, 42, 27, 4, 96, 50, 28, 42, 180, 0, 37, 27, 46, 42, 180, 0, 12, 180, 0, 112, 3]
abbrev dktX1_nippedAt_0 : List UInt8 := dkwX1_nippedAt_0 ++ dktX1_nippedAt_1
theorem dksX1_nippedAt_0 : cX1_nippedAt.data.toList.drop 0 = dktX1_nippedAt_0 := by decide +kernel
theorem dksX1_nippedAt_1 : cX1_nippedAt.data.toList.drop 24 = dktX1_nippedAt_1 := dk_seg dksX1_nippedAt_0 24 rfl rfl
theorem dX1_nippedAt_0 : decode cX1_nippedAt 0 = .ok (.aload_n 0, 1) := dk_42 (dk_at dksX1_nippedAt_0 0 rfl rfl)
theorem dX1_nippedAt_1 : decode cX1_nippedAt 1 = .ok (.aload_n 0, 1) := dk_42 (dk_at dksX1_nippedAt_0 1 rfl rfl)
theorem dX1_nippedAt_2 : decode cX1_nippedAt 2 = .ok (.getfield 42, 3) := dk_180 0 42 (dk_at dksX1_nippedAt_0 2 rfl rfl)
theorem dX1_nippedAt_5 : decode cX1_nippedAt 5 = .ok (.iload_n 1, 1) := dk_27 (dk_at dksX1_nippedAt_0 5 rfl rfl)
theorem dX1_nippedAt_6 : decode cX1_nippedAt 6 = .ok (.iconst 1, 1) := dk_4 (dk_at dksX1_nippedAt_0 6 rfl rfl)
theorem dX1_nippedAt_7 : decode cX1_nippedAt 7 = .ok (.iadd, 1) := dk_96 (dk_at dksX1_nippedAt_0 7 rfl rfl)
theorem dX1_nippedAt_8 : decode cX1_nippedAt 8 = .ok (.aaload, 1) := dk_50 (dk_at dksX1_nippedAt_0 8 rfl rfl)
theorem dX1_nippedAt_9 : decode cX1_nippedAt 9 = .ok (.iload_n 2, 1) := dk_28 (dk_at dksX1_nippedAt_0 9 rfl rfl)
theorem dX1_nippedAt_10 : decode cX1_nippedAt 10 = .ok (.aload_n 0, 1) := dk_42 (dk_at dksX1_nippedAt_0 10 rfl rfl)
theorem dX1_nippedAt_11 : decode cX1_nippedAt 11 = .ok (.getfield 37, 3) := dk_180 0 37 (dk_at dksX1_nippedAt_0 11 rfl rfl)
theorem dX1_nippedAt_14 : decode cX1_nippedAt 14 = .ok (.iload_n 1, 1) := dk_27 (dk_at dksX1_nippedAt_0 14 rfl rfl)
theorem dX1_nippedAt_15 : decode cX1_nippedAt 15 = .ok (.iaload, 1) := dk_46 (dk_at dksX1_nippedAt_0 15 rfl rfl)
theorem dX1_nippedAt_16 : decode cX1_nippedAt 16 = .ok (.aload_n 0, 1) := dk_42 (dk_at dksX1_nippedAt_0 16 rfl rfl)
theorem dX1_nippedAt_17 : decode cX1_nippedAt 17 = .ok (.getfield 12, 3) := dk_180 0 12 (dk_at dksX1_nippedAt_0 17 rfl rfl)
theorem dX1_nippedAt_20 : decode cX1_nippedAt 20 = .ok (.getfield 112, 3) := dk_180 0 112 (dk_at dksX1_nippedAt_0 20 rfl rfl)
theorem dX1_nippedAt_23 : decode cX1_nippedAt 23 = .ok (.iconst 0, 1) := dk_3 (dk_at dksX1_nippedAt_0 23 rfl rfl)
theorem dX1_nippedAt_24 : decode cX1_nippedAt 24 = .ok (.iaload, 1) := dk_46 (dk_at dksX1_nippedAt_1 0 rfl rfl)
theorem dX1_nippedAt_25 : decode cX1_nippedAt 25 = .ok (.iload_n 1, 1) := dk_27 (dk_at dksX1_nippedAt_1 1 rfl rfl)
theorem dX1_nippedAt_26 : decode cX1_nippedAt 26 = .ok (.iadd, 1) := dk_96 (dk_at dksX1_nippedAt_1 2 rfl rfl)
theorem dX1_nippedAt_27 : decode cX1_nippedAt 27 = .ok (.invokevirtual 249, 3) := dk_182 0 249 (dk_at dksX1_nippedAt_1 3 rfl rfl)
theorem dX1_nippedAt_30 : decode cX1_nippedAt 30 = .ok (.ireturn, 1) := dk_172 (dk_at dksX1_nippedAt_1 6 rfl rfl)
abbrev cX1_fires : ByteArray := prog_1_method_44_code
def yX1_fires : MethodName := ⟨RX1, "fires", "(II)I"⟩
def dkwX1_fires_0 : List UInt8 := [26, 16, 6, 160, 0, 7, 4, 167, 0, 14, 26, 16, 7, 160, 0, 7, 3, 167, 0, 4, 27, 172]
abbrev dktX1_fires_0 : List UInt8 := dkwX1_fires_0 ++ []
theorem dksX1_fires_0 : cX1_fires.data.toList.drop 0 = dktX1_fires_0 := by decide +kernel
theorem dX1_fires_0 : decode cX1_fires 0 = .ok (.iload_n 0, 1) := dk_26 (dk_at dksX1_fires_0 0 rfl rfl)
theorem dX1_fires_1 : decode cX1_fires 1 = .ok (.bipush 6, 2) := dk_16 6 (dk_at dksX1_fires_0 1 rfl rfl)
theorem dX1_fires_3 : decode cX1_fires 3 = .ok (.if_icmp .ne 7, 3) := dk_160 0 7 (dk_at dksX1_fires_0 3 rfl rfl)
theorem dX1_fires_6 : decode cX1_fires 6 = .ok (.iconst 1, 1) := dk_4 (dk_at dksX1_fires_0 6 rfl rfl)
theorem dX1_fires_7 : decode cX1_fires 7 = .ok (.goto 14, 3) := dk_167 0 14 (dk_at dksX1_fires_0 7 rfl rfl)
theorem dX1_fires_10 : decode cX1_fires 10 = .ok (.iload_n 0, 1) := dk_26 (dk_at dksX1_fires_0 10 rfl rfl)
theorem dX1_fires_11 : decode cX1_fires 11 = .ok (.bipush 7, 2) := dk_16 7 (dk_at dksX1_fires_0 11 rfl rfl)
theorem dX1_fires_13 : decode cX1_fires 13 = .ok (.if_icmp .ne 7, 3) := dk_160 0 7 (dk_at dksX1_fires_0 13 rfl rfl)
theorem dX1_fires_16 : decode cX1_fires 16 = .ok (.iconst 0, 1) := dk_3 (dk_at dksX1_fires_0 16 rfl rfl)
theorem dX1_fires_17 : decode cX1_fires 17 = .ok (.goto 4, 3) := dk_167 0 4 (dk_at dksX1_fires_0 17 rfl rfl)
theorem dX1_fires_20 : decode cX1_fires 20 = .ok (.iload_n 1, 1) := dk_27 (dk_at dksX1_fires_0 20 rfl rfl)
theorem dX1_fires_21 : decode cX1_fires 21 = .ok (.ireturn, 1) := dk_172 (dk_at dksX1_fires_0 21 rfl rfl)
abbrev cX1_least : ByteArray := prog_1_method_49_code
def yX1_least : MethodName := ⟨RX1, "least", "()I"⟩
def dkwX1_least_2 : List UInt8 := [182, 1, 27, 19, 1, 10, 159, 0, 5, 27, 172, 132, 1, 1, 167, 255, 221, 2, 172]
abbrev dktX1_least_2 : List UInt8 := dkwX1_least_2 ++ []
def dkwX1_least_1 : List UInt8 := [60, 27, 16, 99, 163, 0, 35, 42, 3, 42, 182, 1, 31, 3, 46, 27, 42, 182, 1, 31, 5, 46]
abbrev dktX1_least_1 : List UInt8 := dkwX1_least_1 ++ dktX1_least_2
def dkwX1_least_0 : List UInt8 := [42, 182, 1, 31, 6, 46, 153, 0, 5, 2, 172, 42, 182, 1, 34, 42, 180, 0, 46, 2, 184, 1, 37, 3]
abbrev dktX1_least_0 : List UInt8 := dkwX1_least_0 ++ dktX1_least_1
theorem dksX1_least_0 : cX1_least.data.toList.drop 0 = dktX1_least_0 := by decide +kernel
theorem dksX1_least_1 : cX1_least.data.toList.drop 24 = dktX1_least_1 := dk_seg dksX1_least_0 24 rfl rfl
theorem dksX1_least_2 : cX1_least.data.toList.drop 46 = dktX1_least_2 := dk_seg dksX1_least_1 22 rfl rfl
theorem dX1_least_0 : decode cX1_least 0 = .ok (.aload_n 0, 1) := dk_42 (dk_at dksX1_least_0 0 rfl rfl)
theorem dX1_least_1 : decode cX1_least 1 = .ok (.invokevirtual 287, 3) := dk_182 1 31 (dk_at dksX1_least_0 1 rfl rfl)
theorem dX1_least_4 : decode cX1_least 4 = .ok (.iconst 3, 1) := dk_6 (dk_at dksX1_least_0 4 rfl rfl)
theorem dX1_least_5 : decode cX1_least 5 = .ok (.iaload, 1) := dk_46 (dk_at dksX1_least_0 5 rfl rfl)
theorem dX1_least_6 : decode cX1_least 6 = .ok (.ifCond .eq 5, 3) := dk_153 0 5 (dk_at dksX1_least_0 6 rfl rfl)
theorem dX1_least_9 : decode cX1_least 9 = .ok (.iconst (-1), 1) := dk_2 (dk_at dksX1_least_0 9 rfl rfl)
theorem dX1_least_10 : decode cX1_least 10 = .ok (.ireturn, 1) := dk_172 (dk_at dksX1_least_0 10 rfl rfl)
theorem dX1_least_11 : decode cX1_least 11 = .ok (.aload_n 0, 1) := dk_42 (dk_at dksX1_least_0 11 rfl rfl)
theorem dX1_least_12 : decode cX1_least 12 = .ok (.invokevirtual 290, 3) := dk_182 1 34 (dk_at dksX1_least_0 12 rfl rfl)
theorem dX1_least_15 : decode cX1_least 15 = .ok (.aload_n 0, 1) := dk_42 (dk_at dksX1_least_0 15 rfl rfl)
theorem dX1_least_16 : decode cX1_least 16 = .ok (.getfield 46, 3) := dk_180 0 46 (dk_at dksX1_least_0 16 rfl rfl)
theorem dX1_least_19 : decode cX1_least 19 = .ok (.iconst (-1), 1) := dk_2 (dk_at dksX1_least_0 19 rfl rfl)
theorem dX1_least_20 : decode cX1_least 20 = .ok (.invokestatic 293, 3) := dk_184 1 37 (dk_at dksX1_least_0 20 rfl rfl)
theorem dX1_least_23 : decode cX1_least 23 = .ok (.iconst 0, 1) := dk_3 (dk_at dksX1_least_0 23 rfl rfl)
theorem dX1_least_24 : decode cX1_least 24 = .ok (.istore_n 1, 1) := dk_60 (dk_at dksX1_least_1 0 rfl rfl)
theorem dX1_least_25 : decode cX1_least 25 = .ok (.iload_n 1, 1) := dk_27 (dk_at dksX1_least_1 1 rfl rfl)
theorem dX1_least_26 : decode cX1_least 26 = .ok (.bipush 99, 2) := dk_16 99 (dk_at dksX1_least_1 2 rfl rfl)
theorem dX1_least_28 : decode cX1_least 28 = .ok (.if_icmp .gt 35, 3) := dk_163 0 35 (dk_at dksX1_least_1 4 rfl rfl)
theorem dX1_least_31 : decode cX1_least 31 = .ok (.aload_n 0, 1) := dk_42 (dk_at dksX1_least_1 7 rfl rfl)
theorem dX1_least_32 : decode cX1_least 32 = .ok (.iconst 0, 1) := dk_3 (dk_at dksX1_least_1 8 rfl rfl)
theorem dX1_least_33 : decode cX1_least 33 = .ok (.aload_n 0, 1) := dk_42 (dk_at dksX1_least_1 9 rfl rfl)
theorem dX1_least_34 : decode cX1_least 34 = .ok (.invokevirtual 287, 3) := dk_182 1 31 (dk_at dksX1_least_1 10 rfl rfl)
theorem dX1_least_37 : decode cX1_least 37 = .ok (.iconst 0, 1) := dk_3 (dk_at dksX1_least_1 13 rfl rfl)
theorem dX1_least_38 : decode cX1_least 38 = .ok (.iaload, 1) := dk_46 (dk_at dksX1_least_1 14 rfl rfl)
theorem dX1_least_39 : decode cX1_least 39 = .ok (.iload_n 1, 1) := dk_27 (dk_at dksX1_least_1 15 rfl rfl)
theorem dX1_least_40 : decode cX1_least 40 = .ok (.aload_n 0, 1) := dk_42 (dk_at dksX1_least_1 16 rfl rfl)
theorem dX1_least_41 : decode cX1_least 41 = .ok (.invokevirtual 287, 3) := dk_182 1 31 (dk_at dksX1_least_1 17 rfl rfl)
theorem dX1_least_44 : decode cX1_least 44 = .ok (.iconst 2, 1) := dk_5 (dk_at dksX1_least_1 20 rfl rfl)
theorem dX1_least_45 : decode cX1_least 45 = .ok (.iaload, 1) := dk_46 (dk_at dksX1_least_1 21 rfl rfl)
theorem dX1_least_46 : decode cX1_least 46 = .ok (.invokevirtual 283, 3) := dk_182 1 27 (dk_at dksX1_least_2 0 rfl rfl)
theorem dX1_least_49 : decode cX1_least 49 = .ok (.ldc_w 266, 3) := dk_19 1 10 (dk_at dksX1_least_2 3 rfl rfl)
theorem dX1_least_52 : decode cX1_least 52 = .ok (.if_icmp .eq 5, 3) := dk_159 0 5 (dk_at dksX1_least_2 6 rfl rfl)
theorem dX1_least_55 : decode cX1_least 55 = .ok (.iload_n 1, 1) := dk_27 (dk_at dksX1_least_2 9 rfl rfl)
theorem dX1_least_56 : decode cX1_least 56 = .ok (.ireturn, 1) := dk_172 (dk_at dksX1_least_2 10 rfl rfl)
theorem dX1_least_57 : decode cX1_least 57 = .ok (.iinc 1 1, 3) := dk_132 1 1 (dk_at dksX1_least_2 11 rfl rfl)
theorem dX1_least_60 : decode cX1_least 60 = .ok (.goto (-35), 3) := dk_167 255 221 (dk_at dksX1_least_2 14 rfl rfl)
theorem dX1_least_63 : decode cX1_least 63 = .ok (.iconst (-1), 1) := dk_2 (dk_at dksX1_least_2 17 rfl rfl)
theorem dX1_least_64 : decode cX1_least 64 = .ok (.ireturn, 1) := dk_172 (dk_at dksX1_least_2 18 rfl rfl)
abbrev cX1_ahead : ByteArray := prog_1_method_50_code
def yX1_ahead : MethodName := ⟨RX1, "ahead", "(II)I"⟩
def dkwX1_ahead_2 : List UInt8 := [4, 96, 184, 0, 78, 79, 42, 180, 0, 12, 180, 0, 112, 7, 46, 172]
abbrev dktX1_ahead_2 : List UInt8 := dkwX1_ahead_2 ++ []
def dkwX1_ahead_1 : List UInt8 := [180, 1, 1, 27, 28, 79, 42, 180, 0, 12, 180, 0, 112, 7, 42, 180, 0, 12, 180, 0, 112, 7, 46, 27]
abbrev dktX1_ahead_1 : List UInt8 := dkwX1_ahead_1 ++ dktX1_ahead_2
def dkwX1_ahead_0 : List UInt8 := [27, 3, 16, 11, 184, 0, 94, 153, 0, 10, 28, 184, 0, 115, 154, 0, 5, 2, 172, 42, 180, 0, 12]
abbrev dktX1_ahead_0 : List UInt8 := dkwX1_ahead_0 ++ dktX1_ahead_1
theorem dksX1_ahead_0 : cX1_ahead.data.toList.drop 0 = dktX1_ahead_0 := by decide +kernel
theorem dksX1_ahead_1 : cX1_ahead.data.toList.drop 23 = dktX1_ahead_1 := dk_seg dksX1_ahead_0 23 rfl rfl
theorem dksX1_ahead_2 : cX1_ahead.data.toList.drop 47 = dktX1_ahead_2 := dk_seg dksX1_ahead_1 24 rfl rfl
theorem dX1_ahead_0 : decode cX1_ahead 0 = .ok (.iload_n 1, 1) := dk_27 (dk_at dksX1_ahead_0 0 rfl rfl)
theorem dX1_ahead_1 : decode cX1_ahead 1 = .ok (.iconst 0, 1) := dk_3 (dk_at dksX1_ahead_0 1 rfl rfl)
theorem dX1_ahead_2 : decode cX1_ahead 2 = .ok (.bipush 11, 2) := dk_16 11 (dk_at dksX1_ahead_0 2 rfl rfl)
theorem dX1_ahead_4 : decode cX1_ahead 4 = .ok (.invokestatic 94, 3) := dk_184 0 94 (dk_at dksX1_ahead_0 4 rfl rfl)
theorem dX1_ahead_7 : decode cX1_ahead 7 = .ok (.ifCond .eq 10, 3) := dk_153 0 10 (dk_at dksX1_ahead_0 7 rfl rfl)
theorem dX1_ahead_10 : decode cX1_ahead 10 = .ok (.iload_n 2, 1) := dk_28 (dk_at dksX1_ahead_0 10 rfl rfl)
theorem dX1_ahead_11 : decode cX1_ahead 11 = .ok (.invokestatic 115, 3) := dk_184 0 115 (dk_at dksX1_ahead_0 11 rfl rfl)
theorem dX1_ahead_14 : decode cX1_ahead 14 = .ok (.ifCond .ne 5, 3) := dk_154 0 5 (dk_at dksX1_ahead_0 14 rfl rfl)
theorem dX1_ahead_17 : decode cX1_ahead 17 = .ok (.iconst (-1), 1) := dk_2 (dk_at dksX1_ahead_0 17 rfl rfl)
theorem dX1_ahead_18 : decode cX1_ahead 18 = .ok (.ireturn, 1) := dk_172 (dk_at dksX1_ahead_0 18 rfl rfl)
theorem dX1_ahead_19 : decode cX1_ahead 19 = .ok (.aload_n 0, 1) := dk_42 (dk_at dksX1_ahead_0 19 rfl rfl)
theorem dX1_ahead_20 : decode cX1_ahead 20 = .ok (.getfield 12, 3) := dk_180 0 12 (dk_at dksX1_ahead_0 20 rfl rfl)
theorem dX1_ahead_23 : decode cX1_ahead 23 = .ok (.getfield 257, 3) := dk_180 1 1 (dk_at dksX1_ahead_1 0 rfl rfl)
theorem dX1_ahead_26 : decode cX1_ahead 26 = .ok (.iload_n 1, 1) := dk_27 (dk_at dksX1_ahead_1 3 rfl rfl)
theorem dX1_ahead_27 : decode cX1_ahead 27 = .ok (.iload_n 2, 1) := dk_28 (dk_at dksX1_ahead_1 4 rfl rfl)
theorem dX1_ahead_28 : decode cX1_ahead 28 = .ok (.iastore, 1) := dk_79 (dk_at dksX1_ahead_1 5 rfl rfl)
theorem dX1_ahead_29 : decode cX1_ahead 29 = .ok (.aload_n 0, 1) := dk_42 (dk_at dksX1_ahead_1 6 rfl rfl)
theorem dX1_ahead_30 : decode cX1_ahead 30 = .ok (.getfield 12, 3) := dk_180 0 12 (dk_at dksX1_ahead_1 7 rfl rfl)
theorem dX1_ahead_33 : decode cX1_ahead 33 = .ok (.getfield 112, 3) := dk_180 0 112 (dk_at dksX1_ahead_1 10 rfl rfl)
theorem dX1_ahead_36 : decode cX1_ahead 36 = .ok (.iconst 4, 1) := dk_7 (dk_at dksX1_ahead_1 13 rfl rfl)
theorem dX1_ahead_37 : decode cX1_ahead 37 = .ok (.aload_n 0, 1) := dk_42 (dk_at dksX1_ahead_1 14 rfl rfl)
theorem dX1_ahead_38 : decode cX1_ahead 38 = .ok (.getfield 12, 3) := dk_180 0 12 (dk_at dksX1_ahead_1 15 rfl rfl)
theorem dX1_ahead_41 : decode cX1_ahead 41 = .ok (.getfield 112, 3) := dk_180 0 112 (dk_at dksX1_ahead_1 18 rfl rfl)
theorem dX1_ahead_44 : decode cX1_ahead 44 = .ok (.iconst 4, 1) := dk_7 (dk_at dksX1_ahead_1 21 rfl rfl)
theorem dX1_ahead_45 : decode cX1_ahead 45 = .ok (.iaload, 1) := dk_46 (dk_at dksX1_ahead_1 22 rfl rfl)
theorem dX1_ahead_46 : decode cX1_ahead 46 = .ok (.iload_n 1, 1) := dk_27 (dk_at dksX1_ahead_1 23 rfl rfl)
theorem dX1_ahead_47 : decode cX1_ahead 47 = .ok (.iconst 1, 1) := dk_4 (dk_at dksX1_ahead_2 0 rfl rfl)
theorem dX1_ahead_48 : decode cX1_ahead 48 = .ok (.iadd, 1) := dk_96 (dk_at dksX1_ahead_2 1 rfl rfl)
theorem dX1_ahead_49 : decode cX1_ahead 49 = .ok (.invokestatic 78, 3) := dk_184 0 78 (dk_at dksX1_ahead_2 2 rfl rfl)
theorem dX1_ahead_52 : decode cX1_ahead 52 = .ok (.iastore, 1) := dk_79 (dk_at dksX1_ahead_2 5 rfl rfl)
theorem dX1_ahead_53 : decode cX1_ahead 53 = .ok (.aload_n 0, 1) := dk_42 (dk_at dksX1_ahead_2 6 rfl rfl)
theorem dX1_ahead_54 : decode cX1_ahead 54 = .ok (.getfield 12, 3) := dk_180 0 12 (dk_at dksX1_ahead_2 7 rfl rfl)
theorem dX1_ahead_57 : decode cX1_ahead 57 = .ok (.getfield 112, 3) := dk_180 0 112 (dk_at dksX1_ahead_2 10 rfl rfl)
theorem dX1_ahead_60 : decode cX1_ahead 60 = .ok (.iconst 4, 1) := dk_7 (dk_at dksX1_ahead_2 13 rfl rfl)
theorem dX1_ahead_61 : decode cX1_ahead 61 = .ok (.iaload, 1) := dk_46 (dk_at dksX1_ahead_2 14 rfl rfl)
theorem dX1_ahead_62 : decode cX1_ahead 62 = .ok (.ireturn, 1) := dk_172 (dk_at dksX1_ahead_2 15 rfl rfl)
abbrev cX1_many : ByteArray := prog_1_method_51_code
def yX1_many : MethodName := ⟨RX1, "many", "(II)Z"⟩
def dkwX1_many_1 : List UInt8 := [180, 0, 12, 180, 0, 112, 7, 27, 79, 42, 180, 0, 12, 180, 0, 112, 8, 28, 79, 4, 172]
abbrev dktX1_many_1 : List UInt8 := dkwX1_many_1 ++ []
def dkwX1_many_0 : List UInt8 := [27, 3, 16, 12, 184, 0, 94, 153, 0, 12, 28, 3, 27, 184, 0, 94, 154, 0, 5, 3, 172, 42]
abbrev dktX1_many_0 : List UInt8 := dkwX1_many_0 ++ dktX1_many_1
theorem dksX1_many_0 : cX1_many.data.toList.drop 0 = dktX1_many_0 := by decide +kernel
theorem dksX1_many_1 : cX1_many.data.toList.drop 22 = dktX1_many_1 := dk_seg dksX1_many_0 22 rfl rfl
theorem dX1_many_0 : decode cX1_many 0 = .ok (.iload_n 1, 1) := dk_27 (dk_at dksX1_many_0 0 rfl rfl)
theorem dX1_many_1 : decode cX1_many 1 = .ok (.iconst 0, 1) := dk_3 (dk_at dksX1_many_0 1 rfl rfl)
theorem dX1_many_2 : decode cX1_many 2 = .ok (.bipush 12, 2) := dk_16 12 (dk_at dksX1_many_0 2 rfl rfl)
theorem dX1_many_4 : decode cX1_many 4 = .ok (.invokestatic 94, 3) := dk_184 0 94 (dk_at dksX1_many_0 4 rfl rfl)
theorem dX1_many_7 : decode cX1_many 7 = .ok (.ifCond .eq 12, 3) := dk_153 0 12 (dk_at dksX1_many_0 7 rfl rfl)
theorem dX1_many_10 : decode cX1_many 10 = .ok (.iload_n 2, 1) := dk_28 (dk_at dksX1_many_0 10 rfl rfl)
theorem dX1_many_11 : decode cX1_many 11 = .ok (.iconst 0, 1) := dk_3 (dk_at dksX1_many_0 11 rfl rfl)
theorem dX1_many_12 : decode cX1_many 12 = .ok (.iload_n 1, 1) := dk_27 (dk_at dksX1_many_0 12 rfl rfl)
theorem dX1_many_13 : decode cX1_many 13 = .ok (.invokestatic 94, 3) := dk_184 0 94 (dk_at dksX1_many_0 13 rfl rfl)
theorem dX1_many_16 : decode cX1_many 16 = .ok (.ifCond .ne 5, 3) := dk_154 0 5 (dk_at dksX1_many_0 16 rfl rfl)
theorem dX1_many_19 : decode cX1_many 19 = .ok (.iconst 0, 1) := dk_3 (dk_at dksX1_many_0 19 rfl rfl)
theorem dX1_many_20 : decode cX1_many 20 = .ok (.ireturn, 1) := dk_172 (dk_at dksX1_many_0 20 rfl rfl)
theorem dX1_many_21 : decode cX1_many 21 = .ok (.aload_n 0, 1) := dk_42 (dk_at dksX1_many_0 21 rfl rfl)
theorem dX1_many_22 : decode cX1_many 22 = .ok (.getfield 12, 3) := dk_180 0 12 (dk_at dksX1_many_1 0 rfl rfl)
theorem dX1_many_25 : decode cX1_many 25 = .ok (.getfield 112, 3) := dk_180 0 112 (dk_at dksX1_many_1 3 rfl rfl)
theorem dX1_many_28 : decode cX1_many 28 = .ok (.iconst 4, 1) := dk_7 (dk_at dksX1_many_1 6 rfl rfl)
theorem dX1_many_29 : decode cX1_many 29 = .ok (.iload_n 1, 1) := dk_27 (dk_at dksX1_many_1 7 rfl rfl)
theorem dX1_many_30 : decode cX1_many 30 = .ok (.iastore, 1) := dk_79 (dk_at dksX1_many_1 8 rfl rfl)
theorem dX1_many_31 : decode cX1_many 31 = .ok (.aload_n 0, 1) := dk_42 (dk_at dksX1_many_1 9 rfl rfl)
theorem dX1_many_32 : decode cX1_many 32 = .ok (.getfield 12, 3) := dk_180 0 12 (dk_at dksX1_many_1 10 rfl rfl)
theorem dX1_many_35 : decode cX1_many 35 = .ok (.getfield 112, 3) := dk_180 0 112 (dk_at dksX1_many_1 13 rfl rfl)
theorem dX1_many_38 : decode cX1_many 38 = .ok (.iconst 5, 1) := dk_8 (dk_at dksX1_many_1 16 rfl rfl)
theorem dX1_many_39 : decode cX1_many 39 = .ok (.iload_n 2, 1) := dk_28 (dk_at dksX1_many_1 17 rfl rfl)
theorem dX1_many_40 : decode cX1_many 40 = .ok (.iastore, 1) := dk_79 (dk_at dksX1_many_1 18 rfl rfl)
theorem dX1_many_41 : decode cX1_many 41 = .ok (.iconst 1, 1) := dk_4 (dk_at dksX1_many_1 19 rfl rfl)
theorem dX1_many_42 : decode cX1_many 42 = .ok (.ireturn, 1) := dk_172 (dk_at dksX1_many_1 20 rfl rfl)
abbrev cX1_order : ByteArray := prog_1_method_52_code
def yX1_order : MethodName := ⟨RX1, "order", "(II)I"⟩
def dkwX1_order_3 : List UInt8 := [172]
abbrev dktX1_order_3 : List UInt8 := dkwX1_order_3 ++ []
def dkwX1_order_2 : List UInt8 := [180, 0, 12, 180, 0, 112, 8, 46, 27, 4, 96, 184, 0, 78, 79, 42, 180, 0, 12, 180, 0, 112, 8, 46]
abbrev dktX1_order_2 : List UInt8 := dkwX1_order_2 ++ dktX1_order_3
def dkwX1_order_1 : List UInt8 := [154, 0, 5, 2, 172, 42, 180, 0, 12, 180, 1, 43, 27, 28, 79, 42, 180, 0, 12, 180, 0, 112, 8, 42]
abbrev dktX1_order_1 : List UInt8 := dkwX1_order_1 ++ dktX1_order_2
def dkwX1_order_0 : List UInt8 := [27, 3, 42, 180, 0, 12, 180, 0, 112, 7, 46, 4, 100, 184, 0, 94, 153, 0, 10, 28, 184, 0, 229]
abbrev dktX1_order_0 : List UInt8 := dkwX1_order_0 ++ dktX1_order_1
theorem dksX1_order_0 : cX1_order.data.toList.drop 0 = dktX1_order_0 := by decide +kernel
theorem dksX1_order_1 : cX1_order.data.toList.drop 23 = dktX1_order_1 := dk_seg dksX1_order_0 23 rfl rfl
theorem dksX1_order_2 : cX1_order.data.toList.drop 47 = dktX1_order_2 := dk_seg dksX1_order_1 24 rfl rfl
theorem dksX1_order_3 : cX1_order.data.toList.drop 71 = dktX1_order_3 := dk_seg dksX1_order_2 24 rfl rfl
theorem dX1_order_0 : decode cX1_order 0 = .ok (.iload_n 1, 1) := dk_27 (dk_at dksX1_order_0 0 rfl rfl)
theorem dX1_order_1 : decode cX1_order 1 = .ok (.iconst 0, 1) := dk_3 (dk_at dksX1_order_0 1 rfl rfl)
theorem dX1_order_2 : decode cX1_order 2 = .ok (.aload_n 0, 1) := dk_42 (dk_at dksX1_order_0 2 rfl rfl)
theorem dX1_order_3 : decode cX1_order 3 = .ok (.getfield 12, 3) := dk_180 0 12 (dk_at dksX1_order_0 3 rfl rfl)
theorem dX1_order_6 : decode cX1_order 6 = .ok (.getfield 112, 3) := dk_180 0 112 (dk_at dksX1_order_0 6 rfl rfl)
theorem dX1_order_9 : decode cX1_order 9 = .ok (.iconst 4, 1) := dk_7 (dk_at dksX1_order_0 9 rfl rfl)
theorem dX1_order_10 : decode cX1_order 10 = .ok (.iaload, 1) := dk_46 (dk_at dksX1_order_0 10 rfl rfl)
theorem dX1_order_11 : decode cX1_order 11 = .ok (.iconst 1, 1) := dk_4 (dk_at dksX1_order_0 11 rfl rfl)
theorem dX1_order_12 : decode cX1_order 12 = .ok (.isub, 1) := dk_100 (dk_at dksX1_order_0 12 rfl rfl)
theorem dX1_order_13 : decode cX1_order 13 = .ok (.invokestatic 94, 3) := dk_184 0 94 (dk_at dksX1_order_0 13 rfl rfl)
theorem dX1_order_16 : decode cX1_order 16 = .ok (.ifCond .eq 10, 3) := dk_153 0 10 (dk_at dksX1_order_0 16 rfl rfl)
theorem dX1_order_19 : decode cX1_order 19 = .ok (.iload_n 2, 1) := dk_28 (dk_at dksX1_order_0 19 rfl rfl)
theorem dX1_order_20 : decode cX1_order 20 = .ok (.invokestatic 229, 3) := dk_184 0 229 (dk_at dksX1_order_0 20 rfl rfl)
theorem dX1_order_23 : decode cX1_order 23 = .ok (.ifCond .ne 5, 3) := dk_154 0 5 (dk_at dksX1_order_1 0 rfl rfl)
theorem dX1_order_26 : decode cX1_order 26 = .ok (.iconst (-1), 1) := dk_2 (dk_at dksX1_order_1 3 rfl rfl)
theorem dX1_order_27 : decode cX1_order 27 = .ok (.ireturn, 1) := dk_172 (dk_at dksX1_order_1 4 rfl rfl)
theorem dX1_order_28 : decode cX1_order 28 = .ok (.aload_n 0, 1) := dk_42 (dk_at dksX1_order_1 5 rfl rfl)
theorem dX1_order_29 : decode cX1_order 29 = .ok (.getfield 12, 3) := dk_180 0 12 (dk_at dksX1_order_1 6 rfl rfl)
theorem dX1_order_32 : decode cX1_order 32 = .ok (.getfield 299, 3) := dk_180 1 43 (dk_at dksX1_order_1 9 rfl rfl)
theorem dX1_order_35 : decode cX1_order 35 = .ok (.iload_n 1, 1) := dk_27 (dk_at dksX1_order_1 12 rfl rfl)
theorem dX1_order_36 : decode cX1_order 36 = .ok (.iload_n 2, 1) := dk_28 (dk_at dksX1_order_1 13 rfl rfl)
theorem dX1_order_37 : decode cX1_order 37 = .ok (.iastore, 1) := dk_79 (dk_at dksX1_order_1 14 rfl rfl)
theorem dX1_order_38 : decode cX1_order 38 = .ok (.aload_n 0, 1) := dk_42 (dk_at dksX1_order_1 15 rfl rfl)
theorem dX1_order_39 : decode cX1_order 39 = .ok (.getfield 12, 3) := dk_180 0 12 (dk_at dksX1_order_1 16 rfl rfl)
theorem dX1_order_42 : decode cX1_order 42 = .ok (.getfield 112, 3) := dk_180 0 112 (dk_at dksX1_order_1 19 rfl rfl)
theorem dX1_order_45 : decode cX1_order 45 = .ok (.iconst 5, 1) := dk_8 (dk_at dksX1_order_1 22 rfl rfl)
theorem dX1_order_46 : decode cX1_order 46 = .ok (.aload_n 0, 1) := dk_42 (dk_at dksX1_order_1 23 rfl rfl)
theorem dX1_order_47 : decode cX1_order 47 = .ok (.getfield 12, 3) := dk_180 0 12 (dk_at dksX1_order_2 0 rfl rfl)
theorem dX1_order_50 : decode cX1_order 50 = .ok (.getfield 112, 3) := dk_180 0 112 (dk_at dksX1_order_2 3 rfl rfl)
theorem dX1_order_53 : decode cX1_order 53 = .ok (.iconst 5, 1) := dk_8 (dk_at dksX1_order_2 6 rfl rfl)
theorem dX1_order_54 : decode cX1_order 54 = .ok (.iaload, 1) := dk_46 (dk_at dksX1_order_2 7 rfl rfl)
theorem dX1_order_55 : decode cX1_order 55 = .ok (.iload_n 1, 1) := dk_27 (dk_at dksX1_order_2 8 rfl rfl)
theorem dX1_order_56 : decode cX1_order 56 = .ok (.iconst 1, 1) := dk_4 (dk_at dksX1_order_2 9 rfl rfl)
theorem dX1_order_57 : decode cX1_order 57 = .ok (.iadd, 1) := dk_96 (dk_at dksX1_order_2 10 rfl rfl)
theorem dX1_order_58 : decode cX1_order 58 = .ok (.invokestatic 78, 3) := dk_184 0 78 (dk_at dksX1_order_2 11 rfl rfl)
theorem dX1_order_61 : decode cX1_order 61 = .ok (.iastore, 1) := dk_79 (dk_at dksX1_order_2 14 rfl rfl)
theorem dX1_order_62 : decode cX1_order 62 = .ok (.aload_n 0, 1) := dk_42 (dk_at dksX1_order_2 15 rfl rfl)
theorem dX1_order_63 : decode cX1_order 63 = .ok (.getfield 12, 3) := dk_180 0 12 (dk_at dksX1_order_2 16 rfl rfl)
theorem dX1_order_66 : decode cX1_order 66 = .ok (.getfield 112, 3) := dk_180 0 112 (dk_at dksX1_order_2 19 rfl rfl)
theorem dX1_order_69 : decode cX1_order 69 = .ok (.iconst 5, 1) := dk_8 (dk_at dksX1_order_2 22 rfl rfl)
theorem dX1_order_70 : decode cX1_order 70 = .ok (.iaload, 1) := dk_46 (dk_at dksX1_order_2 23 rfl rfl)
theorem dX1_order_71 : decode cX1_order 71 = .ok (.ireturn, 1) := dk_172 (dk_at dksX1_order_3 0 rfl rfl)
abbrev cX1_told : ByteArray := prog_1_method_54_code
def yX1_told : MethodName := ⟨RX1, "told", "(I)I"⟩
def dkwX1_told_1 : List UInt8 := [184, 0, 94, 153, 0, 16, 42, 180, 0, 49, 27, 4, 96, 50, 3, 46, 167, 0, 4, 2, 172]
abbrev dktX1_told_1 : List UInt8 := dkwX1_told_1 ++ []
def dkwX1_told_0 : List UInt8 := [42, 182, 1, 49, 27, 2, 160, 0, 10, 42, 180, 1, 46, 167, 0, 31, 27, 3, 42, 180, 1, 46, 4, 100]
abbrev dktX1_told_0 : List UInt8 := dkwX1_told_0 ++ dktX1_told_1
theorem dksX1_told_0 : cX1_told.data.toList.drop 0 = dktX1_told_0 := by decide +kernel
theorem dksX1_told_1 : cX1_told.data.toList.drop 24 = dktX1_told_1 := dk_seg dksX1_told_0 24 rfl rfl
theorem dX1_told_0 : decode cX1_told 0 = .ok (.aload_n 0, 1) := dk_42 (dk_at dksX1_told_0 0 rfl rfl)
theorem dX1_told_1 : decode cX1_told 1 = .ok (.invokevirtual 305, 3) := dk_182 1 49 (dk_at dksX1_told_0 1 rfl rfl)
theorem dX1_told_4 : decode cX1_told 4 = .ok (.iload_n 1, 1) := dk_27 (dk_at dksX1_told_0 4 rfl rfl)
theorem dX1_told_5 : decode cX1_told 5 = .ok (.iconst (-1), 1) := dk_2 (dk_at dksX1_told_0 5 rfl rfl)
theorem dX1_told_6 : decode cX1_told 6 = .ok (.if_icmp .ne 10, 3) := dk_160 0 10 (dk_at dksX1_told_0 6 rfl rfl)
theorem dX1_told_9 : decode cX1_told 9 = .ok (.aload_n 0, 1) := dk_42 (dk_at dksX1_told_0 9 rfl rfl)
theorem dX1_told_10 : decode cX1_told 10 = .ok (.getfield 302, 3) := dk_180 1 46 (dk_at dksX1_told_0 10 rfl rfl)
theorem dX1_told_13 : decode cX1_told 13 = .ok (.goto 31, 3) := dk_167 0 31 (dk_at dksX1_told_0 13 rfl rfl)
theorem dX1_told_16 : decode cX1_told 16 = .ok (.iload_n 1, 1) := dk_27 (dk_at dksX1_told_0 16 rfl rfl)
theorem dX1_told_17 : decode cX1_told 17 = .ok (.iconst 0, 1) := dk_3 (dk_at dksX1_told_0 17 rfl rfl)
theorem dX1_told_18 : decode cX1_told 18 = .ok (.aload_n 0, 1) := dk_42 (dk_at dksX1_told_0 18 rfl rfl)
theorem dX1_told_19 : decode cX1_told 19 = .ok (.getfield 302, 3) := dk_180 1 46 (dk_at dksX1_told_0 19 rfl rfl)
theorem dX1_told_22 : decode cX1_told 22 = .ok (.iconst 1, 1) := dk_4 (dk_at dksX1_told_0 22 rfl rfl)
theorem dX1_told_23 : decode cX1_told 23 = .ok (.isub, 1) := dk_100 (dk_at dksX1_told_0 23 rfl rfl)
theorem dX1_told_24 : decode cX1_told 24 = .ok (.invokestatic 94, 3) := dk_184 0 94 (dk_at dksX1_told_1 0 rfl rfl)
theorem dX1_told_27 : decode cX1_told 27 = .ok (.ifCond .eq 16, 3) := dk_153 0 16 (dk_at dksX1_told_1 3 rfl rfl)
theorem dX1_told_30 : decode cX1_told 30 = .ok (.aload_n 0, 1) := dk_42 (dk_at dksX1_told_1 6 rfl rfl)
theorem dX1_told_31 : decode cX1_told 31 = .ok (.getfield 49, 3) := dk_180 0 49 (dk_at dksX1_told_1 7 rfl rfl)
theorem dX1_told_34 : decode cX1_told 34 = .ok (.iload_n 1, 1) := dk_27 (dk_at dksX1_told_1 10 rfl rfl)
theorem dX1_told_35 : decode cX1_told 35 = .ok (.iconst 1, 1) := dk_4 (dk_at dksX1_told_1 11 rfl rfl)
theorem dX1_told_36 : decode cX1_told 36 = .ok (.iadd, 1) := dk_96 (dk_at dksX1_told_1 12 rfl rfl)
theorem dX1_told_37 : decode cX1_told 37 = .ok (.aaload, 1) := dk_50 (dk_at dksX1_told_1 13 rfl rfl)
theorem dX1_told_38 : decode cX1_told 38 = .ok (.iconst 0, 1) := dk_3 (dk_at dksX1_told_1 14 rfl rfl)
theorem dX1_told_39 : decode cX1_told 39 = .ok (.iaload, 1) := dk_46 (dk_at dksX1_told_1 15 rfl rfl)
theorem dX1_told_40 : decode cX1_told 40 = .ok (.goto 4, 3) := dk_167 0 4 (dk_at dksX1_told_1 16 rfl rfl)
theorem dX1_told_43 : decode cX1_told 43 = .ok (.iconst (-1), 1) := dk_2 (dk_at dksX1_told_1 19 rfl rfl)
theorem dX1_told_44 : decode cX1_told 44 = .ok (.ireturn, 1) := dk_172 (dk_at dksX1_told_1 20 rfl rfl)
abbrev cX1_laysPath : ByteArray := prog_1_method_53_code
def yX1_laysPath : MethodName := ⟨RX1, "laysPath", "()V"⟩
def dkwX1_laysPath_8 : List UInt8 := [132, 1, 1, 167, 255, 95, 177]
abbrev dktX1_laysPath_8 : List UInt8 := dkwX1_laysPath_8 ++ []
def dkwX1_laysPath_7 : List UInt8 := [180, 0, 49, 27, 4, 96, 50, 3, 6, 184, 0, 124, 42, 89, 180, 1, 46, 4, 96, 181, 1, 46]
abbrev dktX1_laysPath_7 : List UInt8 := dkwX1_laysPath_7 ++ dktX1_laysPath_8
def dkwX1_laysPath_6 : List UInt8 := [44, 4, 46, 21, 4, 100, 79, 89, 5, 29, 44, 5, 46, 184, 1, 24, 79, 58, 6, 25, 6, 3, 42]
abbrev dktX1_laysPath_6 : List UInt8 := dkwX1_laysPath_6 ++ dktX1_laysPath_7
def dkwX1_laysPath_5 : List UInt8 := [154, 0, 13, 42, 27, 21, 5, 182, 1, 21, 153, 0, 4, 177, 6, 188, 10, 89, 3, 21, 5, 79, 89, 4]
abbrev dktX1_laysPath_5 : List UInt8 := dkwX1_laysPath_5 ++ dktX1_laysPath_6
def dkwX1_laysPath_4 : List UInt8 := [3, 46, 182, 1, 18, 54, 5, 29, 7, 162, 0, 16, 42, 180, 0, 12, 180, 0, 109, 21, 5, 51]
abbrev dktX1_laysPath_4 : List UInt8 := dkwX1_laysPath_4 ++ dktX1_laysPath_5
def dkwX1_laysPath_3 : List UInt8 := [3, 46, 44, 4, 46, 44, 5, 46, 182, 1, 15, 54, 4, 21, 4, 2, 160, 0, 4, 177, 42, 27, 29, 44]
abbrev dktX1_laysPath_3 : List UInt8 := dkwX1_laysPath_3 ++ dktX1_laysPath_4
def dkwX1_laysPath_2 : List UInt8 := [154, 0, 145, 42, 180, 0, 49, 27, 50, 77, 42, 180, 0, 12, 180, 1, 43, 27, 46, 62, 42, 27, 29, 44]
abbrev dktX1_laysPath_2 : List UInt8 := dkwX1_laysPath_2 ++ dktX1_laysPath_3
def dkwX1_laysPath_1 : List UInt8 := [181, 1, 46, 3, 60, 27, 42, 180, 0, 12, 180, 0, 112, 8, 46, 162, 0, 154, 42, 182, 1, 31, 6, 46]
abbrev dktX1_laysPath_1 : List UInt8 := dkwX1_laysPath_1 ++ dktX1_laysPath_2
def dkwX1_laysPath_0 : List UInt8 := [42, 182, 1, 34, 42, 182, 1, 31, 3, 42, 180, 0, 49, 3, 50, 3, 6, 184, 0, 124, 42, 3]
abbrev dktX1_laysPath_0 : List UInt8 := dkwX1_laysPath_0 ++ dktX1_laysPath_1
theorem dksX1_laysPath_0 : cX1_laysPath.data.toList.drop 0 = dktX1_laysPath_0 := by decide +kernel
theorem dksX1_laysPath_1 : cX1_laysPath.data.toList.drop 22 = dktX1_laysPath_1 := dk_seg dksX1_laysPath_0 22 rfl rfl
theorem dksX1_laysPath_2 : cX1_laysPath.data.toList.drop 46 = dktX1_laysPath_2 := dk_seg dksX1_laysPath_1 24 rfl rfl
theorem dksX1_laysPath_3 : cX1_laysPath.data.toList.drop 70 = dktX1_laysPath_3 := dk_seg dksX1_laysPath_2 24 rfl rfl
theorem dksX1_laysPath_4 : cX1_laysPath.data.toList.drop 94 = dktX1_laysPath_4 := dk_seg dksX1_laysPath_3 24 rfl rfl
theorem dksX1_laysPath_5 : cX1_laysPath.data.toList.drop 116 = dktX1_laysPath_5 := dk_seg dksX1_laysPath_4 22 rfl rfl
theorem dksX1_laysPath_6 : cX1_laysPath.data.toList.drop 140 = dktX1_laysPath_6 := dk_seg dksX1_laysPath_5 24 rfl rfl
theorem dksX1_laysPath_7 : cX1_laysPath.data.toList.drop 163 = dktX1_laysPath_7 := dk_seg dksX1_laysPath_6 23 rfl rfl
theorem dksX1_laysPath_8 : cX1_laysPath.data.toList.drop 185 = dktX1_laysPath_8 := dk_seg dksX1_laysPath_7 22 rfl rfl
theorem dX1_laysPath_0 : decode cX1_laysPath 0 = .ok (.aload_n 0, 1) := dk_42 (dk_at dksX1_laysPath_0 0 rfl rfl)
theorem dX1_laysPath_1 : decode cX1_laysPath 1 = .ok (.invokevirtual 290, 3) := dk_182 1 34 (dk_at dksX1_laysPath_0 1 rfl rfl)
theorem dX1_laysPath_4 : decode cX1_laysPath 4 = .ok (.aload_n 0, 1) := dk_42 (dk_at dksX1_laysPath_0 4 rfl rfl)
theorem dX1_laysPath_5 : decode cX1_laysPath 5 = .ok (.invokevirtual 287, 3) := dk_182 1 31 (dk_at dksX1_laysPath_0 5 rfl rfl)
theorem dX1_laysPath_8 : decode cX1_laysPath 8 = .ok (.iconst 0, 1) := dk_3 (dk_at dksX1_laysPath_0 8 rfl rfl)
theorem dX1_laysPath_9 : decode cX1_laysPath 9 = .ok (.aload_n 0, 1) := dk_42 (dk_at dksX1_laysPath_0 9 rfl rfl)
theorem dX1_laysPath_10 : decode cX1_laysPath 10 = .ok (.getfield 49, 3) := dk_180 0 49 (dk_at dksX1_laysPath_0 10 rfl rfl)
theorem dX1_laysPath_13 : decode cX1_laysPath 13 = .ok (.iconst 0, 1) := dk_3 (dk_at dksX1_laysPath_0 13 rfl rfl)
theorem dX1_laysPath_14 : decode cX1_laysPath 14 = .ok (.aaload, 1) := dk_50 (dk_at dksX1_laysPath_0 14 rfl rfl)
theorem dX1_laysPath_15 : decode cX1_laysPath 15 = .ok (.iconst 0, 1) := dk_3 (dk_at dksX1_laysPath_0 15 rfl rfl)
theorem dX1_laysPath_16 : decode cX1_laysPath 16 = .ok (.iconst 3, 1) := dk_6 (dk_at dksX1_laysPath_0 16 rfl rfl)
theorem dX1_laysPath_17 : decode cX1_laysPath 17 = .ok (.invokestatic 124, 3) := dk_184 0 124 (dk_at dksX1_laysPath_0 17 rfl rfl)
theorem dX1_laysPath_20 : decode cX1_laysPath 20 = .ok (.aload_n 0, 1) := dk_42 (dk_at dksX1_laysPath_0 20 rfl rfl)
theorem dX1_laysPath_21 : decode cX1_laysPath 21 = .ok (.iconst 0, 1) := dk_3 (dk_at dksX1_laysPath_0 21 rfl rfl)
theorem dX1_laysPath_22 : decode cX1_laysPath 22 = .ok (.putfield 302, 3) := dk_181 1 46 (dk_at dksX1_laysPath_1 0 rfl rfl)
theorem dX1_laysPath_25 : decode cX1_laysPath 25 = .ok (.iconst 0, 1) := dk_3 (dk_at dksX1_laysPath_1 3 rfl rfl)
theorem dX1_laysPath_26 : decode cX1_laysPath 26 = .ok (.istore_n 1, 1) := dk_60 (dk_at dksX1_laysPath_1 4 rfl rfl)
theorem dX1_laysPath_27 : decode cX1_laysPath 27 = .ok (.iload_n 1, 1) := dk_27 (dk_at dksX1_laysPath_1 5 rfl rfl)
theorem dX1_laysPath_28 : decode cX1_laysPath 28 = .ok (.aload_n 0, 1) := dk_42 (dk_at dksX1_laysPath_1 6 rfl rfl)
theorem dX1_laysPath_29 : decode cX1_laysPath 29 = .ok (.getfield 12, 3) := dk_180 0 12 (dk_at dksX1_laysPath_1 7 rfl rfl)
theorem dX1_laysPath_32 : decode cX1_laysPath 32 = .ok (.getfield 112, 3) := dk_180 0 112 (dk_at dksX1_laysPath_1 10 rfl rfl)
theorem dX1_laysPath_35 : decode cX1_laysPath 35 = .ok (.iconst 5, 1) := dk_8 (dk_at dksX1_laysPath_1 13 rfl rfl)
theorem dX1_laysPath_36 : decode cX1_laysPath 36 = .ok (.iaload, 1) := dk_46 (dk_at dksX1_laysPath_1 14 rfl rfl)
theorem dX1_laysPath_37 : decode cX1_laysPath 37 = .ok (.if_icmp .ge 154, 3) := dk_162 0 154 (dk_at dksX1_laysPath_1 15 rfl rfl)
theorem dX1_laysPath_40 : decode cX1_laysPath 40 = .ok (.aload_n 0, 1) := dk_42 (dk_at dksX1_laysPath_1 18 rfl rfl)
theorem dX1_laysPath_41 : decode cX1_laysPath 41 = .ok (.invokevirtual 287, 3) := dk_182 1 31 (dk_at dksX1_laysPath_1 19 rfl rfl)
theorem dX1_laysPath_44 : decode cX1_laysPath 44 = .ok (.iconst 3, 1) := dk_6 (dk_at dksX1_laysPath_1 22 rfl rfl)
theorem dX1_laysPath_45 : decode cX1_laysPath 45 = .ok (.iaload, 1) := dk_46 (dk_at dksX1_laysPath_1 23 rfl rfl)
theorem dX1_laysPath_46 : decode cX1_laysPath 46 = .ok (.ifCond .ne 145, 3) := dk_154 0 145 (dk_at dksX1_laysPath_2 0 rfl rfl)
theorem dX1_laysPath_49 : decode cX1_laysPath 49 = .ok (.aload_n 0, 1) := dk_42 (dk_at dksX1_laysPath_2 3 rfl rfl)
theorem dX1_laysPath_50 : decode cX1_laysPath 50 = .ok (.getfield 49, 3) := dk_180 0 49 (dk_at dksX1_laysPath_2 4 rfl rfl)
theorem dX1_laysPath_53 : decode cX1_laysPath 53 = .ok (.iload_n 1, 1) := dk_27 (dk_at dksX1_laysPath_2 7 rfl rfl)
theorem dX1_laysPath_54 : decode cX1_laysPath 54 = .ok (.aaload, 1) := dk_50 (dk_at dksX1_laysPath_2 8 rfl rfl)
theorem dX1_laysPath_55 : decode cX1_laysPath 55 = .ok (.astore_n 2, 1) := dk_77 (dk_at dksX1_laysPath_2 9 rfl rfl)
theorem dX1_laysPath_56 : decode cX1_laysPath 56 = .ok (.aload_n 0, 1) := dk_42 (dk_at dksX1_laysPath_2 10 rfl rfl)
theorem dX1_laysPath_57 : decode cX1_laysPath 57 = .ok (.getfield 12, 3) := dk_180 0 12 (dk_at dksX1_laysPath_2 11 rfl rfl)
theorem dX1_laysPath_60 : decode cX1_laysPath 60 = .ok (.getfield 299, 3) := dk_180 1 43 (dk_at dksX1_laysPath_2 14 rfl rfl)
theorem dX1_laysPath_63 : decode cX1_laysPath 63 = .ok (.iload_n 1, 1) := dk_27 (dk_at dksX1_laysPath_2 17 rfl rfl)
theorem dX1_laysPath_64 : decode cX1_laysPath 64 = .ok (.iaload, 1) := dk_46 (dk_at dksX1_laysPath_2 18 rfl rfl)
theorem dX1_laysPath_65 : decode cX1_laysPath 65 = .ok (.istore_n 3, 1) := dk_62 (dk_at dksX1_laysPath_2 19 rfl rfl)
theorem dX1_laysPath_66 : decode cX1_laysPath 66 = .ok (.aload_n 0, 1) := dk_42 (dk_at dksX1_laysPath_2 20 rfl rfl)
theorem dX1_laysPath_67 : decode cX1_laysPath 67 = .ok (.iload_n 1, 1) := dk_27 (dk_at dksX1_laysPath_2 21 rfl rfl)
theorem dX1_laysPath_68 : decode cX1_laysPath 68 = .ok (.iload_n 3, 1) := dk_29 (dk_at dksX1_laysPath_2 22 rfl rfl)
theorem dX1_laysPath_69 : decode cX1_laysPath 69 = .ok (.aload_n 2, 1) := dk_44 (dk_at dksX1_laysPath_2 23 rfl rfl)
theorem dX1_laysPath_70 : decode cX1_laysPath 70 = .ok (.iconst 0, 1) := dk_3 (dk_at dksX1_laysPath_3 0 rfl rfl)
theorem dX1_laysPath_71 : decode cX1_laysPath 71 = .ok (.iaload, 1) := dk_46 (dk_at dksX1_laysPath_3 1 rfl rfl)
theorem dX1_laysPath_72 : decode cX1_laysPath 72 = .ok (.aload_n 2, 1) := dk_44 (dk_at dksX1_laysPath_3 2 rfl rfl)
theorem dX1_laysPath_73 : decode cX1_laysPath 73 = .ok (.iconst 1, 1) := dk_4 (dk_at dksX1_laysPath_3 3 rfl rfl)
theorem dX1_laysPath_74 : decode cX1_laysPath 74 = .ok (.iaload, 1) := dk_46 (dk_at dksX1_laysPath_3 4 rfl rfl)
theorem dX1_laysPath_75 : decode cX1_laysPath 75 = .ok (.aload_n 2, 1) := dk_44 (dk_at dksX1_laysPath_3 5 rfl rfl)
theorem dX1_laysPath_76 : decode cX1_laysPath 76 = .ok (.iconst 2, 1) := dk_5 (dk_at dksX1_laysPath_3 6 rfl rfl)
theorem dX1_laysPath_77 : decode cX1_laysPath 77 = .ok (.iaload, 1) := dk_46 (dk_at dksX1_laysPath_3 7 rfl rfl)
theorem dX1_laysPath_78 : decode cX1_laysPath 78 = .ok (.invokevirtual 271, 3) := dk_182 1 15 (dk_at dksX1_laysPath_3 8 rfl rfl)
theorem dX1_laysPath_81 : decode cX1_laysPath 81 = .ok (.istore 4, 2) := dk_54 4 (dk_at dksX1_laysPath_3 11 rfl rfl)
theorem dX1_laysPath_83 : decode cX1_laysPath 83 = .ok (.iload 4, 2) := dk_21 4 (dk_at dksX1_laysPath_3 13 rfl rfl)
theorem dX1_laysPath_85 : decode cX1_laysPath 85 = .ok (.iconst (-1), 1) := dk_2 (dk_at dksX1_laysPath_3 15 rfl rfl)
theorem dX1_laysPath_86 : decode cX1_laysPath 86 = .ok (.if_icmp .ne 4, 3) := dk_160 0 4 (dk_at dksX1_laysPath_3 16 rfl rfl)
theorem dX1_laysPath_89 : decode cX1_laysPath 89 = .ok (.return_, 1) := dk_177 (dk_at dksX1_laysPath_3 19 rfl rfl)
theorem dX1_laysPath_90 : decode cX1_laysPath 90 = .ok (.aload_n 0, 1) := dk_42 (dk_at dksX1_laysPath_3 20 rfl rfl)
theorem dX1_laysPath_91 : decode cX1_laysPath 91 = .ok (.iload_n 1, 1) := dk_27 (dk_at dksX1_laysPath_3 21 rfl rfl)
theorem dX1_laysPath_92 : decode cX1_laysPath 92 = .ok (.iload_n 3, 1) := dk_29 (dk_at dksX1_laysPath_3 22 rfl rfl)
theorem dX1_laysPath_93 : decode cX1_laysPath 93 = .ok (.aload_n 2, 1) := dk_44 (dk_at dksX1_laysPath_3 23 rfl rfl)
theorem dX1_laysPath_94 : decode cX1_laysPath 94 = .ok (.iconst 0, 1) := dk_3 (dk_at dksX1_laysPath_4 0 rfl rfl)
theorem dX1_laysPath_95 : decode cX1_laysPath 95 = .ok (.iaload, 1) := dk_46 (dk_at dksX1_laysPath_4 1 rfl rfl)
theorem dX1_laysPath_96 : decode cX1_laysPath 96 = .ok (.invokevirtual 274, 3) := dk_182 1 18 (dk_at dksX1_laysPath_4 2 rfl rfl)
theorem dX1_laysPath_99 : decode cX1_laysPath 99 = .ok (.istore 5, 2) := dk_54 5 (dk_at dksX1_laysPath_4 5 rfl rfl)
theorem dX1_laysPath_101 : decode cX1_laysPath 101 = .ok (.iload_n 3, 1) := dk_29 (dk_at dksX1_laysPath_4 7 rfl rfl)
theorem dX1_laysPath_102 : decode cX1_laysPath 102 = .ok (.iconst 4, 1) := dk_7 (dk_at dksX1_laysPath_4 8 rfl rfl)
theorem dX1_laysPath_103 : decode cX1_laysPath 103 = .ok (.if_icmp .ge 16, 3) := dk_162 0 16 (dk_at dksX1_laysPath_4 9 rfl rfl)
theorem dX1_laysPath_106 : decode cX1_laysPath 106 = .ok (.aload_n 0, 1) := dk_42 (dk_at dksX1_laysPath_4 12 rfl rfl)
theorem dX1_laysPath_107 : decode cX1_laysPath 107 = .ok (.getfield 12, 3) := dk_180 0 12 (dk_at dksX1_laysPath_4 13 rfl rfl)
theorem dX1_laysPath_110 : decode cX1_laysPath 110 = .ok (.getfield 109, 3) := dk_180 0 109 (dk_at dksX1_laysPath_4 16 rfl rfl)
theorem dX1_laysPath_113 : decode cX1_laysPath 113 = .ok (.iload 5, 2) := dk_21 5 (dk_at dksX1_laysPath_4 19 rfl rfl)
theorem dX1_laysPath_115 : decode cX1_laysPath 115 = .ok (.baload, 1) := dk_51 (dk_at dksX1_laysPath_4 21 rfl rfl)
theorem dX1_laysPath_116 : decode cX1_laysPath 116 = .ok (.ifCond .ne 13, 3) := dk_154 0 13 (dk_at dksX1_laysPath_5 0 rfl rfl)
theorem dX1_laysPath_119 : decode cX1_laysPath 119 = .ok (.aload_n 0, 1) := dk_42 (dk_at dksX1_laysPath_5 3 rfl rfl)
theorem dX1_laysPath_120 : decode cX1_laysPath 120 = .ok (.iload_n 1, 1) := dk_27 (dk_at dksX1_laysPath_5 4 rfl rfl)
theorem dX1_laysPath_121 : decode cX1_laysPath 121 = .ok (.iload 5, 2) := dk_21 5 (dk_at dksX1_laysPath_5 5 rfl rfl)
theorem dX1_laysPath_123 : decode cX1_laysPath 123 = .ok (.invokevirtual 277, 3) := dk_182 1 21 (dk_at dksX1_laysPath_5 7 rfl rfl)
theorem dX1_laysPath_126 : decode cX1_laysPath 126 = .ok (.ifCond .eq 4, 3) := dk_153 0 4 (dk_at dksX1_laysPath_5 10 rfl rfl)
theorem dX1_laysPath_129 : decode cX1_laysPath 129 = .ok (.return_, 1) := dk_177 (dk_at dksX1_laysPath_5 13 rfl rfl)
theorem dX1_laysPath_130 : decode cX1_laysPath 130 = .ok (.iconst 3, 1) := dk_6 (dk_at dksX1_laysPath_5 14 rfl rfl)
theorem dX1_laysPath_131 : decode cX1_laysPath 131 = .ok (.newarray .int, 2) := dk_188_10 (dk_at dksX1_laysPath_5 15 rfl rfl)
theorem dX1_laysPath_133 : decode cX1_laysPath 133 = .ok (.dup, 1) := dk_89 (dk_at dksX1_laysPath_5 17 rfl rfl)
theorem dX1_laysPath_134 : decode cX1_laysPath 134 = .ok (.iconst 0, 1) := dk_3 (dk_at dksX1_laysPath_5 18 rfl rfl)
theorem dX1_laysPath_135 : decode cX1_laysPath 135 = .ok (.iload 5, 2) := dk_21 5 (dk_at dksX1_laysPath_5 19 rfl rfl)
theorem dX1_laysPath_137 : decode cX1_laysPath 137 = .ok (.iastore, 1) := dk_79 (dk_at dksX1_laysPath_5 21 rfl rfl)
theorem dX1_laysPath_138 : decode cX1_laysPath 138 = .ok (.dup, 1) := dk_89 (dk_at dksX1_laysPath_5 22 rfl rfl)
theorem dX1_laysPath_139 : decode cX1_laysPath 139 = .ok (.iconst 1, 1) := dk_4 (dk_at dksX1_laysPath_5 23 rfl rfl)
theorem dX1_laysPath_140 : decode cX1_laysPath 140 = .ok (.aload_n 2, 1) := dk_44 (dk_at dksX1_laysPath_6 0 rfl rfl)
theorem dX1_laysPath_141 : decode cX1_laysPath 141 = .ok (.iconst 1, 1) := dk_4 (dk_at dksX1_laysPath_6 1 rfl rfl)
theorem dX1_laysPath_142 : decode cX1_laysPath 142 = .ok (.iaload, 1) := dk_46 (dk_at dksX1_laysPath_6 2 rfl rfl)
theorem dX1_laysPath_143 : decode cX1_laysPath 143 = .ok (.iload 4, 2) := dk_21 4 (dk_at dksX1_laysPath_6 3 rfl rfl)
theorem dX1_laysPath_145 : decode cX1_laysPath 145 = .ok (.isub, 1) := dk_100 (dk_at dksX1_laysPath_6 5 rfl rfl)
theorem dX1_laysPath_146 : decode cX1_laysPath 146 = .ok (.iastore, 1) := dk_79 (dk_at dksX1_laysPath_6 6 rfl rfl)
theorem dX1_laysPath_147 : decode cX1_laysPath 147 = .ok (.dup, 1) := dk_89 (dk_at dksX1_laysPath_6 7 rfl rfl)
theorem dX1_laysPath_148 : decode cX1_laysPath 148 = .ok (.iconst 2, 1) := dk_5 (dk_at dksX1_laysPath_6 8 rfl rfl)
theorem dX1_laysPath_149 : decode cX1_laysPath 149 = .ok (.iload_n 3, 1) := dk_29 (dk_at dksX1_laysPath_6 9 rfl rfl)
theorem dX1_laysPath_150 : decode cX1_laysPath 150 = .ok (.aload_n 2, 1) := dk_44 (dk_at dksX1_laysPath_6 10 rfl rfl)
theorem dX1_laysPath_151 : decode cX1_laysPath 151 = .ok (.iconst 2, 1) := dk_5 (dk_at dksX1_laysPath_6 11 rfl rfl)
theorem dX1_laysPath_152 : decode cX1_laysPath 152 = .ok (.iaload, 1) := dk_46 (dk_at dksX1_laysPath_6 12 rfl rfl)
theorem dX1_laysPath_153 : decode cX1_laysPath 153 = .ok (.invokestatic 280, 3) := dk_184 1 24 (dk_at dksX1_laysPath_6 13 rfl rfl)
theorem dX1_laysPath_156 : decode cX1_laysPath 156 = .ok (.iastore, 1) := dk_79 (dk_at dksX1_laysPath_6 16 rfl rfl)
theorem dX1_laysPath_157 : decode cX1_laysPath 157 = .ok (.astore 6, 2) := dk_58 6 (dk_at dksX1_laysPath_6 17 rfl rfl)
theorem dX1_laysPath_159 : decode cX1_laysPath 159 = .ok (.aload 6, 2) := dk_25 6 (dk_at dksX1_laysPath_6 19 rfl rfl)
theorem dX1_laysPath_161 : decode cX1_laysPath 161 = .ok (.iconst 0, 1) := dk_3 (dk_at dksX1_laysPath_6 21 rfl rfl)
theorem dX1_laysPath_162 : decode cX1_laysPath 162 = .ok (.aload_n 0, 1) := dk_42 (dk_at dksX1_laysPath_6 22 rfl rfl)
theorem dX1_laysPath_163 : decode cX1_laysPath 163 = .ok (.getfield 49, 3) := dk_180 0 49 (dk_at dksX1_laysPath_7 0 rfl rfl)
theorem dX1_laysPath_166 : decode cX1_laysPath 166 = .ok (.iload_n 1, 1) := dk_27 (dk_at dksX1_laysPath_7 3 rfl rfl)
theorem dX1_laysPath_167 : decode cX1_laysPath 167 = .ok (.iconst 1, 1) := dk_4 (dk_at dksX1_laysPath_7 4 rfl rfl)
theorem dX1_laysPath_168 : decode cX1_laysPath 168 = .ok (.iadd, 1) := dk_96 (dk_at dksX1_laysPath_7 5 rfl rfl)
theorem dX1_laysPath_169 : decode cX1_laysPath 169 = .ok (.aaload, 1) := dk_50 (dk_at dksX1_laysPath_7 6 rfl rfl)
theorem dX1_laysPath_170 : decode cX1_laysPath 170 = .ok (.iconst 0, 1) := dk_3 (dk_at dksX1_laysPath_7 7 rfl rfl)
theorem dX1_laysPath_171 : decode cX1_laysPath 171 = .ok (.iconst 3, 1) := dk_6 (dk_at dksX1_laysPath_7 8 rfl rfl)
theorem dX1_laysPath_172 : decode cX1_laysPath 172 = .ok (.invokestatic 124, 3) := dk_184 0 124 (dk_at dksX1_laysPath_7 9 rfl rfl)
theorem dX1_laysPath_175 : decode cX1_laysPath 175 = .ok (.aload_n 0, 1) := dk_42 (dk_at dksX1_laysPath_7 12 rfl rfl)
theorem dX1_laysPath_176 : decode cX1_laysPath 176 = .ok (.dup, 1) := dk_89 (dk_at dksX1_laysPath_7 13 rfl rfl)
theorem dX1_laysPath_177 : decode cX1_laysPath 177 = .ok (.getfield 302, 3) := dk_180 1 46 (dk_at dksX1_laysPath_7 14 rfl rfl)
theorem dX1_laysPath_180 : decode cX1_laysPath 180 = .ok (.iconst 1, 1) := dk_4 (dk_at dksX1_laysPath_7 17 rfl rfl)
theorem dX1_laysPath_181 : decode cX1_laysPath 181 = .ok (.iadd, 1) := dk_96 (dk_at dksX1_laysPath_7 18 rfl rfl)
theorem dX1_laysPath_182 : decode cX1_laysPath 182 = .ok (.putfield 302, 3) := dk_181 1 46 (dk_at dksX1_laysPath_7 19 rfl rfl)
theorem dX1_laysPath_185 : decode cX1_laysPath 185 = .ok (.iinc 1 1, 3) := dk_132 1 1 (dk_at dksX1_laysPath_8 0 rfl rfl)
theorem dX1_laysPath_188 : decode cX1_laysPath 188 = .ok (.goto (-161), 3) := dk_167 255 95 (dk_at dksX1_laysPath_8 3 rfl rfl)
theorem dX1_laysPath_191 : decode cX1_laysPath 191 = .ok (.return_, 1) := dk_177 (dk_at dksX1_laysPath_8 6 rfl rfl)
abbrev cX1_home : ByteArray := prog_1_method_55_code
def yX1_home : MethodName := ⟨RX1, "home", "(I)Z"⟩
def dkwX1_home_0 : List UInt8 := [42, 27, 182, 0, 98, 154, 0, 5, 3, 172, 42, 180, 0, 12, 180, 0, 112, 16, 6, 27, 79, 4, 172]
abbrev dktX1_home_0 : List UInt8 := dkwX1_home_0 ++ []
theorem dksX1_home_0 : cX1_home.data.toList.drop 0 = dktX1_home_0 := by decide +kernel
theorem dX1_home_0 : decode cX1_home 0 = .ok (.aload_n 0, 1) := dk_42 (dk_at dksX1_home_0 0 rfl rfl)
theorem dX1_home_1 : decode cX1_home 1 = .ok (.iload_n 1, 1) := dk_27 (dk_at dksX1_home_0 1 rfl rfl)
theorem dX1_home_2 : decode cX1_home 2 = .ok (.invokevirtual 98, 3) := dk_182 0 98 (dk_at dksX1_home_0 2 rfl rfl)
theorem dX1_home_5 : decode cX1_home 5 = .ok (.ifCond .ne 5, 3) := dk_154 0 5 (dk_at dksX1_home_0 5 rfl rfl)
theorem dX1_home_8 : decode cX1_home 8 = .ok (.iconst 0, 1) := dk_3 (dk_at dksX1_home_0 8 rfl rfl)
theorem dX1_home_9 : decode cX1_home 9 = .ok (.ireturn, 1) := dk_172 (dk_at dksX1_home_0 9 rfl rfl)
theorem dX1_home_10 : decode cX1_home 10 = .ok (.aload_n 0, 1) := dk_42 (dk_at dksX1_home_0 10 rfl rfl)
theorem dX1_home_11 : decode cX1_home 11 = .ok (.getfield 12, 3) := dk_180 0 12 (dk_at dksX1_home_0 11 rfl rfl)
theorem dX1_home_14 : decode cX1_home 14 = .ok (.getfield 112, 3) := dk_180 0 112 (dk_at dksX1_home_0 14 rfl rfl)
theorem dX1_home_17 : decode cX1_home 17 = .ok (.bipush 6, 2) := dk_16 6 (dk_at dksX1_home_0 17 rfl rfl)
theorem dX1_home_19 : decode cX1_home 19 = .ok (.iload_n 1, 1) := dk_27 (dk_at dksX1_home_0 19 rfl rfl)
theorem dX1_home_20 : decode cX1_home 20 = .ok (.iastore, 1) := dk_79 (dk_at dksX1_home_0 20 rfl rfl)
theorem dX1_home_21 : decode cX1_home 21 = .ok (.iconst 1, 1) := dk_4 (dk_at dksX1_home_0 21 rfl rfl)
theorem dX1_home_22 : decode cX1_home 22 = .ok (.ireturn, 1) := dk_172 (dk_at dksX1_home_0 22 rfl rfl)
abbrev cX1_last : ByteArray := prog_1_method_57_code
def yX1_last : MethodName := ⟨RX1, "last", "()I"⟩
def dkwX1_last_3 : List UInt8 := [2, 172]
abbrev dktX1_last_3 : List UInt8 := dkwX1_last_3 ++ []
def dkwX1_last_2 : List UInt8 := [4, 46, 42, 180, 0, 49, 27, 50, 5, 46, 182, 1, 52, 153, 0, 5, 27, 172, 132, 1, 255, 167, 255, 215]
abbrev dktX1_last_2 : List UInt8 := dkwX1_last_2 ++ dktX1_last_3
def dkwX1_last_1 : List UInt8 := [180, 1, 46, 60, 27, 155, 0, 43, 42, 27, 42, 180, 0, 49, 27, 50, 3, 46, 42, 180, 0, 49, 27, 50]
abbrev dktX1_last_1 : List UInt8 := dkwX1_last_1 ++ dktX1_last_2
def dkwX1_last_0 : List UInt8 := [42, 182, 1, 31, 6, 46, 153, 0, 5, 2, 172, 42, 182, 1, 49, 42, 180, 0, 46, 2, 184, 1, 37, 42]
abbrev dktX1_last_0 : List UInt8 := dkwX1_last_0 ++ dktX1_last_1
theorem dksX1_last_0 : cX1_last.data.toList.drop 0 = dktX1_last_0 := by decide +kernel
theorem dksX1_last_1 : cX1_last.data.toList.drop 24 = dktX1_last_1 := dk_seg dksX1_last_0 24 rfl rfl
theorem dksX1_last_2 : cX1_last.data.toList.drop 48 = dktX1_last_2 := dk_seg dksX1_last_1 24 rfl rfl
theorem dksX1_last_3 : cX1_last.data.toList.drop 72 = dktX1_last_3 := dk_seg dksX1_last_2 24 rfl rfl
theorem dX1_last_0 : decode cX1_last 0 = .ok (.aload_n 0, 1) := dk_42 (dk_at dksX1_last_0 0 rfl rfl)
theorem dX1_last_1 : decode cX1_last 1 = .ok (.invokevirtual 287, 3) := dk_182 1 31 (dk_at dksX1_last_0 1 rfl rfl)
theorem dX1_last_4 : decode cX1_last 4 = .ok (.iconst 3, 1) := dk_6 (dk_at dksX1_last_0 4 rfl rfl)
theorem dX1_last_5 : decode cX1_last 5 = .ok (.iaload, 1) := dk_46 (dk_at dksX1_last_0 5 rfl rfl)
theorem dX1_last_6 : decode cX1_last 6 = .ok (.ifCond .eq 5, 3) := dk_153 0 5 (dk_at dksX1_last_0 6 rfl rfl)
theorem dX1_last_9 : decode cX1_last 9 = .ok (.iconst (-1), 1) := dk_2 (dk_at dksX1_last_0 9 rfl rfl)
theorem dX1_last_10 : decode cX1_last 10 = .ok (.ireturn, 1) := dk_172 (dk_at dksX1_last_0 10 rfl rfl)
theorem dX1_last_11 : decode cX1_last 11 = .ok (.aload_n 0, 1) := dk_42 (dk_at dksX1_last_0 11 rfl rfl)
theorem dX1_last_12 : decode cX1_last 12 = .ok (.invokevirtual 305, 3) := dk_182 1 49 (dk_at dksX1_last_0 12 rfl rfl)
theorem dX1_last_15 : decode cX1_last 15 = .ok (.aload_n 0, 1) := dk_42 (dk_at dksX1_last_0 15 rfl rfl)
theorem dX1_last_16 : decode cX1_last 16 = .ok (.getfield 46, 3) := dk_180 0 46 (dk_at dksX1_last_0 16 rfl rfl)
theorem dX1_last_19 : decode cX1_last 19 = .ok (.iconst (-1), 1) := dk_2 (dk_at dksX1_last_0 19 rfl rfl)
theorem dX1_last_20 : decode cX1_last 20 = .ok (.invokestatic 293, 3) := dk_184 1 37 (dk_at dksX1_last_0 20 rfl rfl)
theorem dX1_last_23 : decode cX1_last 23 = .ok (.aload_n 0, 1) := dk_42 (dk_at dksX1_last_0 23 rfl rfl)
theorem dX1_last_24 : decode cX1_last 24 = .ok (.getfield 302, 3) := dk_180 1 46 (dk_at dksX1_last_1 0 rfl rfl)
theorem dX1_last_27 : decode cX1_last 27 = .ok (.istore_n 1, 1) := dk_60 (dk_at dksX1_last_1 3 rfl rfl)
theorem dX1_last_28 : decode cX1_last 28 = .ok (.iload_n 1, 1) := dk_27 (dk_at dksX1_last_1 4 rfl rfl)
theorem dX1_last_29 : decode cX1_last 29 = .ok (.ifCond .lt 43, 3) := dk_155 0 43 (dk_at dksX1_last_1 5 rfl rfl)
theorem dX1_last_32 : decode cX1_last 32 = .ok (.aload_n 0, 1) := dk_42 (dk_at dksX1_last_1 8 rfl rfl)
theorem dX1_last_33 : decode cX1_last 33 = .ok (.iload_n 1, 1) := dk_27 (dk_at dksX1_last_1 9 rfl rfl)
theorem dX1_last_34 : decode cX1_last 34 = .ok (.aload_n 0, 1) := dk_42 (dk_at dksX1_last_1 10 rfl rfl)
theorem dX1_last_35 : decode cX1_last 35 = .ok (.getfield 49, 3) := dk_180 0 49 (dk_at dksX1_last_1 11 rfl rfl)
theorem dX1_last_38 : decode cX1_last 38 = .ok (.iload_n 1, 1) := dk_27 (dk_at dksX1_last_1 14 rfl rfl)
theorem dX1_last_39 : decode cX1_last 39 = .ok (.aaload, 1) := dk_50 (dk_at dksX1_last_1 15 rfl rfl)
theorem dX1_last_40 : decode cX1_last 40 = .ok (.iconst 0, 1) := dk_3 (dk_at dksX1_last_1 16 rfl rfl)
theorem dX1_last_41 : decode cX1_last 41 = .ok (.iaload, 1) := dk_46 (dk_at dksX1_last_1 17 rfl rfl)
theorem dX1_last_42 : decode cX1_last 42 = .ok (.aload_n 0, 1) := dk_42 (dk_at dksX1_last_1 18 rfl rfl)
theorem dX1_last_43 : decode cX1_last 43 = .ok (.getfield 49, 3) := dk_180 0 49 (dk_at dksX1_last_1 19 rfl rfl)
theorem dX1_last_46 : decode cX1_last 46 = .ok (.iload_n 1, 1) := dk_27 (dk_at dksX1_last_1 22 rfl rfl)
theorem dX1_last_47 : decode cX1_last 47 = .ok (.aaload, 1) := dk_50 (dk_at dksX1_last_1 23 rfl rfl)
theorem dX1_last_48 : decode cX1_last 48 = .ok (.iconst 1, 1) := dk_4 (dk_at dksX1_last_2 0 rfl rfl)
theorem dX1_last_49 : decode cX1_last 49 = .ok (.iaload, 1) := dk_46 (dk_at dksX1_last_2 1 rfl rfl)
theorem dX1_last_50 : decode cX1_last 50 = .ok (.aload_n 0, 1) := dk_42 (dk_at dksX1_last_2 2 rfl rfl)
theorem dX1_last_51 : decode cX1_last 51 = .ok (.getfield 49, 3) := dk_180 0 49 (dk_at dksX1_last_2 3 rfl rfl)
theorem dX1_last_54 : decode cX1_last 54 = .ok (.iload_n 1, 1) := dk_27 (dk_at dksX1_last_2 6 rfl rfl)
theorem dX1_last_55 : decode cX1_last 55 = .ok (.aaload, 1) := dk_50 (dk_at dksX1_last_2 7 rfl rfl)
theorem dX1_last_56 : decode cX1_last 56 = .ok (.iconst 2, 1) := dk_5 (dk_at dksX1_last_2 8 rfl rfl)
theorem dX1_last_57 : decode cX1_last 57 = .ok (.iaload, 1) := dk_46 (dk_at dksX1_last_2 9 rfl rfl)
theorem dX1_last_58 : decode cX1_last 58 = .ok (.invokevirtual 308, 3) := dk_182 1 52 (dk_at dksX1_last_2 10 rfl rfl)
theorem dX1_last_61 : decode cX1_last 61 = .ok (.ifCond .eq 5, 3) := dk_153 0 5 (dk_at dksX1_last_2 13 rfl rfl)
theorem dX1_last_64 : decode cX1_last 64 = .ok (.iload_n 1, 1) := dk_27 (dk_at dksX1_last_2 16 rfl rfl)
theorem dX1_last_65 : decode cX1_last 65 = .ok (.ireturn, 1) := dk_172 (dk_at dksX1_last_2 17 rfl rfl)
theorem dX1_last_66 : decode cX1_last 66 = .ok (.iinc 1 (-1), 3) := dk_132 1 255 (dk_at dksX1_last_2 18 rfl rfl)
theorem dX1_last_69 : decode cX1_last 69 = .ok (.goto (-41), 3) := dk_167 255 215 (dk_at dksX1_last_2 21 rfl rfl)
theorem dX1_last_72 : decode cX1_last 72 = .ok (.iconst (-1), 1) := dk_2 (dk_at dksX1_last_3 0 rfl rfl)
theorem dX1_last_73 : decode cX1_last 73 = .ok (.ireturn, 1) := dk_172 (dk_at dksX1_last_3 1 rfl rfl)
abbrev cX1_comesHome : ByteArray := prog_1_method_56_code
def yX1_comesHome : MethodName := ⟨RX1, "comesHome", "(IIII)Z"⟩
def dkwX1_comesHome_8 : List UInt8 := [180, 0, 46, 21, 5, 21, 6, 153, 0, 7, 4, 167, 0, 4, 3, 79, 21, 6, 172]
abbrev dktX1_comesHome_8 : List UInt8 := dkwX1_comesHome_8 ++ []
def dkwX1_comesHome_7 : List UInt8 := [21, 8, 100, 21, 7, 21, 4, 184, 1, 24, 182, 1, 52, 54, 6, 132, 7, 1, 167, 255, 155, 42]
abbrev dktX1_comesHome_7 : List UInt8 := dkwX1_comesHome_7 ++ dktX1_comesHome_8
def dkwX1_comesHome_6 : List UInt8 := [154, 0, 38, 42, 27, 21, 9, 182, 1, 21, 153, 0, 6, 167, 0, 25, 42, 27, 4, 96, 21, 9, 29]
abbrev dktX1_comesHome_6 : List UInt8 := dkwX1_comesHome_6 ++ dktX1_comesHome_7
def dkwX1_comesHome_5 : List UInt8 := [21, 7, 28, 182, 1, 18, 54, 9, 21, 7, 7, 162, 0, 16, 42, 180, 0, 12, 180, 0, 109, 21, 9, 51]
abbrev dktX1_comesHome_5 : List UInt8 := dkwX1_comesHome_5 ++ dktX1_comesHome_6
def dkwX1_comesHome_4 : List UInt8 := [27, 21, 7, 28, 29, 21, 4, 182, 1, 15, 54, 8, 21, 8, 2, 160, 0, 6, 167, 0, 67, 42, 27]
abbrev dktX1_comesHome_4 : List UInt8 := dkwX1_comesHome_4 ++ dktX1_comesHome_5
def dkwX1_comesHome_3 : List UInt8 := [167, 0, 4, 3, 172, 3, 54, 6, 3, 54, 7, 21, 7, 16, 7, 163, 0, 100, 21, 6, 154, 0, 95, 42]
abbrev dktX1_comesHome_3 : List UInt8 := dkwX1_comesHome_3 ++ dktX1_comesHome_4
def dkwX1_comesHome_2 : List UInt8 := [180, 0, 46, 21, 5, 46, 2, 159, 0, 20, 42, 180, 0, 46, 21, 5, 46, 4, 160, 0, 7, 4]
abbrev dktX1_comesHome_2 : List UInt8 := dkwX1_comesHome_2 ++ dktX1_comesHome_3
def dkwX1_comesHome_1 : List UInt8 := [3, 172, 17, 0, 200, 16, 36, 27, 104, 28, 96, 104, 5, 29, 104, 96, 21, 4, 96, 54, 5, 42]
abbrev dktX1_comesHome_1 : List UInt8 := dkwX1_comesHome_1 ++ dktX1_comesHome_2
def dkwX1_comesHome_0 : List UInt8 := [28, 42, 180, 0, 12, 180, 0, 112, 16, 6, 46, 160, 0, 5, 4, 172, 27, 42, 180, 0, 254, 160, 0, 5]
abbrev dktX1_comesHome_0 : List UInt8 := dkwX1_comesHome_0 ++ dktX1_comesHome_1
theorem dksX1_comesHome_0 : cX1_comesHome.data.toList.drop 0 = dktX1_comesHome_0 := by decide +kernel
theorem dksX1_comesHome_1 : cX1_comesHome.data.toList.drop 24 = dktX1_comesHome_1 := dk_seg dksX1_comesHome_0 24 rfl rfl
theorem dksX1_comesHome_2 : cX1_comesHome.data.toList.drop 46 = dktX1_comesHome_2 := dk_seg dksX1_comesHome_1 22 rfl rfl
theorem dksX1_comesHome_3 : cX1_comesHome.data.toList.drop 68 = dktX1_comesHome_3 := dk_seg dksX1_comesHome_2 22 rfl rfl
theorem dksX1_comesHome_4 : cX1_comesHome.data.toList.drop 92 = dktX1_comesHome_4 := dk_seg dksX1_comesHome_3 24 rfl rfl
theorem dksX1_comesHome_5 : cX1_comesHome.data.toList.drop 115 = dktX1_comesHome_5 := dk_seg dksX1_comesHome_4 23 rfl rfl
theorem dksX1_comesHome_6 : cX1_comesHome.data.toList.drop 139 = dktX1_comesHome_6 := dk_seg dksX1_comesHome_5 24 rfl rfl
theorem dksX1_comesHome_7 : cX1_comesHome.data.toList.drop 162 = dktX1_comesHome_7 := dk_seg dksX1_comesHome_6 23 rfl rfl
theorem dksX1_comesHome_8 : cX1_comesHome.data.toList.drop 184 = dktX1_comesHome_8 := dk_seg dksX1_comesHome_7 22 rfl rfl
theorem dX1_comesHome_0 : decode cX1_comesHome 0 = .ok (.iload_n 2, 1) := dk_28 (dk_at dksX1_comesHome_0 0 rfl rfl)
theorem dX1_comesHome_1 : decode cX1_comesHome 1 = .ok (.aload_n 0, 1) := dk_42 (dk_at dksX1_comesHome_0 1 rfl rfl)
theorem dX1_comesHome_2 : decode cX1_comesHome 2 = .ok (.getfield 12, 3) := dk_180 0 12 (dk_at dksX1_comesHome_0 2 rfl rfl)
theorem dX1_comesHome_5 : decode cX1_comesHome 5 = .ok (.getfield 112, 3) := dk_180 0 112 (dk_at dksX1_comesHome_0 5 rfl rfl)
theorem dX1_comesHome_8 : decode cX1_comesHome 8 = .ok (.bipush 6, 2) := dk_16 6 (dk_at dksX1_comesHome_0 8 rfl rfl)
theorem dX1_comesHome_10 : decode cX1_comesHome 10 = .ok (.iaload, 1) := dk_46 (dk_at dksX1_comesHome_0 10 rfl rfl)
theorem dX1_comesHome_11 : decode cX1_comesHome 11 = .ok (.if_icmp .ne 5, 3) := dk_160 0 5 (dk_at dksX1_comesHome_0 11 rfl rfl)
theorem dX1_comesHome_14 : decode cX1_comesHome 14 = .ok (.iconst 1, 1) := dk_4 (dk_at dksX1_comesHome_0 14 rfl rfl)
theorem dX1_comesHome_15 : decode cX1_comesHome 15 = .ok (.ireturn, 1) := dk_172 (dk_at dksX1_comesHome_0 15 rfl rfl)
theorem dX1_comesHome_16 : decode cX1_comesHome 16 = .ok (.iload_n 1, 1) := dk_27 (dk_at dksX1_comesHome_0 16 rfl rfl)
theorem dX1_comesHome_17 : decode cX1_comesHome 17 = .ok (.aload_n 0, 1) := dk_42 (dk_at dksX1_comesHome_0 17 rfl rfl)
theorem dX1_comesHome_18 : decode cX1_comesHome 18 = .ok (.getfield 254, 3) := dk_180 0 254 (dk_at dksX1_comesHome_0 18 rfl rfl)
theorem dX1_comesHome_21 : decode cX1_comesHome 21 = .ok (.if_icmp .ne 5, 3) := dk_160 0 5 (dk_at dksX1_comesHome_0 21 rfl rfl)
theorem dX1_comesHome_24 : decode cX1_comesHome 24 = .ok (.iconst 0, 1) := dk_3 (dk_at dksX1_comesHome_1 0 rfl rfl)
theorem dX1_comesHome_25 : decode cX1_comesHome 25 = .ok (.ireturn, 1) := dk_172 (dk_at dksX1_comesHome_1 1 rfl rfl)
theorem dX1_comesHome_26 : decode cX1_comesHome 26 = .ok (.sipush 200, 3) := dk_17 0 200 (dk_at dksX1_comesHome_1 2 rfl rfl)
theorem dX1_comesHome_29 : decode cX1_comesHome 29 = .ok (.bipush 36, 2) := dk_16 36 (dk_at dksX1_comesHome_1 5 rfl rfl)
theorem dX1_comesHome_31 : decode cX1_comesHome 31 = .ok (.iload_n 1, 1) := dk_27 (dk_at dksX1_comesHome_1 7 rfl rfl)
theorem dX1_comesHome_32 : decode cX1_comesHome 32 = .ok (.imul, 1) := dk_104 (dk_at dksX1_comesHome_1 8 rfl rfl)
theorem dX1_comesHome_33 : decode cX1_comesHome 33 = .ok (.iload_n 2, 1) := dk_28 (dk_at dksX1_comesHome_1 9 rfl rfl)
theorem dX1_comesHome_34 : decode cX1_comesHome 34 = .ok (.iadd, 1) := dk_96 (dk_at dksX1_comesHome_1 10 rfl rfl)
theorem dX1_comesHome_35 : decode cX1_comesHome 35 = .ok (.imul, 1) := dk_104 (dk_at dksX1_comesHome_1 11 rfl rfl)
theorem dX1_comesHome_36 : decode cX1_comesHome 36 = .ok (.iconst 2, 1) := dk_5 (dk_at dksX1_comesHome_1 12 rfl rfl)
theorem dX1_comesHome_37 : decode cX1_comesHome 37 = .ok (.iload_n 3, 1) := dk_29 (dk_at dksX1_comesHome_1 13 rfl rfl)
theorem dX1_comesHome_38 : decode cX1_comesHome 38 = .ok (.imul, 1) := dk_104 (dk_at dksX1_comesHome_1 14 rfl rfl)
theorem dX1_comesHome_39 : decode cX1_comesHome 39 = .ok (.iadd, 1) := dk_96 (dk_at dksX1_comesHome_1 15 rfl rfl)
theorem dX1_comesHome_40 : decode cX1_comesHome 40 = .ok (.iload 4, 2) := dk_21 4 (dk_at dksX1_comesHome_1 16 rfl rfl)
theorem dX1_comesHome_42 : decode cX1_comesHome 42 = .ok (.iadd, 1) := dk_96 (dk_at dksX1_comesHome_1 18 rfl rfl)
theorem dX1_comesHome_43 : decode cX1_comesHome 43 = .ok (.istore 5, 2) := dk_54 5 (dk_at dksX1_comesHome_1 19 rfl rfl)
theorem dX1_comesHome_45 : decode cX1_comesHome 45 = .ok (.aload_n 0, 1) := dk_42 (dk_at dksX1_comesHome_1 21 rfl rfl)
theorem dX1_comesHome_46 : decode cX1_comesHome 46 = .ok (.getfield 46, 3) := dk_180 0 46 (dk_at dksX1_comesHome_2 0 rfl rfl)
theorem dX1_comesHome_49 : decode cX1_comesHome 49 = .ok (.iload 5, 2) := dk_21 5 (dk_at dksX1_comesHome_2 3 rfl rfl)
theorem dX1_comesHome_51 : decode cX1_comesHome 51 = .ok (.iaload, 1) := dk_46 (dk_at dksX1_comesHome_2 5 rfl rfl)
theorem dX1_comesHome_52 : decode cX1_comesHome 52 = .ok (.iconst (-1), 1) := dk_2 (dk_at dksX1_comesHome_2 6 rfl rfl)
theorem dX1_comesHome_53 : decode cX1_comesHome 53 = .ok (.if_icmp .eq 20, 3) := dk_159 0 20 (dk_at dksX1_comesHome_2 7 rfl rfl)
theorem dX1_comesHome_56 : decode cX1_comesHome 56 = .ok (.aload_n 0, 1) := dk_42 (dk_at dksX1_comesHome_2 10 rfl rfl)
theorem dX1_comesHome_57 : decode cX1_comesHome 57 = .ok (.getfield 46, 3) := dk_180 0 46 (dk_at dksX1_comesHome_2 11 rfl rfl)
theorem dX1_comesHome_60 : decode cX1_comesHome 60 = .ok (.iload 5, 2) := dk_21 5 (dk_at dksX1_comesHome_2 14 rfl rfl)
theorem dX1_comesHome_62 : decode cX1_comesHome 62 = .ok (.iaload, 1) := dk_46 (dk_at dksX1_comesHome_2 16 rfl rfl)
theorem dX1_comesHome_63 : decode cX1_comesHome 63 = .ok (.iconst 1, 1) := dk_4 (dk_at dksX1_comesHome_2 17 rfl rfl)
theorem dX1_comesHome_64 : decode cX1_comesHome 64 = .ok (.if_icmp .ne 7, 3) := dk_160 0 7 (dk_at dksX1_comesHome_2 18 rfl rfl)
theorem dX1_comesHome_67 : decode cX1_comesHome 67 = .ok (.iconst 1, 1) := dk_4 (dk_at dksX1_comesHome_2 21 rfl rfl)
theorem dX1_comesHome_68 : decode cX1_comesHome 68 = .ok (.goto 4, 3) := dk_167 0 4 (dk_at dksX1_comesHome_3 0 rfl rfl)
theorem dX1_comesHome_71 : decode cX1_comesHome 71 = .ok (.iconst 0, 1) := dk_3 (dk_at dksX1_comesHome_3 3 rfl rfl)
theorem dX1_comesHome_72 : decode cX1_comesHome 72 = .ok (.ireturn, 1) := dk_172 (dk_at dksX1_comesHome_3 4 rfl rfl)
theorem dX1_comesHome_73 : decode cX1_comesHome 73 = .ok (.iconst 0, 1) := dk_3 (dk_at dksX1_comesHome_3 5 rfl rfl)
theorem dX1_comesHome_74 : decode cX1_comesHome 74 = .ok (.istore 6, 2) := dk_54 6 (dk_at dksX1_comesHome_3 6 rfl rfl)
theorem dX1_comesHome_76 : decode cX1_comesHome 76 = .ok (.iconst 0, 1) := dk_3 (dk_at dksX1_comesHome_3 8 rfl rfl)
theorem dX1_comesHome_77 : decode cX1_comesHome 77 = .ok (.istore 7, 2) := dk_54 7 (dk_at dksX1_comesHome_3 9 rfl rfl)
theorem dX1_comesHome_79 : decode cX1_comesHome 79 = .ok (.iload 7, 2) := dk_21 7 (dk_at dksX1_comesHome_3 11 rfl rfl)
theorem dX1_comesHome_81 : decode cX1_comesHome 81 = .ok (.bipush 7, 2) := dk_16 7 (dk_at dksX1_comesHome_3 13 rfl rfl)
theorem dX1_comesHome_83 : decode cX1_comesHome 83 = .ok (.if_icmp .gt 100, 3) := dk_163 0 100 (dk_at dksX1_comesHome_3 15 rfl rfl)
theorem dX1_comesHome_86 : decode cX1_comesHome 86 = .ok (.iload 6, 2) := dk_21 6 (dk_at dksX1_comesHome_3 18 rfl rfl)
theorem dX1_comesHome_88 : decode cX1_comesHome 88 = .ok (.ifCond .ne 95, 3) := dk_154 0 95 (dk_at dksX1_comesHome_3 20 rfl rfl)
theorem dX1_comesHome_91 : decode cX1_comesHome 91 = .ok (.aload_n 0, 1) := dk_42 (dk_at dksX1_comesHome_3 23 rfl rfl)
theorem dX1_comesHome_92 : decode cX1_comesHome 92 = .ok (.iload_n 1, 1) := dk_27 (dk_at dksX1_comesHome_4 0 rfl rfl)
theorem dX1_comesHome_93 : decode cX1_comesHome 93 = .ok (.iload 7, 2) := dk_21 7 (dk_at dksX1_comesHome_4 1 rfl rfl)
theorem dX1_comesHome_95 : decode cX1_comesHome 95 = .ok (.iload_n 2, 1) := dk_28 (dk_at dksX1_comesHome_4 3 rfl rfl)
theorem dX1_comesHome_96 : decode cX1_comesHome 96 = .ok (.iload_n 3, 1) := dk_29 (dk_at dksX1_comesHome_4 4 rfl rfl)
theorem dX1_comesHome_97 : decode cX1_comesHome 97 = .ok (.iload 4, 2) := dk_21 4 (dk_at dksX1_comesHome_4 5 rfl rfl)
theorem dX1_comesHome_99 : decode cX1_comesHome 99 = .ok (.invokevirtual 271, 3) := dk_182 1 15 (dk_at dksX1_comesHome_4 7 rfl rfl)
theorem dX1_comesHome_102 : decode cX1_comesHome 102 = .ok (.istore 8, 2) := dk_54 8 (dk_at dksX1_comesHome_4 10 rfl rfl)
theorem dX1_comesHome_104 : decode cX1_comesHome 104 = .ok (.iload 8, 2) := dk_21 8 (dk_at dksX1_comesHome_4 12 rfl rfl)
theorem dX1_comesHome_106 : decode cX1_comesHome 106 = .ok (.iconst (-1), 1) := dk_2 (dk_at dksX1_comesHome_4 14 rfl rfl)
theorem dX1_comesHome_107 : decode cX1_comesHome 107 = .ok (.if_icmp .ne 6, 3) := dk_160 0 6 (dk_at dksX1_comesHome_4 15 rfl rfl)
theorem dX1_comesHome_110 : decode cX1_comesHome 110 = .ok (.goto 67, 3) := dk_167 0 67 (dk_at dksX1_comesHome_4 18 rfl rfl)
theorem dX1_comesHome_113 : decode cX1_comesHome 113 = .ok (.aload_n 0, 1) := dk_42 (dk_at dksX1_comesHome_4 21 rfl rfl)
theorem dX1_comesHome_114 : decode cX1_comesHome 114 = .ok (.iload_n 1, 1) := dk_27 (dk_at dksX1_comesHome_4 22 rfl rfl)
theorem dX1_comesHome_115 : decode cX1_comesHome 115 = .ok (.iload 7, 2) := dk_21 7 (dk_at dksX1_comesHome_5 0 rfl rfl)
theorem dX1_comesHome_117 : decode cX1_comesHome 117 = .ok (.iload_n 2, 1) := dk_28 (dk_at dksX1_comesHome_5 2 rfl rfl)
theorem dX1_comesHome_118 : decode cX1_comesHome 118 = .ok (.invokevirtual 274, 3) := dk_182 1 18 (dk_at dksX1_comesHome_5 3 rfl rfl)
theorem dX1_comesHome_121 : decode cX1_comesHome 121 = .ok (.istore 9, 2) := dk_54 9 (dk_at dksX1_comesHome_5 6 rfl rfl)
theorem dX1_comesHome_123 : decode cX1_comesHome 123 = .ok (.iload 7, 2) := dk_21 7 (dk_at dksX1_comesHome_5 8 rfl rfl)
theorem dX1_comesHome_125 : decode cX1_comesHome 125 = .ok (.iconst 4, 1) := dk_7 (dk_at dksX1_comesHome_5 10 rfl rfl)
theorem dX1_comesHome_126 : decode cX1_comesHome 126 = .ok (.if_icmp .ge 16, 3) := dk_162 0 16 (dk_at dksX1_comesHome_5 11 rfl rfl)
theorem dX1_comesHome_129 : decode cX1_comesHome 129 = .ok (.aload_n 0, 1) := dk_42 (dk_at dksX1_comesHome_5 14 rfl rfl)
theorem dX1_comesHome_130 : decode cX1_comesHome 130 = .ok (.getfield 12, 3) := dk_180 0 12 (dk_at dksX1_comesHome_5 15 rfl rfl)
theorem dX1_comesHome_133 : decode cX1_comesHome 133 = .ok (.getfield 109, 3) := dk_180 0 109 (dk_at dksX1_comesHome_5 18 rfl rfl)
theorem dX1_comesHome_136 : decode cX1_comesHome 136 = .ok (.iload 9, 2) := dk_21 9 (dk_at dksX1_comesHome_5 21 rfl rfl)
theorem dX1_comesHome_138 : decode cX1_comesHome 138 = .ok (.baload, 1) := dk_51 (dk_at dksX1_comesHome_5 23 rfl rfl)
theorem dX1_comesHome_139 : decode cX1_comesHome 139 = .ok (.ifCond .ne 38, 3) := dk_154 0 38 (dk_at dksX1_comesHome_6 0 rfl rfl)
theorem dX1_comesHome_142 : decode cX1_comesHome 142 = .ok (.aload_n 0, 1) := dk_42 (dk_at dksX1_comesHome_6 3 rfl rfl)
theorem dX1_comesHome_143 : decode cX1_comesHome 143 = .ok (.iload_n 1, 1) := dk_27 (dk_at dksX1_comesHome_6 4 rfl rfl)
theorem dX1_comesHome_144 : decode cX1_comesHome 144 = .ok (.iload 9, 2) := dk_21 9 (dk_at dksX1_comesHome_6 5 rfl rfl)
theorem dX1_comesHome_146 : decode cX1_comesHome 146 = .ok (.invokevirtual 277, 3) := dk_182 1 21 (dk_at dksX1_comesHome_6 7 rfl rfl)
theorem dX1_comesHome_149 : decode cX1_comesHome 149 = .ok (.ifCond .eq 6, 3) := dk_153 0 6 (dk_at dksX1_comesHome_6 10 rfl rfl)
theorem dX1_comesHome_152 : decode cX1_comesHome 152 = .ok (.goto 25, 3) := dk_167 0 25 (dk_at dksX1_comesHome_6 13 rfl rfl)
theorem dX1_comesHome_155 : decode cX1_comesHome 155 = .ok (.aload_n 0, 1) := dk_42 (dk_at dksX1_comesHome_6 16 rfl rfl)
theorem dX1_comesHome_156 : decode cX1_comesHome 156 = .ok (.iload_n 1, 1) := dk_27 (dk_at dksX1_comesHome_6 17 rfl rfl)
theorem dX1_comesHome_157 : decode cX1_comesHome 157 = .ok (.iconst 1, 1) := dk_4 (dk_at dksX1_comesHome_6 18 rfl rfl)
theorem dX1_comesHome_158 : decode cX1_comesHome 158 = .ok (.iadd, 1) := dk_96 (dk_at dksX1_comesHome_6 19 rfl rfl)
theorem dX1_comesHome_159 : decode cX1_comesHome 159 = .ok (.iload 9, 2) := dk_21 9 (dk_at dksX1_comesHome_6 20 rfl rfl)
theorem dX1_comesHome_161 : decode cX1_comesHome 161 = .ok (.iload_n 3, 1) := dk_29 (dk_at dksX1_comesHome_6 22 rfl rfl)
theorem dX1_comesHome_162 : decode cX1_comesHome 162 = .ok (.iload 8, 2) := dk_21 8 (dk_at dksX1_comesHome_7 0 rfl rfl)
theorem dX1_comesHome_164 : decode cX1_comesHome 164 = .ok (.isub, 1) := dk_100 (dk_at dksX1_comesHome_7 2 rfl rfl)
theorem dX1_comesHome_165 : decode cX1_comesHome 165 = .ok (.iload 7, 2) := dk_21 7 (dk_at dksX1_comesHome_7 3 rfl rfl)
theorem dX1_comesHome_167 : decode cX1_comesHome 167 = .ok (.iload 4, 2) := dk_21 4 (dk_at dksX1_comesHome_7 5 rfl rfl)
theorem dX1_comesHome_169 : decode cX1_comesHome 169 = .ok (.invokestatic 280, 3) := dk_184 1 24 (dk_at dksX1_comesHome_7 7 rfl rfl)
theorem dX1_comesHome_172 : decode cX1_comesHome 172 = .ok (.invokevirtual 308, 3) := dk_182 1 52 (dk_at dksX1_comesHome_7 10 rfl rfl)
theorem dX1_comesHome_175 : decode cX1_comesHome 175 = .ok (.istore 6, 2) := dk_54 6 (dk_at dksX1_comesHome_7 13 rfl rfl)
theorem dX1_comesHome_177 : decode cX1_comesHome 177 = .ok (.iinc 7 1, 3) := dk_132 7 1 (dk_at dksX1_comesHome_7 15 rfl rfl)
theorem dX1_comesHome_180 : decode cX1_comesHome 180 = .ok (.goto (-101), 3) := dk_167 255 155 (dk_at dksX1_comesHome_7 18 rfl rfl)
theorem dX1_comesHome_183 : decode cX1_comesHome 183 = .ok (.aload_n 0, 1) := dk_42 (dk_at dksX1_comesHome_7 21 rfl rfl)
theorem dX1_comesHome_184 : decode cX1_comesHome 184 = .ok (.getfield 46, 3) := dk_180 0 46 (dk_at dksX1_comesHome_8 0 rfl rfl)
theorem dX1_comesHome_187 : decode cX1_comesHome 187 = .ok (.iload 5, 2) := dk_21 5 (dk_at dksX1_comesHome_8 3 rfl rfl)
theorem dX1_comesHome_189 : decode cX1_comesHome 189 = .ok (.iload 6, 2) := dk_21 6 (dk_at dksX1_comesHome_8 5 rfl rfl)
theorem dX1_comesHome_191 : decode cX1_comesHome 191 = .ok (.ifCond .eq 7, 3) := dk_153 0 7 (dk_at dksX1_comesHome_8 7 rfl rfl)
theorem dX1_comesHome_194 : decode cX1_comesHome 194 = .ok (.iconst 1, 1) := dk_4 (dk_at dksX1_comesHome_8 10 rfl rfl)
theorem dX1_comesHome_195 : decode cX1_comesHome 195 = .ok (.goto 4, 3) := dk_167 0 4 (dk_at dksX1_comesHome_8 11 rfl rfl)
theorem dX1_comesHome_198 : decode cX1_comesHome 198 = .ok (.iconst 0, 1) := dk_3 (dk_at dksX1_comesHome_8 14 rfl rfl)
theorem dX1_comesHome_199 : decode cX1_comesHome 199 = .ok (.iastore, 1) := dk_79 (dk_at dksX1_comesHome_8 15 rfl rfl)
theorem dX1_comesHome_200 : decode cX1_comesHome 200 = .ok (.iload 6, 2) := dk_21 6 (dk_at dksX1_comesHome_8 16 rfl rfl)
theorem dX1_comesHome_202 : decode cX1_comesHome 202 = .ok (.ireturn, 1) := dk_172 (dk_at dksX1_comesHome_8 18 rfl rfl)
abbrev cX1_walk : ByteArray := prog_1_method_59_code
def yX1_walk : MethodName := ⟨RX1, "walk", "(I)I"⟩
def dkwX1_walk_2 : List UInt8 := [182, 1, 59, 172]
abbrev dktX1_walk_2 : List UInt8 := dkwX1_walk_2 ++ []
def dkwX1_walk_1 : List UInt8 := [153, 0, 5, 2, 172, 42, 182, 1, 49, 27, 42, 180, 1, 46, 164, 0, 7, 2, 167, 0, 8, 42, 27]
abbrev dktX1_walk_1 : List UInt8 := dkwX1_walk_1 ++ dktX1_walk_2
def dkwX1_walk_0 : List UInt8 := [27, 3, 42, 180, 0, 12, 180, 0, 112, 8, 46, 184, 0, 94, 153, 0, 12, 42, 182, 1, 31, 6, 46]
abbrev dktX1_walk_0 : List UInt8 := dkwX1_walk_0 ++ dktX1_walk_1
theorem dksX1_walk_0 : cX1_walk.data.toList.drop 0 = dktX1_walk_0 := by decide +kernel
theorem dksX1_walk_1 : cX1_walk.data.toList.drop 23 = dktX1_walk_1 := dk_seg dksX1_walk_0 23 rfl rfl
theorem dksX1_walk_2 : cX1_walk.data.toList.drop 46 = dktX1_walk_2 := dk_seg dksX1_walk_1 23 rfl rfl
theorem dX1_walk_0 : decode cX1_walk 0 = .ok (.iload_n 1, 1) := dk_27 (dk_at dksX1_walk_0 0 rfl rfl)
theorem dX1_walk_1 : decode cX1_walk 1 = .ok (.iconst 0, 1) := dk_3 (dk_at dksX1_walk_0 1 rfl rfl)
theorem dX1_walk_2 : decode cX1_walk 2 = .ok (.aload_n 0, 1) := dk_42 (dk_at dksX1_walk_0 2 rfl rfl)
theorem dX1_walk_3 : decode cX1_walk 3 = .ok (.getfield 12, 3) := dk_180 0 12 (dk_at dksX1_walk_0 3 rfl rfl)
theorem dX1_walk_6 : decode cX1_walk 6 = .ok (.getfield 112, 3) := dk_180 0 112 (dk_at dksX1_walk_0 6 rfl rfl)
theorem dX1_walk_9 : decode cX1_walk 9 = .ok (.iconst 5, 1) := dk_8 (dk_at dksX1_walk_0 9 rfl rfl)
theorem dX1_walk_10 : decode cX1_walk 10 = .ok (.iaload, 1) := dk_46 (dk_at dksX1_walk_0 10 rfl rfl)
theorem dX1_walk_11 : decode cX1_walk 11 = .ok (.invokestatic 94, 3) := dk_184 0 94 (dk_at dksX1_walk_0 11 rfl rfl)
theorem dX1_walk_14 : decode cX1_walk 14 = .ok (.ifCond .eq 12, 3) := dk_153 0 12 (dk_at dksX1_walk_0 14 rfl rfl)
theorem dX1_walk_17 : decode cX1_walk 17 = .ok (.aload_n 0, 1) := dk_42 (dk_at dksX1_walk_0 17 rfl rfl)
theorem dX1_walk_18 : decode cX1_walk 18 = .ok (.invokevirtual 287, 3) := dk_182 1 31 (dk_at dksX1_walk_0 18 rfl rfl)
theorem dX1_walk_21 : decode cX1_walk 21 = .ok (.iconst 3, 1) := dk_6 (dk_at dksX1_walk_0 21 rfl rfl)
theorem dX1_walk_22 : decode cX1_walk 22 = .ok (.iaload, 1) := dk_46 (dk_at dksX1_walk_0 22 rfl rfl)
theorem dX1_walk_23 : decode cX1_walk 23 = .ok (.ifCond .eq 5, 3) := dk_153 0 5 (dk_at dksX1_walk_1 0 rfl rfl)
theorem dX1_walk_26 : decode cX1_walk 26 = .ok (.iconst (-1), 1) := dk_2 (dk_at dksX1_walk_1 3 rfl rfl)
theorem dX1_walk_27 : decode cX1_walk 27 = .ok (.ireturn, 1) := dk_172 (dk_at dksX1_walk_1 4 rfl rfl)
theorem dX1_walk_28 : decode cX1_walk 28 = .ok (.aload_n 0, 1) := dk_42 (dk_at dksX1_walk_1 5 rfl rfl)
theorem dX1_walk_29 : decode cX1_walk 29 = .ok (.invokevirtual 305, 3) := dk_182 1 49 (dk_at dksX1_walk_1 6 rfl rfl)
theorem dX1_walk_32 : decode cX1_walk 32 = .ok (.iload_n 1, 1) := dk_27 (dk_at dksX1_walk_1 9 rfl rfl)
theorem dX1_walk_33 : decode cX1_walk 33 = .ok (.aload_n 0, 1) := dk_42 (dk_at dksX1_walk_1 10 rfl rfl)
theorem dX1_walk_34 : decode cX1_walk 34 = .ok (.getfield 302, 3) := dk_180 1 46 (dk_at dksX1_walk_1 11 rfl rfl)
theorem dX1_walk_37 : decode cX1_walk 37 = .ok (.if_icmp .le 7, 3) := dk_164 0 7 (dk_at dksX1_walk_1 14 rfl rfl)
theorem dX1_walk_40 : decode cX1_walk 40 = .ok (.iconst (-1), 1) := dk_2 (dk_at dksX1_walk_1 17 rfl rfl)
theorem dX1_walk_41 : decode cX1_walk 41 = .ok (.goto 8, 3) := dk_167 0 8 (dk_at dksX1_walk_1 18 rfl rfl)
theorem dX1_walk_44 : decode cX1_walk 44 = .ok (.aload_n 0, 1) := dk_42 (dk_at dksX1_walk_1 21 rfl rfl)
theorem dX1_walk_45 : decode cX1_walk 45 = .ok (.iload_n 1, 1) := dk_27 (dk_at dksX1_walk_1 22 rfl rfl)
theorem dX1_walk_46 : decode cX1_walk 46 = .ok (.invokevirtual 315, 3) := dk_182 1 59 (dk_at dksX1_walk_2 0 rfl rfl)
theorem dX1_walk_49 : decode cX1_walk 49 = .ok (.ireturn, 1) := dk_172 (dk_at dksX1_walk_2 3 rfl rfl)
abbrev cX1_walkFrom : ByteArray := prog_1_method_58_code
def yX1_walkFrom : MethodName := ⟨RX1, "walkFrom", "(I)I"⟩
def dkwX1_walkFrom_11 : List UInt8 := [167, 255, 39, 2, 172]
abbrev dktX1_walkFrom_11 : List UInt8 := dkwX1_walkFrom_11 ++ []
def dkwX1_walkFrom_10 : List UInt8 := [51, 153, 0, 9, 29, 27, 100, 4, 96, 172, 132, 5, 1, 167, 255, 217, 25, 4, 77, 132, 3, 1]
abbrev dktX1_walkFrom_10 : List UInt8 := dkwX1_walkFrom_10 ++ dktX1_walkFrom_11
def dkwX1_walkFrom_9 : List UInt8 := [42, 180, 0, 87, 162, 0, 36, 25, 4, 21, 5, 51, 153, 0, 22, 42, 180, 0, 12, 180, 0, 105, 21, 5]
abbrev dktX1_walkFrom_9 : List UInt8 := dkwX1_walkFrom_9 ++ dktX1_walkFrom_10
def dkwX1_walkFrom_8 : List UInt8 := [29, 46, 182, 0, 246, 4, 84, 132, 6, 1, 167, 255, 154, 132, 5, 1, 167, 255, 110, 3, 54, 5, 21, 5]
abbrev dktX1_walkFrom_8 : List UInt8 := dkwX1_walkFrom_8 ++ dktX1_walkFrom_9
def dkwX1_walkFrom_7 : List UInt8 := [180, 0, 105, 21, 7, 51, 153, 0, 9, 29, 27, 100, 4, 96, 172, 25, 4, 42, 21, 7, 42, 180, 0, 37]
abbrev dktX1_walkFrom_7 : List UInt8 := dkwX1_walkFrom_7 ++ dktX1_walkFrom_8
def dkwX1_walkFrom_6 : List UInt8 := [180, 0, 12, 180, 0, 112, 3, 46, 29, 96, 182, 1, 56, 154, 0, 6, 167, 0, 38, 42, 180, 0, 12]
abbrev dktX1_walkFrom_6 : List UInt8 := dkwX1_walkFrom_6 ++ dktX1_walkFrom_7
def dkwX1_walkFrom_5 : List UInt8 := [54, 7, 21, 7, 2, 159, 0, 72, 42, 42, 180, 0, 42, 29, 50, 21, 7, 42, 29, 182, 1, 7, 42]
abbrev dktX1_walkFrom_5 : List UInt8 := dkwX1_walkFrom_5 ++ dktX1_walkFrom_6
def dkwX1_walkFrom_4 : List UInt8 := [54, 6, 21, 6, 7, 162, 0, 102, 42, 21, 5, 21, 6, 184, 0, 169, 21, 6, 184, 0, 173, 182, 0, 165]
abbrev dktX1_walkFrom_4 : List UInt8 := dkwX1_walkFrom_4 ++ dktX1_walkFrom_5
def dkwX1_walkFrom_3 : List UInt8 := [154, 0, 6, 167, 0, 127, 25, 4, 42, 21, 5, 42, 180, 0, 37, 29, 46, 182, 0, 246, 4, 84, 3]
abbrev dktX1_walkFrom_3 : List UInt8 := dkwX1_walkFrom_3 ++ dktX1_walkFrom_4
def dkwX1_walkFrom_2 : List UInt8 := [16, 36, 188, 4, 58, 4, 3, 54, 5, 21, 5, 42, 180, 0, 87, 162, 0, 143, 44, 21, 5, 51]
abbrev dktX1_walkFrom_2 : List UInt8 := dkwX1_walkFrom_2 ++ dktX1_walkFrom_3
def dkwX1_walkFrom_1 : List UInt8 := [180, 0, 49, 27, 50, 3, 46, 51, 153, 0, 5, 3, 172, 27, 62, 29, 42, 180, 0, 254, 162, 0, 215]
abbrev dktX1_walkFrom_1 : List UInt8 := dkwX1_walkFrom_1 ++ dktX1_walkFrom_2
def dkwX1_walkFrom_0 : List UInt8 := [16, 36, 188, 4, 77, 44, 42, 180, 0, 49, 27, 50, 3, 46, 4, 84, 42, 180, 0, 12, 180, 0, 105, 42]
abbrev dktX1_walkFrom_0 : List UInt8 := dkwX1_walkFrom_0 ++ dktX1_walkFrom_1
theorem dksX1_walkFrom_0 : cX1_walkFrom.data.toList.drop 0 = dktX1_walkFrom_0 := by decide +kernel
theorem dksX1_walkFrom_1 : cX1_walkFrom.data.toList.drop 24 = dktX1_walkFrom_1 := dk_seg dksX1_walkFrom_0 24 rfl rfl
theorem dksX1_walkFrom_2 : cX1_walkFrom.data.toList.drop 47 = dktX1_walkFrom_2 := dk_seg dksX1_walkFrom_1 23 rfl rfl
theorem dksX1_walkFrom_3 : cX1_walkFrom.data.toList.drop 69 = dktX1_walkFrom_3 := dk_seg dksX1_walkFrom_2 22 rfl rfl
theorem dksX1_walkFrom_4 : cX1_walkFrom.data.toList.drop 92 = dktX1_walkFrom_4 := dk_seg dksX1_walkFrom_3 23 rfl rfl
theorem dksX1_walkFrom_5 : cX1_walkFrom.data.toList.drop 116 = dktX1_walkFrom_5 := dk_seg dksX1_walkFrom_4 24 rfl rfl
theorem dksX1_walkFrom_6 : cX1_walkFrom.data.toList.drop 139 = dktX1_walkFrom_6 := dk_seg dksX1_walkFrom_5 23 rfl rfl
theorem dksX1_walkFrom_7 : cX1_walkFrom.data.toList.drop 162 = dktX1_walkFrom_7 := dk_seg dksX1_walkFrom_6 23 rfl rfl
theorem dksX1_walkFrom_8 : cX1_walkFrom.data.toList.drop 186 = dktX1_walkFrom_8 := dk_seg dksX1_walkFrom_7 24 rfl rfl
theorem dksX1_walkFrom_9 : cX1_walkFrom.data.toList.drop 210 = dktX1_walkFrom_9 := dk_seg dksX1_walkFrom_8 24 rfl rfl
theorem dksX1_walkFrom_10 : cX1_walkFrom.data.toList.drop 234 = dktX1_walkFrom_10 := dk_seg dksX1_walkFrom_9 24 rfl rfl
theorem dksX1_walkFrom_11 : cX1_walkFrom.data.toList.drop 256 = dktX1_walkFrom_11 := dk_seg dksX1_walkFrom_10 22 rfl rfl
theorem dX1_walkFrom_0 : decode cX1_walkFrom 0 = .ok (.bipush 36, 2) := dk_16 36 (dk_at dksX1_walkFrom_0 0 rfl rfl)
theorem dX1_walkFrom_2 : decode cX1_walkFrom 2 = .ok (.newarray .boolean, 2) := dk_188_4 (dk_at dksX1_walkFrom_0 2 rfl rfl)
theorem dX1_walkFrom_4 : decode cX1_walkFrom 4 = .ok (.astore_n 2, 1) := dk_77 (dk_at dksX1_walkFrom_0 4 rfl rfl)
theorem dX1_walkFrom_5 : decode cX1_walkFrom 5 = .ok (.aload_n 2, 1) := dk_44 (dk_at dksX1_walkFrom_0 5 rfl rfl)
theorem dX1_walkFrom_6 : decode cX1_walkFrom 6 = .ok (.aload_n 0, 1) := dk_42 (dk_at dksX1_walkFrom_0 6 rfl rfl)
theorem dX1_walkFrom_7 : decode cX1_walkFrom 7 = .ok (.getfield 49, 3) := dk_180 0 49 (dk_at dksX1_walkFrom_0 7 rfl rfl)
theorem dX1_walkFrom_10 : decode cX1_walkFrom 10 = .ok (.iload_n 1, 1) := dk_27 (dk_at dksX1_walkFrom_0 10 rfl rfl)
theorem dX1_walkFrom_11 : decode cX1_walkFrom 11 = .ok (.aaload, 1) := dk_50 (dk_at dksX1_walkFrom_0 11 rfl rfl)
theorem dX1_walkFrom_12 : decode cX1_walkFrom 12 = .ok (.iconst 0, 1) := dk_3 (dk_at dksX1_walkFrom_0 12 rfl rfl)
theorem dX1_walkFrom_13 : decode cX1_walkFrom 13 = .ok (.iaload, 1) := dk_46 (dk_at dksX1_walkFrom_0 13 rfl rfl)
theorem dX1_walkFrom_14 : decode cX1_walkFrom 14 = .ok (.iconst 1, 1) := dk_4 (dk_at dksX1_walkFrom_0 14 rfl rfl)
theorem dX1_walkFrom_15 : decode cX1_walkFrom 15 = .ok (.bastore, 1) := dk_84 (dk_at dksX1_walkFrom_0 15 rfl rfl)
theorem dX1_walkFrom_16 : decode cX1_walkFrom 16 = .ok (.aload_n 0, 1) := dk_42 (dk_at dksX1_walkFrom_0 16 rfl rfl)
theorem dX1_walkFrom_17 : decode cX1_walkFrom 17 = .ok (.getfield 12, 3) := dk_180 0 12 (dk_at dksX1_walkFrom_0 17 rfl rfl)
theorem dX1_walkFrom_20 : decode cX1_walkFrom 20 = .ok (.getfield 105, 3) := dk_180 0 105 (dk_at dksX1_walkFrom_0 20 rfl rfl)
theorem dX1_walkFrom_23 : decode cX1_walkFrom 23 = .ok (.aload_n 0, 1) := dk_42 (dk_at dksX1_walkFrom_0 23 rfl rfl)
theorem dX1_walkFrom_24 : decode cX1_walkFrom 24 = .ok (.getfield 49, 3) := dk_180 0 49 (dk_at dksX1_walkFrom_1 0 rfl rfl)
theorem dX1_walkFrom_27 : decode cX1_walkFrom 27 = .ok (.iload_n 1, 1) := dk_27 (dk_at dksX1_walkFrom_1 3 rfl rfl)
theorem dX1_walkFrom_28 : decode cX1_walkFrom 28 = .ok (.aaload, 1) := dk_50 (dk_at dksX1_walkFrom_1 4 rfl rfl)
theorem dX1_walkFrom_29 : decode cX1_walkFrom 29 = .ok (.iconst 0, 1) := dk_3 (dk_at dksX1_walkFrom_1 5 rfl rfl)
theorem dX1_walkFrom_30 : decode cX1_walkFrom 30 = .ok (.iaload, 1) := dk_46 (dk_at dksX1_walkFrom_1 6 rfl rfl)
theorem dX1_walkFrom_31 : decode cX1_walkFrom 31 = .ok (.baload, 1) := dk_51 (dk_at dksX1_walkFrom_1 7 rfl rfl)
theorem dX1_walkFrom_32 : decode cX1_walkFrom 32 = .ok (.ifCond .eq 5, 3) := dk_153 0 5 (dk_at dksX1_walkFrom_1 8 rfl rfl)
theorem dX1_walkFrom_35 : decode cX1_walkFrom 35 = .ok (.iconst 0, 1) := dk_3 (dk_at dksX1_walkFrom_1 11 rfl rfl)
theorem dX1_walkFrom_36 : decode cX1_walkFrom 36 = .ok (.ireturn, 1) := dk_172 (dk_at dksX1_walkFrom_1 12 rfl rfl)
theorem dX1_walkFrom_37 : decode cX1_walkFrom 37 = .ok (.iload_n 1, 1) := dk_27 (dk_at dksX1_walkFrom_1 13 rfl rfl)
theorem dX1_walkFrom_38 : decode cX1_walkFrom 38 = .ok (.istore_n 3, 1) := dk_62 (dk_at dksX1_walkFrom_1 14 rfl rfl)
theorem dX1_walkFrom_39 : decode cX1_walkFrom 39 = .ok (.iload_n 3, 1) := dk_29 (dk_at dksX1_walkFrom_1 15 rfl rfl)
theorem dX1_walkFrom_40 : decode cX1_walkFrom 40 = .ok (.aload_n 0, 1) := dk_42 (dk_at dksX1_walkFrom_1 16 rfl rfl)
theorem dX1_walkFrom_41 : decode cX1_walkFrom 41 = .ok (.getfield 254, 3) := dk_180 0 254 (dk_at dksX1_walkFrom_1 17 rfl rfl)
theorem dX1_walkFrom_44 : decode cX1_walkFrom 44 = .ok (.if_icmp .ge 215, 3) := dk_162 0 215 (dk_at dksX1_walkFrom_1 20 rfl rfl)
theorem dX1_walkFrom_47 : decode cX1_walkFrom 47 = .ok (.bipush 36, 2) := dk_16 36 (dk_at dksX1_walkFrom_2 0 rfl rfl)
theorem dX1_walkFrom_49 : decode cX1_walkFrom 49 = .ok (.newarray .boolean, 2) := dk_188_4 (dk_at dksX1_walkFrom_2 2 rfl rfl)
theorem dX1_walkFrom_51 : decode cX1_walkFrom 51 = .ok (.astore 4, 2) := dk_58 4 (dk_at dksX1_walkFrom_2 4 rfl rfl)
theorem dX1_walkFrom_53 : decode cX1_walkFrom 53 = .ok (.iconst 0, 1) := dk_3 (dk_at dksX1_walkFrom_2 6 rfl rfl)
theorem dX1_walkFrom_54 : decode cX1_walkFrom 54 = .ok (.istore 5, 2) := dk_54 5 (dk_at dksX1_walkFrom_2 7 rfl rfl)
theorem dX1_walkFrom_56 : decode cX1_walkFrom 56 = .ok (.iload 5, 2) := dk_21 5 (dk_at dksX1_walkFrom_2 9 rfl rfl)
theorem dX1_walkFrom_58 : decode cX1_walkFrom 58 = .ok (.aload_n 0, 1) := dk_42 (dk_at dksX1_walkFrom_2 11 rfl rfl)
theorem dX1_walkFrom_59 : decode cX1_walkFrom 59 = .ok (.getfield 87, 3) := dk_180 0 87 (dk_at dksX1_walkFrom_2 12 rfl rfl)
theorem dX1_walkFrom_62 : decode cX1_walkFrom 62 = .ok (.if_icmp .ge 143, 3) := dk_162 0 143 (dk_at dksX1_walkFrom_2 15 rfl rfl)
theorem dX1_walkFrom_65 : decode cX1_walkFrom 65 = .ok (.aload_n 2, 1) := dk_44 (dk_at dksX1_walkFrom_2 18 rfl rfl)
theorem dX1_walkFrom_66 : decode cX1_walkFrom 66 = .ok (.iload 5, 2) := dk_21 5 (dk_at dksX1_walkFrom_2 19 rfl rfl)
theorem dX1_walkFrom_68 : decode cX1_walkFrom 68 = .ok (.baload, 1) := dk_51 (dk_at dksX1_walkFrom_2 21 rfl rfl)
theorem dX1_walkFrom_69 : decode cX1_walkFrom 69 = .ok (.ifCond .ne 6, 3) := dk_154 0 6 (dk_at dksX1_walkFrom_3 0 rfl rfl)
theorem dX1_walkFrom_72 : decode cX1_walkFrom 72 = .ok (.goto 127, 3) := dk_167 0 127 (dk_at dksX1_walkFrom_3 3 rfl rfl)
theorem dX1_walkFrom_75 : decode cX1_walkFrom 75 = .ok (.aload 4, 2) := dk_25 4 (dk_at dksX1_walkFrom_3 6 rfl rfl)
theorem dX1_walkFrom_77 : decode cX1_walkFrom 77 = .ok (.aload_n 0, 1) := dk_42 (dk_at dksX1_walkFrom_3 8 rfl rfl)
theorem dX1_walkFrom_78 : decode cX1_walkFrom 78 = .ok (.iload 5, 2) := dk_21 5 (dk_at dksX1_walkFrom_3 9 rfl rfl)
theorem dX1_walkFrom_80 : decode cX1_walkFrom 80 = .ok (.aload_n 0, 1) := dk_42 (dk_at dksX1_walkFrom_3 11 rfl rfl)
theorem dX1_walkFrom_81 : decode cX1_walkFrom 81 = .ok (.getfield 37, 3) := dk_180 0 37 (dk_at dksX1_walkFrom_3 12 rfl rfl)
theorem dX1_walkFrom_84 : decode cX1_walkFrom 84 = .ok (.iload_n 3, 1) := dk_29 (dk_at dksX1_walkFrom_3 15 rfl rfl)
theorem dX1_walkFrom_85 : decode cX1_walkFrom 85 = .ok (.iaload, 1) := dk_46 (dk_at dksX1_walkFrom_3 16 rfl rfl)
theorem dX1_walkFrom_86 : decode cX1_walkFrom 86 = .ok (.invokevirtual 246, 3) := dk_182 0 246 (dk_at dksX1_walkFrom_3 17 rfl rfl)
theorem dX1_walkFrom_89 : decode cX1_walkFrom 89 = .ok (.iconst 1, 1) := dk_4 (dk_at dksX1_walkFrom_3 20 rfl rfl)
theorem dX1_walkFrom_90 : decode cX1_walkFrom 90 = .ok (.bastore, 1) := dk_84 (dk_at dksX1_walkFrom_3 21 rfl rfl)
theorem dX1_walkFrom_91 : decode cX1_walkFrom 91 = .ok (.iconst 0, 1) := dk_3 (dk_at dksX1_walkFrom_3 22 rfl rfl)
theorem dX1_walkFrom_92 : decode cX1_walkFrom 92 = .ok (.istore 6, 2) := dk_54 6 (dk_at dksX1_walkFrom_4 0 rfl rfl)
theorem dX1_walkFrom_94 : decode cX1_walkFrom 94 = .ok (.iload 6, 2) := dk_21 6 (dk_at dksX1_walkFrom_4 2 rfl rfl)
theorem dX1_walkFrom_96 : decode cX1_walkFrom 96 = .ok (.iconst 4, 1) := dk_7 (dk_at dksX1_walkFrom_4 4 rfl rfl)
theorem dX1_walkFrom_97 : decode cX1_walkFrom 97 = .ok (.if_icmp .ge 102, 3) := dk_162 0 102 (dk_at dksX1_walkFrom_4 5 rfl rfl)
theorem dX1_walkFrom_100 : decode cX1_walkFrom 100 = .ok (.aload_n 0, 1) := dk_42 (dk_at dksX1_walkFrom_4 8 rfl rfl)
theorem dX1_walkFrom_101 : decode cX1_walkFrom 101 = .ok (.iload 5, 2) := dk_21 5 (dk_at dksX1_walkFrom_4 9 rfl rfl)
theorem dX1_walkFrom_103 : decode cX1_walkFrom 103 = .ok (.iload 6, 2) := dk_21 6 (dk_at dksX1_walkFrom_4 11 rfl rfl)
theorem dX1_walkFrom_105 : decode cX1_walkFrom 105 = .ok (.invokestatic 169, 3) := dk_184 0 169 (dk_at dksX1_walkFrom_4 13 rfl rfl)
theorem dX1_walkFrom_108 : decode cX1_walkFrom 108 = .ok (.iload 6, 2) := dk_21 6 (dk_at dksX1_walkFrom_4 16 rfl rfl)
theorem dX1_walkFrom_110 : decode cX1_walkFrom 110 = .ok (.invokestatic 173, 3) := dk_184 0 173 (dk_at dksX1_walkFrom_4 18 rfl rfl)
theorem dX1_walkFrom_113 : decode cX1_walkFrom 113 = .ok (.invokevirtual 165, 3) := dk_182 0 165 (dk_at dksX1_walkFrom_4 21 rfl rfl)
theorem dX1_walkFrom_116 : decode cX1_walkFrom 116 = .ok (.istore 7, 2) := dk_54 7 (dk_at dksX1_walkFrom_5 0 rfl rfl)
theorem dX1_walkFrom_118 : decode cX1_walkFrom 118 = .ok (.iload 7, 2) := dk_21 7 (dk_at dksX1_walkFrom_5 2 rfl rfl)
theorem dX1_walkFrom_120 : decode cX1_walkFrom 120 = .ok (.iconst (-1), 1) := dk_2 (dk_at dksX1_walkFrom_5 4 rfl rfl)
theorem dX1_walkFrom_121 : decode cX1_walkFrom 121 = .ok (.if_icmp .eq 72, 3) := dk_159 0 72 (dk_at dksX1_walkFrom_5 5 rfl rfl)
theorem dX1_walkFrom_124 : decode cX1_walkFrom 124 = .ok (.aload_n 0, 1) := dk_42 (dk_at dksX1_walkFrom_5 8 rfl rfl)
theorem dX1_walkFrom_125 : decode cX1_walkFrom 125 = .ok (.aload_n 0, 1) := dk_42 (dk_at dksX1_walkFrom_5 9 rfl rfl)
theorem dX1_walkFrom_126 : decode cX1_walkFrom 126 = .ok (.getfield 42, 3) := dk_180 0 42 (dk_at dksX1_walkFrom_5 10 rfl rfl)
theorem dX1_walkFrom_129 : decode cX1_walkFrom 129 = .ok (.iload_n 3, 1) := dk_29 (dk_at dksX1_walkFrom_5 13 rfl rfl)
theorem dX1_walkFrom_130 : decode cX1_walkFrom 130 = .ok (.aaload, 1) := dk_50 (dk_at dksX1_walkFrom_5 14 rfl rfl)
theorem dX1_walkFrom_131 : decode cX1_walkFrom 131 = .ok (.iload 7, 2) := dk_21 7 (dk_at dksX1_walkFrom_5 15 rfl rfl)
theorem dX1_walkFrom_133 : decode cX1_walkFrom 133 = .ok (.aload_n 0, 1) := dk_42 (dk_at dksX1_walkFrom_5 17 rfl rfl)
theorem dX1_walkFrom_134 : decode cX1_walkFrom 134 = .ok (.iload_n 3, 1) := dk_29 (dk_at dksX1_walkFrom_5 18 rfl rfl)
theorem dX1_walkFrom_135 : decode cX1_walkFrom 135 = .ok (.invokevirtual 263, 3) := dk_182 1 7 (dk_at dksX1_walkFrom_5 19 rfl rfl)
theorem dX1_walkFrom_138 : decode cX1_walkFrom 138 = .ok (.aload_n 0, 1) := dk_42 (dk_at dksX1_walkFrom_5 22 rfl rfl)
theorem dX1_walkFrom_139 : decode cX1_walkFrom 139 = .ok (.getfield 12, 3) := dk_180 0 12 (dk_at dksX1_walkFrom_6 0 rfl rfl)
theorem dX1_walkFrom_142 : decode cX1_walkFrom 142 = .ok (.getfield 112, 3) := dk_180 0 112 (dk_at dksX1_walkFrom_6 3 rfl rfl)
theorem dX1_walkFrom_145 : decode cX1_walkFrom 145 = .ok (.iconst 0, 1) := dk_3 (dk_at dksX1_walkFrom_6 6 rfl rfl)
theorem dX1_walkFrom_146 : decode cX1_walkFrom 146 = .ok (.iaload, 1) := dk_46 (dk_at dksX1_walkFrom_6 7 rfl rfl)
theorem dX1_walkFrom_147 : decode cX1_walkFrom 147 = .ok (.iload_n 3, 1) := dk_29 (dk_at dksX1_walkFrom_6 8 rfl rfl)
theorem dX1_walkFrom_148 : decode cX1_walkFrom 148 = .ok (.iadd, 1) := dk_96 (dk_at dksX1_walkFrom_6 9 rfl rfl)
theorem dX1_walkFrom_149 : decode cX1_walkFrom 149 = .ok (.invokevirtual 312, 3) := dk_182 1 56 (dk_at dksX1_walkFrom_6 10 rfl rfl)
theorem dX1_walkFrom_152 : decode cX1_walkFrom 152 = .ok (.ifCond .ne 6, 3) := dk_154 0 6 (dk_at dksX1_walkFrom_6 13 rfl rfl)
theorem dX1_walkFrom_155 : decode cX1_walkFrom 155 = .ok (.goto 38, 3) := dk_167 0 38 (dk_at dksX1_walkFrom_6 16 rfl rfl)
theorem dX1_walkFrom_158 : decode cX1_walkFrom 158 = .ok (.aload_n 0, 1) := dk_42 (dk_at dksX1_walkFrom_6 19 rfl rfl)
theorem dX1_walkFrom_159 : decode cX1_walkFrom 159 = .ok (.getfield 12, 3) := dk_180 0 12 (dk_at dksX1_walkFrom_6 20 rfl rfl)
theorem dX1_walkFrom_162 : decode cX1_walkFrom 162 = .ok (.getfield 105, 3) := dk_180 0 105 (dk_at dksX1_walkFrom_7 0 rfl rfl)
theorem dX1_walkFrom_165 : decode cX1_walkFrom 165 = .ok (.iload 7, 2) := dk_21 7 (dk_at dksX1_walkFrom_7 3 rfl rfl)
theorem dX1_walkFrom_167 : decode cX1_walkFrom 167 = .ok (.baload, 1) := dk_51 (dk_at dksX1_walkFrom_7 5 rfl rfl)
theorem dX1_walkFrom_168 : decode cX1_walkFrom 168 = .ok (.ifCond .eq 9, 3) := dk_153 0 9 (dk_at dksX1_walkFrom_7 6 rfl rfl)
theorem dX1_walkFrom_171 : decode cX1_walkFrom 171 = .ok (.iload_n 3, 1) := dk_29 (dk_at dksX1_walkFrom_7 9 rfl rfl)
theorem dX1_walkFrom_172 : decode cX1_walkFrom 172 = .ok (.iload_n 1, 1) := dk_27 (dk_at dksX1_walkFrom_7 10 rfl rfl)
theorem dX1_walkFrom_173 : decode cX1_walkFrom 173 = .ok (.isub, 1) := dk_100 (dk_at dksX1_walkFrom_7 11 rfl rfl)
theorem dX1_walkFrom_174 : decode cX1_walkFrom 174 = .ok (.iconst 1, 1) := dk_4 (dk_at dksX1_walkFrom_7 12 rfl rfl)
theorem dX1_walkFrom_175 : decode cX1_walkFrom 175 = .ok (.iadd, 1) := dk_96 (dk_at dksX1_walkFrom_7 13 rfl rfl)
theorem dX1_walkFrom_176 : decode cX1_walkFrom 176 = .ok (.ireturn, 1) := dk_172 (dk_at dksX1_walkFrom_7 14 rfl rfl)
theorem dX1_walkFrom_177 : decode cX1_walkFrom 177 = .ok (.aload 4, 2) := dk_25 4 (dk_at dksX1_walkFrom_7 15 rfl rfl)
theorem dX1_walkFrom_179 : decode cX1_walkFrom 179 = .ok (.aload_n 0, 1) := dk_42 (dk_at dksX1_walkFrom_7 17 rfl rfl)
theorem dX1_walkFrom_180 : decode cX1_walkFrom 180 = .ok (.iload 7, 2) := dk_21 7 (dk_at dksX1_walkFrom_7 18 rfl rfl)
theorem dX1_walkFrom_182 : decode cX1_walkFrom 182 = .ok (.aload_n 0, 1) := dk_42 (dk_at dksX1_walkFrom_7 20 rfl rfl)
theorem dX1_walkFrom_183 : decode cX1_walkFrom 183 = .ok (.getfield 37, 3) := dk_180 0 37 (dk_at dksX1_walkFrom_7 21 rfl rfl)
theorem dX1_walkFrom_186 : decode cX1_walkFrom 186 = .ok (.iload_n 3, 1) := dk_29 (dk_at dksX1_walkFrom_8 0 rfl rfl)
theorem dX1_walkFrom_187 : decode cX1_walkFrom 187 = .ok (.iaload, 1) := dk_46 (dk_at dksX1_walkFrom_8 1 rfl rfl)
theorem dX1_walkFrom_188 : decode cX1_walkFrom 188 = .ok (.invokevirtual 246, 3) := dk_182 0 246 (dk_at dksX1_walkFrom_8 2 rfl rfl)
theorem dX1_walkFrom_191 : decode cX1_walkFrom 191 = .ok (.iconst 1, 1) := dk_4 (dk_at dksX1_walkFrom_8 5 rfl rfl)
theorem dX1_walkFrom_192 : decode cX1_walkFrom 192 = .ok (.bastore, 1) := dk_84 (dk_at dksX1_walkFrom_8 6 rfl rfl)
theorem dX1_walkFrom_193 : decode cX1_walkFrom 193 = .ok (.iinc 6 1, 3) := dk_132 6 1 (dk_at dksX1_walkFrom_8 7 rfl rfl)
theorem dX1_walkFrom_196 : decode cX1_walkFrom 196 = .ok (.goto (-102), 3) := dk_167 255 154 (dk_at dksX1_walkFrom_8 10 rfl rfl)
theorem dX1_walkFrom_199 : decode cX1_walkFrom 199 = .ok (.iinc 5 1, 3) := dk_132 5 1 (dk_at dksX1_walkFrom_8 13 rfl rfl)
theorem dX1_walkFrom_202 : decode cX1_walkFrom 202 = .ok (.goto (-146), 3) := dk_167 255 110 (dk_at dksX1_walkFrom_8 16 rfl rfl)
theorem dX1_walkFrom_205 : decode cX1_walkFrom 205 = .ok (.iconst 0, 1) := dk_3 (dk_at dksX1_walkFrom_8 19 rfl rfl)
theorem dX1_walkFrom_206 : decode cX1_walkFrom 206 = .ok (.istore 5, 2) := dk_54 5 (dk_at dksX1_walkFrom_8 20 rfl rfl)
theorem dX1_walkFrom_208 : decode cX1_walkFrom 208 = .ok (.iload 5, 2) := dk_21 5 (dk_at dksX1_walkFrom_8 22 rfl rfl)
theorem dX1_walkFrom_210 : decode cX1_walkFrom 210 = .ok (.aload_n 0, 1) := dk_42 (dk_at dksX1_walkFrom_9 0 rfl rfl)
theorem dX1_walkFrom_211 : decode cX1_walkFrom 211 = .ok (.getfield 87, 3) := dk_180 0 87 (dk_at dksX1_walkFrom_9 1 rfl rfl)
theorem dX1_walkFrom_214 : decode cX1_walkFrom 214 = .ok (.if_icmp .ge 36, 3) := dk_162 0 36 (dk_at dksX1_walkFrom_9 4 rfl rfl)
theorem dX1_walkFrom_217 : decode cX1_walkFrom 217 = .ok (.aload 4, 2) := dk_25 4 (dk_at dksX1_walkFrom_9 7 rfl rfl)
theorem dX1_walkFrom_219 : decode cX1_walkFrom 219 = .ok (.iload 5, 2) := dk_21 5 (dk_at dksX1_walkFrom_9 9 rfl rfl)
theorem dX1_walkFrom_221 : decode cX1_walkFrom 221 = .ok (.baload, 1) := dk_51 (dk_at dksX1_walkFrom_9 11 rfl rfl)
theorem dX1_walkFrom_222 : decode cX1_walkFrom 222 = .ok (.ifCond .eq 22, 3) := dk_153 0 22 (dk_at dksX1_walkFrom_9 12 rfl rfl)
theorem dX1_walkFrom_225 : decode cX1_walkFrom 225 = .ok (.aload_n 0, 1) := dk_42 (dk_at dksX1_walkFrom_9 15 rfl rfl)
theorem dX1_walkFrom_226 : decode cX1_walkFrom 226 = .ok (.getfield 12, 3) := dk_180 0 12 (dk_at dksX1_walkFrom_9 16 rfl rfl)
theorem dX1_walkFrom_229 : decode cX1_walkFrom 229 = .ok (.getfield 105, 3) := dk_180 0 105 (dk_at dksX1_walkFrom_9 19 rfl rfl)
theorem dX1_walkFrom_232 : decode cX1_walkFrom 232 = .ok (.iload 5, 2) := dk_21 5 (dk_at dksX1_walkFrom_9 22 rfl rfl)
theorem dX1_walkFrom_234 : decode cX1_walkFrom 234 = .ok (.baload, 1) := dk_51 (dk_at dksX1_walkFrom_10 0 rfl rfl)
theorem dX1_walkFrom_235 : decode cX1_walkFrom 235 = .ok (.ifCond .eq 9, 3) := dk_153 0 9 (dk_at dksX1_walkFrom_10 1 rfl rfl)
theorem dX1_walkFrom_238 : decode cX1_walkFrom 238 = .ok (.iload_n 3, 1) := dk_29 (dk_at dksX1_walkFrom_10 4 rfl rfl)
theorem dX1_walkFrom_239 : decode cX1_walkFrom 239 = .ok (.iload_n 1, 1) := dk_27 (dk_at dksX1_walkFrom_10 5 rfl rfl)
theorem dX1_walkFrom_240 : decode cX1_walkFrom 240 = .ok (.isub, 1) := dk_100 (dk_at dksX1_walkFrom_10 6 rfl rfl)
theorem dX1_walkFrom_241 : decode cX1_walkFrom 241 = .ok (.iconst 1, 1) := dk_4 (dk_at dksX1_walkFrom_10 7 rfl rfl)
theorem dX1_walkFrom_242 : decode cX1_walkFrom 242 = .ok (.iadd, 1) := dk_96 (dk_at dksX1_walkFrom_10 8 rfl rfl)
theorem dX1_walkFrom_243 : decode cX1_walkFrom 243 = .ok (.ireturn, 1) := dk_172 (dk_at dksX1_walkFrom_10 9 rfl rfl)
theorem dX1_walkFrom_244 : decode cX1_walkFrom 244 = .ok (.iinc 5 1, 3) := dk_132 5 1 (dk_at dksX1_walkFrom_10 10 rfl rfl)
theorem dX1_walkFrom_247 : decode cX1_walkFrom 247 = .ok (.goto (-39), 3) := dk_167 255 217 (dk_at dksX1_walkFrom_10 13 rfl rfl)
theorem dX1_walkFrom_250 : decode cX1_walkFrom 250 = .ok (.aload 4, 2) := dk_25 4 (dk_at dksX1_walkFrom_10 16 rfl rfl)
theorem dX1_walkFrom_252 : decode cX1_walkFrom 252 = .ok (.astore_n 2, 1) := dk_77 (dk_at dksX1_walkFrom_10 18 rfl rfl)
theorem dX1_walkFrom_253 : decode cX1_walkFrom 253 = .ok (.iinc 3 1, 3) := dk_132 3 1 (dk_at dksX1_walkFrom_10 19 rfl rfl)
theorem dX1_walkFrom_256 : decode cX1_walkFrom 256 = .ok (.goto (-217), 3) := dk_167 255 39 (dk_at dksX1_walkFrom_11 0 rfl rfl)
theorem dX1_walkFrom_259 : decode cX1_walkFrom 259 = .ok (.iconst (-1), 1) := dk_2 (dk_at dksX1_walkFrom_11 3 rfl rfl)
theorem dX1_walkFrom_260 : decode cX1_walkFrom 260 = .ok (.ireturn, 1) := dk_172 (dk_at dksX1_walkFrom_11 4 rfl rfl)
abbrev cX1_walks : ByteArray := prog_1_method_30_code
def yX1_walks : MethodName := ⟨RX1, "walks", "([IIII)Z"⟩
def dkwX1_walks_2 : List UInt8 := [180, 0, 217, 42, 180, 0, 30, 184, 0, 194, 172]
abbrev dktX1_walks_2 : List UInt8 := dkwX1_walks_2 ++ []
def dkwX1_walks_1 : List UInt8 := [46, 16, 10, 161, 0, 7, 4, 167, 0, 4, 3, 172, 42, 43, 28, 29, 21, 4, 182, 0, 191, 25, 5]
abbrev dktX1_walks_1 : List UInt8 := dkwX1_walks_1 ++ dktX1_walks_2
def dkwX1_walks_0 : List UInt8 := [42, 182, 0, 176, 58, 5, 25, 5, 198, 0, 14, 25, 5, 180, 0, 217, 182, 0, 185, 153, 0, 17, 43, 28]
abbrev dktX1_walks_0 : List UInt8 := dkwX1_walks_0 ++ dktX1_walks_1
theorem dksX1_walks_0 : cX1_walks.data.toList.drop 0 = dktX1_walks_0 := by decide +kernel
theorem dksX1_walks_1 : cX1_walks.data.toList.drop 24 = dktX1_walks_1 := dk_seg dksX1_walks_0 24 rfl rfl
theorem dksX1_walks_2 : cX1_walks.data.toList.drop 47 = dktX1_walks_2 := dk_seg dksX1_walks_1 23 rfl rfl
theorem dX1_walks_0 : decode cX1_walks 0 = .ok (.aload_n 0, 1) := dk_42 (dk_at dksX1_walks_0 0 rfl rfl)
theorem dX1_walks_1 : decode cX1_walks 1 = .ok (.invokevirtual 176, 3) := dk_182 0 176 (dk_at dksX1_walks_0 1 rfl rfl)
theorem dX1_walks_4 : decode cX1_walks 4 = .ok (.astore 5, 2) := dk_58 5 (dk_at dksX1_walks_0 4 rfl rfl)
theorem dX1_walks_6 : decode cX1_walks 6 = .ok (.aload 5, 2) := dk_25 5 (dk_at dksX1_walks_0 6 rfl rfl)
theorem dX1_walks_8 : decode cX1_walks 8 = .ok (.ifnull 14, 3) := dk_198 0 14 (dk_at dksX1_walks_0 8 rfl rfl)
theorem dX1_walks_11 : decode cX1_walks 11 = .ok (.aload 5, 2) := dk_25 5 (dk_at dksX1_walks_0 11 rfl rfl)
theorem dX1_walks_13 : decode cX1_walks 13 = .ok (.getfield 217, 3) := dk_180 0 217 (dk_at dksX1_walks_0 13 rfl rfl)
theorem dX1_walks_16 : decode cX1_walks 16 = .ok (.invokevirtual 185, 3) := dk_182 0 185 (dk_at dksX1_walks_0 16 rfl rfl)
theorem dX1_walks_19 : decode cX1_walks 19 = .ok (.ifCond .eq 17, 3) := dk_153 0 17 (dk_at dksX1_walks_0 19 rfl rfl)
theorem dX1_walks_22 : decode cX1_walks 22 = .ok (.aload_n 1, 1) := dk_43 (dk_at dksX1_walks_0 22 rfl rfl)
theorem dX1_walks_23 : decode cX1_walks 23 = .ok (.iload_n 2, 1) := dk_28 (dk_at dksX1_walks_0 23 rfl rfl)
theorem dX1_walks_24 : decode cX1_walks 24 = .ok (.iaload, 1) := dk_46 (dk_at dksX1_walks_1 0 rfl rfl)
theorem dX1_walks_25 : decode cX1_walks 25 = .ok (.bipush 10, 2) := dk_16 10 (dk_at dksX1_walks_1 1 rfl rfl)
theorem dX1_walks_27 : decode cX1_walks 27 = .ok (.if_icmp .lt 7, 3) := dk_161 0 7 (dk_at dksX1_walks_1 3 rfl rfl)
theorem dX1_walks_30 : decode cX1_walks 30 = .ok (.iconst 1, 1) := dk_4 (dk_at dksX1_walks_1 6 rfl rfl)
theorem dX1_walks_31 : decode cX1_walks 31 = .ok (.goto 4, 3) := dk_167 0 4 (dk_at dksX1_walks_1 7 rfl rfl)
theorem dX1_walks_34 : decode cX1_walks 34 = .ok (.iconst 0, 1) := dk_3 (dk_at dksX1_walks_1 10 rfl rfl)
theorem dX1_walks_35 : decode cX1_walks 35 = .ok (.ireturn, 1) := dk_172 (dk_at dksX1_walks_1 11 rfl rfl)
theorem dX1_walks_36 : decode cX1_walks 36 = .ok (.aload_n 0, 1) := dk_42 (dk_at dksX1_walks_1 12 rfl rfl)
theorem dX1_walks_37 : decode cX1_walks 37 = .ok (.aload_n 1, 1) := dk_43 (dk_at dksX1_walks_1 13 rfl rfl)
theorem dX1_walks_38 : decode cX1_walks 38 = .ok (.iload_n 2, 1) := dk_28 (dk_at dksX1_walks_1 14 rfl rfl)
theorem dX1_walks_39 : decode cX1_walks 39 = .ok (.iload_n 3, 1) := dk_29 (dk_at dksX1_walks_1 15 rfl rfl)
theorem dX1_walks_40 : decode cX1_walks 40 = .ok (.iload 4, 2) := dk_21 4 (dk_at dksX1_walks_1 16 rfl rfl)
theorem dX1_walks_42 : decode cX1_walks 42 = .ok (.invokevirtual 191, 3) := dk_182 0 191 (dk_at dksX1_walks_1 18 rfl rfl)
theorem dX1_walks_45 : decode cX1_walks 45 = .ok (.aload 5, 2) := dk_25 5 (dk_at dksX1_walks_1 21 rfl rfl)
theorem dX1_walks_47 : decode cX1_walks 47 = .ok (.getfield 217, 3) := dk_180 0 217 (dk_at dksX1_walks_2 0 rfl rfl)
theorem dX1_walks_50 : decode cX1_walks 50 = .ok (.aload_n 0, 1) := dk_42 (dk_at dksX1_walks_2 3 rfl rfl)
theorem dX1_walks_51 : decode cX1_walks 51 = .ok (.getfield 30, 3) := dk_180 0 30 (dk_at dksX1_walks_2 4 rfl rfl)
theorem dX1_walks_54 : decode cX1_walks 54 = .ok (.invokestatic 194, 3) := dk_184 0 194 (dk_at dksX1_walks_2 7 rfl rfl)
theorem dX1_walks_57 : decode cX1_walks 57 = .ok (.ireturn, 1) := dk_172 (dk_at dksX1_walks_2 10 rfl rfl)
abbrev cX1_leave : ByteArray := prog_1_method_60_code
def yX1_leave : MethodName := ⟨RX1, "leave", "()I"⟩
def dkwX1_leave_1 : List UInt8 := [42, 27, 182, 1, 59, 2, 159, 0, 5, 27, 172, 132, 1, 255, 167, 255, 238, 2, 172]
abbrev dktX1_leave_1 : List UInt8 := dkwX1_leave_1 ++ []
def dkwX1_leave_0 : List UInt8 := [42, 182, 1, 31, 6, 46, 153, 0, 5, 2, 172, 42, 182, 1, 49, 42, 180, 1, 46, 60, 27, 155, 0, 20]
abbrev dktX1_leave_0 : List UInt8 := dkwX1_leave_0 ++ dktX1_leave_1
theorem dksX1_leave_0 : cX1_leave.data.toList.drop 0 = dktX1_leave_0 := by decide +kernel
theorem dksX1_leave_1 : cX1_leave.data.toList.drop 24 = dktX1_leave_1 := dk_seg dksX1_leave_0 24 rfl rfl
theorem dX1_leave_0 : decode cX1_leave 0 = .ok (.aload_n 0, 1) := dk_42 (dk_at dksX1_leave_0 0 rfl rfl)
theorem dX1_leave_1 : decode cX1_leave 1 = .ok (.invokevirtual 287, 3) := dk_182 1 31 (dk_at dksX1_leave_0 1 rfl rfl)
theorem dX1_leave_4 : decode cX1_leave 4 = .ok (.iconst 3, 1) := dk_6 (dk_at dksX1_leave_0 4 rfl rfl)
theorem dX1_leave_5 : decode cX1_leave 5 = .ok (.iaload, 1) := dk_46 (dk_at dksX1_leave_0 5 rfl rfl)
theorem dX1_leave_6 : decode cX1_leave 6 = .ok (.ifCond .eq 5, 3) := dk_153 0 5 (dk_at dksX1_leave_0 6 rfl rfl)
theorem dX1_leave_9 : decode cX1_leave 9 = .ok (.iconst (-1), 1) := dk_2 (dk_at dksX1_leave_0 9 rfl rfl)
theorem dX1_leave_10 : decode cX1_leave 10 = .ok (.ireturn, 1) := dk_172 (dk_at dksX1_leave_0 10 rfl rfl)
theorem dX1_leave_11 : decode cX1_leave 11 = .ok (.aload_n 0, 1) := dk_42 (dk_at dksX1_leave_0 11 rfl rfl)
theorem dX1_leave_12 : decode cX1_leave 12 = .ok (.invokevirtual 305, 3) := dk_182 1 49 (dk_at dksX1_leave_0 12 rfl rfl)
theorem dX1_leave_15 : decode cX1_leave 15 = .ok (.aload_n 0, 1) := dk_42 (dk_at dksX1_leave_0 15 rfl rfl)
theorem dX1_leave_16 : decode cX1_leave 16 = .ok (.getfield 302, 3) := dk_180 1 46 (dk_at dksX1_leave_0 16 rfl rfl)
theorem dX1_leave_19 : decode cX1_leave 19 = .ok (.istore_n 1, 1) := dk_60 (dk_at dksX1_leave_0 19 rfl rfl)
theorem dX1_leave_20 : decode cX1_leave 20 = .ok (.iload_n 1, 1) := dk_27 (dk_at dksX1_leave_0 20 rfl rfl)
theorem dX1_leave_21 : decode cX1_leave 21 = .ok (.ifCond .lt 20, 3) := dk_155 0 20 (dk_at dksX1_leave_0 21 rfl rfl)
theorem dX1_leave_24 : decode cX1_leave 24 = .ok (.aload_n 0, 1) := dk_42 (dk_at dksX1_leave_1 0 rfl rfl)
theorem dX1_leave_25 : decode cX1_leave 25 = .ok (.iload_n 1, 1) := dk_27 (dk_at dksX1_leave_1 1 rfl rfl)
theorem dX1_leave_26 : decode cX1_leave 26 = .ok (.invokevirtual 315, 3) := dk_182 1 59 (dk_at dksX1_leave_1 2 rfl rfl)
theorem dX1_leave_29 : decode cX1_leave 29 = .ok (.iconst (-1), 1) := dk_2 (dk_at dksX1_leave_1 5 rfl rfl)
theorem dX1_leave_30 : decode cX1_leave 30 = .ok (.if_icmp .eq 5, 3) := dk_159 0 5 (dk_at dksX1_leave_1 6 rfl rfl)
theorem dX1_leave_33 : decode cX1_leave 33 = .ok (.iload_n 1, 1) := dk_27 (dk_at dksX1_leave_1 9 rfl rfl)
theorem dX1_leave_34 : decode cX1_leave 34 = .ok (.ireturn, 1) := dk_172 (dk_at dksX1_leave_1 10 rfl rfl)
theorem dX1_leave_35 : decode cX1_leave 35 = .ok (.iinc 1 (-1), 3) := dk_132 1 255 (dk_at dksX1_leave_1 11 rfl rfl)
theorem dX1_leave_38 : decode cX1_leave 38 = .ok (.goto (-18), 3) := dk_167 255 238 (dk_at dksX1_leave_1 14 rfl rfl)
theorem dX1_leave_41 : decode cX1_leave 41 = .ok (.iconst (-1), 1) := dk_2 (dk_at dksX1_leave_1 17 rfl rfl)
theorem dX1_leave_42 : decode cX1_leave 42 = .ok (.ireturn, 1) := dk_172 (dk_at dksX1_leave_1 18 rfl rfl)
abbrev cX1_winter : ByteArray := prog_1_method_62_code
def yX1_winter : MethodName := ⟨RX1, "winter", "(I)I"⟩
def dkwX1_winter_3 : List UInt8 := [167, 255, 230, 27, 154, 0, 7, 28, 167, 0, 8, 42, 28, 182, 1, 62, 172]
abbrev dktX1_winter_3 : List UInt8 := dkwX1_winter_3 ++ []
def dkwX1_winter_2 : List UInt8 := [180, 0, 87, 162, 0, 24, 42, 29, 182, 1, 62, 42, 28, 182, 1, 62, 162, 0, 5, 29, 61, 132, 3, 1]
abbrev dktX1_winter_2 : List UInt8 := dkwX1_winter_2 ++ dktX1_winter_3
def dkwX1_winter_1 : List UInt8 := [182, 1, 34, 27, 4, 164, 0, 12, 42, 27, 16, 10, 100, 182, 1, 62, 172, 3, 61, 4, 62, 29, 42]
abbrev dktX1_winter_1 : List UInt8 := dkwX1_winter_1 ++ dktX1_winter_2
def dkwX1_winter_0 : List UInt8 := [27, 3, 4, 184, 0, 94, 154, 0, 16, 42, 27, 16, 10, 100, 182, 0, 98, 154, 0, 5, 2, 172, 42]
abbrev dktX1_winter_0 : List UInt8 := dkwX1_winter_0 ++ dktX1_winter_1
theorem dksX1_winter_0 : cX1_winter.data.toList.drop 0 = dktX1_winter_0 := by decide +kernel
theorem dksX1_winter_1 : cX1_winter.data.toList.drop 23 = dktX1_winter_1 := dk_seg dksX1_winter_0 23 rfl rfl
theorem dksX1_winter_2 : cX1_winter.data.toList.drop 46 = dktX1_winter_2 := dk_seg dksX1_winter_1 23 rfl rfl
theorem dksX1_winter_3 : cX1_winter.data.toList.drop 70 = dktX1_winter_3 := dk_seg dksX1_winter_2 24 rfl rfl
theorem dX1_winter_0 : decode cX1_winter 0 = .ok (.iload_n 1, 1) := dk_27 (dk_at dksX1_winter_0 0 rfl rfl)
theorem dX1_winter_1 : decode cX1_winter 1 = .ok (.iconst 0, 1) := dk_3 (dk_at dksX1_winter_0 1 rfl rfl)
theorem dX1_winter_2 : decode cX1_winter 2 = .ok (.iconst 1, 1) := dk_4 (dk_at dksX1_winter_0 2 rfl rfl)
theorem dX1_winter_3 : decode cX1_winter 3 = .ok (.invokestatic 94, 3) := dk_184 0 94 (dk_at dksX1_winter_0 3 rfl rfl)
theorem dX1_winter_6 : decode cX1_winter 6 = .ok (.ifCond .ne 16, 3) := dk_154 0 16 (dk_at dksX1_winter_0 6 rfl rfl)
theorem dX1_winter_9 : decode cX1_winter 9 = .ok (.aload_n 0, 1) := dk_42 (dk_at dksX1_winter_0 9 rfl rfl)
theorem dX1_winter_10 : decode cX1_winter 10 = .ok (.iload_n 1, 1) := dk_27 (dk_at dksX1_winter_0 10 rfl rfl)
theorem dX1_winter_11 : decode cX1_winter 11 = .ok (.bipush 10, 2) := dk_16 10 (dk_at dksX1_winter_0 11 rfl rfl)
theorem dX1_winter_13 : decode cX1_winter 13 = .ok (.isub, 1) := dk_100 (dk_at dksX1_winter_0 13 rfl rfl)
theorem dX1_winter_14 : decode cX1_winter 14 = .ok (.invokevirtual 98, 3) := dk_182 0 98 (dk_at dksX1_winter_0 14 rfl rfl)
theorem dX1_winter_17 : decode cX1_winter 17 = .ok (.ifCond .ne 5, 3) := dk_154 0 5 (dk_at dksX1_winter_0 17 rfl rfl)
theorem dX1_winter_20 : decode cX1_winter 20 = .ok (.iconst (-1), 1) := dk_2 (dk_at dksX1_winter_0 20 rfl rfl)
theorem dX1_winter_21 : decode cX1_winter 21 = .ok (.ireturn, 1) := dk_172 (dk_at dksX1_winter_0 21 rfl rfl)
theorem dX1_winter_22 : decode cX1_winter 22 = .ok (.aload_n 0, 1) := dk_42 (dk_at dksX1_winter_0 22 rfl rfl)
theorem dX1_winter_23 : decode cX1_winter 23 = .ok (.invokevirtual 290, 3) := dk_182 1 34 (dk_at dksX1_winter_1 0 rfl rfl)
theorem dX1_winter_26 : decode cX1_winter 26 = .ok (.iload_n 1, 1) := dk_27 (dk_at dksX1_winter_1 3 rfl rfl)
theorem dX1_winter_27 : decode cX1_winter 27 = .ok (.iconst 1, 1) := dk_4 (dk_at dksX1_winter_1 4 rfl rfl)
theorem dX1_winter_28 : decode cX1_winter 28 = .ok (.if_icmp .le 12, 3) := dk_164 0 12 (dk_at dksX1_winter_1 5 rfl rfl)
theorem dX1_winter_31 : decode cX1_winter 31 = .ok (.aload_n 0, 1) := dk_42 (dk_at dksX1_winter_1 8 rfl rfl)
theorem dX1_winter_32 : decode cX1_winter 32 = .ok (.iload_n 1, 1) := dk_27 (dk_at dksX1_winter_1 9 rfl rfl)
theorem dX1_winter_33 : decode cX1_winter 33 = .ok (.bipush 10, 2) := dk_16 10 (dk_at dksX1_winter_1 10 rfl rfl)
theorem dX1_winter_35 : decode cX1_winter 35 = .ok (.isub, 1) := dk_100 (dk_at dksX1_winter_1 12 rfl rfl)
theorem dX1_winter_36 : decode cX1_winter 36 = .ok (.invokevirtual 318, 3) := dk_182 1 62 (dk_at dksX1_winter_1 13 rfl rfl)
theorem dX1_winter_39 : decode cX1_winter 39 = .ok (.ireturn, 1) := dk_172 (dk_at dksX1_winter_1 16 rfl rfl)
theorem dX1_winter_40 : decode cX1_winter 40 = .ok (.iconst 0, 1) := dk_3 (dk_at dksX1_winter_1 17 rfl rfl)
theorem dX1_winter_41 : decode cX1_winter 41 = .ok (.istore_n 2, 1) := dk_61 (dk_at dksX1_winter_1 18 rfl rfl)
theorem dX1_winter_42 : decode cX1_winter 42 = .ok (.iconst 1, 1) := dk_4 (dk_at dksX1_winter_1 19 rfl rfl)
theorem dX1_winter_43 : decode cX1_winter 43 = .ok (.istore_n 3, 1) := dk_62 (dk_at dksX1_winter_1 20 rfl rfl)
theorem dX1_winter_44 : decode cX1_winter 44 = .ok (.iload_n 3, 1) := dk_29 (dk_at dksX1_winter_1 21 rfl rfl)
theorem dX1_winter_45 : decode cX1_winter 45 = .ok (.aload_n 0, 1) := dk_42 (dk_at dksX1_winter_1 22 rfl rfl)
theorem dX1_winter_46 : decode cX1_winter 46 = .ok (.getfield 87, 3) := dk_180 0 87 (dk_at dksX1_winter_2 0 rfl rfl)
theorem dX1_winter_49 : decode cX1_winter 49 = .ok (.if_icmp .ge 24, 3) := dk_162 0 24 (dk_at dksX1_winter_2 3 rfl rfl)
theorem dX1_winter_52 : decode cX1_winter 52 = .ok (.aload_n 0, 1) := dk_42 (dk_at dksX1_winter_2 6 rfl rfl)
theorem dX1_winter_53 : decode cX1_winter 53 = .ok (.iload_n 3, 1) := dk_29 (dk_at dksX1_winter_2 7 rfl rfl)
theorem dX1_winter_54 : decode cX1_winter 54 = .ok (.invokevirtual 318, 3) := dk_182 1 62 (dk_at dksX1_winter_2 8 rfl rfl)
theorem dX1_winter_57 : decode cX1_winter 57 = .ok (.aload_n 0, 1) := dk_42 (dk_at dksX1_winter_2 11 rfl rfl)
theorem dX1_winter_58 : decode cX1_winter 58 = .ok (.iload_n 2, 1) := dk_28 (dk_at dksX1_winter_2 12 rfl rfl)
theorem dX1_winter_59 : decode cX1_winter 59 = .ok (.invokevirtual 318, 3) := dk_182 1 62 (dk_at dksX1_winter_2 13 rfl rfl)
theorem dX1_winter_62 : decode cX1_winter 62 = .ok (.if_icmp .ge 5, 3) := dk_162 0 5 (dk_at dksX1_winter_2 16 rfl rfl)
theorem dX1_winter_65 : decode cX1_winter 65 = .ok (.iload_n 3, 1) := dk_29 (dk_at dksX1_winter_2 19 rfl rfl)
theorem dX1_winter_66 : decode cX1_winter 66 = .ok (.istore_n 2, 1) := dk_61 (dk_at dksX1_winter_2 20 rfl rfl)
theorem dX1_winter_67 : decode cX1_winter 67 = .ok (.iinc 3 1, 3) := dk_132 3 1 (dk_at dksX1_winter_2 21 rfl rfl)
theorem dX1_winter_70 : decode cX1_winter 70 = .ok (.goto (-26), 3) := dk_167 255 230 (dk_at dksX1_winter_3 0 rfl rfl)
theorem dX1_winter_73 : decode cX1_winter 73 = .ok (.iload_n 1, 1) := dk_27 (dk_at dksX1_winter_3 3 rfl rfl)
theorem dX1_winter_74 : decode cX1_winter 74 = .ok (.ifCond .ne 7, 3) := dk_154 0 7 (dk_at dksX1_winter_3 4 rfl rfl)
theorem dX1_winter_77 : decode cX1_winter 77 = .ok (.iload_n 2, 1) := dk_28 (dk_at dksX1_winter_3 7 rfl rfl)
theorem dX1_winter_78 : decode cX1_winter 78 = .ok (.goto 8, 3) := dk_167 0 8 (dk_at dksX1_winter_3 8 rfl rfl)
theorem dX1_winter_81 : decode cX1_winter 81 = .ok (.aload_n 0, 1) := dk_42 (dk_at dksX1_winter_3 11 rfl rfl)
theorem dX1_winter_82 : decode cX1_winter 82 = .ok (.iload_n 2, 1) := dk_28 (dk_at dksX1_winter_3 12 rfl rfl)
theorem dX1_winter_83 : decode cX1_winter 83 = .ok (.invokevirtual 318, 3) := dk_182 1 62 (dk_at dksX1_winter_3 13 rfl rfl)
theorem dX1_winter_86 : decode cX1_winter 86 = .ok (.ireturn, 1) := dk_172 (dk_at dksX1_winter_3 16 rfl rfl)
abbrev cX1_nipsFrom : ByteArray := prog_1_method_61_code
def yX1_nipsFrom : MethodName := ⟨RX1, "nipsFrom", "(I)I"⟩
def dkwX1_nipsFrom_2 : List UInt8 := [132, 4, 1, 167, 255, 213, 28, 172]
abbrev dktX1_nipsFrom_2 : List UInt8 := dkwX1_nipsFrom_2 ++ []
def dkwX1_nipsFrom_1 : List UInt8 := [46, 182, 0, 246, 62, 28, 42, 21, 4, 29, 182, 1, 21, 153, 0, 7, 4, 167, 0, 4, 3, 96, 61]
abbrev dktX1_nipsFrom_1 : List UInt8 := dkwX1_nipsFrom_1 ++ dktX1_nipsFrom_2
def dkwX1_nipsFrom_0 : List UInt8 := [3, 61, 27, 62, 3, 54, 4, 21, 4, 42, 180, 0, 254, 162, 0, 40, 42, 29, 42, 180, 0, 37, 21, 4]
abbrev dktX1_nipsFrom_0 : List UInt8 := dkwX1_nipsFrom_0 ++ dktX1_nipsFrom_1
theorem dksX1_nipsFrom_0 : cX1_nipsFrom.data.toList.drop 0 = dktX1_nipsFrom_0 := by decide +kernel
theorem dksX1_nipsFrom_1 : cX1_nipsFrom.data.toList.drop 24 = dktX1_nipsFrom_1 := dk_seg dksX1_nipsFrom_0 24 rfl rfl
theorem dksX1_nipsFrom_2 : cX1_nipsFrom.data.toList.drop 47 = dktX1_nipsFrom_2 := dk_seg dksX1_nipsFrom_1 23 rfl rfl
theorem dX1_nipsFrom_0 : decode cX1_nipsFrom 0 = .ok (.iconst 0, 1) := dk_3 (dk_at dksX1_nipsFrom_0 0 rfl rfl)
theorem dX1_nipsFrom_1 : decode cX1_nipsFrom 1 = .ok (.istore_n 2, 1) := dk_61 (dk_at dksX1_nipsFrom_0 1 rfl rfl)
theorem dX1_nipsFrom_2 : decode cX1_nipsFrom 2 = .ok (.iload_n 1, 1) := dk_27 (dk_at dksX1_nipsFrom_0 2 rfl rfl)
theorem dX1_nipsFrom_3 : decode cX1_nipsFrom 3 = .ok (.istore_n 3, 1) := dk_62 (dk_at dksX1_nipsFrom_0 3 rfl rfl)
theorem dX1_nipsFrom_4 : decode cX1_nipsFrom 4 = .ok (.iconst 0, 1) := dk_3 (dk_at dksX1_nipsFrom_0 4 rfl rfl)
theorem dX1_nipsFrom_5 : decode cX1_nipsFrom 5 = .ok (.istore 4, 2) := dk_54 4 (dk_at dksX1_nipsFrom_0 5 rfl rfl)
theorem dX1_nipsFrom_7 : decode cX1_nipsFrom 7 = .ok (.iload 4, 2) := dk_21 4 (dk_at dksX1_nipsFrom_0 7 rfl rfl)
theorem dX1_nipsFrom_9 : decode cX1_nipsFrom 9 = .ok (.aload_n 0, 1) := dk_42 (dk_at dksX1_nipsFrom_0 9 rfl rfl)
theorem dX1_nipsFrom_10 : decode cX1_nipsFrom 10 = .ok (.getfield 254, 3) := dk_180 0 254 (dk_at dksX1_nipsFrom_0 10 rfl rfl)
theorem dX1_nipsFrom_13 : decode cX1_nipsFrom 13 = .ok (.if_icmp .ge 40, 3) := dk_162 0 40 (dk_at dksX1_nipsFrom_0 13 rfl rfl)
theorem dX1_nipsFrom_16 : decode cX1_nipsFrom 16 = .ok (.aload_n 0, 1) := dk_42 (dk_at dksX1_nipsFrom_0 16 rfl rfl)
theorem dX1_nipsFrom_17 : decode cX1_nipsFrom 17 = .ok (.iload_n 3, 1) := dk_29 (dk_at dksX1_nipsFrom_0 17 rfl rfl)
theorem dX1_nipsFrom_18 : decode cX1_nipsFrom 18 = .ok (.aload_n 0, 1) := dk_42 (dk_at dksX1_nipsFrom_0 18 rfl rfl)
theorem dX1_nipsFrom_19 : decode cX1_nipsFrom 19 = .ok (.getfield 37, 3) := dk_180 0 37 (dk_at dksX1_nipsFrom_0 19 rfl rfl)
theorem dX1_nipsFrom_22 : decode cX1_nipsFrom 22 = .ok (.iload 4, 2) := dk_21 4 (dk_at dksX1_nipsFrom_0 22 rfl rfl)
theorem dX1_nipsFrom_24 : decode cX1_nipsFrom 24 = .ok (.iaload, 1) := dk_46 (dk_at dksX1_nipsFrom_1 0 rfl rfl)
theorem dX1_nipsFrom_25 : decode cX1_nipsFrom 25 = .ok (.invokevirtual 246, 3) := dk_182 0 246 (dk_at dksX1_nipsFrom_1 1 rfl rfl)
theorem dX1_nipsFrom_28 : decode cX1_nipsFrom 28 = .ok (.istore_n 3, 1) := dk_62 (dk_at dksX1_nipsFrom_1 4 rfl rfl)
theorem dX1_nipsFrom_29 : decode cX1_nipsFrom 29 = .ok (.iload_n 2, 1) := dk_28 (dk_at dksX1_nipsFrom_1 5 rfl rfl)
theorem dX1_nipsFrom_30 : decode cX1_nipsFrom 30 = .ok (.aload_n 0, 1) := dk_42 (dk_at dksX1_nipsFrom_1 6 rfl rfl)
theorem dX1_nipsFrom_31 : decode cX1_nipsFrom 31 = .ok (.iload 4, 2) := dk_21 4 (dk_at dksX1_nipsFrom_1 7 rfl rfl)
theorem dX1_nipsFrom_33 : decode cX1_nipsFrom 33 = .ok (.iload_n 3, 1) := dk_29 (dk_at dksX1_nipsFrom_1 9 rfl rfl)
theorem dX1_nipsFrom_34 : decode cX1_nipsFrom 34 = .ok (.invokevirtual 277, 3) := dk_182 1 21 (dk_at dksX1_nipsFrom_1 10 rfl rfl)
theorem dX1_nipsFrom_37 : decode cX1_nipsFrom 37 = .ok (.ifCond .eq 7, 3) := dk_153 0 7 (dk_at dksX1_nipsFrom_1 13 rfl rfl)
theorem dX1_nipsFrom_40 : decode cX1_nipsFrom 40 = .ok (.iconst 1, 1) := dk_4 (dk_at dksX1_nipsFrom_1 16 rfl rfl)
theorem dX1_nipsFrom_41 : decode cX1_nipsFrom 41 = .ok (.goto 4, 3) := dk_167 0 4 (dk_at dksX1_nipsFrom_1 17 rfl rfl)
theorem dX1_nipsFrom_44 : decode cX1_nipsFrom 44 = .ok (.iconst 0, 1) := dk_3 (dk_at dksX1_nipsFrom_1 20 rfl rfl)
theorem dX1_nipsFrom_45 : decode cX1_nipsFrom 45 = .ok (.iadd, 1) := dk_96 (dk_at dksX1_nipsFrom_1 21 rfl rfl)
theorem dX1_nipsFrom_46 : decode cX1_nipsFrom 46 = .ok (.istore_n 2, 1) := dk_61 (dk_at dksX1_nipsFrom_1 22 rfl rfl)
theorem dX1_nipsFrom_47 : decode cX1_nipsFrom 47 = .ok (.iinc 4 1, 3) := dk_132 4 1 (dk_at dksX1_nipsFrom_2 0 rfl rfl)
theorem dX1_nipsFrom_50 : decode cX1_nipsFrom 50 = .ok (.goto (-43), 3) := dk_167 255 213 (dk_at dksX1_nipsFrom_2 3 rfl rfl)
theorem dX1_nipsFrom_53 : decode cX1_nipsFrom 53 = .ok (.iload_n 2, 1) := dk_28 (dk_at dksX1_nipsFrom_2 6 rfl rfl)
theorem dX1_nipsFrom_54 : decode cX1_nipsFrom 54 = .ok (.ireturn, 1) := dk_172 (dk_at dksX1_nipsFrom_2 7 rfl rfl)
abbrev cX1_surest : ByteArray := prog_1_method_66_code
def yX1_surest : MethodName := ⟨RX1, "surest", "(II)I"⟩
def dkwX1_surest_6 : List UInt8 := [45, 5, 46, 21, 5, 182, 1, 65, 21, 4, 159, 0, 9, 132, 5, 1, 167, 255, 215, 21, 5, 172]
abbrev dktX1_surest_6 : List UInt8 := dkwX1_surest_6 ++ []
def dkwX1_surest_5 : List UInt8 := [3, 27, 42, 180, 0, 12, 180, 0, 102, 42, 180, 0, 12, 180, 0, 112, 4, 46, 45, 3, 46, 45, 4, 46]
abbrev dktX1_surest_5 : List UInt8 := dkwX1_surest_5 ++ dktX1_surest_6
def dkwX1_surest_4 : List UInt8 := [154, 0, 6, 21, 4, 172, 28, 5, 160, 0, 12, 42, 27, 182, 1, 78, 21, 4, 100, 172, 3, 54, 5, 42]
abbrev dktX1_surest_4 : List UInt8 := dkwX1_surest_4 ++ dktX1_surest_5
def dkwX1_surest_3 : List UInt8 := [180, 0, 12, 180, 0, 112, 4, 46, 45, 3, 46, 45, 4, 46, 45, 5, 46, 182, 1, 72, 54, 4, 28]
abbrev dktX1_surest_3 : List UInt8 := dkwX1_surest_3 ++ dktX1_surest_4
def dkwX1_surest_2 : List UInt8 := [160, 0, 11, 178, 1, 69, 27, 46, 167, 0, 4, 3, 172, 42, 3, 27, 42, 180, 0, 12, 180, 0, 102, 42]
abbrev dktX1_surest_2 : List UInt8 := dkwX1_surest_2 ++ dktX1_surest_3
def dkwX1_surest_1 : List UInt8 := [78, 45, 6, 46, 153, 0, 33, 28, 4, 160, 0, 7, 2, 167, 0, 23, 28, 154, 0, 18, 45, 6, 46, 4]
abbrev dktX1_surest_1 : List UInt8 := dkwX1_surest_1 ++ dktX1_surest_2
def dkwX1_surest_0 : List UInt8 := [27, 4, 6, 184, 0, 94, 153, 0, 12, 28, 3, 5, 184, 0, 94, 154, 0, 5, 2, 172, 42, 182, 1, 31]
abbrev dktX1_surest_0 : List UInt8 := dkwX1_surest_0 ++ dktX1_surest_1
theorem dksX1_surest_0 : cX1_surest.data.toList.drop 0 = dktX1_surest_0 := by decide +kernel
theorem dksX1_surest_1 : cX1_surest.data.toList.drop 24 = dktX1_surest_1 := dk_seg dksX1_surest_0 24 rfl rfl
theorem dksX1_surest_2 : cX1_surest.data.toList.drop 48 = dktX1_surest_2 := dk_seg dksX1_surest_1 24 rfl rfl
theorem dksX1_surest_3 : cX1_surest.data.toList.drop 72 = dktX1_surest_3 := dk_seg dksX1_surest_2 24 rfl rfl
theorem dksX1_surest_4 : cX1_surest.data.toList.drop 95 = dktX1_surest_4 := dk_seg dksX1_surest_3 23 rfl rfl
theorem dksX1_surest_5 : cX1_surest.data.toList.drop 119 = dktX1_surest_5 := dk_seg dksX1_surest_4 24 rfl rfl
theorem dksX1_surest_6 : cX1_surest.data.toList.drop 143 = dktX1_surest_6 := dk_seg dksX1_surest_5 24 rfl rfl
theorem dX1_surest_0 : decode cX1_surest 0 = .ok (.iload_n 1, 1) := dk_27 (dk_at dksX1_surest_0 0 rfl rfl)
theorem dX1_surest_1 : decode cX1_surest 1 = .ok (.iconst 1, 1) := dk_4 (dk_at dksX1_surest_0 1 rfl rfl)
theorem dX1_surest_2 : decode cX1_surest 2 = .ok (.iconst 3, 1) := dk_6 (dk_at dksX1_surest_0 2 rfl rfl)
theorem dX1_surest_3 : decode cX1_surest 3 = .ok (.invokestatic 94, 3) := dk_184 0 94 (dk_at dksX1_surest_0 3 rfl rfl)
theorem dX1_surest_6 : decode cX1_surest 6 = .ok (.ifCond .eq 12, 3) := dk_153 0 12 (dk_at dksX1_surest_0 6 rfl rfl)
theorem dX1_surest_9 : decode cX1_surest 9 = .ok (.iload_n 2, 1) := dk_28 (dk_at dksX1_surest_0 9 rfl rfl)
theorem dX1_surest_10 : decode cX1_surest 10 = .ok (.iconst 0, 1) := dk_3 (dk_at dksX1_surest_0 10 rfl rfl)
theorem dX1_surest_11 : decode cX1_surest 11 = .ok (.iconst 2, 1) := dk_5 (dk_at dksX1_surest_0 11 rfl rfl)
theorem dX1_surest_12 : decode cX1_surest 12 = .ok (.invokestatic 94, 3) := dk_184 0 94 (dk_at dksX1_surest_0 12 rfl rfl)
theorem dX1_surest_15 : decode cX1_surest 15 = .ok (.ifCond .ne 5, 3) := dk_154 0 5 (dk_at dksX1_surest_0 15 rfl rfl)
theorem dX1_surest_18 : decode cX1_surest 18 = .ok (.iconst (-1), 1) := dk_2 (dk_at dksX1_surest_0 18 rfl rfl)
theorem dX1_surest_19 : decode cX1_surest 19 = .ok (.ireturn, 1) := dk_172 (dk_at dksX1_surest_0 19 rfl rfl)
theorem dX1_surest_20 : decode cX1_surest 20 = .ok (.aload_n 0, 1) := dk_42 (dk_at dksX1_surest_0 20 rfl rfl)
theorem dX1_surest_21 : decode cX1_surest 21 = .ok (.invokevirtual 287, 3) := dk_182 1 31 (dk_at dksX1_surest_0 21 rfl rfl)
theorem dX1_surest_24 : decode cX1_surest 24 = .ok (.astore_n 3, 1) := dk_78 (dk_at dksX1_surest_1 0 rfl rfl)
theorem dX1_surest_25 : decode cX1_surest 25 = .ok (.aload_n 3, 1) := dk_45 (dk_at dksX1_surest_1 1 rfl rfl)
theorem dX1_surest_26 : decode cX1_surest 26 = .ok (.iconst 3, 1) := dk_6 (dk_at dksX1_surest_1 2 rfl rfl)
theorem dX1_surest_27 : decode cX1_surest 27 = .ok (.iaload, 1) := dk_46 (dk_at dksX1_surest_1 3 rfl rfl)
theorem dX1_surest_28 : decode cX1_surest 28 = .ok (.ifCond .eq 33, 3) := dk_153 0 33 (dk_at dksX1_surest_1 4 rfl rfl)
theorem dX1_surest_31 : decode cX1_surest 31 = .ok (.iload_n 2, 1) := dk_28 (dk_at dksX1_surest_1 7 rfl rfl)
theorem dX1_surest_32 : decode cX1_surest 32 = .ok (.iconst 1, 1) := dk_4 (dk_at dksX1_surest_1 8 rfl rfl)
theorem dX1_surest_33 : decode cX1_surest 33 = .ok (.if_icmp .ne 7, 3) := dk_160 0 7 (dk_at dksX1_surest_1 9 rfl rfl)
theorem dX1_surest_36 : decode cX1_surest 36 = .ok (.iconst (-1), 1) := dk_2 (dk_at dksX1_surest_1 12 rfl rfl)
theorem dX1_surest_37 : decode cX1_surest 37 = .ok (.goto 23, 3) := dk_167 0 23 (dk_at dksX1_surest_1 13 rfl rfl)
theorem dX1_surest_40 : decode cX1_surest 40 = .ok (.iload_n 2, 1) := dk_28 (dk_at dksX1_surest_1 16 rfl rfl)
theorem dX1_surest_41 : decode cX1_surest 41 = .ok (.ifCond .ne 18, 3) := dk_154 0 18 (dk_at dksX1_surest_1 17 rfl rfl)
theorem dX1_surest_44 : decode cX1_surest 44 = .ok (.aload_n 3, 1) := dk_45 (dk_at dksX1_surest_1 20 rfl rfl)
theorem dX1_surest_45 : decode cX1_surest 45 = .ok (.iconst 3, 1) := dk_6 (dk_at dksX1_surest_1 21 rfl rfl)
theorem dX1_surest_46 : decode cX1_surest 46 = .ok (.iaload, 1) := dk_46 (dk_at dksX1_surest_1 22 rfl rfl)
theorem dX1_surest_47 : decode cX1_surest 47 = .ok (.iconst 1, 1) := dk_4 (dk_at dksX1_surest_1 23 rfl rfl)
theorem dX1_surest_48 : decode cX1_surest 48 = .ok (.if_icmp .ne 11, 3) := dk_160 0 11 (dk_at dksX1_surest_2 0 rfl rfl)
theorem dX1_surest_51 : decode cX1_surest 51 = .ok (.getstatic 325, 3) := dk_178 1 69 (dk_at dksX1_surest_2 3 rfl rfl)
theorem dX1_surest_54 : decode cX1_surest 54 = .ok (.iload_n 1, 1) := dk_27 (dk_at dksX1_surest_2 6 rfl rfl)
theorem dX1_surest_55 : decode cX1_surest 55 = .ok (.iaload, 1) := dk_46 (dk_at dksX1_surest_2 7 rfl rfl)
theorem dX1_surest_56 : decode cX1_surest 56 = .ok (.goto 4, 3) := dk_167 0 4 (dk_at dksX1_surest_2 8 rfl rfl)
theorem dX1_surest_59 : decode cX1_surest 59 = .ok (.iconst 0, 1) := dk_3 (dk_at dksX1_surest_2 11 rfl rfl)
theorem dX1_surest_60 : decode cX1_surest 60 = .ok (.ireturn, 1) := dk_172 (dk_at dksX1_surest_2 12 rfl rfl)
theorem dX1_surest_61 : decode cX1_surest 61 = .ok (.aload_n 0, 1) := dk_42 (dk_at dksX1_surest_2 13 rfl rfl)
theorem dX1_surest_62 : decode cX1_surest 62 = .ok (.iconst 0, 1) := dk_3 (dk_at dksX1_surest_2 14 rfl rfl)
theorem dX1_surest_63 : decode cX1_surest 63 = .ok (.iload_n 1, 1) := dk_27 (dk_at dksX1_surest_2 15 rfl rfl)
theorem dX1_surest_64 : decode cX1_surest 64 = .ok (.aload_n 0, 1) := dk_42 (dk_at dksX1_surest_2 16 rfl rfl)
theorem dX1_surest_65 : decode cX1_surest 65 = .ok (.getfield 12, 3) := dk_180 0 12 (dk_at dksX1_surest_2 17 rfl rfl)
theorem dX1_surest_68 : decode cX1_surest 68 = .ok (.getfield 102, 3) := dk_180 0 102 (dk_at dksX1_surest_2 20 rfl rfl)
theorem dX1_surest_71 : decode cX1_surest 71 = .ok (.aload_n 0, 1) := dk_42 (dk_at dksX1_surest_2 23 rfl rfl)
theorem dX1_surest_72 : decode cX1_surest 72 = .ok (.getfield 12, 3) := dk_180 0 12 (dk_at dksX1_surest_3 0 rfl rfl)
theorem dX1_surest_75 : decode cX1_surest 75 = .ok (.getfield 112, 3) := dk_180 0 112 (dk_at dksX1_surest_3 3 rfl rfl)
theorem dX1_surest_78 : decode cX1_surest 78 = .ok (.iconst 1, 1) := dk_4 (dk_at dksX1_surest_3 6 rfl rfl)
theorem dX1_surest_79 : decode cX1_surest 79 = .ok (.iaload, 1) := dk_46 (dk_at dksX1_surest_3 7 rfl rfl)
theorem dX1_surest_80 : decode cX1_surest 80 = .ok (.aload_n 3, 1) := dk_45 (dk_at dksX1_surest_3 8 rfl rfl)
theorem dX1_surest_81 : decode cX1_surest 81 = .ok (.iconst 0, 1) := dk_3 (dk_at dksX1_surest_3 9 rfl rfl)
theorem dX1_surest_82 : decode cX1_surest 82 = .ok (.iaload, 1) := dk_46 (dk_at dksX1_surest_3 10 rfl rfl)
theorem dX1_surest_83 : decode cX1_surest 83 = .ok (.aload_n 3, 1) := dk_45 (dk_at dksX1_surest_3 11 rfl rfl)
theorem dX1_surest_84 : decode cX1_surest 84 = .ok (.iconst 1, 1) := dk_4 (dk_at dksX1_surest_3 12 rfl rfl)
theorem dX1_surest_85 : decode cX1_surest 85 = .ok (.iaload, 1) := dk_46 (dk_at dksX1_surest_3 13 rfl rfl)
theorem dX1_surest_86 : decode cX1_surest 86 = .ok (.aload_n 3, 1) := dk_45 (dk_at dksX1_surest_3 14 rfl rfl)
theorem dX1_surest_87 : decode cX1_surest 87 = .ok (.iconst 2, 1) := dk_5 (dk_at dksX1_surest_3 15 rfl rfl)
theorem dX1_surest_88 : decode cX1_surest 88 = .ok (.iaload, 1) := dk_46 (dk_at dksX1_surest_3 16 rfl rfl)
theorem dX1_surest_89 : decode cX1_surest 89 = .ok (.invokevirtual 328, 3) := dk_182 1 72 (dk_at dksX1_surest_3 17 rfl rfl)
theorem dX1_surest_92 : decode cX1_surest 92 = .ok (.istore 4, 2) := dk_54 4 (dk_at dksX1_surest_3 20 rfl rfl)
theorem dX1_surest_94 : decode cX1_surest 94 = .ok (.iload_n 2, 1) := dk_28 (dk_at dksX1_surest_3 22 rfl rfl)
theorem dX1_surest_95 : decode cX1_surest 95 = .ok (.ifCond .ne 6, 3) := dk_154 0 6 (dk_at dksX1_surest_4 0 rfl rfl)
theorem dX1_surest_98 : decode cX1_surest 98 = .ok (.iload 4, 2) := dk_21 4 (dk_at dksX1_surest_4 3 rfl rfl)
theorem dX1_surest_100 : decode cX1_surest 100 = .ok (.ireturn, 1) := dk_172 (dk_at dksX1_surest_4 5 rfl rfl)
theorem dX1_surest_101 : decode cX1_surest 101 = .ok (.iload_n 2, 1) := dk_28 (dk_at dksX1_surest_4 6 rfl rfl)
theorem dX1_surest_102 : decode cX1_surest 102 = .ok (.iconst 2, 1) := dk_5 (dk_at dksX1_surest_4 7 rfl rfl)
theorem dX1_surest_103 : decode cX1_surest 103 = .ok (.if_icmp .ne 12, 3) := dk_160 0 12 (dk_at dksX1_surest_4 8 rfl rfl)
theorem dX1_surest_106 : decode cX1_surest 106 = .ok (.aload_n 0, 1) := dk_42 (dk_at dksX1_surest_4 11 rfl rfl)
theorem dX1_surest_107 : decode cX1_surest 107 = .ok (.iload_n 1, 1) := dk_27 (dk_at dksX1_surest_4 12 rfl rfl)
theorem dX1_surest_108 : decode cX1_surest 108 = .ok (.invokevirtual 334, 3) := dk_182 1 78 (dk_at dksX1_surest_4 13 rfl rfl)
theorem dX1_surest_111 : decode cX1_surest 111 = .ok (.iload 4, 2) := dk_21 4 (dk_at dksX1_surest_4 16 rfl rfl)
theorem dX1_surest_113 : decode cX1_surest 113 = .ok (.isub, 1) := dk_100 (dk_at dksX1_surest_4 18 rfl rfl)
theorem dX1_surest_114 : decode cX1_surest 114 = .ok (.ireturn, 1) := dk_172 (dk_at dksX1_surest_4 19 rfl rfl)
theorem dX1_surest_115 : decode cX1_surest 115 = .ok (.iconst 0, 1) := dk_3 (dk_at dksX1_surest_4 20 rfl rfl)
theorem dX1_surest_116 : decode cX1_surest 116 = .ok (.istore 5, 2) := dk_54 5 (dk_at dksX1_surest_4 21 rfl rfl)
theorem dX1_surest_118 : decode cX1_surest 118 = .ok (.aload_n 0, 1) := dk_42 (dk_at dksX1_surest_4 23 rfl rfl)
theorem dX1_surest_119 : decode cX1_surest 119 = .ok (.iconst 0, 1) := dk_3 (dk_at dksX1_surest_5 0 rfl rfl)
theorem dX1_surest_120 : decode cX1_surest 120 = .ok (.iload_n 1, 1) := dk_27 (dk_at dksX1_surest_5 1 rfl rfl)
theorem dX1_surest_121 : decode cX1_surest 121 = .ok (.aload_n 0, 1) := dk_42 (dk_at dksX1_surest_5 2 rfl rfl)
theorem dX1_surest_122 : decode cX1_surest 122 = .ok (.getfield 12, 3) := dk_180 0 12 (dk_at dksX1_surest_5 3 rfl rfl)
theorem dX1_surest_125 : decode cX1_surest 125 = .ok (.getfield 102, 3) := dk_180 0 102 (dk_at dksX1_surest_5 6 rfl rfl)
theorem dX1_surest_128 : decode cX1_surest 128 = .ok (.aload_n 0, 1) := dk_42 (dk_at dksX1_surest_5 9 rfl rfl)
theorem dX1_surest_129 : decode cX1_surest 129 = .ok (.getfield 12, 3) := dk_180 0 12 (dk_at dksX1_surest_5 10 rfl rfl)
theorem dX1_surest_132 : decode cX1_surest 132 = .ok (.getfield 112, 3) := dk_180 0 112 (dk_at dksX1_surest_5 13 rfl rfl)
theorem dX1_surest_135 : decode cX1_surest 135 = .ok (.iconst 1, 1) := dk_4 (dk_at dksX1_surest_5 16 rfl rfl)
theorem dX1_surest_136 : decode cX1_surest 136 = .ok (.iaload, 1) := dk_46 (dk_at dksX1_surest_5 17 rfl rfl)
theorem dX1_surest_137 : decode cX1_surest 137 = .ok (.aload_n 3, 1) := dk_45 (dk_at dksX1_surest_5 18 rfl rfl)
theorem dX1_surest_138 : decode cX1_surest 138 = .ok (.iconst 0, 1) := dk_3 (dk_at dksX1_surest_5 19 rfl rfl)
theorem dX1_surest_139 : decode cX1_surest 139 = .ok (.iaload, 1) := dk_46 (dk_at dksX1_surest_5 20 rfl rfl)
theorem dX1_surest_140 : decode cX1_surest 140 = .ok (.aload_n 3, 1) := dk_45 (dk_at dksX1_surest_5 21 rfl rfl)
theorem dX1_surest_141 : decode cX1_surest 141 = .ok (.iconst 1, 1) := dk_4 (dk_at dksX1_surest_5 22 rfl rfl)
theorem dX1_surest_142 : decode cX1_surest 142 = .ok (.iaload, 1) := dk_46 (dk_at dksX1_surest_5 23 rfl rfl)
theorem dX1_surest_143 : decode cX1_surest 143 = .ok (.aload_n 3, 1) := dk_45 (dk_at dksX1_surest_6 0 rfl rfl)
theorem dX1_surest_144 : decode cX1_surest 144 = .ok (.iconst 2, 1) := dk_5 (dk_at dksX1_surest_6 1 rfl rfl)
theorem dX1_surest_145 : decode cX1_surest 145 = .ok (.iaload, 1) := dk_46 (dk_at dksX1_surest_6 2 rfl rfl)
theorem dX1_surest_146 : decode cX1_surest 146 = .ok (.iload 5, 2) := dk_21 5 (dk_at dksX1_surest_6 3 rfl rfl)
theorem dX1_surest_148 : decode cX1_surest 148 = .ok (.invokevirtual 321, 3) := dk_182 1 65 (dk_at dksX1_surest_6 5 rfl rfl)
theorem dX1_surest_151 : decode cX1_surest 151 = .ok (.iload 4, 2) := dk_21 4 (dk_at dksX1_surest_6 8 rfl rfl)
theorem dX1_surest_153 : decode cX1_surest 153 = .ok (.if_icmp .eq 9, 3) := dk_159 0 9 (dk_at dksX1_surest_6 10 rfl rfl)
theorem dX1_surest_156 : decode cX1_surest 156 = .ok (.iinc 5 1, 3) := dk_132 5 1 (dk_at dksX1_surest_6 13 rfl rfl)
theorem dX1_surest_159 : decode cX1_surest 159 = .ok (.goto (-41), 3) := dk_167 255 215 (dk_at dksX1_surest_6 16 rfl rfl)
theorem dX1_surest_162 : decode cX1_surest 162 = .ok (.iload 5, 2) := dk_21 5 (dk_at dksX1_surest_6 19 rfl rfl)
theorem dX1_surest_164 : decode cX1_surest 164 = .ok (.ireturn, 1) := dk_172 (dk_at dksX1_surest_6 21 rfl rfl)
abbrev cX1_surest_2 : ByteArray := prog_1_method_63_code
def yX1_surest_2 : MethodName := ⟨RX1, "surest", "(II[IIIII)I"⟩
def dkwX1_surest_2_4 : List UInt8 := [21, 9, 182, 1, 65, 184, 0, 78, 54, 8, 132, 9, 1, 167, 255, 222, 21, 8, 172]
abbrev dktX1_surest_2_4 : List UInt8 := dkwX1_surest_2_4 ++ []
def dkwX1_surest_2_3 : List UInt8 := [54, 9, 21, 9, 16, 7, 163, 0, 33, 21, 8, 42, 27, 28, 45, 21, 4, 21, 5, 21, 6, 21, 7]
abbrev dktX1_surest_2_3 : List UInt8 := dkwX1_surest_2_3 ++ dktX1_surest_2_4
def dkwX1_surest_2_2 : List UInt8 := [21, 9, 42, 180, 0, 12, 180, 0, 112, 3, 46, 27, 96, 182, 0, 242, 132, 9, 1, 167, 255, 204, 3]
abbrev dktX1_surest_2_2 : List UInt8 := dkwX1_surest_2_2 ++ dktX1_surest_2_3
def dkwX1_surest_2_1 : List UInt8 := [180, 0, 121, 21, 4, 50, 21, 9, 46, 158, 0, 30, 42, 45, 42, 180, 0, 54, 27, 50, 21, 9, 50]
abbrev dktX1_surest_2_1 : List UInt8 := dkwX1_surest_2_1 ++ dktX1_surest_2_2
def dkwX1_surest_2_0 : List UInt8 := [27, 28, 160, 0, 5, 3, 172, 3, 54, 8, 3, 54, 9, 21, 9, 7, 162, 0, 52, 42, 180, 0, 12]
abbrev dktX1_surest_2_0 : List UInt8 := dkwX1_surest_2_0 ++ dktX1_surest_2_1
theorem dksX1_surest_2_0 : cX1_surest_2.data.toList.drop 0 = dktX1_surest_2_0 := by decide +kernel
theorem dksX1_surest_2_1 : cX1_surest_2.data.toList.drop 23 = dktX1_surest_2_1 := dk_seg dksX1_surest_2_0 23 rfl rfl
theorem dksX1_surest_2_2 : cX1_surest_2.data.toList.drop 46 = dktX1_surest_2_2 := dk_seg dksX1_surest_2_1 23 rfl rfl
theorem dksX1_surest_2_3 : cX1_surest_2.data.toList.drop 69 = dktX1_surest_2_3 := dk_seg dksX1_surest_2_2 23 rfl rfl
theorem dksX1_surest_2_4 : cX1_surest_2.data.toList.drop 92 = dktX1_surest_2_4 := dk_seg dksX1_surest_2_3 23 rfl rfl
theorem dX1_surest_2_0 : decode cX1_surest_2 0 = .ok (.iload_n 1, 1) := dk_27 (dk_at dksX1_surest_2_0 0 rfl rfl)
theorem dX1_surest_2_1 : decode cX1_surest_2 1 = .ok (.iload_n 2, 1) := dk_28 (dk_at dksX1_surest_2_0 1 rfl rfl)
theorem dX1_surest_2_2 : decode cX1_surest_2 2 = .ok (.if_icmp .ne 5, 3) := dk_160 0 5 (dk_at dksX1_surest_2_0 2 rfl rfl)
theorem dX1_surest_2_5 : decode cX1_surest_2 5 = .ok (.iconst 0, 1) := dk_3 (dk_at dksX1_surest_2_0 5 rfl rfl)
theorem dX1_surest_2_6 : decode cX1_surest_2 6 = .ok (.ireturn, 1) := dk_172 (dk_at dksX1_surest_2_0 6 rfl rfl)
theorem dX1_surest_2_7 : decode cX1_surest_2 7 = .ok (.iconst 0, 1) := dk_3 (dk_at dksX1_surest_2_0 7 rfl rfl)
theorem dX1_surest_2_8 : decode cX1_surest_2 8 = .ok (.istore 8, 2) := dk_54 8 (dk_at dksX1_surest_2_0 8 rfl rfl)
theorem dX1_surest_2_10 : decode cX1_surest_2 10 = .ok (.iconst 0, 1) := dk_3 (dk_at dksX1_surest_2_0 10 rfl rfl)
theorem dX1_surest_2_11 : decode cX1_surest_2 11 = .ok (.istore 9, 2) := dk_54 9 (dk_at dksX1_surest_2_0 11 rfl rfl)
theorem dX1_surest_2_13 : decode cX1_surest_2 13 = .ok (.iload 9, 2) := dk_21 9 (dk_at dksX1_surest_2_0 13 rfl rfl)
theorem dX1_surest_2_15 : decode cX1_surest_2 15 = .ok (.iconst 4, 1) := dk_7 (dk_at dksX1_surest_2_0 15 rfl rfl)
theorem dX1_surest_2_16 : decode cX1_surest_2 16 = .ok (.if_icmp .ge 52, 3) := dk_162 0 52 (dk_at dksX1_surest_2_0 16 rfl rfl)
theorem dX1_surest_2_19 : decode cX1_surest_2 19 = .ok (.aload_n 0, 1) := dk_42 (dk_at dksX1_surest_2_0 19 rfl rfl)
theorem dX1_surest_2_20 : decode cX1_surest_2 20 = .ok (.getfield 12, 3) := dk_180 0 12 (dk_at dksX1_surest_2_0 20 rfl rfl)
theorem dX1_surest_2_23 : decode cX1_surest_2 23 = .ok (.getfield 121, 3) := dk_180 0 121 (dk_at dksX1_surest_2_1 0 rfl rfl)
theorem dX1_surest_2_26 : decode cX1_surest_2 26 = .ok (.iload 4, 2) := dk_21 4 (dk_at dksX1_surest_2_1 3 rfl rfl)
theorem dX1_surest_2_28 : decode cX1_surest_2 28 = .ok (.aaload, 1) := dk_50 (dk_at dksX1_surest_2_1 5 rfl rfl)
theorem dX1_surest_2_29 : decode cX1_surest_2 29 = .ok (.iload 9, 2) := dk_21 9 (dk_at dksX1_surest_2_1 6 rfl rfl)
theorem dX1_surest_2_31 : decode cX1_surest_2 31 = .ok (.iaload, 1) := dk_46 (dk_at dksX1_surest_2_1 8 rfl rfl)
theorem dX1_surest_2_32 : decode cX1_surest_2 32 = .ok (.ifCond .le 30, 3) := dk_158 0 30 (dk_at dksX1_surest_2_1 9 rfl rfl)
theorem dX1_surest_2_35 : decode cX1_surest_2 35 = .ok (.aload_n 0, 1) := dk_42 (dk_at dksX1_surest_2_1 12 rfl rfl)
theorem dX1_surest_2_36 : decode cX1_surest_2 36 = .ok (.aload_n 3, 1) := dk_45 (dk_at dksX1_surest_2_1 13 rfl rfl)
theorem dX1_surest_2_37 : decode cX1_surest_2 37 = .ok (.aload_n 0, 1) := dk_42 (dk_at dksX1_surest_2_1 14 rfl rfl)
theorem dX1_surest_2_38 : decode cX1_surest_2 38 = .ok (.getfield 54, 3) := dk_180 0 54 (dk_at dksX1_surest_2_1 15 rfl rfl)
theorem dX1_surest_2_41 : decode cX1_surest_2 41 = .ok (.iload_n 1, 1) := dk_27 (dk_at dksX1_surest_2_1 18 rfl rfl)
theorem dX1_surest_2_42 : decode cX1_surest_2 42 = .ok (.aaload, 1) := dk_50 (dk_at dksX1_surest_2_1 19 rfl rfl)
theorem dX1_surest_2_43 : decode cX1_surest_2 43 = .ok (.iload 9, 2) := dk_21 9 (dk_at dksX1_surest_2_1 20 rfl rfl)
theorem dX1_surest_2_45 : decode cX1_surest_2 45 = .ok (.aaload, 1) := dk_50 (dk_at dksX1_surest_2_1 22 rfl rfl)
theorem dX1_surest_2_46 : decode cX1_surest_2 46 = .ok (.iload 9, 2) := dk_21 9 (dk_at dksX1_surest_2_2 0 rfl rfl)
theorem dX1_surest_2_48 : decode cX1_surest_2 48 = .ok (.aload_n 0, 1) := dk_42 (dk_at dksX1_surest_2_2 2 rfl rfl)
theorem dX1_surest_2_49 : decode cX1_surest_2 49 = .ok (.getfield 12, 3) := dk_180 0 12 (dk_at dksX1_surest_2_2 3 rfl rfl)
theorem dX1_surest_2_52 : decode cX1_surest_2 52 = .ok (.getfield 112, 3) := dk_180 0 112 (dk_at dksX1_surest_2_2 6 rfl rfl)
theorem dX1_surest_2_55 : decode cX1_surest_2 55 = .ok (.iconst 0, 1) := dk_3 (dk_at dksX1_surest_2_2 9 rfl rfl)
theorem dX1_surest_2_56 : decode cX1_surest_2 56 = .ok (.iaload, 1) := dk_46 (dk_at dksX1_surest_2_2 10 rfl rfl)
theorem dX1_surest_2_57 : decode cX1_surest_2 57 = .ok (.iload_n 1, 1) := dk_27 (dk_at dksX1_surest_2_2 11 rfl rfl)
theorem dX1_surest_2_58 : decode cX1_surest_2 58 = .ok (.iadd, 1) := dk_96 (dk_at dksX1_surest_2_2 12 rfl rfl)
theorem dX1_surest_2_59 : decode cX1_surest_2 59 = .ok (.invokevirtual 242, 3) := dk_182 0 242 (dk_at dksX1_surest_2_2 13 rfl rfl)
theorem dX1_surest_2_62 : decode cX1_surest_2 62 = .ok (.iinc 9 1, 3) := dk_132 9 1 (dk_at dksX1_surest_2_2 16 rfl rfl)
theorem dX1_surest_2_65 : decode cX1_surest_2 65 = .ok (.goto (-52), 3) := dk_167 255 204 (dk_at dksX1_surest_2_2 19 rfl rfl)
theorem dX1_surest_2_68 : decode cX1_surest_2 68 = .ok (.iconst 0, 1) := dk_3 (dk_at dksX1_surest_2_2 22 rfl rfl)
theorem dX1_surest_2_69 : decode cX1_surest_2 69 = .ok (.istore 9, 2) := dk_54 9 (dk_at dksX1_surest_2_3 0 rfl rfl)
theorem dX1_surest_2_71 : decode cX1_surest_2 71 = .ok (.iload 9, 2) := dk_21 9 (dk_at dksX1_surest_2_3 2 rfl rfl)
theorem dX1_surest_2_73 : decode cX1_surest_2 73 = .ok (.bipush 7, 2) := dk_16 7 (dk_at dksX1_surest_2_3 4 rfl rfl)
theorem dX1_surest_2_75 : decode cX1_surest_2 75 = .ok (.if_icmp .gt 33, 3) := dk_163 0 33 (dk_at dksX1_surest_2_3 6 rfl rfl)
theorem dX1_surest_2_78 : decode cX1_surest_2 78 = .ok (.iload 8, 2) := dk_21 8 (dk_at dksX1_surest_2_3 9 rfl rfl)
theorem dX1_surest_2_80 : decode cX1_surest_2 80 = .ok (.aload_n 0, 1) := dk_42 (dk_at dksX1_surest_2_3 11 rfl rfl)
theorem dX1_surest_2_81 : decode cX1_surest_2 81 = .ok (.iload_n 1, 1) := dk_27 (dk_at dksX1_surest_2_3 12 rfl rfl)
theorem dX1_surest_2_82 : decode cX1_surest_2 82 = .ok (.iload_n 2, 1) := dk_28 (dk_at dksX1_surest_2_3 13 rfl rfl)
theorem dX1_surest_2_83 : decode cX1_surest_2 83 = .ok (.aload_n 3, 1) := dk_45 (dk_at dksX1_surest_2_3 14 rfl rfl)
theorem dX1_surest_2_84 : decode cX1_surest_2 84 = .ok (.iload 4, 2) := dk_21 4 (dk_at dksX1_surest_2_3 15 rfl rfl)
theorem dX1_surest_2_86 : decode cX1_surest_2 86 = .ok (.iload 5, 2) := dk_21 5 (dk_at dksX1_surest_2_3 17 rfl rfl)
theorem dX1_surest_2_88 : decode cX1_surest_2 88 = .ok (.iload 6, 2) := dk_21 6 (dk_at dksX1_surest_2_3 19 rfl rfl)
theorem dX1_surest_2_90 : decode cX1_surest_2 90 = .ok (.iload 7, 2) := dk_21 7 (dk_at dksX1_surest_2_3 21 rfl rfl)
theorem dX1_surest_2_92 : decode cX1_surest_2 92 = .ok (.iload 9, 2) := dk_21 9 (dk_at dksX1_surest_2_4 0 rfl rfl)
theorem dX1_surest_2_94 : decode cX1_surest_2 94 = .ok (.invokevirtual 321, 3) := dk_182 1 65 (dk_at dksX1_surest_2_4 2 rfl rfl)
theorem dX1_surest_2_97 : decode cX1_surest_2 97 = .ok (.invokestatic 78, 3) := dk_184 0 78 (dk_at dksX1_surest_2_4 5 rfl rfl)
theorem dX1_surest_2_100 : decode cX1_surest_2 100 = .ok (.istore 8, 2) := dk_54 8 (dk_at dksX1_surest_2_4 8 rfl rfl)
theorem dX1_surest_2_102 : decode cX1_surest_2 102 = .ok (.iinc 9 1, 3) := dk_132 9 1 (dk_at dksX1_surest_2_4 10 rfl rfl)
theorem dX1_surest_2_105 : decode cX1_surest_2 105 = .ok (.goto (-34), 3) := dk_167 255 222 (dk_at dksX1_surest_2_4 13 rfl rfl)
theorem dX1_surest_2_108 : decode cX1_surest_2 108 = .ok (.iload 8, 2) := dk_21 8 (dk_at dksX1_surest_2_4 16 rfl rfl)
theorem dX1_surest_2_110 : decode cX1_surest_2 110 = .ok (.ireturn, 1) := dk_172 (dk_at dksX1_surest_2_4 18 rfl rfl)
abbrev cX1_surestBy : ByteArray := prog_1_method_64_code
def yX1_surestBy : MethodName := ⟨RX1, "surestBy", "(II[IIIIII)I"⟩
def dkwX1_surestBy_10 : List UInt8 := [132, 12, 1, 167, 255, 118, 21, 11, 172]
abbrev dktX1_surestBy_10 : List UInt8 := dkwX1_surestBy_10 ++ []
def dkwX1_surestBy_9 : List UInt8 := [21, 12, 21, 13, 21, 6, 21, 9, 100, 21, 8, 21, 7, 184, 1, 24, 182, 1, 72, 104, 96, 54, 11]
abbrev dktX1_surestBy_9 : List UInt8 := dkwX1_surestBy_9 ++ dktX1_surestBy_10
def dkwX1_surestBy_8 : List UInt8 := [180, 0, 121, 21, 4, 50, 21, 12, 46, 42, 27, 4, 96, 28, 42, 180, 0, 54, 27, 50, 21, 12, 50]
abbrev dktX1_surestBy_8 : List UInt8 := dkwX1_surestBy_8 ++ dktX1_surestBy_9
def dkwX1_surestBy_7 : List UInt8 := [180, 0, 12, 180, 0, 112, 3, 46, 27, 96, 182, 0, 249, 154, 0, 55, 21, 11, 42, 180, 0, 12]
abbrev dktX1_surestBy_7 : List UInt8 := dkwX1_surestBy_7 ++ dktX1_surestBy_8
def dkwX1_surestBy_6 : List UInt8 := [21, 10, 21, 12, 182, 0, 246, 54, 13, 42, 42, 180, 0, 54, 27, 50, 21, 12, 50, 21, 13, 21, 12, 42]
abbrev dktX1_surestBy_6 : List UInt8 := dkwX1_surestBy_6 ++ dktX1_surestBy_7
def dkwX1_surestBy_5 : List UInt8 := [154, 0, 6, 167, 0, 113, 21, 8, 7, 161, 0, 9, 21, 8, 8, 160, 0, 8, 21, 10, 167, 0, 11, 42]
abbrev dktX1_surestBy_5 : List UInt8 := dkwX1_surestBy_5 ++ dktX1_surestBy_6
def dkwX1_surestBy_4 : List UInt8 := [3, 54, 12, 21, 12, 7, 162, 0, 138, 42, 180, 0, 12, 180, 0, 121, 21, 4, 50, 21, 12, 46]
abbrev dktX1_surestBy_4 : List UInt8 := dkwX1_surestBy_4 ++ dktX1_surestBy_5
def dkwX1_surestBy_3 : List UInt8 := [42, 180, 0, 12, 180, 0, 109, 21, 10, 51, 153, 0, 11, 178, 1, 69, 28, 27, 100, 46, 172, 3, 54, 11]
abbrev dktX1_surestBy_3 : List UInt8 := dkwX1_surestBy_3 ++ dktX1_surestBy_4
def dkwX1_surestBy_2 : List UInt8 := [184, 0, 169, 21, 8, 184, 0, 173, 182, 0, 165, 167, 0, 5, 21, 5, 54, 10, 21, 8, 7, 162, 0, 24]
abbrev dktX1_surestBy_2 : List UInt8 := dkwX1_surestBy_2 ++ dktX1_surestBy_3
def dkwX1_surestBy_1 : List UInt8 := [182, 0, 232, 54, 9, 21, 9, 2, 160, 0, 5, 2, 172, 21, 8, 7, 162, 0, 22, 42, 21, 5, 21, 8]
abbrev dktX1_surestBy_1 : List UInt8 := dkwX1_surestBy_1 ++ dktX1_surestBy_2
def dkwX1_surestBy_0 : List UInt8 := [42, 21, 8, 21, 5, 21, 6, 21, 7, 45, 21, 4, 42, 180, 0, 12, 180, 0, 112, 3, 46, 27, 96]
abbrev dktX1_surestBy_0 : List UInt8 := dkwX1_surestBy_0 ++ dktX1_surestBy_1
theorem dksX1_surestBy_0 : cX1_surestBy.data.toList.drop 0 = dktX1_surestBy_0 := by decide +kernel
theorem dksX1_surestBy_1 : cX1_surestBy.data.toList.drop 23 = dktX1_surestBy_1 := dk_seg dksX1_surestBy_0 23 rfl rfl
theorem dksX1_surestBy_2 : cX1_surestBy.data.toList.drop 47 = dktX1_surestBy_2 := dk_seg dksX1_surestBy_1 24 rfl rfl
theorem dksX1_surestBy_3 : cX1_surestBy.data.toList.drop 71 = dktX1_surestBy_3 := dk_seg dksX1_surestBy_2 24 rfl rfl
theorem dksX1_surestBy_4 : cX1_surestBy.data.toList.drop 95 = dktX1_surestBy_4 := dk_seg dksX1_surestBy_3 24 rfl rfl
theorem dksX1_surestBy_5 : cX1_surestBy.data.toList.drop 117 = dktX1_surestBy_5 := dk_seg dksX1_surestBy_4 22 rfl rfl
theorem dksX1_surestBy_6 : cX1_surestBy.data.toList.drop 141 = dktX1_surestBy_6 := dk_seg dksX1_surestBy_5 24 rfl rfl
theorem dksX1_surestBy_7 : cX1_surestBy.data.toList.drop 165 = dktX1_surestBy_7 := dk_seg dksX1_surestBy_6 24 rfl rfl
theorem dksX1_surestBy_8 : cX1_surestBy.data.toList.drop 187 = dktX1_surestBy_8 := dk_seg dksX1_surestBy_7 22 rfl rfl
theorem dksX1_surestBy_9 : cX1_surestBy.data.toList.drop 210 = dktX1_surestBy_9 := dk_seg dksX1_surestBy_8 23 rfl rfl
theorem dksX1_surestBy_10 : cX1_surestBy.data.toList.drop 233 = dktX1_surestBy_10 := dk_seg dksX1_surestBy_9 23 rfl rfl
theorem dX1_surestBy_0 : decode cX1_surestBy 0 = .ok (.aload_n 0, 1) := dk_42 (dk_at dksX1_surestBy_0 0 rfl rfl)
theorem dX1_surestBy_1 : decode cX1_surestBy 1 = .ok (.iload 8, 2) := dk_21 8 (dk_at dksX1_surestBy_0 1 rfl rfl)
theorem dX1_surestBy_3 : decode cX1_surestBy 3 = .ok (.iload 5, 2) := dk_21 5 (dk_at dksX1_surestBy_0 3 rfl rfl)
theorem dX1_surestBy_5 : decode cX1_surestBy 5 = .ok (.iload 6, 2) := dk_21 6 (dk_at dksX1_surestBy_0 5 rfl rfl)
theorem dX1_surestBy_7 : decode cX1_surestBy 7 = .ok (.iload 7, 2) := dk_21 7 (dk_at dksX1_surestBy_0 7 rfl rfl)
theorem dX1_surestBy_9 : decode cX1_surestBy 9 = .ok (.aload_n 3, 1) := dk_45 (dk_at dksX1_surestBy_0 9 rfl rfl)
theorem dX1_surestBy_10 : decode cX1_surestBy 10 = .ok (.iload 4, 2) := dk_21 4 (dk_at dksX1_surestBy_0 10 rfl rfl)
theorem dX1_surestBy_12 : decode cX1_surestBy 12 = .ok (.aload_n 0, 1) := dk_42 (dk_at dksX1_surestBy_0 12 rfl rfl)
theorem dX1_surestBy_13 : decode cX1_surestBy 13 = .ok (.getfield 12, 3) := dk_180 0 12 (dk_at dksX1_surestBy_0 13 rfl rfl)
theorem dX1_surestBy_16 : decode cX1_surestBy 16 = .ok (.getfield 112, 3) := dk_180 0 112 (dk_at dksX1_surestBy_0 16 rfl rfl)
theorem dX1_surestBy_19 : decode cX1_surestBy 19 = .ok (.iconst 0, 1) := dk_3 (dk_at dksX1_surestBy_0 19 rfl rfl)
theorem dX1_surestBy_20 : decode cX1_surestBy 20 = .ok (.iaload, 1) := dk_46 (dk_at dksX1_surestBy_0 20 rfl rfl)
theorem dX1_surestBy_21 : decode cX1_surestBy 21 = .ok (.iload_n 1, 1) := dk_27 (dk_at dksX1_surestBy_0 21 rfl rfl)
theorem dX1_surestBy_22 : decode cX1_surestBy 22 = .ok (.iadd, 1) := dk_96 (dk_at dksX1_surestBy_0 22 rfl rfl)
theorem dX1_surestBy_23 : decode cX1_surestBy 23 = .ok (.invokevirtual 232, 3) := dk_182 0 232 (dk_at dksX1_surestBy_1 0 rfl rfl)
theorem dX1_surestBy_26 : decode cX1_surestBy 26 = .ok (.istore 9, 2) := dk_54 9 (dk_at dksX1_surestBy_1 3 rfl rfl)
theorem dX1_surestBy_28 : decode cX1_surestBy 28 = .ok (.iload 9, 2) := dk_21 9 (dk_at dksX1_surestBy_1 5 rfl rfl)
theorem dX1_surestBy_30 : decode cX1_surestBy 30 = .ok (.iconst (-1), 1) := dk_2 (dk_at dksX1_surestBy_1 7 rfl rfl)
theorem dX1_surestBy_31 : decode cX1_surestBy 31 = .ok (.if_icmp .ne 5, 3) := dk_160 0 5 (dk_at dksX1_surestBy_1 8 rfl rfl)
theorem dX1_surestBy_34 : decode cX1_surestBy 34 = .ok (.iconst (-1), 1) := dk_2 (dk_at dksX1_surestBy_1 11 rfl rfl)
theorem dX1_surestBy_35 : decode cX1_surestBy 35 = .ok (.ireturn, 1) := dk_172 (dk_at dksX1_surestBy_1 12 rfl rfl)
theorem dX1_surestBy_36 : decode cX1_surestBy 36 = .ok (.iload 8, 2) := dk_21 8 (dk_at dksX1_surestBy_1 13 rfl rfl)
theorem dX1_surestBy_38 : decode cX1_surestBy 38 = .ok (.iconst 4, 1) := dk_7 (dk_at dksX1_surestBy_1 15 rfl rfl)
theorem dX1_surestBy_39 : decode cX1_surestBy 39 = .ok (.if_icmp .ge 22, 3) := dk_162 0 22 (dk_at dksX1_surestBy_1 16 rfl rfl)
theorem dX1_surestBy_42 : decode cX1_surestBy 42 = .ok (.aload_n 0, 1) := dk_42 (dk_at dksX1_surestBy_1 19 rfl rfl)
theorem dX1_surestBy_43 : decode cX1_surestBy 43 = .ok (.iload 5, 2) := dk_21 5 (dk_at dksX1_surestBy_1 20 rfl rfl)
theorem dX1_surestBy_45 : decode cX1_surestBy 45 = .ok (.iload 8, 2) := dk_21 8 (dk_at dksX1_surestBy_1 22 rfl rfl)
theorem dX1_surestBy_47 : decode cX1_surestBy 47 = .ok (.invokestatic 169, 3) := dk_184 0 169 (dk_at dksX1_surestBy_2 0 rfl rfl)
theorem dX1_surestBy_50 : decode cX1_surestBy 50 = .ok (.iload 8, 2) := dk_21 8 (dk_at dksX1_surestBy_2 3 rfl rfl)
theorem dX1_surestBy_52 : decode cX1_surestBy 52 = .ok (.invokestatic 173, 3) := dk_184 0 173 (dk_at dksX1_surestBy_2 5 rfl rfl)
theorem dX1_surestBy_55 : decode cX1_surestBy 55 = .ok (.invokevirtual 165, 3) := dk_182 0 165 (dk_at dksX1_surestBy_2 8 rfl rfl)
theorem dX1_surestBy_58 : decode cX1_surestBy 58 = .ok (.goto 5, 3) := dk_167 0 5 (dk_at dksX1_surestBy_2 11 rfl rfl)
theorem dX1_surestBy_61 : decode cX1_surestBy 61 = .ok (.iload 5, 2) := dk_21 5 (dk_at dksX1_surestBy_2 14 rfl rfl)
theorem dX1_surestBy_63 : decode cX1_surestBy 63 = .ok (.istore 10, 2) := dk_54 10 (dk_at dksX1_surestBy_2 16 rfl rfl)
theorem dX1_surestBy_65 : decode cX1_surestBy 65 = .ok (.iload 8, 2) := dk_21 8 (dk_at dksX1_surestBy_2 18 rfl rfl)
theorem dX1_surestBy_67 : decode cX1_surestBy 67 = .ok (.iconst 4, 1) := dk_7 (dk_at dksX1_surestBy_2 20 rfl rfl)
theorem dX1_surestBy_68 : decode cX1_surestBy 68 = .ok (.if_icmp .ge 24, 3) := dk_162 0 24 (dk_at dksX1_surestBy_2 21 rfl rfl)
theorem dX1_surestBy_71 : decode cX1_surestBy 71 = .ok (.aload_n 0, 1) := dk_42 (dk_at dksX1_surestBy_3 0 rfl rfl)
theorem dX1_surestBy_72 : decode cX1_surestBy 72 = .ok (.getfield 12, 3) := dk_180 0 12 (dk_at dksX1_surestBy_3 1 rfl rfl)
theorem dX1_surestBy_75 : decode cX1_surestBy 75 = .ok (.getfield 109, 3) := dk_180 0 109 (dk_at dksX1_surestBy_3 4 rfl rfl)
theorem dX1_surestBy_78 : decode cX1_surestBy 78 = .ok (.iload 10, 2) := dk_21 10 (dk_at dksX1_surestBy_3 7 rfl rfl)
theorem dX1_surestBy_80 : decode cX1_surestBy 80 = .ok (.baload, 1) := dk_51 (dk_at dksX1_surestBy_3 9 rfl rfl)
theorem dX1_surestBy_81 : decode cX1_surestBy 81 = .ok (.ifCond .eq 11, 3) := dk_153 0 11 (dk_at dksX1_surestBy_3 10 rfl rfl)
theorem dX1_surestBy_84 : decode cX1_surestBy 84 = .ok (.getstatic 325, 3) := dk_178 1 69 (dk_at dksX1_surestBy_3 13 rfl rfl)
theorem dX1_surestBy_87 : decode cX1_surestBy 87 = .ok (.iload_n 2, 1) := dk_28 (dk_at dksX1_surestBy_3 16 rfl rfl)
theorem dX1_surestBy_88 : decode cX1_surestBy 88 = .ok (.iload_n 1, 1) := dk_27 (dk_at dksX1_surestBy_3 17 rfl rfl)
theorem dX1_surestBy_89 : decode cX1_surestBy 89 = .ok (.isub, 1) := dk_100 (dk_at dksX1_surestBy_3 18 rfl rfl)
theorem dX1_surestBy_90 : decode cX1_surestBy 90 = .ok (.iaload, 1) := dk_46 (dk_at dksX1_surestBy_3 19 rfl rfl)
theorem dX1_surestBy_91 : decode cX1_surestBy 91 = .ok (.ireturn, 1) := dk_172 (dk_at dksX1_surestBy_3 20 rfl rfl)
theorem dX1_surestBy_92 : decode cX1_surestBy 92 = .ok (.iconst 0, 1) := dk_3 (dk_at dksX1_surestBy_3 21 rfl rfl)
theorem dX1_surestBy_93 : decode cX1_surestBy 93 = .ok (.istore 11, 2) := dk_54 11 (dk_at dksX1_surestBy_3 22 rfl rfl)
theorem dX1_surestBy_95 : decode cX1_surestBy 95 = .ok (.iconst 0, 1) := dk_3 (dk_at dksX1_surestBy_4 0 rfl rfl)
theorem dX1_surestBy_96 : decode cX1_surestBy 96 = .ok (.istore 12, 2) := dk_54 12 (dk_at dksX1_surestBy_4 1 rfl rfl)
theorem dX1_surestBy_98 : decode cX1_surestBy 98 = .ok (.iload 12, 2) := dk_21 12 (dk_at dksX1_surestBy_4 3 rfl rfl)
theorem dX1_surestBy_100 : decode cX1_surestBy 100 = .ok (.iconst 4, 1) := dk_7 (dk_at dksX1_surestBy_4 5 rfl rfl)
theorem dX1_surestBy_101 : decode cX1_surestBy 101 = .ok (.if_icmp .ge 138, 3) := dk_162 0 138 (dk_at dksX1_surestBy_4 6 rfl rfl)
theorem dX1_surestBy_104 : decode cX1_surestBy 104 = .ok (.aload_n 0, 1) := dk_42 (dk_at dksX1_surestBy_4 9 rfl rfl)
theorem dX1_surestBy_105 : decode cX1_surestBy 105 = .ok (.getfield 12, 3) := dk_180 0 12 (dk_at dksX1_surestBy_4 10 rfl rfl)
theorem dX1_surestBy_108 : decode cX1_surestBy 108 = .ok (.getfield 121, 3) := dk_180 0 121 (dk_at dksX1_surestBy_4 13 rfl rfl)
theorem dX1_surestBy_111 : decode cX1_surestBy 111 = .ok (.iload 4, 2) := dk_21 4 (dk_at dksX1_surestBy_4 16 rfl rfl)
theorem dX1_surestBy_113 : decode cX1_surestBy 113 = .ok (.aaload, 1) := dk_50 (dk_at dksX1_surestBy_4 18 rfl rfl)
theorem dX1_surestBy_114 : decode cX1_surestBy 114 = .ok (.iload 12, 2) := dk_21 12 (dk_at dksX1_surestBy_4 19 rfl rfl)
theorem dX1_surestBy_116 : decode cX1_surestBy 116 = .ok (.iaload, 1) := dk_46 (dk_at dksX1_surestBy_4 21 rfl rfl)
theorem dX1_surestBy_117 : decode cX1_surestBy 117 = .ok (.ifCond .ne 6, 3) := dk_154 0 6 (dk_at dksX1_surestBy_5 0 rfl rfl)
theorem dX1_surestBy_120 : decode cX1_surestBy 120 = .ok (.goto 113, 3) := dk_167 0 113 (dk_at dksX1_surestBy_5 3 rfl rfl)
theorem dX1_surestBy_123 : decode cX1_surestBy 123 = .ok (.iload 8, 2) := dk_21 8 (dk_at dksX1_surestBy_5 6 rfl rfl)
theorem dX1_surestBy_125 : decode cX1_surestBy 125 = .ok (.iconst 4, 1) := dk_7 (dk_at dksX1_surestBy_5 8 rfl rfl)
theorem dX1_surestBy_126 : decode cX1_surestBy 126 = .ok (.if_icmp .lt 9, 3) := dk_161 0 9 (dk_at dksX1_surestBy_5 9 rfl rfl)
theorem dX1_surestBy_129 : decode cX1_surestBy 129 = .ok (.iload 8, 2) := dk_21 8 (dk_at dksX1_surestBy_5 12 rfl rfl)
theorem dX1_surestBy_131 : decode cX1_surestBy 131 = .ok (.iconst 5, 1) := dk_8 (dk_at dksX1_surestBy_5 14 rfl rfl)
theorem dX1_surestBy_132 : decode cX1_surestBy 132 = .ok (.if_icmp .ne 8, 3) := dk_160 0 8 (dk_at dksX1_surestBy_5 15 rfl rfl)
theorem dX1_surestBy_135 : decode cX1_surestBy 135 = .ok (.iload 10, 2) := dk_21 10 (dk_at dksX1_surestBy_5 18 rfl rfl)
theorem dX1_surestBy_137 : decode cX1_surestBy 137 = .ok (.goto 11, 3) := dk_167 0 11 (dk_at dksX1_surestBy_5 20 rfl rfl)
theorem dX1_surestBy_140 : decode cX1_surestBy 140 = .ok (.aload_n 0, 1) := dk_42 (dk_at dksX1_surestBy_5 23 rfl rfl)
theorem dX1_surestBy_141 : decode cX1_surestBy 141 = .ok (.iload 10, 2) := dk_21 10 (dk_at dksX1_surestBy_6 0 rfl rfl)
theorem dX1_surestBy_143 : decode cX1_surestBy 143 = .ok (.iload 12, 2) := dk_21 12 (dk_at dksX1_surestBy_6 2 rfl rfl)
theorem dX1_surestBy_145 : decode cX1_surestBy 145 = .ok (.invokevirtual 246, 3) := dk_182 0 246 (dk_at dksX1_surestBy_6 4 rfl rfl)
theorem dX1_surestBy_148 : decode cX1_surestBy 148 = .ok (.istore 13, 2) := dk_54 13 (dk_at dksX1_surestBy_6 7 rfl rfl)
theorem dX1_surestBy_150 : decode cX1_surestBy 150 = .ok (.aload_n 0, 1) := dk_42 (dk_at dksX1_surestBy_6 9 rfl rfl)
theorem dX1_surestBy_151 : decode cX1_surestBy 151 = .ok (.aload_n 0, 1) := dk_42 (dk_at dksX1_surestBy_6 10 rfl rfl)
theorem dX1_surestBy_152 : decode cX1_surestBy 152 = .ok (.getfield 54, 3) := dk_180 0 54 (dk_at dksX1_surestBy_6 11 rfl rfl)
theorem dX1_surestBy_155 : decode cX1_surestBy 155 = .ok (.iload_n 1, 1) := dk_27 (dk_at dksX1_surestBy_6 14 rfl rfl)
theorem dX1_surestBy_156 : decode cX1_surestBy 156 = .ok (.aaload, 1) := dk_50 (dk_at dksX1_surestBy_6 15 rfl rfl)
theorem dX1_surestBy_157 : decode cX1_surestBy 157 = .ok (.iload 12, 2) := dk_21 12 (dk_at dksX1_surestBy_6 16 rfl rfl)
theorem dX1_surestBy_159 : decode cX1_surestBy 159 = .ok (.aaload, 1) := dk_50 (dk_at dksX1_surestBy_6 18 rfl rfl)
theorem dX1_surestBy_160 : decode cX1_surestBy 160 = .ok (.iload 13, 2) := dk_21 13 (dk_at dksX1_surestBy_6 19 rfl rfl)
theorem dX1_surestBy_162 : decode cX1_surestBy 162 = .ok (.iload 12, 2) := dk_21 12 (dk_at dksX1_surestBy_6 21 rfl rfl)
theorem dX1_surestBy_164 : decode cX1_surestBy 164 = .ok (.aload_n 0, 1) := dk_42 (dk_at dksX1_surestBy_6 23 rfl rfl)
theorem dX1_surestBy_165 : decode cX1_surestBy 165 = .ok (.getfield 12, 3) := dk_180 0 12 (dk_at dksX1_surestBy_7 0 rfl rfl)
theorem dX1_surestBy_168 : decode cX1_surestBy 168 = .ok (.getfield 112, 3) := dk_180 0 112 (dk_at dksX1_surestBy_7 3 rfl rfl)
theorem dX1_surestBy_171 : decode cX1_surestBy 171 = .ok (.iconst 0, 1) := dk_3 (dk_at dksX1_surestBy_7 6 rfl rfl)
theorem dX1_surestBy_172 : decode cX1_surestBy 172 = .ok (.iaload, 1) := dk_46 (dk_at dksX1_surestBy_7 7 rfl rfl)
theorem dX1_surestBy_173 : decode cX1_surestBy 173 = .ok (.iload_n 1, 1) := dk_27 (dk_at dksX1_surestBy_7 8 rfl rfl)
theorem dX1_surestBy_174 : decode cX1_surestBy 174 = .ok (.iadd, 1) := dk_96 (dk_at dksX1_surestBy_7 9 rfl rfl)
theorem dX1_surestBy_175 : decode cX1_surestBy 175 = .ok (.invokevirtual 249, 3) := dk_182 0 249 (dk_at dksX1_surestBy_7 10 rfl rfl)
theorem dX1_surestBy_178 : decode cX1_surestBy 178 = .ok (.ifCond .ne 55, 3) := dk_154 0 55 (dk_at dksX1_surestBy_7 13 rfl rfl)
theorem dX1_surestBy_181 : decode cX1_surestBy 181 = .ok (.iload 11, 2) := dk_21 11 (dk_at dksX1_surestBy_7 16 rfl rfl)
theorem dX1_surestBy_183 : decode cX1_surestBy 183 = .ok (.aload_n 0, 1) := dk_42 (dk_at dksX1_surestBy_7 18 rfl rfl)
theorem dX1_surestBy_184 : decode cX1_surestBy 184 = .ok (.getfield 12, 3) := dk_180 0 12 (dk_at dksX1_surestBy_7 19 rfl rfl)
theorem dX1_surestBy_187 : decode cX1_surestBy 187 = .ok (.getfield 121, 3) := dk_180 0 121 (dk_at dksX1_surestBy_8 0 rfl rfl)
theorem dX1_surestBy_190 : decode cX1_surestBy 190 = .ok (.iload 4, 2) := dk_21 4 (dk_at dksX1_surestBy_8 3 rfl rfl)
theorem dX1_surestBy_192 : decode cX1_surestBy 192 = .ok (.aaload, 1) := dk_50 (dk_at dksX1_surestBy_8 5 rfl rfl)
theorem dX1_surestBy_193 : decode cX1_surestBy 193 = .ok (.iload 12, 2) := dk_21 12 (dk_at dksX1_surestBy_8 6 rfl rfl)
theorem dX1_surestBy_195 : decode cX1_surestBy 195 = .ok (.iaload, 1) := dk_46 (dk_at dksX1_surestBy_8 8 rfl rfl)
theorem dX1_surestBy_196 : decode cX1_surestBy 196 = .ok (.aload_n 0, 1) := dk_42 (dk_at dksX1_surestBy_8 9 rfl rfl)
theorem dX1_surestBy_197 : decode cX1_surestBy 197 = .ok (.iload_n 1, 1) := dk_27 (dk_at dksX1_surestBy_8 10 rfl rfl)
theorem dX1_surestBy_198 : decode cX1_surestBy 198 = .ok (.iconst 1, 1) := dk_4 (dk_at dksX1_surestBy_8 11 rfl rfl)
theorem dX1_surestBy_199 : decode cX1_surestBy 199 = .ok (.iadd, 1) := dk_96 (dk_at dksX1_surestBy_8 12 rfl rfl)
theorem dX1_surestBy_200 : decode cX1_surestBy 200 = .ok (.iload_n 2, 1) := dk_28 (dk_at dksX1_surestBy_8 13 rfl rfl)
theorem dX1_surestBy_201 : decode cX1_surestBy 201 = .ok (.aload_n 0, 1) := dk_42 (dk_at dksX1_surestBy_8 14 rfl rfl)
theorem dX1_surestBy_202 : decode cX1_surestBy 202 = .ok (.getfield 54, 3) := dk_180 0 54 (dk_at dksX1_surestBy_8 15 rfl rfl)
theorem dX1_surestBy_205 : decode cX1_surestBy 205 = .ok (.iload_n 1, 1) := dk_27 (dk_at dksX1_surestBy_8 18 rfl rfl)
theorem dX1_surestBy_206 : decode cX1_surestBy 206 = .ok (.aaload, 1) := dk_50 (dk_at dksX1_surestBy_8 19 rfl rfl)
theorem dX1_surestBy_207 : decode cX1_surestBy 207 = .ok (.iload 12, 2) := dk_21 12 (dk_at dksX1_surestBy_8 20 rfl rfl)
theorem dX1_surestBy_209 : decode cX1_surestBy 209 = .ok (.aaload, 1) := dk_50 (dk_at dksX1_surestBy_8 22 rfl rfl)
theorem dX1_surestBy_210 : decode cX1_surestBy 210 = .ok (.iload 12, 2) := dk_21 12 (dk_at dksX1_surestBy_9 0 rfl rfl)
theorem dX1_surestBy_212 : decode cX1_surestBy 212 = .ok (.iload 13, 2) := dk_21 13 (dk_at dksX1_surestBy_9 2 rfl rfl)
theorem dX1_surestBy_214 : decode cX1_surestBy 214 = .ok (.iload 6, 2) := dk_21 6 (dk_at dksX1_surestBy_9 4 rfl rfl)
theorem dX1_surestBy_216 : decode cX1_surestBy 216 = .ok (.iload 9, 2) := dk_21 9 (dk_at dksX1_surestBy_9 6 rfl rfl)
theorem dX1_surestBy_218 : decode cX1_surestBy 218 = .ok (.isub, 1) := dk_100 (dk_at dksX1_surestBy_9 8 rfl rfl)
theorem dX1_surestBy_219 : decode cX1_surestBy 219 = .ok (.iload 8, 2) := dk_21 8 (dk_at dksX1_surestBy_9 9 rfl rfl)
theorem dX1_surestBy_221 : decode cX1_surestBy 221 = .ok (.iload 7, 2) := dk_21 7 (dk_at dksX1_surestBy_9 11 rfl rfl)
theorem dX1_surestBy_223 : decode cX1_surestBy 223 = .ok (.invokestatic 280, 3) := dk_184 1 24 (dk_at dksX1_surestBy_9 13 rfl rfl)
theorem dX1_surestBy_226 : decode cX1_surestBy 226 = .ok (.invokevirtual 328, 3) := dk_182 1 72 (dk_at dksX1_surestBy_9 16 rfl rfl)
theorem dX1_surestBy_229 : decode cX1_surestBy 229 = .ok (.imul, 1) := dk_104 (dk_at dksX1_surestBy_9 19 rfl rfl)
theorem dX1_surestBy_230 : decode cX1_surestBy 230 = .ok (.iadd, 1) := dk_96 (dk_at dksX1_surestBy_9 20 rfl rfl)
theorem dX1_surestBy_231 : decode cX1_surestBy 231 = .ok (.istore 11, 2) := dk_54 11 (dk_at dksX1_surestBy_9 21 rfl rfl)
theorem dX1_surestBy_233 : decode cX1_surestBy 233 = .ok (.iinc 12 1, 3) := dk_132 12 1 (dk_at dksX1_surestBy_10 0 rfl rfl)
theorem dX1_surestBy_236 : decode cX1_surestBy 236 = .ok (.goto (-138), 3) := dk_167 255 118 (dk_at dksX1_surestBy_10 3 rfl rfl)
theorem dX1_surestBy_239 : decode cX1_surestBy 239 = .ok (.iload 11, 2) := dk_21 11 (dk_at dksX1_surestBy_10 6 rfl rfl)
theorem dX1_surestBy_241 : decode cX1_surestBy 241 = .ok (.ireturn, 1) := dk_172 (dk_at dksX1_surestBy_10 8 rfl rfl)
abbrev cX1_known : ByteArray := prog_1_method_65_code
def yX1_known : MethodName := ⟨RX1, "known", "(I)I"⟩
def dkwX1_known_7 : List UInt8 := [132, 3, 1, 167, 255, 101, 28, 172]
abbrev dktX1_known_7 : List UInt8 := dkwX1_known_7 ++ []
def dkwX1_known_6 : List UInt8 := [182, 1, 31, 5, 46, 182, 1, 27, 19, 1, 10, 160, 0, 7, 3, 167, 0, 5, 21, 4, 96, 61]
abbrev dktX1_known_6 : List UInt8 := dkwX1_known_6 ++ dktX1_known_7
def dkwX1_known_5 : List UInt8 := [104, 16, 36, 104, 2, 184, 1, 76, 28, 42, 3, 42, 182, 1, 31, 3, 46, 42, 182, 1, 31, 4, 46, 42]
abbrev dktX1_known_5 : List UInt8 := dkwX1_known_5 ++ dktX1_known_6
def dkwX1_known_4 : List UInt8 := [167, 255, 200, 21, 4, 154, 0, 6, 167, 0, 62, 42, 182, 1, 4, 42, 180, 0, 46, 3, 27, 17, 0, 200]
abbrev dktX1_known_4 : List UInt8 := dkwX1_known_4 ++ dktX1_known_5
def dkwX1_known_3 : List UInt8 := [180, 0, 37, 21, 6, 46, 46, 104, 54, 4, 42, 180, 0, 37, 21, 6, 46, 54, 5, 132, 6, 1]
abbrev dktX1_known_3 : List UInt8 := dkwX1_known_3 ++ dktX1_known_4
def dkwX1_known_2 : List UInt8 := [21, 6, 29, 5, 21, 6, 104, 122, 6, 126, 79, 21, 4, 42, 180, 0, 12, 180, 0, 121, 21, 5, 50, 42]
abbrev dktX1_known_2 : List UInt8 := dkwX1_known_2 ++ dktX1_known_3
def dkwX1_known_1 : List UInt8 := [180, 0, 12, 180, 0, 112, 4, 46, 54, 5, 3, 54, 6, 21, 6, 27, 162, 0, 56, 42, 180, 0, 37]
abbrev dktX1_known_1 : List UInt8 := dkwX1_known_1 ++ dktX1_known_2
def dkwX1_known_0 : List UInt8 := [3, 61, 42, 27, 181, 0, 254, 3, 62, 29, 4, 5, 27, 104, 120, 162, 0, 152, 4, 54, 4, 42]
abbrev dktX1_known_0 : List UInt8 := dkwX1_known_0 ++ dktX1_known_1
theorem dksX1_known_0 : cX1_known.data.toList.drop 0 = dktX1_known_0 := by decide +kernel
theorem dksX1_known_1 : cX1_known.data.toList.drop 22 = dktX1_known_1 := dk_seg dksX1_known_0 22 rfl rfl
theorem dksX1_known_2 : cX1_known.data.toList.drop 45 = dktX1_known_2 := dk_seg dksX1_known_1 23 rfl rfl
theorem dksX1_known_3 : cX1_known.data.toList.drop 69 = dktX1_known_3 := dk_seg dksX1_known_2 24 rfl rfl
theorem dksX1_known_4 : cX1_known.data.toList.drop 91 = dktX1_known_4 := dk_seg dksX1_known_3 22 rfl rfl
theorem dksX1_known_5 : cX1_known.data.toList.drop 115 = dktX1_known_5 := dk_seg dksX1_known_4 24 rfl rfl
theorem dksX1_known_6 : cX1_known.data.toList.drop 139 = dktX1_known_6 := dk_seg dksX1_known_5 24 rfl rfl
theorem dksX1_known_7 : cX1_known.data.toList.drop 161 = dktX1_known_7 := dk_seg dksX1_known_6 22 rfl rfl
theorem dX1_known_0 : decode cX1_known 0 = .ok (.iconst 0, 1) := dk_3 (dk_at dksX1_known_0 0 rfl rfl)
theorem dX1_known_1 : decode cX1_known 1 = .ok (.istore_n 2, 1) := dk_61 (dk_at dksX1_known_0 1 rfl rfl)
theorem dX1_known_2 : decode cX1_known 2 = .ok (.aload_n 0, 1) := dk_42 (dk_at dksX1_known_0 2 rfl rfl)
theorem dX1_known_3 : decode cX1_known 3 = .ok (.iload_n 1, 1) := dk_27 (dk_at dksX1_known_0 3 rfl rfl)
theorem dX1_known_4 : decode cX1_known 4 = .ok (.putfield 254, 3) := dk_181 0 254 (dk_at dksX1_known_0 4 rfl rfl)
theorem dX1_known_7 : decode cX1_known 7 = .ok (.iconst 0, 1) := dk_3 (dk_at dksX1_known_0 7 rfl rfl)
theorem dX1_known_8 : decode cX1_known 8 = .ok (.istore_n 3, 1) := dk_62 (dk_at dksX1_known_0 8 rfl rfl)
theorem dX1_known_9 : decode cX1_known 9 = .ok (.iload_n 3, 1) := dk_29 (dk_at dksX1_known_0 9 rfl rfl)
theorem dX1_known_10 : decode cX1_known 10 = .ok (.iconst 1, 1) := dk_4 (dk_at dksX1_known_0 10 rfl rfl)
theorem dX1_known_11 : decode cX1_known 11 = .ok (.iconst 2, 1) := dk_5 (dk_at dksX1_known_0 11 rfl rfl)
theorem dX1_known_12 : decode cX1_known 12 = .ok (.iload_n 1, 1) := dk_27 (dk_at dksX1_known_0 12 rfl rfl)
theorem dX1_known_13 : decode cX1_known 13 = .ok (.imul, 1) := dk_104 (dk_at dksX1_known_0 13 rfl rfl)
theorem dX1_known_14 : decode cX1_known 14 = .ok (.ishl, 1) := dk_120 (dk_at dksX1_known_0 14 rfl rfl)
theorem dX1_known_15 : decode cX1_known 15 = .ok (.if_icmp .ge 152, 3) := dk_162 0 152 (dk_at dksX1_known_0 15 rfl rfl)
theorem dX1_known_18 : decode cX1_known 18 = .ok (.iconst 1, 1) := dk_4 (dk_at dksX1_known_0 18 rfl rfl)
theorem dX1_known_19 : decode cX1_known 19 = .ok (.istore 4, 2) := dk_54 4 (dk_at dksX1_known_0 19 rfl rfl)
theorem dX1_known_21 : decode cX1_known 21 = .ok (.aload_n 0, 1) := dk_42 (dk_at dksX1_known_0 21 rfl rfl)
theorem dX1_known_22 : decode cX1_known 22 = .ok (.getfield 12, 3) := dk_180 0 12 (dk_at dksX1_known_1 0 rfl rfl)
theorem dX1_known_25 : decode cX1_known 25 = .ok (.getfield 112, 3) := dk_180 0 112 (dk_at dksX1_known_1 3 rfl rfl)
theorem dX1_known_28 : decode cX1_known 28 = .ok (.iconst 1, 1) := dk_4 (dk_at dksX1_known_1 6 rfl rfl)
theorem dX1_known_29 : decode cX1_known 29 = .ok (.iaload, 1) := dk_46 (dk_at dksX1_known_1 7 rfl rfl)
theorem dX1_known_30 : decode cX1_known 30 = .ok (.istore 5, 2) := dk_54 5 (dk_at dksX1_known_1 8 rfl rfl)
theorem dX1_known_32 : decode cX1_known 32 = .ok (.iconst 0, 1) := dk_3 (dk_at dksX1_known_1 10 rfl rfl)
theorem dX1_known_33 : decode cX1_known 33 = .ok (.istore 6, 2) := dk_54 6 (dk_at dksX1_known_1 11 rfl rfl)
theorem dX1_known_35 : decode cX1_known 35 = .ok (.iload 6, 2) := dk_21 6 (dk_at dksX1_known_1 13 rfl rfl)
theorem dX1_known_37 : decode cX1_known 37 = .ok (.iload_n 1, 1) := dk_27 (dk_at dksX1_known_1 15 rfl rfl)
theorem dX1_known_38 : decode cX1_known 38 = .ok (.if_icmp .ge 56, 3) := dk_162 0 56 (dk_at dksX1_known_1 16 rfl rfl)
theorem dX1_known_41 : decode cX1_known 41 = .ok (.aload_n 0, 1) := dk_42 (dk_at dksX1_known_1 19 rfl rfl)
theorem dX1_known_42 : decode cX1_known 42 = .ok (.getfield 37, 3) := dk_180 0 37 (dk_at dksX1_known_1 20 rfl rfl)
theorem dX1_known_45 : decode cX1_known 45 = .ok (.iload 6, 2) := dk_21 6 (dk_at dksX1_known_2 0 rfl rfl)
theorem dX1_known_47 : decode cX1_known 47 = .ok (.iload_n 3, 1) := dk_29 (dk_at dksX1_known_2 2 rfl rfl)
theorem dX1_known_48 : decode cX1_known 48 = .ok (.iconst 2, 1) := dk_5 (dk_at dksX1_known_2 3 rfl rfl)
theorem dX1_known_49 : decode cX1_known 49 = .ok (.iload 6, 2) := dk_21 6 (dk_at dksX1_known_2 4 rfl rfl)
theorem dX1_known_51 : decode cX1_known 51 = .ok (.imul, 1) := dk_104 (dk_at dksX1_known_2 6 rfl rfl)
theorem dX1_known_52 : decode cX1_known 52 = .ok (.ishr, 1) := dk_122 (dk_at dksX1_known_2 7 rfl rfl)
theorem dX1_known_53 : decode cX1_known 53 = .ok (.iconst 3, 1) := dk_6 (dk_at dksX1_known_2 8 rfl rfl)
theorem dX1_known_54 : decode cX1_known 54 = .ok (.iand, 1) := dk_126 (dk_at dksX1_known_2 9 rfl rfl)
theorem dX1_known_55 : decode cX1_known 55 = .ok (.iastore, 1) := dk_79 (dk_at dksX1_known_2 10 rfl rfl)
theorem dX1_known_56 : decode cX1_known 56 = .ok (.iload 4, 2) := dk_21 4 (dk_at dksX1_known_2 11 rfl rfl)
theorem dX1_known_58 : decode cX1_known 58 = .ok (.aload_n 0, 1) := dk_42 (dk_at dksX1_known_2 13 rfl rfl)
theorem dX1_known_59 : decode cX1_known 59 = .ok (.getfield 12, 3) := dk_180 0 12 (dk_at dksX1_known_2 14 rfl rfl)
theorem dX1_known_62 : decode cX1_known 62 = .ok (.getfield 121, 3) := dk_180 0 121 (dk_at dksX1_known_2 17 rfl rfl)
theorem dX1_known_65 : decode cX1_known 65 = .ok (.iload 5, 2) := dk_21 5 (dk_at dksX1_known_2 20 rfl rfl)
theorem dX1_known_67 : decode cX1_known 67 = .ok (.aaload, 1) := dk_50 (dk_at dksX1_known_2 22 rfl rfl)
theorem dX1_known_68 : decode cX1_known 68 = .ok (.aload_n 0, 1) := dk_42 (dk_at dksX1_known_2 23 rfl rfl)
theorem dX1_known_69 : decode cX1_known 69 = .ok (.getfield 37, 3) := dk_180 0 37 (dk_at dksX1_known_3 0 rfl rfl)
theorem dX1_known_72 : decode cX1_known 72 = .ok (.iload 6, 2) := dk_21 6 (dk_at dksX1_known_3 3 rfl rfl)
theorem dX1_known_74 : decode cX1_known 74 = .ok (.iaload, 1) := dk_46 (dk_at dksX1_known_3 5 rfl rfl)
theorem dX1_known_75 : decode cX1_known 75 = .ok (.iaload, 1) := dk_46 (dk_at dksX1_known_3 6 rfl rfl)
theorem dX1_known_76 : decode cX1_known 76 = .ok (.imul, 1) := dk_104 (dk_at dksX1_known_3 7 rfl rfl)
theorem dX1_known_77 : decode cX1_known 77 = .ok (.istore 4, 2) := dk_54 4 (dk_at dksX1_known_3 8 rfl rfl)
theorem dX1_known_79 : decode cX1_known 79 = .ok (.aload_n 0, 1) := dk_42 (dk_at dksX1_known_3 10 rfl rfl)
theorem dX1_known_80 : decode cX1_known 80 = .ok (.getfield 37, 3) := dk_180 0 37 (dk_at dksX1_known_3 11 rfl rfl)
theorem dX1_known_83 : decode cX1_known 83 = .ok (.iload 6, 2) := dk_21 6 (dk_at dksX1_known_3 14 rfl rfl)
theorem dX1_known_85 : decode cX1_known 85 = .ok (.iaload, 1) := dk_46 (dk_at dksX1_known_3 16 rfl rfl)
theorem dX1_known_86 : decode cX1_known 86 = .ok (.istore 5, 2) := dk_54 5 (dk_at dksX1_known_3 17 rfl rfl)
theorem dX1_known_88 : decode cX1_known 88 = .ok (.iinc 6 1, 3) := dk_132 6 1 (dk_at dksX1_known_3 19 rfl rfl)
theorem dX1_known_91 : decode cX1_known 91 = .ok (.goto (-56), 3) := dk_167 255 200 (dk_at dksX1_known_4 0 rfl rfl)
theorem dX1_known_94 : decode cX1_known 94 = .ok (.iload 4, 2) := dk_21 4 (dk_at dksX1_known_4 3 rfl rfl)
theorem dX1_known_96 : decode cX1_known 96 = .ok (.ifCond .ne 6, 3) := dk_154 0 6 (dk_at dksX1_known_4 5 rfl rfl)
theorem dX1_known_99 : decode cX1_known 99 = .ok (.goto 62, 3) := dk_167 0 62 (dk_at dksX1_known_4 8 rfl rfl)
theorem dX1_known_102 : decode cX1_known 102 = .ok (.aload_n 0, 1) := dk_42 (dk_at dksX1_known_4 11 rfl rfl)
theorem dX1_known_103 : decode cX1_known 103 = .ok (.invokevirtual 260, 3) := dk_182 1 4 (dk_at dksX1_known_4 12 rfl rfl)
theorem dX1_known_106 : decode cX1_known 106 = .ok (.aload_n 0, 1) := dk_42 (dk_at dksX1_known_4 15 rfl rfl)
theorem dX1_known_107 : decode cX1_known 107 = .ok (.getfield 46, 3) := dk_180 0 46 (dk_at dksX1_known_4 16 rfl rfl)
theorem dX1_known_110 : decode cX1_known 110 = .ok (.iconst 0, 1) := dk_3 (dk_at dksX1_known_4 19 rfl rfl)
theorem dX1_known_111 : decode cX1_known 111 = .ok (.iload_n 1, 1) := dk_27 (dk_at dksX1_known_4 20 rfl rfl)
theorem dX1_known_112 : decode cX1_known 112 = .ok (.sipush 200, 3) := dk_17 0 200 (dk_at dksX1_known_4 21 rfl rfl)
theorem dX1_known_115 : decode cX1_known 115 = .ok (.imul, 1) := dk_104 (dk_at dksX1_known_5 0 rfl rfl)
theorem dX1_known_116 : decode cX1_known 116 = .ok (.bipush 36, 2) := dk_16 36 (dk_at dksX1_known_5 1 rfl rfl)
theorem dX1_known_118 : decode cX1_known 118 = .ok (.imul, 1) := dk_104 (dk_at dksX1_known_5 3 rfl rfl)
theorem dX1_known_119 : decode cX1_known 119 = .ok (.iconst (-1), 1) := dk_2 (dk_at dksX1_known_5 4 rfl rfl)
theorem dX1_known_120 : decode cX1_known 120 = .ok (.invokestatic 332, 3) := dk_184 1 76 (dk_at dksX1_known_5 5 rfl rfl)
theorem dX1_known_123 : decode cX1_known 123 = .ok (.iload_n 2, 1) := dk_28 (dk_at dksX1_known_5 8 rfl rfl)
theorem dX1_known_124 : decode cX1_known 124 = .ok (.aload_n 0, 1) := dk_42 (dk_at dksX1_known_5 9 rfl rfl)
theorem dX1_known_125 : decode cX1_known 125 = .ok (.iconst 0, 1) := dk_3 (dk_at dksX1_known_5 10 rfl rfl)
theorem dX1_known_126 : decode cX1_known 126 = .ok (.aload_n 0, 1) := dk_42 (dk_at dksX1_known_5 11 rfl rfl)
theorem dX1_known_127 : decode cX1_known 127 = .ok (.invokevirtual 287, 3) := dk_182 1 31 (dk_at dksX1_known_5 12 rfl rfl)
theorem dX1_known_130 : decode cX1_known 130 = .ok (.iconst 0, 1) := dk_3 (dk_at dksX1_known_5 15 rfl rfl)
theorem dX1_known_131 : decode cX1_known 131 = .ok (.iaload, 1) := dk_46 (dk_at dksX1_known_5 16 rfl rfl)
theorem dX1_known_132 : decode cX1_known 132 = .ok (.aload_n 0, 1) := dk_42 (dk_at dksX1_known_5 17 rfl rfl)
theorem dX1_known_133 : decode cX1_known 133 = .ok (.invokevirtual 287, 3) := dk_182 1 31 (dk_at dksX1_known_5 18 rfl rfl)
theorem dX1_known_136 : decode cX1_known 136 = .ok (.iconst 1, 1) := dk_4 (dk_at dksX1_known_5 21 rfl rfl)
theorem dX1_known_137 : decode cX1_known 137 = .ok (.iaload, 1) := dk_46 (dk_at dksX1_known_5 22 rfl rfl)
theorem dX1_known_138 : decode cX1_known 138 = .ok (.aload_n 0, 1) := dk_42 (dk_at dksX1_known_5 23 rfl rfl)
theorem dX1_known_139 : decode cX1_known 139 = .ok (.invokevirtual 287, 3) := dk_182 1 31 (dk_at dksX1_known_6 0 rfl rfl)
theorem dX1_known_142 : decode cX1_known 142 = .ok (.iconst 2, 1) := dk_5 (dk_at dksX1_known_6 3 rfl rfl)
theorem dX1_known_143 : decode cX1_known 143 = .ok (.iaload, 1) := dk_46 (dk_at dksX1_known_6 4 rfl rfl)
theorem dX1_known_144 : decode cX1_known 144 = .ok (.invokevirtual 283, 3) := dk_182 1 27 (dk_at dksX1_known_6 5 rfl rfl)
theorem dX1_known_147 : decode cX1_known 147 = .ok (.ldc_w 266, 3) := dk_19 1 10 (dk_at dksX1_known_6 8 rfl rfl)
theorem dX1_known_150 : decode cX1_known 150 = .ok (.if_icmp .ne 7, 3) := dk_160 0 7 (dk_at dksX1_known_6 11 rfl rfl)
theorem dX1_known_153 : decode cX1_known 153 = .ok (.iconst 0, 1) := dk_3 (dk_at dksX1_known_6 14 rfl rfl)
theorem dX1_known_154 : decode cX1_known 154 = .ok (.goto 5, 3) := dk_167 0 5 (dk_at dksX1_known_6 15 rfl rfl)
theorem dX1_known_157 : decode cX1_known 157 = .ok (.iload 4, 2) := dk_21 4 (dk_at dksX1_known_6 18 rfl rfl)
theorem dX1_known_159 : decode cX1_known 159 = .ok (.iadd, 1) := dk_96 (dk_at dksX1_known_6 20 rfl rfl)
theorem dX1_known_160 : decode cX1_known 160 = .ok (.istore_n 2, 1) := dk_61 (dk_at dksX1_known_6 21 rfl rfl)
theorem dX1_known_161 : decode cX1_known 161 = .ok (.iinc 3 1, 3) := dk_132 3 1 (dk_at dksX1_known_7 0 rfl rfl)
theorem dX1_known_164 : decode cX1_known 164 = .ok (.goto (-155), 3) := dk_167 255 101 (dk_at dksX1_known_7 3 rfl rfl)
theorem dX1_known_167 : decode cX1_known 167 = .ok (.iload_n 2, 1) := dk_28 (dk_at dksX1_known_7 6 rfl rfl)
theorem dX1_known_168 : decode cX1_known 168 = .ok (.ireturn, 1) := dk_172 (dk_at dksX1_known_7 7 rfl rfl)
abbrev cX1_leads : ByteArray := prog_1_method_67_code
def yX1_leads : MethodName := ⟨RX1, "leads", "(I)I"⟩
def dkwX1_leads_9 : List UInt8 := [42, 180, 0, 57, 27, 46, 172]
abbrev dktX1_leads_9 : List UInt8 := dkwX1_leads_9 ++ []
def dkwX1_leads_8 : List UInt8 := [132, 2, 1, 132, 5, 1, 167, 255, 131, 132, 3, 1, 167, 255, 109, 27, 2, 160, 0, 7, 28, 167, 0, 9]
abbrev dktX1_leads_8 : List UInt8 := dkwX1_leads_8 ++ dktX1_leads_9
def dkwX1_leads_7 : List UInt8 := [180, 0, 57, 21, 6, 42, 180, 0, 57, 21, 4, 46, 4, 96, 79, 42, 180, 0, 60, 28, 21, 6, 79]
abbrev dktX1_leads_7 : List UInt8 := dkwX1_leads_7 ++ dktX1_leads_8
def dkwX1_leads_6 : List UInt8 := [180, 0, 112, 4, 46, 42, 180, 0, 12, 180, 0, 112, 3, 46, 182, 0, 222, 154, 0, 6, 167, 0, 30, 42]
abbrev dktX1_leads_6 : List UInt8 := dkwX1_leads_6 ++ dktX1_leads_7
def dkwX1_leads_5 : List UInt8 := [180, 0, 57, 21, 6, 46, 2, 160, 0, 67, 42, 42, 180, 0, 12, 180, 0, 102, 21, 6, 42, 180, 0, 12]
abbrev dktX1_leads_5 : List UInt8 := dkwX1_leads_5 ++ dktX1_leads_6
def dkwX1_leads_4 : List UInt8 := [21, 5, 184, 0, 169, 21, 5, 184, 0, 173, 182, 0, 165, 54, 6, 21, 6, 2, 159, 0, 78, 42]
abbrev dktX1_leads_4 : List UInt8 := dkwX1_leads_4 ++ dktX1_leads_5
def dkwX1_leads_3 : List UInt8 := [162, 0, 125, 29, 153, 0, 16, 42, 180, 0, 12, 180, 0, 109, 21, 4, 51, 154, 0, 108, 42, 21, 4]
abbrev dktX1_leads_3 : List UInt8 := dkwX1_leads_3 ++ dktX1_leads_4
def dkwX1_leads_2 : List UInt8 := [79, 3, 62, 29, 28, 162, 0, 148, 42, 180, 0, 60, 29, 46, 54, 4, 3, 54, 5, 21, 5, 7]
abbrev dktX1_leads_2 : List UInt8 := dkwX1_leads_2 ++ dktX1_leads_3
def dkwX1_leads_1 : List UInt8 := [61, 42, 180, 0, 60, 3, 42, 182, 1, 31, 3, 46, 79, 42, 180, 0, 57, 42, 180, 0, 60, 3, 46, 3]
abbrev dktX1_leads_1 : List UInt8 := dkwX1_leads_1 ++ dktX1_leads_2
def dkwX1_leads_0 : List UInt8 := [27, 2, 159, 0, 13, 42, 27, 182, 0, 98, 154, 0, 5, 2, 172, 42, 180, 0, 57, 2, 184, 1, 37, 4]
abbrev dktX1_leads_0 : List UInt8 := dkwX1_leads_0 ++ dktX1_leads_1
theorem dksX1_leads_0 : cX1_leads.data.toList.drop 0 = dktX1_leads_0 := by decide +kernel
theorem dksX1_leads_1 : cX1_leads.data.toList.drop 24 = dktX1_leads_1 := dk_seg dksX1_leads_0 24 rfl rfl
theorem dksX1_leads_2 : cX1_leads.data.toList.drop 48 = dktX1_leads_2 := dk_seg dksX1_leads_1 24 rfl rfl
theorem dksX1_leads_3 : cX1_leads.data.toList.drop 70 = dktX1_leads_3 := dk_seg dksX1_leads_2 22 rfl rfl
theorem dksX1_leads_4 : cX1_leads.data.toList.drop 93 = dktX1_leads_4 := dk_seg dksX1_leads_3 23 rfl rfl
theorem dksX1_leads_5 : cX1_leads.data.toList.drop 115 = dktX1_leads_5 := dk_seg dksX1_leads_4 22 rfl rfl
theorem dksX1_leads_6 : cX1_leads.data.toList.drop 139 = dktX1_leads_6 := dk_seg dksX1_leads_5 24 rfl rfl
theorem dksX1_leads_7 : cX1_leads.data.toList.drop 163 = dktX1_leads_7 := dk_seg dksX1_leads_6 24 rfl rfl
theorem dksX1_leads_8 : cX1_leads.data.toList.drop 186 = dktX1_leads_8 := dk_seg dksX1_leads_7 23 rfl rfl
theorem dksX1_leads_9 : cX1_leads.data.toList.drop 210 = dktX1_leads_9 := dk_seg dksX1_leads_8 24 rfl rfl
theorem dX1_leads_0 : decode cX1_leads 0 = .ok (.iload_n 1, 1) := dk_27 (dk_at dksX1_leads_0 0 rfl rfl)
theorem dX1_leads_1 : decode cX1_leads 1 = .ok (.iconst (-1), 1) := dk_2 (dk_at dksX1_leads_0 1 rfl rfl)
theorem dX1_leads_2 : decode cX1_leads 2 = .ok (.if_icmp .eq 13, 3) := dk_159 0 13 (dk_at dksX1_leads_0 2 rfl rfl)
theorem dX1_leads_5 : decode cX1_leads 5 = .ok (.aload_n 0, 1) := dk_42 (dk_at dksX1_leads_0 5 rfl rfl)
theorem dX1_leads_6 : decode cX1_leads 6 = .ok (.iload_n 1, 1) := dk_27 (dk_at dksX1_leads_0 6 rfl rfl)
theorem dX1_leads_7 : decode cX1_leads 7 = .ok (.invokevirtual 98, 3) := dk_182 0 98 (dk_at dksX1_leads_0 7 rfl rfl)
theorem dX1_leads_10 : decode cX1_leads 10 = .ok (.ifCond .ne 5, 3) := dk_154 0 5 (dk_at dksX1_leads_0 10 rfl rfl)
theorem dX1_leads_13 : decode cX1_leads 13 = .ok (.iconst (-1), 1) := dk_2 (dk_at dksX1_leads_0 13 rfl rfl)
theorem dX1_leads_14 : decode cX1_leads 14 = .ok (.ireturn, 1) := dk_172 (dk_at dksX1_leads_0 14 rfl rfl)
theorem dX1_leads_15 : decode cX1_leads 15 = .ok (.aload_n 0, 1) := dk_42 (dk_at dksX1_leads_0 15 rfl rfl)
theorem dX1_leads_16 : decode cX1_leads 16 = .ok (.getfield 57, 3) := dk_180 0 57 (dk_at dksX1_leads_0 16 rfl rfl)
theorem dX1_leads_19 : decode cX1_leads 19 = .ok (.iconst (-1), 1) := dk_2 (dk_at dksX1_leads_0 19 rfl rfl)
theorem dX1_leads_20 : decode cX1_leads 20 = .ok (.invokestatic 293, 3) := dk_184 1 37 (dk_at dksX1_leads_0 20 rfl rfl)
theorem dX1_leads_23 : decode cX1_leads 23 = .ok (.iconst 1, 1) := dk_4 (dk_at dksX1_leads_0 23 rfl rfl)
theorem dX1_leads_24 : decode cX1_leads 24 = .ok (.istore_n 2, 1) := dk_61 (dk_at dksX1_leads_1 0 rfl rfl)
theorem dX1_leads_25 : decode cX1_leads 25 = .ok (.aload_n 0, 1) := dk_42 (dk_at dksX1_leads_1 1 rfl rfl)
theorem dX1_leads_26 : decode cX1_leads 26 = .ok (.getfield 60, 3) := dk_180 0 60 (dk_at dksX1_leads_1 2 rfl rfl)
theorem dX1_leads_29 : decode cX1_leads 29 = .ok (.iconst 0, 1) := dk_3 (dk_at dksX1_leads_1 5 rfl rfl)
theorem dX1_leads_30 : decode cX1_leads 30 = .ok (.aload_n 0, 1) := dk_42 (dk_at dksX1_leads_1 6 rfl rfl)
theorem dX1_leads_31 : decode cX1_leads 31 = .ok (.invokevirtual 287, 3) := dk_182 1 31 (dk_at dksX1_leads_1 7 rfl rfl)
theorem dX1_leads_34 : decode cX1_leads 34 = .ok (.iconst 0, 1) := dk_3 (dk_at dksX1_leads_1 10 rfl rfl)
theorem dX1_leads_35 : decode cX1_leads 35 = .ok (.iaload, 1) := dk_46 (dk_at dksX1_leads_1 11 rfl rfl)
theorem dX1_leads_36 : decode cX1_leads 36 = .ok (.iastore, 1) := dk_79 (dk_at dksX1_leads_1 12 rfl rfl)
theorem dX1_leads_37 : decode cX1_leads 37 = .ok (.aload_n 0, 1) := dk_42 (dk_at dksX1_leads_1 13 rfl rfl)
theorem dX1_leads_38 : decode cX1_leads 38 = .ok (.getfield 57, 3) := dk_180 0 57 (dk_at dksX1_leads_1 14 rfl rfl)
theorem dX1_leads_41 : decode cX1_leads 41 = .ok (.aload_n 0, 1) := dk_42 (dk_at dksX1_leads_1 17 rfl rfl)
theorem dX1_leads_42 : decode cX1_leads 42 = .ok (.getfield 60, 3) := dk_180 0 60 (dk_at dksX1_leads_1 18 rfl rfl)
theorem dX1_leads_45 : decode cX1_leads 45 = .ok (.iconst 0, 1) := dk_3 (dk_at dksX1_leads_1 21 rfl rfl)
theorem dX1_leads_46 : decode cX1_leads 46 = .ok (.iaload, 1) := dk_46 (dk_at dksX1_leads_1 22 rfl rfl)
theorem dX1_leads_47 : decode cX1_leads 47 = .ok (.iconst 0, 1) := dk_3 (dk_at dksX1_leads_1 23 rfl rfl)
theorem dX1_leads_48 : decode cX1_leads 48 = .ok (.iastore, 1) := dk_79 (dk_at dksX1_leads_2 0 rfl rfl)
theorem dX1_leads_49 : decode cX1_leads 49 = .ok (.iconst 0, 1) := dk_3 (dk_at dksX1_leads_2 1 rfl rfl)
theorem dX1_leads_50 : decode cX1_leads 50 = .ok (.istore_n 3, 1) := dk_62 (dk_at dksX1_leads_2 2 rfl rfl)
theorem dX1_leads_51 : decode cX1_leads 51 = .ok (.iload_n 3, 1) := dk_29 (dk_at dksX1_leads_2 3 rfl rfl)
theorem dX1_leads_52 : decode cX1_leads 52 = .ok (.iload_n 2, 1) := dk_28 (dk_at dksX1_leads_2 4 rfl rfl)
theorem dX1_leads_53 : decode cX1_leads 53 = .ok (.if_icmp .ge 148, 3) := dk_162 0 148 (dk_at dksX1_leads_2 5 rfl rfl)
theorem dX1_leads_56 : decode cX1_leads 56 = .ok (.aload_n 0, 1) := dk_42 (dk_at dksX1_leads_2 8 rfl rfl)
theorem dX1_leads_57 : decode cX1_leads 57 = .ok (.getfield 60, 3) := dk_180 0 60 (dk_at dksX1_leads_2 9 rfl rfl)
theorem dX1_leads_60 : decode cX1_leads 60 = .ok (.iload_n 3, 1) := dk_29 (dk_at dksX1_leads_2 12 rfl rfl)
theorem dX1_leads_61 : decode cX1_leads 61 = .ok (.iaload, 1) := dk_46 (dk_at dksX1_leads_2 13 rfl rfl)
theorem dX1_leads_62 : decode cX1_leads 62 = .ok (.istore 4, 2) := dk_54 4 (dk_at dksX1_leads_2 14 rfl rfl)
theorem dX1_leads_64 : decode cX1_leads 64 = .ok (.iconst 0, 1) := dk_3 (dk_at dksX1_leads_2 16 rfl rfl)
theorem dX1_leads_65 : decode cX1_leads 65 = .ok (.istore 5, 2) := dk_54 5 (dk_at dksX1_leads_2 17 rfl rfl)
theorem dX1_leads_67 : decode cX1_leads 67 = .ok (.iload 5, 2) := dk_21 5 (dk_at dksX1_leads_2 19 rfl rfl)
theorem dX1_leads_69 : decode cX1_leads 69 = .ok (.iconst 4, 1) := dk_7 (dk_at dksX1_leads_2 21 rfl rfl)
theorem dX1_leads_70 : decode cX1_leads 70 = .ok (.if_icmp .ge 125, 3) := dk_162 0 125 (dk_at dksX1_leads_3 0 rfl rfl)
theorem dX1_leads_73 : decode cX1_leads 73 = .ok (.iload_n 3, 1) := dk_29 (dk_at dksX1_leads_3 3 rfl rfl)
theorem dX1_leads_74 : decode cX1_leads 74 = .ok (.ifCond .eq 16, 3) := dk_153 0 16 (dk_at dksX1_leads_3 4 rfl rfl)
theorem dX1_leads_77 : decode cX1_leads 77 = .ok (.aload_n 0, 1) := dk_42 (dk_at dksX1_leads_3 7 rfl rfl)
theorem dX1_leads_78 : decode cX1_leads 78 = .ok (.getfield 12, 3) := dk_180 0 12 (dk_at dksX1_leads_3 8 rfl rfl)
theorem dX1_leads_81 : decode cX1_leads 81 = .ok (.getfield 109, 3) := dk_180 0 109 (dk_at dksX1_leads_3 11 rfl rfl)
theorem dX1_leads_84 : decode cX1_leads 84 = .ok (.iload 4, 2) := dk_21 4 (dk_at dksX1_leads_3 14 rfl rfl)
theorem dX1_leads_86 : decode cX1_leads 86 = .ok (.baload, 1) := dk_51 (dk_at dksX1_leads_3 16 rfl rfl)
theorem dX1_leads_87 : decode cX1_leads 87 = .ok (.ifCond .ne 108, 3) := dk_154 0 108 (dk_at dksX1_leads_3 17 rfl rfl)
theorem dX1_leads_90 : decode cX1_leads 90 = .ok (.aload_n 0, 1) := dk_42 (dk_at dksX1_leads_3 20 rfl rfl)
theorem dX1_leads_91 : decode cX1_leads 91 = .ok (.iload 4, 2) := dk_21 4 (dk_at dksX1_leads_3 21 rfl rfl)
theorem dX1_leads_93 : decode cX1_leads 93 = .ok (.iload 5, 2) := dk_21 5 (dk_at dksX1_leads_4 0 rfl rfl)
theorem dX1_leads_95 : decode cX1_leads 95 = .ok (.invokestatic 169, 3) := dk_184 0 169 (dk_at dksX1_leads_4 2 rfl rfl)
theorem dX1_leads_98 : decode cX1_leads 98 = .ok (.iload 5, 2) := dk_21 5 (dk_at dksX1_leads_4 5 rfl rfl)
theorem dX1_leads_100 : decode cX1_leads 100 = .ok (.invokestatic 173, 3) := dk_184 0 173 (dk_at dksX1_leads_4 7 rfl rfl)
theorem dX1_leads_103 : decode cX1_leads 103 = .ok (.invokevirtual 165, 3) := dk_182 0 165 (dk_at dksX1_leads_4 10 rfl rfl)
theorem dX1_leads_106 : decode cX1_leads 106 = .ok (.istore 6, 2) := dk_54 6 (dk_at dksX1_leads_4 13 rfl rfl)
theorem dX1_leads_108 : decode cX1_leads 108 = .ok (.iload 6, 2) := dk_21 6 (dk_at dksX1_leads_4 15 rfl rfl)
theorem dX1_leads_110 : decode cX1_leads 110 = .ok (.iconst (-1), 1) := dk_2 (dk_at dksX1_leads_4 17 rfl rfl)
theorem dX1_leads_111 : decode cX1_leads 111 = .ok (.if_icmp .eq 78, 3) := dk_159 0 78 (dk_at dksX1_leads_4 18 rfl rfl)
theorem dX1_leads_114 : decode cX1_leads 114 = .ok (.aload_n 0, 1) := dk_42 (dk_at dksX1_leads_4 21 rfl rfl)
theorem dX1_leads_115 : decode cX1_leads 115 = .ok (.getfield 57, 3) := dk_180 0 57 (dk_at dksX1_leads_5 0 rfl rfl)
theorem dX1_leads_118 : decode cX1_leads 118 = .ok (.iload 6, 2) := dk_21 6 (dk_at dksX1_leads_5 3 rfl rfl)
theorem dX1_leads_120 : decode cX1_leads 120 = .ok (.iaload, 1) := dk_46 (dk_at dksX1_leads_5 5 rfl rfl)
theorem dX1_leads_121 : decode cX1_leads 121 = .ok (.iconst (-1), 1) := dk_2 (dk_at dksX1_leads_5 6 rfl rfl)
theorem dX1_leads_122 : decode cX1_leads 122 = .ok (.if_icmp .ne 67, 3) := dk_160 0 67 (dk_at dksX1_leads_5 7 rfl rfl)
theorem dX1_leads_125 : decode cX1_leads 125 = .ok (.aload_n 0, 1) := dk_42 (dk_at dksX1_leads_5 10 rfl rfl)
theorem dX1_leads_126 : decode cX1_leads 126 = .ok (.aload_n 0, 1) := dk_42 (dk_at dksX1_leads_5 11 rfl rfl)
theorem dX1_leads_127 : decode cX1_leads 127 = .ok (.getfield 12, 3) := dk_180 0 12 (dk_at dksX1_leads_5 12 rfl rfl)
theorem dX1_leads_130 : decode cX1_leads 130 = .ok (.getfield 102, 3) := dk_180 0 102 (dk_at dksX1_leads_5 15 rfl rfl)
theorem dX1_leads_133 : decode cX1_leads 133 = .ok (.iload 6, 2) := dk_21 6 (dk_at dksX1_leads_5 18 rfl rfl)
theorem dX1_leads_135 : decode cX1_leads 135 = .ok (.aload_n 0, 1) := dk_42 (dk_at dksX1_leads_5 20 rfl rfl)
theorem dX1_leads_136 : decode cX1_leads 136 = .ok (.getfield 12, 3) := dk_180 0 12 (dk_at dksX1_leads_5 21 rfl rfl)
theorem dX1_leads_139 : decode cX1_leads 139 = .ok (.getfield 112, 3) := dk_180 0 112 (dk_at dksX1_leads_6 0 rfl rfl)
theorem dX1_leads_142 : decode cX1_leads 142 = .ok (.iconst 1, 1) := dk_4 (dk_at dksX1_leads_6 3 rfl rfl)
theorem dX1_leads_143 : decode cX1_leads 143 = .ok (.iaload, 1) := dk_46 (dk_at dksX1_leads_6 4 rfl rfl)
theorem dX1_leads_144 : decode cX1_leads 144 = .ok (.aload_n 0, 1) := dk_42 (dk_at dksX1_leads_6 5 rfl rfl)
theorem dX1_leads_145 : decode cX1_leads 145 = .ok (.getfield 12, 3) := dk_180 0 12 (dk_at dksX1_leads_6 6 rfl rfl)
theorem dX1_leads_148 : decode cX1_leads 148 = .ok (.getfield 112, 3) := dk_180 0 112 (dk_at dksX1_leads_6 9 rfl rfl)
theorem dX1_leads_151 : decode cX1_leads 151 = .ok (.iconst 0, 1) := dk_3 (dk_at dksX1_leads_6 12 rfl rfl)
theorem dX1_leads_152 : decode cX1_leads 152 = .ok (.iaload, 1) := dk_46 (dk_at dksX1_leads_6 13 rfl rfl)
theorem dX1_leads_153 : decode cX1_leads 153 = .ok (.invokevirtual 222, 3) := dk_182 0 222 (dk_at dksX1_leads_6 14 rfl rfl)
theorem dX1_leads_156 : decode cX1_leads 156 = .ok (.ifCond .ne 6, 3) := dk_154 0 6 (dk_at dksX1_leads_6 17 rfl rfl)
theorem dX1_leads_159 : decode cX1_leads 159 = .ok (.goto 30, 3) := dk_167 0 30 (dk_at dksX1_leads_6 20 rfl rfl)
theorem dX1_leads_162 : decode cX1_leads 162 = .ok (.aload_n 0, 1) := dk_42 (dk_at dksX1_leads_6 23 rfl rfl)
theorem dX1_leads_163 : decode cX1_leads 163 = .ok (.getfield 57, 3) := dk_180 0 57 (dk_at dksX1_leads_7 0 rfl rfl)
theorem dX1_leads_166 : decode cX1_leads 166 = .ok (.iload 6, 2) := dk_21 6 (dk_at dksX1_leads_7 3 rfl rfl)
theorem dX1_leads_168 : decode cX1_leads 168 = .ok (.aload_n 0, 1) := dk_42 (dk_at dksX1_leads_7 5 rfl rfl)
theorem dX1_leads_169 : decode cX1_leads 169 = .ok (.getfield 57, 3) := dk_180 0 57 (dk_at dksX1_leads_7 6 rfl rfl)
theorem dX1_leads_172 : decode cX1_leads 172 = .ok (.iload 4, 2) := dk_21 4 (dk_at dksX1_leads_7 9 rfl rfl)
theorem dX1_leads_174 : decode cX1_leads 174 = .ok (.iaload, 1) := dk_46 (dk_at dksX1_leads_7 11 rfl rfl)
theorem dX1_leads_175 : decode cX1_leads 175 = .ok (.iconst 1, 1) := dk_4 (dk_at dksX1_leads_7 12 rfl rfl)
theorem dX1_leads_176 : decode cX1_leads 176 = .ok (.iadd, 1) := dk_96 (dk_at dksX1_leads_7 13 rfl rfl)
theorem dX1_leads_177 : decode cX1_leads 177 = .ok (.iastore, 1) := dk_79 (dk_at dksX1_leads_7 14 rfl rfl)
theorem dX1_leads_178 : decode cX1_leads 178 = .ok (.aload_n 0, 1) := dk_42 (dk_at dksX1_leads_7 15 rfl rfl)
theorem dX1_leads_179 : decode cX1_leads 179 = .ok (.getfield 60, 3) := dk_180 0 60 (dk_at dksX1_leads_7 16 rfl rfl)
theorem dX1_leads_182 : decode cX1_leads 182 = .ok (.iload_n 2, 1) := dk_28 (dk_at dksX1_leads_7 19 rfl rfl)
theorem dX1_leads_183 : decode cX1_leads 183 = .ok (.iload 6, 2) := dk_21 6 (dk_at dksX1_leads_7 20 rfl rfl)
theorem dX1_leads_185 : decode cX1_leads 185 = .ok (.iastore, 1) := dk_79 (dk_at dksX1_leads_7 22 rfl rfl)
theorem dX1_leads_186 : decode cX1_leads 186 = .ok (.iinc 2 1, 3) := dk_132 2 1 (dk_at dksX1_leads_8 0 rfl rfl)
theorem dX1_leads_189 : decode cX1_leads 189 = .ok (.iinc 5 1, 3) := dk_132 5 1 (dk_at dksX1_leads_8 3 rfl rfl)
theorem dX1_leads_192 : decode cX1_leads 192 = .ok (.goto (-125), 3) := dk_167 255 131 (dk_at dksX1_leads_8 6 rfl rfl)
theorem dX1_leads_195 : decode cX1_leads 195 = .ok (.iinc 3 1, 3) := dk_132 3 1 (dk_at dksX1_leads_8 9 rfl rfl)
theorem dX1_leads_198 : decode cX1_leads 198 = .ok (.goto (-147), 3) := dk_167 255 109 (dk_at dksX1_leads_8 12 rfl rfl)
theorem dX1_leads_201 : decode cX1_leads 201 = .ok (.iload_n 1, 1) := dk_27 (dk_at dksX1_leads_8 15 rfl rfl)
theorem dX1_leads_202 : decode cX1_leads 202 = .ok (.iconst (-1), 1) := dk_2 (dk_at dksX1_leads_8 16 rfl rfl)
theorem dX1_leads_203 : decode cX1_leads 203 = .ok (.if_icmp .ne 7, 3) := dk_160 0 7 (dk_at dksX1_leads_8 17 rfl rfl)
theorem dX1_leads_206 : decode cX1_leads 206 = .ok (.iload_n 2, 1) := dk_28 (dk_at dksX1_leads_8 20 rfl rfl)
theorem dX1_leads_207 : decode cX1_leads 207 = .ok (.goto 9, 3) := dk_167 0 9 (dk_at dksX1_leads_8 21 rfl rfl)
theorem dX1_leads_210 : decode cX1_leads 210 = .ok (.aload_n 0, 1) := dk_42 (dk_at dksX1_leads_9 0 rfl rfl)
theorem dX1_leads_211 : decode cX1_leads 211 = .ok (.getfield 57, 3) := dk_180 0 57 (dk_at dksX1_leads_9 1 rfl rfl)
theorem dX1_leads_214 : decode cX1_leads 214 = .ok (.iload_n 1, 1) := dk_27 (dk_at dksX1_leads_9 4 rfl rfl)
theorem dX1_leads_215 : decode cX1_leads 215 = .ok (.iaload, 1) := dk_46 (dk_at dksX1_leads_9 5 rfl rfl)
theorem dX1_leads_216 : decode cX1_leads 216 = .ok (.ireturn, 1) := dk_172 (dk_at dksX1_leads_9 6 rfl rfl)
abbrev cX1_prior : ByteArray := prog_1_method_69_code
def yX1_prior : MethodName := ⟨RX1, "prior", "(II)Z"⟩
def dkwX1_prior_1 : List UInt8 := [180, 1, 84, 27, 28, 79, 4, 172]
abbrev dktX1_prior_1 : List UInt8 := dkwX1_prior_1 ++ []
def dkwX1_prior_0 : List UInt8 := [27, 184, 1, 81, 153, 0, 13, 28, 3, 16, 9, 184, 0, 94, 154, 0, 5, 3, 172, 42, 180, 0, 12]
abbrev dktX1_prior_0 : List UInt8 := dkwX1_prior_0 ++ dktX1_prior_1
theorem dksX1_prior_0 : cX1_prior.data.toList.drop 0 = dktX1_prior_0 := by decide +kernel
theorem dksX1_prior_1 : cX1_prior.data.toList.drop 23 = dktX1_prior_1 := dk_seg dksX1_prior_0 23 rfl rfl
theorem dX1_prior_0 : decode cX1_prior 0 = .ok (.iload_n 1, 1) := dk_27 (dk_at dksX1_prior_0 0 rfl rfl)
theorem dX1_prior_1 : decode cX1_prior 1 = .ok (.invokestatic 337, 3) := dk_184 1 81 (dk_at dksX1_prior_0 1 rfl rfl)
theorem dX1_prior_4 : decode cX1_prior 4 = .ok (.ifCond .eq 13, 3) := dk_153 0 13 (dk_at dksX1_prior_0 4 rfl rfl)
theorem dX1_prior_7 : decode cX1_prior 7 = .ok (.iload_n 2, 1) := dk_28 (dk_at dksX1_prior_0 7 rfl rfl)
theorem dX1_prior_8 : decode cX1_prior 8 = .ok (.iconst 0, 1) := dk_3 (dk_at dksX1_prior_0 8 rfl rfl)
theorem dX1_prior_9 : decode cX1_prior 9 = .ok (.bipush 9, 2) := dk_16 9 (dk_at dksX1_prior_0 9 rfl rfl)
theorem dX1_prior_11 : decode cX1_prior 11 = .ok (.invokestatic 94, 3) := dk_184 0 94 (dk_at dksX1_prior_0 11 rfl rfl)
theorem dX1_prior_14 : decode cX1_prior 14 = .ok (.ifCond .ne 5, 3) := dk_154 0 5 (dk_at dksX1_prior_0 14 rfl rfl)
theorem dX1_prior_17 : decode cX1_prior 17 = .ok (.iconst 0, 1) := dk_3 (dk_at dksX1_prior_0 17 rfl rfl)
theorem dX1_prior_18 : decode cX1_prior 18 = .ok (.ireturn, 1) := dk_172 (dk_at dksX1_prior_0 18 rfl rfl)
theorem dX1_prior_19 : decode cX1_prior 19 = .ok (.aload_n 0, 1) := dk_42 (dk_at dksX1_prior_0 19 rfl rfl)
theorem dX1_prior_20 : decode cX1_prior 20 = .ok (.getfield 12, 3) := dk_180 0 12 (dk_at dksX1_prior_0 20 rfl rfl)
theorem dX1_prior_23 : decode cX1_prior 23 = .ok (.getfield 340, 3) := dk_180 1 84 (dk_at dksX1_prior_1 0 rfl rfl)
theorem dX1_prior_26 : decode cX1_prior 26 = .ok (.iload_n 1, 1) := dk_27 (dk_at dksX1_prior_1 3 rfl rfl)
theorem dX1_prior_27 : decode cX1_prior 27 = .ok (.iload_n 2, 1) := dk_28 (dk_at dksX1_prior_1 4 rfl rfl)
theorem dX1_prior_28 : decode cX1_prior 28 = .ok (.iastore, 1) := dk_79 (dk_at dksX1_prior_1 5 rfl rfl)
theorem dX1_prior_29 : decode cX1_prior 29 = .ok (.iconst 1, 1) := dk_4 (dk_at dksX1_prior_1 6 rfl rfl)
theorem dX1_prior_30 : decode cX1_prior 30 = .ok (.ireturn, 1) := dk_172 (dk_at dksX1_prior_1 7 rfl rfl)
abbrev cX1_isClass : ByteArray := prog_1_method_68_code
def yX1_isClass : MethodName := ⟨RX1, "isClass", "(I)Z"⟩
def dkwX1_isClass_0 : List UInt8 := [26, 3, 8, 184, 0, 94, 172]
abbrev dktX1_isClass_0 : List UInt8 := dkwX1_isClass_0 ++ []
theorem dksX1_isClass_0 : cX1_isClass.data.toList.drop 0 = dktX1_isClass_0 := by decide +kernel
theorem dX1_isClass_0 : decode cX1_isClass 0 = .ok (.iload_n 0, 1) := dk_26 (dk_at dksX1_isClass_0 0 rfl rfl)
theorem dX1_isClass_1 : decode cX1_isClass 1 = .ok (.iconst 0, 1) := dk_3 (dk_at dksX1_isClass_0 1 rfl rfl)
theorem dX1_isClass_2 : decode cX1_isClass 2 = .ok (.iconst 5, 1) := dk_8 (dk_at dksX1_isClass_0 2 rfl rfl)
theorem dX1_isClass_3 : decode cX1_isClass 3 = .ok (.invokestatic 94, 3) := dk_184 0 94 (dk_at dksX1_isClass_0 3 rfl rfl)
theorem dX1_isClass_6 : decode cX1_isClass 6 = .ok (.ireturn, 1) := dk_172 (dk_at dksX1_isClass_0 6 rfl rfl)
abbrev cX1_look : ByteArray := prog_1_method_70_code
def yX1_look : MethodName := ⟨RX1, "look", "(II)I"⟩
def dkwX1_look_4 : List UInt8 := [16, 7, 46, 172]
abbrev dktX1_look_4 : List UInt8 := dkwX1_look_4 ++ []
def dkwX1_look_3 : List UInt8 := [28, 79, 42, 180, 0, 12, 180, 0, 112, 16, 7, 92, 46, 4, 96, 79, 42, 180, 0, 12, 180, 0, 112]
abbrev dktX1_look_3 : List UInt8 := dkwX1_look_3 ++ dktX1_look_4
def dkwX1_look_2 : List UInt8 := [46, 50, 3, 27, 79, 42, 180, 0, 12, 180, 0, 251, 42, 180, 0, 12, 180, 0, 112, 16, 7, 46, 50, 4]
abbrev dktX1_look_2 : List UInt8 := dkwX1_look_2 ++ dktX1_look_3
def dkwX1_look_1 : List UInt8 := [46, 16, 30, 160, 0, 5, 2, 172, 42, 180, 0, 12, 180, 0, 251, 42, 180, 0, 12, 180, 0, 112, 16, 7]
abbrev dktX1_look_1 : List UInt8 := dkwX1_look_1 ++ dktX1_look_2
def dkwX1_look_0 : List UInt8 := [42, 27, 182, 0, 98, 153, 0, 25, 28, 184, 1, 81, 153, 0, 18, 42, 180, 0, 12, 180, 0, 112, 16, 7]
abbrev dktX1_look_0 : List UInt8 := dkwX1_look_0 ++ dktX1_look_1
theorem dksX1_look_0 : cX1_look.data.toList.drop 0 = dktX1_look_0 := by decide +kernel
theorem dksX1_look_1 : cX1_look.data.toList.drop 24 = dktX1_look_1 := dk_seg dksX1_look_0 24 rfl rfl
theorem dksX1_look_2 : cX1_look.data.toList.drop 48 = dktX1_look_2 := dk_seg dksX1_look_1 24 rfl rfl
theorem dksX1_look_3 : cX1_look.data.toList.drop 72 = dktX1_look_3 := dk_seg dksX1_look_2 24 rfl rfl
theorem dksX1_look_4 : cX1_look.data.toList.drop 95 = dktX1_look_4 := dk_seg dksX1_look_3 23 rfl rfl
theorem dX1_look_0 : decode cX1_look 0 = .ok (.aload_n 0, 1) := dk_42 (dk_at dksX1_look_0 0 rfl rfl)
theorem dX1_look_1 : decode cX1_look 1 = .ok (.iload_n 1, 1) := dk_27 (dk_at dksX1_look_0 1 rfl rfl)
theorem dX1_look_2 : decode cX1_look 2 = .ok (.invokevirtual 98, 3) := dk_182 0 98 (dk_at dksX1_look_0 2 rfl rfl)
theorem dX1_look_5 : decode cX1_look 5 = .ok (.ifCond .eq 25, 3) := dk_153 0 25 (dk_at dksX1_look_0 5 rfl rfl)
theorem dX1_look_8 : decode cX1_look 8 = .ok (.iload_n 2, 1) := dk_28 (dk_at dksX1_look_0 8 rfl rfl)
theorem dX1_look_9 : decode cX1_look 9 = .ok (.invokestatic 337, 3) := dk_184 1 81 (dk_at dksX1_look_0 9 rfl rfl)
theorem dX1_look_12 : decode cX1_look 12 = .ok (.ifCond .eq 18, 3) := dk_153 0 18 (dk_at dksX1_look_0 12 rfl rfl)
theorem dX1_look_15 : decode cX1_look 15 = .ok (.aload_n 0, 1) := dk_42 (dk_at dksX1_look_0 15 rfl rfl)
theorem dX1_look_16 : decode cX1_look 16 = .ok (.getfield 12, 3) := dk_180 0 12 (dk_at dksX1_look_0 16 rfl rfl)
theorem dX1_look_19 : decode cX1_look 19 = .ok (.getfield 112, 3) := dk_180 0 112 (dk_at dksX1_look_0 19 rfl rfl)
theorem dX1_look_22 : decode cX1_look 22 = .ok (.bipush 7, 2) := dk_16 7 (dk_at dksX1_look_0 22 rfl rfl)
theorem dX1_look_24 : decode cX1_look 24 = .ok (.iaload, 1) := dk_46 (dk_at dksX1_look_1 0 rfl rfl)
theorem dX1_look_25 : decode cX1_look 25 = .ok (.bipush 30, 2) := dk_16 30 (dk_at dksX1_look_1 1 rfl rfl)
theorem dX1_look_27 : decode cX1_look 27 = .ok (.if_icmp .ne 5, 3) := dk_160 0 5 (dk_at dksX1_look_1 3 rfl rfl)
theorem dX1_look_30 : decode cX1_look 30 = .ok (.iconst (-1), 1) := dk_2 (dk_at dksX1_look_1 6 rfl rfl)
theorem dX1_look_31 : decode cX1_look 31 = .ok (.ireturn, 1) := dk_172 (dk_at dksX1_look_1 7 rfl rfl)
theorem dX1_look_32 : decode cX1_look 32 = .ok (.aload_n 0, 1) := dk_42 (dk_at dksX1_look_1 8 rfl rfl)
theorem dX1_look_33 : decode cX1_look 33 = .ok (.getfield 12, 3) := dk_180 0 12 (dk_at dksX1_look_1 9 rfl rfl)
theorem dX1_look_36 : decode cX1_look 36 = .ok (.getfield 251, 3) := dk_180 0 251 (dk_at dksX1_look_1 12 rfl rfl)
theorem dX1_look_39 : decode cX1_look 39 = .ok (.aload_n 0, 1) := dk_42 (dk_at dksX1_look_1 15 rfl rfl)
theorem dX1_look_40 : decode cX1_look 40 = .ok (.getfield 12, 3) := dk_180 0 12 (dk_at dksX1_look_1 16 rfl rfl)
theorem dX1_look_43 : decode cX1_look 43 = .ok (.getfield 112, 3) := dk_180 0 112 (dk_at dksX1_look_1 19 rfl rfl)
theorem dX1_look_46 : decode cX1_look 46 = .ok (.bipush 7, 2) := dk_16 7 (dk_at dksX1_look_1 22 rfl rfl)
theorem dX1_look_48 : decode cX1_look 48 = .ok (.iaload, 1) := dk_46 (dk_at dksX1_look_2 0 rfl rfl)
theorem dX1_look_49 : decode cX1_look 49 = .ok (.aaload, 1) := dk_50 (dk_at dksX1_look_2 1 rfl rfl)
theorem dX1_look_50 : decode cX1_look 50 = .ok (.iconst 0, 1) := dk_3 (dk_at dksX1_look_2 2 rfl rfl)
theorem dX1_look_51 : decode cX1_look 51 = .ok (.iload_n 1, 1) := dk_27 (dk_at dksX1_look_2 3 rfl rfl)
theorem dX1_look_52 : decode cX1_look 52 = .ok (.iastore, 1) := dk_79 (dk_at dksX1_look_2 4 rfl rfl)
theorem dX1_look_53 : decode cX1_look 53 = .ok (.aload_n 0, 1) := dk_42 (dk_at dksX1_look_2 5 rfl rfl)
theorem dX1_look_54 : decode cX1_look 54 = .ok (.getfield 12, 3) := dk_180 0 12 (dk_at dksX1_look_2 6 rfl rfl)
theorem dX1_look_57 : decode cX1_look 57 = .ok (.getfield 251, 3) := dk_180 0 251 (dk_at dksX1_look_2 9 rfl rfl)
theorem dX1_look_60 : decode cX1_look 60 = .ok (.aload_n 0, 1) := dk_42 (dk_at dksX1_look_2 12 rfl rfl)
theorem dX1_look_61 : decode cX1_look 61 = .ok (.getfield 12, 3) := dk_180 0 12 (dk_at dksX1_look_2 13 rfl rfl)
theorem dX1_look_64 : decode cX1_look 64 = .ok (.getfield 112, 3) := dk_180 0 112 (dk_at dksX1_look_2 16 rfl rfl)
theorem dX1_look_67 : decode cX1_look 67 = .ok (.bipush 7, 2) := dk_16 7 (dk_at dksX1_look_2 19 rfl rfl)
theorem dX1_look_69 : decode cX1_look 69 = .ok (.iaload, 1) := dk_46 (dk_at dksX1_look_2 21 rfl rfl)
theorem dX1_look_70 : decode cX1_look 70 = .ok (.aaload, 1) := dk_50 (dk_at dksX1_look_2 22 rfl rfl)
theorem dX1_look_71 : decode cX1_look 71 = .ok (.iconst 1, 1) := dk_4 (dk_at dksX1_look_2 23 rfl rfl)
theorem dX1_look_72 : decode cX1_look 72 = .ok (.iload_n 2, 1) := dk_28 (dk_at dksX1_look_3 0 rfl rfl)
theorem dX1_look_73 : decode cX1_look 73 = .ok (.iastore, 1) := dk_79 (dk_at dksX1_look_3 1 rfl rfl)
theorem dX1_look_74 : decode cX1_look 74 = .ok (.aload_n 0, 1) := dk_42 (dk_at dksX1_look_3 2 rfl rfl)
theorem dX1_look_75 : decode cX1_look 75 = .ok (.getfield 12, 3) := dk_180 0 12 (dk_at dksX1_look_3 3 rfl rfl)
theorem dX1_look_78 : decode cX1_look 78 = .ok (.getfield 112, 3) := dk_180 0 112 (dk_at dksX1_look_3 6 rfl rfl)
theorem dX1_look_81 : decode cX1_look 81 = .ok (.bipush 7, 2) := dk_16 7 (dk_at dksX1_look_3 9 rfl rfl)
theorem dX1_look_83 : decode cX1_look 83 = .ok (.dup2, 1) := dk_92 (dk_at dksX1_look_3 11 rfl rfl)
theorem dX1_look_84 : decode cX1_look 84 = .ok (.iaload, 1) := dk_46 (dk_at dksX1_look_3 12 rfl rfl)
theorem dX1_look_85 : decode cX1_look 85 = .ok (.iconst 1, 1) := dk_4 (dk_at dksX1_look_3 13 rfl rfl)
theorem dX1_look_86 : decode cX1_look 86 = .ok (.iadd, 1) := dk_96 (dk_at dksX1_look_3 14 rfl rfl)
theorem dX1_look_87 : decode cX1_look 87 = .ok (.iastore, 1) := dk_79 (dk_at dksX1_look_3 15 rfl rfl)
theorem dX1_look_88 : decode cX1_look 88 = .ok (.aload_n 0, 1) := dk_42 (dk_at dksX1_look_3 16 rfl rfl)
theorem dX1_look_89 : decode cX1_look 89 = .ok (.getfield 12, 3) := dk_180 0 12 (dk_at dksX1_look_3 17 rfl rfl)
theorem dX1_look_92 : decode cX1_look 92 = .ok (.getfield 112, 3) := dk_180 0 112 (dk_at dksX1_look_3 20 rfl rfl)
theorem dX1_look_95 : decode cX1_look 95 = .ok (.bipush 7, 2) := dk_16 7 (dk_at dksX1_look_4 0 rfl rfl)
theorem dX1_look_97 : decode cX1_look 97 = .ok (.iaload, 1) := dk_46 (dk_at dksX1_look_4 2 rfl rfl)
theorem dX1_look_98 : decode cX1_look 98 = .ok (.ireturn, 1) := dk_172 (dk_at dksX1_look_4 3 rfl rfl)
abbrev cX1_think : ByteArray := prog_1_method_71_code
def yX1_think : MethodName := ⟨RX1, "think", "(II)I"⟩
def dkwX1_think_10 : List UInt8 := [47, 105, 22, 5, 109, 136, 172]
abbrev dktX1_think_10 : List UInt8 := dkwX1_think_10 ++ []
def dkwX1_think_9 : List UInt8 := [55, 5, 132, 7, 1, 167, 255, 237, 22, 5, 9, 148, 154, 0, 7, 2, 167, 0, 14, 20, 1, 92, 45, 28]
abbrev dktX1_think_9 : List UInt8 := dkwX1_think_9 ++ dktX1_think_10
def dkwX1_think_8 : List UInt8 := [21, 4, 172, 9, 55, 5, 3, 54, 7, 21, 7, 16, 6, 162, 0, 18, 22, 5, 45, 21, 7, 47, 97]
abbrev dktX1_think_8 : List UInt8 := dkwX1_think_8 ++ dktX1_think_9
def dkwX1_think_7 : List UInt8 := [167, 0, 4, 9, 105, 80, 132, 6, 1, 167, 255, 190, 132, 5, 255, 167, 255, 154, 28, 2, 160, 0, 6]
abbrev dktX1_think_7 : List UInt8 := dkwX1_think_7 ++ dktX1_think_8
def dkwX1_think_6 : List UInt8 := [21, 6, 92, 47, 21, 7, 154, 0, 9, 20, 1, 90, 167, 0, 14, 21, 7, 4, 160, 0, 7, 10]
abbrev dktX1_think_6 : List UInt8 := dkwX1_think_6 ++ dktX1_think_7
def dkwX1_think_5 : List UInt8 := [163, 0, 58, 21, 6, 42, 180, 0, 12, 180, 0, 251, 21, 5, 50, 4, 46, 100, 184, 1, 87, 54, 7, 45]
abbrev dktX1_think_5 : List UInt8 := dkwX1_think_5 ++ dktX1_think_6
def dkwX1_think_4 : List UInt8 := [159, 0, 6, 167, 0, 78, 132, 4, 1, 3, 54, 6, 21, 6, 16, 6, 162, 0, 65, 21, 4, 16, 12]
abbrev dktX1_think_4 : List UInt8 := dkwX1_think_4 ++ dktX1_think_5
def dkwX1_think_3 : List UInt8 := [4, 100, 54, 5, 21, 5, 155, 0, 103, 42, 180, 0, 12, 180, 0, 251, 21, 5, 50, 3, 46, 27]
abbrev dktX1_think_3 : List UInt8 := dkwX1_think_3 ++ dktX1_think_4
def dkwX1_think_2 : List UInt8 := [21, 4, 46, 133, 80, 132, 4, 1, 167, 255, 231, 3, 54, 4, 42, 180, 0, 12, 180, 0, 112, 16, 7, 46]
abbrev dktX1_think_2 : List UInt8 := dkwX1_think_2 ++ dktX1_think_3
def dkwX1_think_1 : List UInt8 := [188, 11, 78, 3, 54, 4, 21, 4, 16, 6, 162, 0, 24, 45, 21, 4, 42, 180, 0, 12, 180, 1, 84]
abbrev dktX1_think_1 : List UInt8 := dkwX1_think_1 ++ dktX1_think_2
def dkwX1_think_0 : List UInt8 := [42, 27, 182, 0, 98, 153, 0, 15, 28, 2, 159, 0, 12, 28, 184, 1, 81, 154, 0, 5, 2, 172, 16, 6]
abbrev dktX1_think_0 : List UInt8 := dkwX1_think_0 ++ dktX1_think_1
theorem dksX1_think_0 : cX1_think.data.toList.drop 0 = dktX1_think_0 := by decide +kernel
theorem dksX1_think_1 : cX1_think.data.toList.drop 24 = dktX1_think_1 := dk_seg dksX1_think_0 24 rfl rfl
theorem dksX1_think_2 : cX1_think.data.toList.drop 47 = dktX1_think_2 := dk_seg dksX1_think_1 23 rfl rfl
theorem dksX1_think_3 : cX1_think.data.toList.drop 71 = dktX1_think_3 := dk_seg dksX1_think_2 24 rfl rfl
theorem dksX1_think_4 : cX1_think.data.toList.drop 93 = dktX1_think_4 := dk_seg dksX1_think_3 22 rfl rfl
theorem dksX1_think_5 : cX1_think.data.toList.drop 116 = dktX1_think_5 := dk_seg dksX1_think_4 23 rfl rfl
theorem dksX1_think_6 : cX1_think.data.toList.drop 140 = dktX1_think_6 := dk_seg dksX1_think_5 24 rfl rfl
theorem dksX1_think_7 : cX1_think.data.toList.drop 162 = dktX1_think_7 := dk_seg dksX1_think_6 22 rfl rfl
theorem dksX1_think_8 : cX1_think.data.toList.drop 185 = dktX1_think_8 := dk_seg dksX1_think_7 23 rfl rfl
theorem dksX1_think_9 : cX1_think.data.toList.drop 208 = dktX1_think_9 := dk_seg dksX1_think_8 23 rfl rfl
theorem dksX1_think_10 : cX1_think.data.toList.drop 232 = dktX1_think_10 := dk_seg dksX1_think_9 24 rfl rfl
theorem dX1_think_0 : decode cX1_think 0 = .ok (.aload_n 0, 1) := dk_42 (dk_at dksX1_think_0 0 rfl rfl)
theorem dX1_think_1 : decode cX1_think 1 = .ok (.iload_n 1, 1) := dk_27 (dk_at dksX1_think_0 1 rfl rfl)
theorem dX1_think_2 : decode cX1_think 2 = .ok (.invokevirtual 98, 3) := dk_182 0 98 (dk_at dksX1_think_0 2 rfl rfl)
theorem dX1_think_5 : decode cX1_think 5 = .ok (.ifCond .eq 15, 3) := dk_153 0 15 (dk_at dksX1_think_0 5 rfl rfl)
theorem dX1_think_8 : decode cX1_think 8 = .ok (.iload_n 2, 1) := dk_28 (dk_at dksX1_think_0 8 rfl rfl)
theorem dX1_think_9 : decode cX1_think 9 = .ok (.iconst (-1), 1) := dk_2 (dk_at dksX1_think_0 9 rfl rfl)
theorem dX1_think_10 : decode cX1_think 10 = .ok (.if_icmp .eq 12, 3) := dk_159 0 12 (dk_at dksX1_think_0 10 rfl rfl)
theorem dX1_think_13 : decode cX1_think 13 = .ok (.iload_n 2, 1) := dk_28 (dk_at dksX1_think_0 13 rfl rfl)
theorem dX1_think_14 : decode cX1_think 14 = .ok (.invokestatic 337, 3) := dk_184 1 81 (dk_at dksX1_think_0 14 rfl rfl)
theorem dX1_think_17 : decode cX1_think 17 = .ok (.ifCond .ne 5, 3) := dk_154 0 5 (dk_at dksX1_think_0 17 rfl rfl)
theorem dX1_think_20 : decode cX1_think 20 = .ok (.iconst (-1), 1) := dk_2 (dk_at dksX1_think_0 20 rfl rfl)
theorem dX1_think_21 : decode cX1_think 21 = .ok (.ireturn, 1) := dk_172 (dk_at dksX1_think_0 21 rfl rfl)
theorem dX1_think_22 : decode cX1_think 22 = .ok (.bipush 6, 2) := dk_16 6 (dk_at dksX1_think_0 22 rfl rfl)
theorem dX1_think_24 : decode cX1_think 24 = .ok (.newarray .long, 2) := dk_188_11 (dk_at dksX1_think_1 0 rfl rfl)
theorem dX1_think_26 : decode cX1_think 26 = .ok (.astore_n 3, 1) := dk_78 (dk_at dksX1_think_1 2 rfl rfl)
theorem dX1_think_27 : decode cX1_think 27 = .ok (.iconst 0, 1) := dk_3 (dk_at dksX1_think_1 3 rfl rfl)
theorem dX1_think_28 : decode cX1_think 28 = .ok (.istore 4, 2) := dk_54 4 (dk_at dksX1_think_1 4 rfl rfl)
theorem dX1_think_30 : decode cX1_think 30 = .ok (.iload 4, 2) := dk_21 4 (dk_at dksX1_think_1 6 rfl rfl)
theorem dX1_think_32 : decode cX1_think 32 = .ok (.bipush 6, 2) := dk_16 6 (dk_at dksX1_think_1 8 rfl rfl)
theorem dX1_think_34 : decode cX1_think 34 = .ok (.if_icmp .ge 24, 3) := dk_162 0 24 (dk_at dksX1_think_1 10 rfl rfl)
theorem dX1_think_37 : decode cX1_think 37 = .ok (.aload_n 3, 1) := dk_45 (dk_at dksX1_think_1 13 rfl rfl)
theorem dX1_think_38 : decode cX1_think 38 = .ok (.iload 4, 2) := dk_21 4 (dk_at dksX1_think_1 14 rfl rfl)
theorem dX1_think_40 : decode cX1_think 40 = .ok (.aload_n 0, 1) := dk_42 (dk_at dksX1_think_1 16 rfl rfl)
theorem dX1_think_41 : decode cX1_think 41 = .ok (.getfield 12, 3) := dk_180 0 12 (dk_at dksX1_think_1 17 rfl rfl)
theorem dX1_think_44 : decode cX1_think 44 = .ok (.getfield 340, 3) := dk_180 1 84 (dk_at dksX1_think_1 20 rfl rfl)
theorem dX1_think_47 : decode cX1_think 47 = .ok (.iload 4, 2) := dk_21 4 (dk_at dksX1_think_2 0 rfl rfl)
theorem dX1_think_49 : decode cX1_think 49 = .ok (.iaload, 1) := dk_46 (dk_at dksX1_think_2 2 rfl rfl)
theorem dX1_think_50 : decode cX1_think 50 = .ok (.i2l, 1) := dk_133 (dk_at dksX1_think_2 3 rfl rfl)
theorem dX1_think_51 : decode cX1_think 51 = .ok (.lastore, 1) := dk_80 (dk_at dksX1_think_2 4 rfl rfl)
theorem dX1_think_52 : decode cX1_think 52 = .ok (.iinc 4 1, 3) := dk_132 4 1 (dk_at dksX1_think_2 5 rfl rfl)
theorem dX1_think_55 : decode cX1_think 55 = .ok (.goto (-25), 3) := dk_167 255 231 (dk_at dksX1_think_2 8 rfl rfl)
theorem dX1_think_58 : decode cX1_think 58 = .ok (.iconst 0, 1) := dk_3 (dk_at dksX1_think_2 11 rfl rfl)
theorem dX1_think_59 : decode cX1_think 59 = .ok (.istore 4, 2) := dk_54 4 (dk_at dksX1_think_2 12 rfl rfl)
theorem dX1_think_61 : decode cX1_think 61 = .ok (.aload_n 0, 1) := dk_42 (dk_at dksX1_think_2 14 rfl rfl)
theorem dX1_think_62 : decode cX1_think 62 = .ok (.getfield 12, 3) := dk_180 0 12 (dk_at dksX1_think_2 15 rfl rfl)
theorem dX1_think_65 : decode cX1_think 65 = .ok (.getfield 112, 3) := dk_180 0 112 (dk_at dksX1_think_2 18 rfl rfl)
theorem dX1_think_68 : decode cX1_think 68 = .ok (.bipush 7, 2) := dk_16 7 (dk_at dksX1_think_2 21 rfl rfl)
theorem dX1_think_70 : decode cX1_think 70 = .ok (.iaload, 1) := dk_46 (dk_at dksX1_think_2 23 rfl rfl)
theorem dX1_think_71 : decode cX1_think 71 = .ok (.iconst 1, 1) := dk_4 (dk_at dksX1_think_3 0 rfl rfl)
theorem dX1_think_72 : decode cX1_think 72 = .ok (.isub, 1) := dk_100 (dk_at dksX1_think_3 1 rfl rfl)
theorem dX1_think_73 : decode cX1_think 73 = .ok (.istore 5, 2) := dk_54 5 (dk_at dksX1_think_3 2 rfl rfl)
theorem dX1_think_75 : decode cX1_think 75 = .ok (.iload 5, 2) := dk_21 5 (dk_at dksX1_think_3 4 rfl rfl)
theorem dX1_think_77 : decode cX1_think 77 = .ok (.ifCond .lt 103, 3) := dk_155 0 103 (dk_at dksX1_think_3 6 rfl rfl)
theorem dX1_think_80 : decode cX1_think 80 = .ok (.aload_n 0, 1) := dk_42 (dk_at dksX1_think_3 9 rfl rfl)
theorem dX1_think_81 : decode cX1_think 81 = .ok (.getfield 12, 3) := dk_180 0 12 (dk_at dksX1_think_3 10 rfl rfl)
theorem dX1_think_84 : decode cX1_think 84 = .ok (.getfield 251, 3) := dk_180 0 251 (dk_at dksX1_think_3 13 rfl rfl)
theorem dX1_think_87 : decode cX1_think 87 = .ok (.iload 5, 2) := dk_21 5 (dk_at dksX1_think_3 16 rfl rfl)
theorem dX1_think_89 : decode cX1_think 89 = .ok (.aaload, 1) := dk_50 (dk_at dksX1_think_3 18 rfl rfl)
theorem dX1_think_90 : decode cX1_think 90 = .ok (.iconst 0, 1) := dk_3 (dk_at dksX1_think_3 19 rfl rfl)
theorem dX1_think_91 : decode cX1_think 91 = .ok (.iaload, 1) := dk_46 (dk_at dksX1_think_3 20 rfl rfl)
theorem dX1_think_92 : decode cX1_think 92 = .ok (.iload_n 1, 1) := dk_27 (dk_at dksX1_think_3 21 rfl rfl)
theorem dX1_think_93 : decode cX1_think 93 = .ok (.if_icmp .eq 6, 3) := dk_159 0 6 (dk_at dksX1_think_4 0 rfl rfl)
theorem dX1_think_96 : decode cX1_think 96 = .ok (.goto 78, 3) := dk_167 0 78 (dk_at dksX1_think_4 3 rfl rfl)
theorem dX1_think_99 : decode cX1_think 99 = .ok (.iinc 4 1, 3) := dk_132 4 1 (dk_at dksX1_think_4 6 rfl rfl)
theorem dX1_think_102 : decode cX1_think 102 = .ok (.iconst 0, 1) := dk_3 (dk_at dksX1_think_4 9 rfl rfl)
theorem dX1_think_103 : decode cX1_think 103 = .ok (.istore 6, 2) := dk_54 6 (dk_at dksX1_think_4 10 rfl rfl)
theorem dX1_think_105 : decode cX1_think 105 = .ok (.iload 6, 2) := dk_21 6 (dk_at dksX1_think_4 12 rfl rfl)
theorem dX1_think_107 : decode cX1_think 107 = .ok (.bipush 6, 2) := dk_16 6 (dk_at dksX1_think_4 14 rfl rfl)
theorem dX1_think_109 : decode cX1_think 109 = .ok (.if_icmp .ge 65, 3) := dk_162 0 65 (dk_at dksX1_think_4 16 rfl rfl)
theorem dX1_think_112 : decode cX1_think 112 = .ok (.iload 4, 2) := dk_21 4 (dk_at dksX1_think_4 19 rfl rfl)
theorem dX1_think_114 : decode cX1_think 114 = .ok (.bipush 12, 2) := dk_16 12 (dk_at dksX1_think_4 21 rfl rfl)
theorem dX1_think_116 : decode cX1_think 116 = .ok (.if_icmp .gt 58, 3) := dk_163 0 58 (dk_at dksX1_think_5 0 rfl rfl)
theorem dX1_think_119 : decode cX1_think 119 = .ok (.iload 6, 2) := dk_21 6 (dk_at dksX1_think_5 3 rfl rfl)
theorem dX1_think_121 : decode cX1_think 121 = .ok (.aload_n 0, 1) := dk_42 (dk_at dksX1_think_5 5 rfl rfl)
theorem dX1_think_122 : decode cX1_think 122 = .ok (.getfield 12, 3) := dk_180 0 12 (dk_at dksX1_think_5 6 rfl rfl)
theorem dX1_think_125 : decode cX1_think 125 = .ok (.getfield 251, 3) := dk_180 0 251 (dk_at dksX1_think_5 9 rfl rfl)
theorem dX1_think_128 : decode cX1_think 128 = .ok (.iload 5, 2) := dk_21 5 (dk_at dksX1_think_5 12 rfl rfl)
theorem dX1_think_130 : decode cX1_think 130 = .ok (.aaload, 1) := dk_50 (dk_at dksX1_think_5 14 rfl rfl)
theorem dX1_think_131 : decode cX1_think 131 = .ok (.iconst 1, 1) := dk_4 (dk_at dksX1_think_5 15 rfl rfl)
theorem dX1_think_132 : decode cX1_think 132 = .ok (.iaload, 1) := dk_46 (dk_at dksX1_think_5 16 rfl rfl)
theorem dX1_think_133 : decode cX1_think 133 = .ok (.isub, 1) := dk_100 (dk_at dksX1_think_5 17 rfl rfl)
theorem dX1_think_134 : decode cX1_think 134 = .ok (.invokestatic 343, 3) := dk_184 1 87 (dk_at dksX1_think_5 18 rfl rfl)
theorem dX1_think_137 : decode cX1_think 137 = .ok (.istore 7, 2) := dk_54 7 (dk_at dksX1_think_5 21 rfl rfl)
theorem dX1_think_139 : decode cX1_think 139 = .ok (.aload_n 3, 1) := dk_45 (dk_at dksX1_think_5 23 rfl rfl)
theorem dX1_think_140 : decode cX1_think 140 = .ok (.iload 6, 2) := dk_21 6 (dk_at dksX1_think_6 0 rfl rfl)
theorem dX1_think_142 : decode cX1_think 142 = .ok (.dup2, 1) := dk_92 (dk_at dksX1_think_6 2 rfl rfl)
theorem dX1_think_143 : decode cX1_think 143 = .ok (.laload, 1) := dk_47 (dk_at dksX1_think_6 3 rfl rfl)
theorem dX1_think_144 : decode cX1_think 144 = .ok (.iload 7, 2) := dk_21 7 (dk_at dksX1_think_6 4 rfl rfl)
theorem dX1_think_146 : decode cX1_think 146 = .ok (.ifCond .ne 9, 3) := dk_154 0 9 (dk_at dksX1_think_6 6 rfl rfl)
theorem dX1_think_149 : decode cX1_think 149 = .ok (.ldc2_w 346, 3) := dk_20 1 90 (dk_at dksX1_think_6 9 rfl rfl)
theorem dX1_think_152 : decode cX1_think 152 = .ok (.goto 14, 3) := dk_167 0 14 (dk_at dksX1_think_6 12 rfl rfl)
theorem dX1_think_155 : decode cX1_think 155 = .ok (.iload 7, 2) := dk_21 7 (dk_at dksX1_think_6 15 rfl rfl)
theorem dX1_think_157 : decode cX1_think 157 = .ok (.iconst 1, 1) := dk_4 (dk_at dksX1_think_6 17 rfl rfl)
theorem dX1_think_158 : decode cX1_think 158 = .ok (.if_icmp .ne 7, 3) := dk_160 0 7 (dk_at dksX1_think_6 18 rfl rfl)
theorem dX1_think_161 : decode cX1_think 161 = .ok (.lconst 1, 1) := dk_10 (dk_at dksX1_think_6 21 rfl rfl)
theorem dX1_think_162 : decode cX1_think 162 = .ok (.goto 4, 3) := dk_167 0 4 (dk_at dksX1_think_7 0 rfl rfl)
theorem dX1_think_165 : decode cX1_think 165 = .ok (.lconst 0, 1) := dk_9 (dk_at dksX1_think_7 3 rfl rfl)
theorem dX1_think_166 : decode cX1_think 166 = .ok (.lmul, 1) := dk_105 (dk_at dksX1_think_7 4 rfl rfl)
theorem dX1_think_167 : decode cX1_think 167 = .ok (.lastore, 1) := dk_80 (dk_at dksX1_think_7 5 rfl rfl)
theorem dX1_think_168 : decode cX1_think 168 = .ok (.iinc 6 1, 3) := dk_132 6 1 (dk_at dksX1_think_7 6 rfl rfl)
theorem dX1_think_171 : decode cX1_think 171 = .ok (.goto (-66), 3) := dk_167 255 190 (dk_at dksX1_think_7 9 rfl rfl)
theorem dX1_think_174 : decode cX1_think 174 = .ok (.iinc 5 (-1), 3) := dk_132 5 255 (dk_at dksX1_think_7 12 rfl rfl)
theorem dX1_think_177 : decode cX1_think 177 = .ok (.goto (-102), 3) := dk_167 255 154 (dk_at dksX1_think_7 15 rfl rfl)
theorem dX1_think_180 : decode cX1_think 180 = .ok (.iload_n 2, 1) := dk_28 (dk_at dksX1_think_7 18 rfl rfl)
theorem dX1_think_181 : decode cX1_think 181 = .ok (.iconst (-1), 1) := dk_2 (dk_at dksX1_think_7 19 rfl rfl)
theorem dX1_think_182 : decode cX1_think 182 = .ok (.if_icmp .ne 6, 3) := dk_160 0 6 (dk_at dksX1_think_7 20 rfl rfl)
theorem dX1_think_185 : decode cX1_think 185 = .ok (.iload 4, 2) := dk_21 4 (dk_at dksX1_think_8 0 rfl rfl)
theorem dX1_think_187 : decode cX1_think 187 = .ok (.ireturn, 1) := dk_172 (dk_at dksX1_think_8 2 rfl rfl)
theorem dX1_think_188 : decode cX1_think 188 = .ok (.lconst 0, 1) := dk_9 (dk_at dksX1_think_8 3 rfl rfl)
theorem dX1_think_189 : decode cX1_think 189 = .ok (.lstore 5, 2) := dk_55 5 (dk_at dksX1_think_8 4 rfl rfl)
theorem dX1_think_191 : decode cX1_think 191 = .ok (.iconst 0, 1) := dk_3 (dk_at dksX1_think_8 6 rfl rfl)
theorem dX1_think_192 : decode cX1_think 192 = .ok (.istore 7, 2) := dk_54 7 (dk_at dksX1_think_8 7 rfl rfl)
theorem dX1_think_194 : decode cX1_think 194 = .ok (.iload 7, 2) := dk_21 7 (dk_at dksX1_think_8 9 rfl rfl)
theorem dX1_think_196 : decode cX1_think 196 = .ok (.bipush 6, 2) := dk_16 6 (dk_at dksX1_think_8 11 rfl rfl)
theorem dX1_think_198 : decode cX1_think 198 = .ok (.if_icmp .ge 18, 3) := dk_162 0 18 (dk_at dksX1_think_8 13 rfl rfl)
theorem dX1_think_201 : decode cX1_think 201 = .ok (.lload 5, 2) := dk_22 5 (dk_at dksX1_think_8 16 rfl rfl)
theorem dX1_think_203 : decode cX1_think 203 = .ok (.aload_n 3, 1) := dk_45 (dk_at dksX1_think_8 18 rfl rfl)
theorem dX1_think_204 : decode cX1_think 204 = .ok (.iload 7, 2) := dk_21 7 (dk_at dksX1_think_8 19 rfl rfl)
theorem dX1_think_206 : decode cX1_think 206 = .ok (.laload, 1) := dk_47 (dk_at dksX1_think_8 21 rfl rfl)
theorem dX1_think_207 : decode cX1_think 207 = .ok (.ladd, 1) := dk_97 (dk_at dksX1_think_8 22 rfl rfl)
theorem dX1_think_208 : decode cX1_think 208 = .ok (.lstore 5, 2) := dk_55 5 (dk_at dksX1_think_9 0 rfl rfl)
theorem dX1_think_210 : decode cX1_think 210 = .ok (.iinc 7 1, 3) := dk_132 7 1 (dk_at dksX1_think_9 2 rfl rfl)
theorem dX1_think_213 : decode cX1_think 213 = .ok (.goto (-19), 3) := dk_167 255 237 (dk_at dksX1_think_9 5 rfl rfl)
theorem dX1_think_216 : decode cX1_think 216 = .ok (.lload 5, 2) := dk_22 5 (dk_at dksX1_think_9 8 rfl rfl)
theorem dX1_think_218 : decode cX1_think 218 = .ok (.lconst 0, 1) := dk_9 (dk_at dksX1_think_9 10 rfl rfl)
theorem dX1_think_219 : decode cX1_think 219 = .ok (.lcmp, 1) := dk_148 (dk_at dksX1_think_9 11 rfl rfl)
theorem dX1_think_220 : decode cX1_think 220 = .ok (.ifCond .ne 7, 3) := dk_154 0 7 (dk_at dksX1_think_9 12 rfl rfl)
theorem dX1_think_223 : decode cX1_think 223 = .ok (.iconst (-1), 1) := dk_2 (dk_at dksX1_think_9 15 rfl rfl)
theorem dX1_think_224 : decode cX1_think 224 = .ok (.goto 14, 3) := dk_167 0 14 (dk_at dksX1_think_9 16 rfl rfl)
theorem dX1_think_227 : decode cX1_think 227 = .ok (.ldc2_w 348, 3) := dk_20 1 92 (dk_at dksX1_think_9 19 rfl rfl)
theorem dX1_think_230 : decode cX1_think 230 = .ok (.aload_n 3, 1) := dk_45 (dk_at dksX1_think_9 22 rfl rfl)
theorem dX1_think_231 : decode cX1_think 231 = .ok (.iload_n 2, 1) := dk_28 (dk_at dksX1_think_9 23 rfl rfl)
theorem dX1_think_232 : decode cX1_think 232 = .ok (.laload, 1) := dk_47 (dk_at dksX1_think_10 0 rfl rfl)
theorem dX1_think_233 : decode cX1_think 233 = .ok (.lmul, 1) := dk_105 (dk_at dksX1_think_10 1 rfl rfl)
theorem dX1_think_234 : decode cX1_think 234 = .ok (.lload 5, 2) := dk_22 5 (dk_at dksX1_think_10 2 rfl rfl)
theorem dX1_think_236 : decode cX1_think 236 = .ok (.ldiv, 1) := dk_109 (dk_at dksX1_think_10 4 rfl rfl)
theorem dX1_think_237 : decode cX1_think 237 = .ok (.l2i, 1) := dk_136 (dk_at dksX1_think_10 5 rfl rfl)
theorem dX1_think_238 : decode cX1_think 238 = .ok (.ireturn, 1) := dk_172 (dk_at dksX1_think_10 6 rfl rfl)
abbrev cX1_run : ByteArray := prog_1_method_75_code
def yX1_run : MethodName := ⟨RX1, "run", "(IIII)I"⟩
def dkwX1_run_1 : List UInt8 := [180, 0, 12, 180, 0, 143, 27, 50, 28, 29, 182, 1, 126, 42, 180, 0, 63, 21, 4, 46, 172]
abbrev dktX1_run_1 : List UInt8 := dkwX1_run_1 ++ []
def dkwX1_run_0 : List UInt8 := [42, 27, 28, 29, 182, 1, 123, 153, 0, 13, 21, 4, 3, 6, 184, 0, 94, 154, 0, 5, 2, 172, 42, 42]
abbrev dktX1_run_0 : List UInt8 := dkwX1_run_0 ++ dktX1_run_1
theorem dksX1_run_0 : cX1_run.data.toList.drop 0 = dktX1_run_0 := by decide +kernel
theorem dksX1_run_1 : cX1_run.data.toList.drop 24 = dktX1_run_1 := dk_seg dksX1_run_0 24 rfl rfl
theorem dX1_run_0 : decode cX1_run 0 = .ok (.aload_n 0, 1) := dk_42 (dk_at dksX1_run_0 0 rfl rfl)
theorem dX1_run_1 : decode cX1_run 1 = .ok (.iload_n 1, 1) := dk_27 (dk_at dksX1_run_0 1 rfl rfl)
theorem dX1_run_2 : decode cX1_run 2 = .ok (.iload_n 2, 1) := dk_28 (dk_at dksX1_run_0 2 rfl rfl)
theorem dX1_run_3 : decode cX1_run 3 = .ok (.iload_n 3, 1) := dk_29 (dk_at dksX1_run_0 3 rfl rfl)
theorem dX1_run_4 : decode cX1_run 4 = .ok (.invokevirtual 379, 3) := dk_182 1 123 (dk_at dksX1_run_0 4 rfl rfl)
theorem dX1_run_7 : decode cX1_run 7 = .ok (.ifCond .eq 13, 3) := dk_153 0 13 (dk_at dksX1_run_0 7 rfl rfl)
theorem dX1_run_10 : decode cX1_run 10 = .ok (.iload 4, 2) := dk_21 4 (dk_at dksX1_run_0 10 rfl rfl)
theorem dX1_run_12 : decode cX1_run 12 = .ok (.iconst 0, 1) := dk_3 (dk_at dksX1_run_0 12 rfl rfl)
theorem dX1_run_13 : decode cX1_run 13 = .ok (.iconst 3, 1) := dk_6 (dk_at dksX1_run_0 13 rfl rfl)
theorem dX1_run_14 : decode cX1_run 14 = .ok (.invokestatic 94, 3) := dk_184 0 94 (dk_at dksX1_run_0 14 rfl rfl)
theorem dX1_run_17 : decode cX1_run 17 = .ok (.ifCond .ne 5, 3) := dk_154 0 5 (dk_at dksX1_run_0 17 rfl rfl)
theorem dX1_run_20 : decode cX1_run 20 = .ok (.iconst (-1), 1) := dk_2 (dk_at dksX1_run_0 20 rfl rfl)
theorem dX1_run_21 : decode cX1_run 21 = .ok (.ireturn, 1) := dk_172 (dk_at dksX1_run_0 21 rfl rfl)
theorem dX1_run_22 : decode cX1_run 22 = .ok (.aload_n 0, 1) := dk_42 (dk_at dksX1_run_0 22 rfl rfl)
theorem dX1_run_23 : decode cX1_run 23 = .ok (.aload_n 0, 1) := dk_42 (dk_at dksX1_run_0 23 rfl rfl)
theorem dX1_run_24 : decode cX1_run 24 = .ok (.getfield 12, 3) := dk_180 0 12 (dk_at dksX1_run_1 0 rfl rfl)
theorem dX1_run_27 : decode cX1_run 27 = .ok (.getfield 143, 3) := dk_180 0 143 (dk_at dksX1_run_1 3 rfl rfl)
theorem dX1_run_30 : decode cX1_run 30 = .ok (.iload_n 1, 1) := dk_27 (dk_at dksX1_run_1 6 rfl rfl)
theorem dX1_run_31 : decode cX1_run 31 = .ok (.aaload, 1) := dk_50 (dk_at dksX1_run_1 7 rfl rfl)
theorem dX1_run_32 : decode cX1_run 32 = .ok (.iload_n 2, 1) := dk_28 (dk_at dksX1_run_1 8 rfl rfl)
theorem dX1_run_33 : decode cX1_run 33 = .ok (.iload_n 3, 1) := dk_29 (dk_at dksX1_run_1 9 rfl rfl)
theorem dX1_run_34 : decode cX1_run 34 = .ok (.invokevirtual 382, 3) := dk_182 1 126 (dk_at dksX1_run_1 10 rfl rfl)
theorem dX1_run_37 : decode cX1_run 37 = .ok (.aload_n 0, 1) := dk_42 (dk_at dksX1_run_1 13 rfl rfl)
theorem dX1_run_38 : decode cX1_run 38 = .ok (.getfield 63, 3) := dk_180 0 63 (dk_at dksX1_run_1 14 rfl rfl)
theorem dX1_run_41 : decode cX1_run 41 = .ok (.iload 4, 2) := dk_21 4 (dk_at dksX1_run_1 17 rfl rfl)
theorem dX1_run_43 : decode cX1_run 43 = .ok (.iaload, 1) := dk_46 (dk_at dksX1_run_1 19 rfl rfl)
theorem dX1_run_44 : decode cX1_run 44 = .ok (.ireturn, 1) := dk_172 (dk_at dksX1_run_1 20 rfl rfl)
abbrev cX1_isRun : ByteArray := prog_1_method_74_code
def yX1_isRun : MethodName := ⟨RX1, "isRun", "(III)Z"⟩
def dkwX1_isRun_1 : List UInt8 := [184, 0, 94, 153, 0, 16, 42, 182, 1, 31, 6, 46, 154, 0, 7, 4, 167, 0, 4, 3, 172]
abbrev dktX1_isRun_1 : List UInt8 := dkwX1_isRun_1 ++ []
def dkwX1_isRun_0 : List UInt8 := [42, 27, 182, 0, 162, 153, 0, 37, 28, 3, 17, 39, 15, 184, 0, 94, 153, 0, 26, 29, 4, 16, 40]
abbrev dktX1_isRun_0 : List UInt8 := dkwX1_isRun_0 ++ dktX1_isRun_1
theorem dksX1_isRun_0 : cX1_isRun.data.toList.drop 0 = dktX1_isRun_0 := by decide +kernel
theorem dksX1_isRun_1 : cX1_isRun.data.toList.drop 23 = dktX1_isRun_1 := dk_seg dksX1_isRun_0 23 rfl rfl
theorem dX1_isRun_0 : decode cX1_isRun 0 = .ok (.aload_n 0, 1) := dk_42 (dk_at dksX1_isRun_0 0 rfl rfl)
theorem dX1_isRun_1 : decode cX1_isRun 1 = .ok (.iload_n 1, 1) := dk_27 (dk_at dksX1_isRun_0 1 rfl rfl)
theorem dX1_isRun_2 : decode cX1_isRun 2 = .ok (.invokevirtual 162, 3) := dk_182 0 162 (dk_at dksX1_isRun_0 2 rfl rfl)
theorem dX1_isRun_5 : decode cX1_isRun 5 = .ok (.ifCond .eq 37, 3) := dk_153 0 37 (dk_at dksX1_isRun_0 5 rfl rfl)
theorem dX1_isRun_8 : decode cX1_isRun 8 = .ok (.iload_n 2, 1) := dk_28 (dk_at dksX1_isRun_0 8 rfl rfl)
theorem dX1_isRun_9 : decode cX1_isRun 9 = .ok (.iconst 0, 1) := dk_3 (dk_at dksX1_isRun_0 9 rfl rfl)
theorem dX1_isRun_10 : decode cX1_isRun 10 = .ok (.sipush 9999, 3) := dk_17 39 15 (dk_at dksX1_isRun_0 10 rfl rfl)
theorem dX1_isRun_13 : decode cX1_isRun 13 = .ok (.invokestatic 94, 3) := dk_184 0 94 (dk_at dksX1_isRun_0 13 rfl rfl)
theorem dX1_isRun_16 : decode cX1_isRun 16 = .ok (.ifCond .eq 26, 3) := dk_153 0 26 (dk_at dksX1_isRun_0 16 rfl rfl)
theorem dX1_isRun_19 : decode cX1_isRun 19 = .ok (.iload_n 3, 1) := dk_29 (dk_at dksX1_isRun_0 19 rfl rfl)
theorem dX1_isRun_20 : decode cX1_isRun 20 = .ok (.iconst 1, 1) := dk_4 (dk_at dksX1_isRun_0 20 rfl rfl)
theorem dX1_isRun_21 : decode cX1_isRun 21 = .ok (.bipush 40, 2) := dk_16 40 (dk_at dksX1_isRun_0 21 rfl rfl)
theorem dX1_isRun_23 : decode cX1_isRun 23 = .ok (.invokestatic 94, 3) := dk_184 0 94 (dk_at dksX1_isRun_1 0 rfl rfl)
theorem dX1_isRun_26 : decode cX1_isRun 26 = .ok (.ifCond .eq 16, 3) := dk_153 0 16 (dk_at dksX1_isRun_1 3 rfl rfl)
theorem dX1_isRun_29 : decode cX1_isRun 29 = .ok (.aload_n 0, 1) := dk_42 (dk_at dksX1_isRun_1 6 rfl rfl)
theorem dX1_isRun_30 : decode cX1_isRun 30 = .ok (.invokevirtual 287, 3) := dk_182 1 31 (dk_at dksX1_isRun_1 7 rfl rfl)
theorem dX1_isRun_33 : decode cX1_isRun 33 = .ok (.iconst 3, 1) := dk_6 (dk_at dksX1_isRun_1 10 rfl rfl)
theorem dX1_isRun_34 : decode cX1_isRun 34 = .ok (.iaload, 1) := dk_46 (dk_at dksX1_isRun_1 11 rfl rfl)
theorem dX1_isRun_35 : decode cX1_isRun 35 = .ok (.ifCond .ne 7, 3) := dk_154 0 7 (dk_at dksX1_isRun_1 12 rfl rfl)
theorem dX1_isRun_38 : decode cX1_isRun 38 = .ok (.iconst 1, 1) := dk_4 (dk_at dksX1_isRun_1 15 rfl rfl)
theorem dX1_isRun_39 : decode cX1_isRun 39 = .ok (.goto 4, 3) := dk_167 0 4 (dk_at dksX1_isRun_1 16 rfl rfl)
theorem dX1_isRun_42 : decode cX1_isRun 42 = .ok (.iconst 0, 1) := dk_3 (dk_at dksX1_isRun_1 19 rfl rfl)
theorem dX1_isRun_43 : decode cX1_isRun 43 = .ok (.ireturn, 1) := dk_172 (dk_at dksX1_isRun_1 20 rfl rfl)
abbrev cX1_runs : ByteArray := prog_1_method_72_code
def yX1_runs : MethodName := ⟨RX1, "runs", "(LThroughPack$Text;II)V"⟩
def dkwX1_runs_16 : List UInt8 := [42, 180, 0, 63, 6, 21, 7, 79, 177]
abbrev dktX1_runs_16 : List UInt8 := dkwX1_runs_16 ++ []
def dkwX1_runs_15 : List UInt8 := [54, 5, 132, 9, 1, 167, 254, 225, 42, 180, 0, 63, 4, 21, 9, 79, 42, 180, 0, 63, 5, 21, 6, 79]
abbrev dktX1_runs_15 : List UInt8 := dkwX1_runs_15 ++ dktX1_runs_16
def dkwX1_runs_14 : List UInt8 := [42, 180, 0, 66, 21, 6, 21, 12, 21, 10, 182, 0, 249, 153, 0, 7, 5, 167, 0, 4, 3, 79, 21, 12]
abbrev dktX1_runs_14 : List UInt8 := dkwX1_runs_14 ++ dktX1_runs_15
def dkwX1_runs_13 : List UInt8 := [21, 11, 7, 162, 0, 20, 42, 180, 0, 12, 180, 0, 109, 21, 6, 51, 153, 0, 7, 4, 167, 0, 25, 42]
abbrev dktX1_runs_13 : List UInt8 := dkwX1_runs_13 ++ dktX1_runs_14
def dkwX1_runs_12 : List UInt8 := [180, 0, 66, 58, 13, 42, 42, 180, 0, 69, 181, 0, 66, 42, 25, 13, 181, 0, 69, 42, 180, 0, 63, 3]
abbrev dktX1_runs_12 : List UInt8 := dkwX1_runs_12 ++ dktX1_runs_13
def dkwX1_runs_11 : List UInt8 := [182, 0, 246, 54, 6, 42, 42, 180, 0, 66, 42, 180, 0, 69, 21, 12, 21, 10, 182, 0, 242, 42]
abbrev dktX1_runs_11 : List UInt8 := dkwX1_runs_11 ++ dktX1_runs_12
def dkwX1_runs_10 : List UInt8 := [182, 0, 165, 167, 0, 22, 21, 11, 8, 160, 0, 8, 21, 6, 167, 0, 11, 42, 21, 6, 21, 12]
abbrev dktX1_runs_10 : List UInt8 := dkwX1_runs_10 ++ dktX1_runs_11
def dkwX1_runs_9 : List UInt8 := [184, 1, 24, 54, 8, 21, 11, 7, 162, 0, 22, 42, 21, 6, 21, 11, 184, 0, 169, 21, 11, 184, 0, 173]
abbrev dktX1_runs_9 : List UInt8 := dkwX1_runs_9 ++ dktX1_runs_10
def dkwX1_runs_8 : List UInt8 := [21, 6, 21, 7, 21, 8, 42, 180, 0, 66, 21, 5, 21, 10, 182, 0, 232, 100, 54, 7, 21, 11, 21, 8]
abbrev dktX1_runs_8 : List UInt8 := dkwX1_runs_8 ++ dktX1_runs_9
def dkwX1_runs_7 : List UInt8 := [167, 255, 217, 21, 4, 17, 0, 173, 104, 16, 11, 96, 17, 117, 151, 112, 54, 4, 21, 7, 42, 21, 11]
abbrev dktX1_runs_7 : List UInt8 := dkwX1_runs_7 ++ dktX1_runs_8
def dkwX1_runs_6 : List UInt8 := [161, 0, 27, 21, 13, 42, 180, 0, 12, 180, 0, 121, 21, 5, 50, 21, 12, 46, 100, 54, 13, 132, 12, 1]
abbrev dktX1_runs_6 : List UInt8 := dkwX1_runs_6 ++ dktX1_runs_7
def dkwX1_runs_5 : List UInt8 := [54, 12, 21, 4, 16, 10, 112, 54, 13, 21, 13, 42, 180, 0, 12, 180, 0, 121, 21, 5, 50, 21, 12, 46]
abbrev dktX1_runs_5 : List UInt8 := dkwX1_runs_5 ++ dktX1_runs_6
def dkwX1_runs_4 : List UInt8 := [21, 9, 96, 54, 10, 42, 43, 21, 6, 21, 7, 21, 8, 21, 5, 21, 10, 182, 1, 94, 54, 11, 3]
abbrev dktX1_runs_4 : List UInt8 := dkwX1_runs_4 ++ dktX1_runs_5
def dkwX1_runs_3 : List UInt8 := [21, 9, 29, 162, 1, 31, 42, 180, 0, 63, 3, 46, 154, 1, 22, 42, 180, 0, 12, 180, 0, 112, 3, 46]
abbrev dktX1_runs_3 : List UInt8 := dkwX1_runs_3 ++ dktX1_runs_4
def dkwX1_runs_2 : List UInt8 := [180, 0, 102, 3, 42, 180, 0, 66, 3, 16, 36, 184, 0, 124, 42, 180, 0, 63, 3, 3, 79, 3, 54, 9]
abbrev dktX1_runs_2 : List UInt8 := dkwX1_runs_2 ++ dktX1_runs_3
def dkwX1_runs_1 : List UInt8 := [46, 54, 6, 42, 182, 1, 31, 4, 46, 54, 7, 42, 182, 1, 31, 5, 46, 54, 8, 42, 180, 0, 12]
abbrev dktX1_runs_1 : List UInt8 := dkwX1_runs_1 ++ dktX1_runs_2
def dkwX1_runs_0 : List UInt8 := [28, 16, 7, 104, 6, 96, 54, 4, 42, 180, 0, 12, 180, 0, 112, 4, 46, 54, 5, 42, 182, 1, 31, 3]
abbrev dktX1_runs_0 : List UInt8 := dkwX1_runs_0 ++ dktX1_runs_1
theorem dksX1_runs_0 : cX1_runs.data.toList.drop 0 = dktX1_runs_0 := by decide +kernel
theorem dksX1_runs_1 : cX1_runs.data.toList.drop 24 = dktX1_runs_1 := dk_seg dksX1_runs_0 24 rfl rfl
theorem dksX1_runs_2 : cX1_runs.data.toList.drop 47 = dktX1_runs_2 := dk_seg dksX1_runs_1 23 rfl rfl
theorem dksX1_runs_3 : cX1_runs.data.toList.drop 71 = dktX1_runs_3 := dk_seg dksX1_runs_2 24 rfl rfl
theorem dksX1_runs_4 : cX1_runs.data.toList.drop 95 = dktX1_runs_4 := dk_seg dksX1_runs_3 24 rfl rfl
theorem dksX1_runs_5 : cX1_runs.data.toList.drop 118 = dktX1_runs_5 := dk_seg dksX1_runs_4 23 rfl rfl
theorem dksX1_runs_6 : cX1_runs.data.toList.drop 142 = dktX1_runs_6 := dk_seg dksX1_runs_5 24 rfl rfl
theorem dksX1_runs_7 : cX1_runs.data.toList.drop 166 = dktX1_runs_7 := dk_seg dksX1_runs_6 24 rfl rfl
theorem dksX1_runs_8 : cX1_runs.data.toList.drop 189 = dktX1_runs_8 := dk_seg dksX1_runs_7 23 rfl rfl
theorem dksX1_runs_9 : cX1_runs.data.toList.drop 213 = dktX1_runs_9 := dk_seg dksX1_runs_8 24 rfl rfl
theorem dksX1_runs_10 : cX1_runs.data.toList.drop 237 = dktX1_runs_10 := dk_seg dksX1_runs_9 24 rfl rfl
theorem dksX1_runs_11 : cX1_runs.data.toList.drop 259 = dktX1_runs_11 := dk_seg dksX1_runs_10 22 rfl rfl
theorem dksX1_runs_12 : cX1_runs.data.toList.drop 281 = dktX1_runs_12 := dk_seg dksX1_runs_11 22 rfl rfl
theorem dksX1_runs_13 : cX1_runs.data.toList.drop 305 = dktX1_runs_13 := dk_seg dksX1_runs_12 24 rfl rfl
theorem dksX1_runs_14 : cX1_runs.data.toList.drop 329 = dktX1_runs_14 := dk_seg dksX1_runs_13 24 rfl rfl
theorem dksX1_runs_15 : cX1_runs.data.toList.drop 353 = dktX1_runs_15 := dk_seg dksX1_runs_14 24 rfl rfl
theorem dksX1_runs_16 : cX1_runs.data.toList.drop 377 = dktX1_runs_16 := dk_seg dksX1_runs_15 24 rfl rfl
theorem dX1_runs_0 : decode cX1_runs 0 = .ok (.iload_n 2, 1) := dk_28 (dk_at dksX1_runs_0 0 rfl rfl)
theorem dX1_runs_1 : decode cX1_runs 1 = .ok (.bipush 7, 2) := dk_16 7 (dk_at dksX1_runs_0 1 rfl rfl)
theorem dX1_runs_3 : decode cX1_runs 3 = .ok (.imul, 1) := dk_104 (dk_at dksX1_runs_0 3 rfl rfl)
theorem dX1_runs_4 : decode cX1_runs 4 = .ok (.iconst 3, 1) := dk_6 (dk_at dksX1_runs_0 4 rfl rfl)
theorem dX1_runs_5 : decode cX1_runs 5 = .ok (.iadd, 1) := dk_96 (dk_at dksX1_runs_0 5 rfl rfl)
theorem dX1_runs_6 : decode cX1_runs 6 = .ok (.istore 4, 2) := dk_54 4 (dk_at dksX1_runs_0 6 rfl rfl)
theorem dX1_runs_8 : decode cX1_runs 8 = .ok (.aload_n 0, 1) := dk_42 (dk_at dksX1_runs_0 8 rfl rfl)
theorem dX1_runs_9 : decode cX1_runs 9 = .ok (.getfield 12, 3) := dk_180 0 12 (dk_at dksX1_runs_0 9 rfl rfl)
theorem dX1_runs_12 : decode cX1_runs 12 = .ok (.getfield 112, 3) := dk_180 0 112 (dk_at dksX1_runs_0 12 rfl rfl)
theorem dX1_runs_15 : decode cX1_runs 15 = .ok (.iconst 1, 1) := dk_4 (dk_at dksX1_runs_0 15 rfl rfl)
theorem dX1_runs_16 : decode cX1_runs 16 = .ok (.iaload, 1) := dk_46 (dk_at dksX1_runs_0 16 rfl rfl)
theorem dX1_runs_17 : decode cX1_runs 17 = .ok (.istore 5, 2) := dk_54 5 (dk_at dksX1_runs_0 17 rfl rfl)
theorem dX1_runs_19 : decode cX1_runs 19 = .ok (.aload_n 0, 1) := dk_42 (dk_at dksX1_runs_0 19 rfl rfl)
theorem dX1_runs_20 : decode cX1_runs 20 = .ok (.invokevirtual 287, 3) := dk_182 1 31 (dk_at dksX1_runs_0 20 rfl rfl)
theorem dX1_runs_23 : decode cX1_runs 23 = .ok (.iconst 0, 1) := dk_3 (dk_at dksX1_runs_0 23 rfl rfl)
theorem dX1_runs_24 : decode cX1_runs 24 = .ok (.iaload, 1) := dk_46 (dk_at dksX1_runs_1 0 rfl rfl)
theorem dX1_runs_25 : decode cX1_runs 25 = .ok (.istore 6, 2) := dk_54 6 (dk_at dksX1_runs_1 1 rfl rfl)
theorem dX1_runs_27 : decode cX1_runs 27 = .ok (.aload_n 0, 1) := dk_42 (dk_at dksX1_runs_1 3 rfl rfl)
theorem dX1_runs_28 : decode cX1_runs 28 = .ok (.invokevirtual 287, 3) := dk_182 1 31 (dk_at dksX1_runs_1 4 rfl rfl)
theorem dX1_runs_31 : decode cX1_runs 31 = .ok (.iconst 1, 1) := dk_4 (dk_at dksX1_runs_1 7 rfl rfl)
theorem dX1_runs_32 : decode cX1_runs 32 = .ok (.iaload, 1) := dk_46 (dk_at dksX1_runs_1 8 rfl rfl)
theorem dX1_runs_33 : decode cX1_runs 33 = .ok (.istore 7, 2) := dk_54 7 (dk_at dksX1_runs_1 9 rfl rfl)
theorem dX1_runs_35 : decode cX1_runs 35 = .ok (.aload_n 0, 1) := dk_42 (dk_at dksX1_runs_1 11 rfl rfl)
theorem dX1_runs_36 : decode cX1_runs 36 = .ok (.invokevirtual 287, 3) := dk_182 1 31 (dk_at dksX1_runs_1 12 rfl rfl)
theorem dX1_runs_39 : decode cX1_runs 39 = .ok (.iconst 2, 1) := dk_5 (dk_at dksX1_runs_1 15 rfl rfl)
theorem dX1_runs_40 : decode cX1_runs 40 = .ok (.iaload, 1) := dk_46 (dk_at dksX1_runs_1 16 rfl rfl)
theorem dX1_runs_41 : decode cX1_runs 41 = .ok (.istore 8, 2) := dk_54 8 (dk_at dksX1_runs_1 17 rfl rfl)
theorem dX1_runs_43 : decode cX1_runs 43 = .ok (.aload_n 0, 1) := dk_42 (dk_at dksX1_runs_1 19 rfl rfl)
theorem dX1_runs_44 : decode cX1_runs 44 = .ok (.getfield 12, 3) := dk_180 0 12 (dk_at dksX1_runs_1 20 rfl rfl)
theorem dX1_runs_47 : decode cX1_runs 47 = .ok (.getfield 102, 3) := dk_180 0 102 (dk_at dksX1_runs_2 0 rfl rfl)
theorem dX1_runs_50 : decode cX1_runs 50 = .ok (.iconst 0, 1) := dk_3 (dk_at dksX1_runs_2 3 rfl rfl)
theorem dX1_runs_51 : decode cX1_runs 51 = .ok (.aload_n 0, 1) := dk_42 (dk_at dksX1_runs_2 4 rfl rfl)
theorem dX1_runs_52 : decode cX1_runs 52 = .ok (.getfield 66, 3) := dk_180 0 66 (dk_at dksX1_runs_2 5 rfl rfl)
theorem dX1_runs_55 : decode cX1_runs 55 = .ok (.iconst 0, 1) := dk_3 (dk_at dksX1_runs_2 8 rfl rfl)
theorem dX1_runs_56 : decode cX1_runs 56 = .ok (.bipush 36, 2) := dk_16 36 (dk_at dksX1_runs_2 9 rfl rfl)
theorem dX1_runs_58 : decode cX1_runs 58 = .ok (.invokestatic 124, 3) := dk_184 0 124 (dk_at dksX1_runs_2 11 rfl rfl)
theorem dX1_runs_61 : decode cX1_runs 61 = .ok (.aload_n 0, 1) := dk_42 (dk_at dksX1_runs_2 14 rfl rfl)
theorem dX1_runs_62 : decode cX1_runs 62 = .ok (.getfield 63, 3) := dk_180 0 63 (dk_at dksX1_runs_2 15 rfl rfl)
theorem dX1_runs_65 : decode cX1_runs 65 = .ok (.iconst 0, 1) := dk_3 (dk_at dksX1_runs_2 18 rfl rfl)
theorem dX1_runs_66 : decode cX1_runs 66 = .ok (.iconst 0, 1) := dk_3 (dk_at dksX1_runs_2 19 rfl rfl)
theorem dX1_runs_67 : decode cX1_runs 67 = .ok (.iastore, 1) := dk_79 (dk_at dksX1_runs_2 20 rfl rfl)
theorem dX1_runs_68 : decode cX1_runs 68 = .ok (.iconst 0, 1) := dk_3 (dk_at dksX1_runs_2 21 rfl rfl)
theorem dX1_runs_69 : decode cX1_runs 69 = .ok (.istore 9, 2) := dk_54 9 (dk_at dksX1_runs_2 22 rfl rfl)
theorem dX1_runs_71 : decode cX1_runs 71 = .ok (.iload 9, 2) := dk_21 9 (dk_at dksX1_runs_3 0 rfl rfl)
theorem dX1_runs_73 : decode cX1_runs 73 = .ok (.iload_n 3, 1) := dk_29 (dk_at dksX1_runs_3 2 rfl rfl)
theorem dX1_runs_74 : decode cX1_runs 74 = .ok (.if_icmp .ge 287, 3) := dk_162 1 31 (dk_at dksX1_runs_3 3 rfl rfl)
theorem dX1_runs_77 : decode cX1_runs 77 = .ok (.aload_n 0, 1) := dk_42 (dk_at dksX1_runs_3 6 rfl rfl)
theorem dX1_runs_78 : decode cX1_runs 78 = .ok (.getfield 63, 3) := dk_180 0 63 (dk_at dksX1_runs_3 7 rfl rfl)
theorem dX1_runs_81 : decode cX1_runs 81 = .ok (.iconst 0, 1) := dk_3 (dk_at dksX1_runs_3 10 rfl rfl)
theorem dX1_runs_82 : decode cX1_runs 82 = .ok (.iaload, 1) := dk_46 (dk_at dksX1_runs_3 11 rfl rfl)
theorem dX1_runs_83 : decode cX1_runs 83 = .ok (.ifCond .ne 278, 3) := dk_154 1 22 (dk_at dksX1_runs_3 12 rfl rfl)
theorem dX1_runs_86 : decode cX1_runs 86 = .ok (.aload_n 0, 1) := dk_42 (dk_at dksX1_runs_3 15 rfl rfl)
theorem dX1_runs_87 : decode cX1_runs 87 = .ok (.getfield 12, 3) := dk_180 0 12 (dk_at dksX1_runs_3 16 rfl rfl)
theorem dX1_runs_90 : decode cX1_runs 90 = .ok (.getfield 112, 3) := dk_180 0 112 (dk_at dksX1_runs_3 19 rfl rfl)
theorem dX1_runs_93 : decode cX1_runs 93 = .ok (.iconst 0, 1) := dk_3 (dk_at dksX1_runs_3 22 rfl rfl)
theorem dX1_runs_94 : decode cX1_runs 94 = .ok (.iaload, 1) := dk_46 (dk_at dksX1_runs_3 23 rfl rfl)
theorem dX1_runs_95 : decode cX1_runs 95 = .ok (.iload 9, 2) := dk_21 9 (dk_at dksX1_runs_4 0 rfl rfl)
theorem dX1_runs_97 : decode cX1_runs 97 = .ok (.iadd, 1) := dk_96 (dk_at dksX1_runs_4 2 rfl rfl)
theorem dX1_runs_98 : decode cX1_runs 98 = .ok (.istore 10, 2) := dk_54 10 (dk_at dksX1_runs_4 3 rfl rfl)
theorem dX1_runs_100 : decode cX1_runs 100 = .ok (.aload_n 0, 1) := dk_42 (dk_at dksX1_runs_4 5 rfl rfl)
theorem dX1_runs_101 : decode cX1_runs 101 = .ok (.aload_n 1, 1) := dk_43 (dk_at dksX1_runs_4 6 rfl rfl)
theorem dX1_runs_102 : decode cX1_runs 102 = .ok (.iload 6, 2) := dk_21 6 (dk_at dksX1_runs_4 7 rfl rfl)
theorem dX1_runs_104 : decode cX1_runs 104 = .ok (.iload 7, 2) := dk_21 7 (dk_at dksX1_runs_4 9 rfl rfl)
theorem dX1_runs_106 : decode cX1_runs 106 = .ok (.iload 8, 2) := dk_21 8 (dk_at dksX1_runs_4 11 rfl rfl)
theorem dX1_runs_108 : decode cX1_runs 108 = .ok (.iload 5, 2) := dk_21 5 (dk_at dksX1_runs_4 13 rfl rfl)
theorem dX1_runs_110 : decode cX1_runs 110 = .ok (.iload 10, 2) := dk_21 10 (dk_at dksX1_runs_4 15 rfl rfl)
theorem dX1_runs_112 : decode cX1_runs 112 = .ok (.invokevirtual 350, 3) := dk_182 1 94 (dk_at dksX1_runs_4 17 rfl rfl)
theorem dX1_runs_115 : decode cX1_runs 115 = .ok (.istore 11, 2) := dk_54 11 (dk_at dksX1_runs_4 20 rfl rfl)
theorem dX1_runs_117 : decode cX1_runs 117 = .ok (.iconst 0, 1) := dk_3 (dk_at dksX1_runs_4 22 rfl rfl)
theorem dX1_runs_118 : decode cX1_runs 118 = .ok (.istore 12, 2) := dk_54 12 (dk_at dksX1_runs_5 0 rfl rfl)
theorem dX1_runs_120 : decode cX1_runs 120 = .ok (.iload 4, 2) := dk_21 4 (dk_at dksX1_runs_5 2 rfl rfl)
theorem dX1_runs_122 : decode cX1_runs 122 = .ok (.bipush 10, 2) := dk_16 10 (dk_at dksX1_runs_5 4 rfl rfl)
theorem dX1_runs_124 : decode cX1_runs 124 = .ok (.irem, 1) := dk_112 (dk_at dksX1_runs_5 6 rfl rfl)
theorem dX1_runs_125 : decode cX1_runs 125 = .ok (.istore 13, 2) := dk_54 13 (dk_at dksX1_runs_5 7 rfl rfl)
theorem dX1_runs_127 : decode cX1_runs 127 = .ok (.iload 13, 2) := dk_21 13 (dk_at dksX1_runs_5 9 rfl rfl)
theorem dX1_runs_129 : decode cX1_runs 129 = .ok (.aload_n 0, 1) := dk_42 (dk_at dksX1_runs_5 11 rfl rfl)
theorem dX1_runs_130 : decode cX1_runs 130 = .ok (.getfield 12, 3) := dk_180 0 12 (dk_at dksX1_runs_5 12 rfl rfl)
theorem dX1_runs_133 : decode cX1_runs 133 = .ok (.getfield 121, 3) := dk_180 0 121 (dk_at dksX1_runs_5 15 rfl rfl)
theorem dX1_runs_136 : decode cX1_runs 136 = .ok (.iload 5, 2) := dk_21 5 (dk_at dksX1_runs_5 18 rfl rfl)
theorem dX1_runs_138 : decode cX1_runs 138 = .ok (.aaload, 1) := dk_50 (dk_at dksX1_runs_5 20 rfl rfl)
theorem dX1_runs_139 : decode cX1_runs 139 = .ok (.iload 12, 2) := dk_21 12 (dk_at dksX1_runs_5 21 rfl rfl)
theorem dX1_runs_141 : decode cX1_runs 141 = .ok (.iaload, 1) := dk_46 (dk_at dksX1_runs_5 23 rfl rfl)
theorem dX1_runs_142 : decode cX1_runs 142 = .ok (.if_icmp .lt 27, 3) := dk_161 0 27 (dk_at dksX1_runs_6 0 rfl rfl)
theorem dX1_runs_145 : decode cX1_runs 145 = .ok (.iload 13, 2) := dk_21 13 (dk_at dksX1_runs_6 3 rfl rfl)
theorem dX1_runs_147 : decode cX1_runs 147 = .ok (.aload_n 0, 1) := dk_42 (dk_at dksX1_runs_6 5 rfl rfl)
theorem dX1_runs_148 : decode cX1_runs 148 = .ok (.getfield 12, 3) := dk_180 0 12 (dk_at dksX1_runs_6 6 rfl rfl)
theorem dX1_runs_151 : decode cX1_runs 151 = .ok (.getfield 121, 3) := dk_180 0 121 (dk_at dksX1_runs_6 9 rfl rfl)
theorem dX1_runs_154 : decode cX1_runs 154 = .ok (.iload 5, 2) := dk_21 5 (dk_at dksX1_runs_6 12 rfl rfl)
theorem dX1_runs_156 : decode cX1_runs 156 = .ok (.aaload, 1) := dk_50 (dk_at dksX1_runs_6 14 rfl rfl)
theorem dX1_runs_157 : decode cX1_runs 157 = .ok (.iload 12, 2) := dk_21 12 (dk_at dksX1_runs_6 15 rfl rfl)
theorem dX1_runs_159 : decode cX1_runs 159 = .ok (.iaload, 1) := dk_46 (dk_at dksX1_runs_6 17 rfl rfl)
theorem dX1_runs_160 : decode cX1_runs 160 = .ok (.isub, 1) := dk_100 (dk_at dksX1_runs_6 18 rfl rfl)
theorem dX1_runs_161 : decode cX1_runs 161 = .ok (.istore 13, 2) := dk_54 13 (dk_at dksX1_runs_6 19 rfl rfl)
theorem dX1_runs_163 : decode cX1_runs 163 = .ok (.iinc 12 1, 3) := dk_132 12 1 (dk_at dksX1_runs_6 21 rfl rfl)
theorem dX1_runs_166 : decode cX1_runs 166 = .ok (.goto (-39), 3) := dk_167 255 217 (dk_at dksX1_runs_7 0 rfl rfl)
theorem dX1_runs_169 : decode cX1_runs 169 = .ok (.iload 4, 2) := dk_21 4 (dk_at dksX1_runs_7 3 rfl rfl)
theorem dX1_runs_171 : decode cX1_runs 171 = .ok (.sipush 173, 3) := dk_17 0 173 (dk_at dksX1_runs_7 5 rfl rfl)
theorem dX1_runs_174 : decode cX1_runs 174 = .ok (.imul, 1) := dk_104 (dk_at dksX1_runs_7 8 rfl rfl)
theorem dX1_runs_175 : decode cX1_runs 175 = .ok (.bipush 11, 2) := dk_16 11 (dk_at dksX1_runs_7 9 rfl rfl)
theorem dX1_runs_177 : decode cX1_runs 177 = .ok (.iadd, 1) := dk_96 (dk_at dksX1_runs_7 11 rfl rfl)
theorem dX1_runs_178 : decode cX1_runs 178 = .ok (.sipush 30103, 3) := dk_17 117 151 (dk_at dksX1_runs_7 12 rfl rfl)
theorem dX1_runs_181 : decode cX1_runs 181 = .ok (.irem, 1) := dk_112 (dk_at dksX1_runs_7 15 rfl rfl)
theorem dX1_runs_182 : decode cX1_runs 182 = .ok (.istore 4, 2) := dk_54 4 (dk_at dksX1_runs_7 16 rfl rfl)
theorem dX1_runs_184 : decode cX1_runs 184 = .ok (.iload 7, 2) := dk_21 7 (dk_at dksX1_runs_7 18 rfl rfl)
theorem dX1_runs_186 : decode cX1_runs 186 = .ok (.aload_n 0, 1) := dk_42 (dk_at dksX1_runs_7 20 rfl rfl)
theorem dX1_runs_187 : decode cX1_runs 187 = .ok (.iload 11, 2) := dk_21 11 (dk_at dksX1_runs_7 21 rfl rfl)
theorem dX1_runs_189 : decode cX1_runs 189 = .ok (.iload 6, 2) := dk_21 6 (dk_at dksX1_runs_8 0 rfl rfl)
theorem dX1_runs_191 : decode cX1_runs 191 = .ok (.iload 7, 2) := dk_21 7 (dk_at dksX1_runs_8 2 rfl rfl)
theorem dX1_runs_193 : decode cX1_runs 193 = .ok (.iload 8, 2) := dk_21 8 (dk_at dksX1_runs_8 4 rfl rfl)
theorem dX1_runs_195 : decode cX1_runs 195 = .ok (.aload_n 0, 1) := dk_42 (dk_at dksX1_runs_8 6 rfl rfl)
theorem dX1_runs_196 : decode cX1_runs 196 = .ok (.getfield 66, 3) := dk_180 0 66 (dk_at dksX1_runs_8 7 rfl rfl)
theorem dX1_runs_199 : decode cX1_runs 199 = .ok (.iload 5, 2) := dk_21 5 (dk_at dksX1_runs_8 10 rfl rfl)
theorem dX1_runs_201 : decode cX1_runs 201 = .ok (.iload 10, 2) := dk_21 10 (dk_at dksX1_runs_8 12 rfl rfl)
theorem dX1_runs_203 : decode cX1_runs 203 = .ok (.invokevirtual 232, 3) := dk_182 0 232 (dk_at dksX1_runs_8 14 rfl rfl)
theorem dX1_runs_206 : decode cX1_runs 206 = .ok (.isub, 1) := dk_100 (dk_at dksX1_runs_8 17 rfl rfl)
theorem dX1_runs_207 : decode cX1_runs 207 = .ok (.istore 7, 2) := dk_54 7 (dk_at dksX1_runs_8 18 rfl rfl)
theorem dX1_runs_209 : decode cX1_runs 209 = .ok (.iload 11, 2) := dk_21 11 (dk_at dksX1_runs_8 20 rfl rfl)
theorem dX1_runs_211 : decode cX1_runs 211 = .ok (.iload 8, 2) := dk_21 8 (dk_at dksX1_runs_8 22 rfl rfl)
theorem dX1_runs_213 : decode cX1_runs 213 = .ok (.invokestatic 280, 3) := dk_184 1 24 (dk_at dksX1_runs_9 0 rfl rfl)
theorem dX1_runs_216 : decode cX1_runs 216 = .ok (.istore 8, 2) := dk_54 8 (dk_at dksX1_runs_9 3 rfl rfl)
theorem dX1_runs_218 : decode cX1_runs 218 = .ok (.iload 11, 2) := dk_21 11 (dk_at dksX1_runs_9 5 rfl rfl)
theorem dX1_runs_220 : decode cX1_runs 220 = .ok (.iconst 4, 1) := dk_7 (dk_at dksX1_runs_9 7 rfl rfl)
theorem dX1_runs_221 : decode cX1_runs 221 = .ok (.if_icmp .ge 22, 3) := dk_162 0 22 (dk_at dksX1_runs_9 8 rfl rfl)
theorem dX1_runs_224 : decode cX1_runs 224 = .ok (.aload_n 0, 1) := dk_42 (dk_at dksX1_runs_9 11 rfl rfl)
theorem dX1_runs_225 : decode cX1_runs 225 = .ok (.iload 6, 2) := dk_21 6 (dk_at dksX1_runs_9 12 rfl rfl)
theorem dX1_runs_227 : decode cX1_runs 227 = .ok (.iload 11, 2) := dk_21 11 (dk_at dksX1_runs_9 14 rfl rfl)
theorem dX1_runs_229 : decode cX1_runs 229 = .ok (.invokestatic 169, 3) := dk_184 0 169 (dk_at dksX1_runs_9 16 rfl rfl)
theorem dX1_runs_232 : decode cX1_runs 232 = .ok (.iload 11, 2) := dk_21 11 (dk_at dksX1_runs_9 19 rfl rfl)
theorem dX1_runs_234 : decode cX1_runs 234 = .ok (.invokestatic 173, 3) := dk_184 0 173 (dk_at dksX1_runs_9 21 rfl rfl)
theorem dX1_runs_237 : decode cX1_runs 237 = .ok (.invokevirtual 165, 3) := dk_182 0 165 (dk_at dksX1_runs_10 0 rfl rfl)
theorem dX1_runs_240 : decode cX1_runs 240 = .ok (.goto 22, 3) := dk_167 0 22 (dk_at dksX1_runs_10 3 rfl rfl)
theorem dX1_runs_243 : decode cX1_runs 243 = .ok (.iload 11, 2) := dk_21 11 (dk_at dksX1_runs_10 6 rfl rfl)
theorem dX1_runs_245 : decode cX1_runs 245 = .ok (.iconst 5, 1) := dk_8 (dk_at dksX1_runs_10 8 rfl rfl)
theorem dX1_runs_246 : decode cX1_runs 246 = .ok (.if_icmp .ne 8, 3) := dk_160 0 8 (dk_at dksX1_runs_10 9 rfl rfl)
theorem dX1_runs_249 : decode cX1_runs 249 = .ok (.iload 6, 2) := dk_21 6 (dk_at dksX1_runs_10 12 rfl rfl)
theorem dX1_runs_251 : decode cX1_runs 251 = .ok (.goto 11, 3) := dk_167 0 11 (dk_at dksX1_runs_10 14 rfl rfl)
theorem dX1_runs_254 : decode cX1_runs 254 = .ok (.aload_n 0, 1) := dk_42 (dk_at dksX1_runs_10 17 rfl rfl)
theorem dX1_runs_255 : decode cX1_runs 255 = .ok (.iload 6, 2) := dk_21 6 (dk_at dksX1_runs_10 18 rfl rfl)
theorem dX1_runs_257 : decode cX1_runs 257 = .ok (.iload 12, 2) := dk_21 12 (dk_at dksX1_runs_10 20 rfl rfl)
theorem dX1_runs_259 : decode cX1_runs 259 = .ok (.invokevirtual 246, 3) := dk_182 0 246 (dk_at dksX1_runs_11 0 rfl rfl)
theorem dX1_runs_262 : decode cX1_runs 262 = .ok (.istore 6, 2) := dk_54 6 (dk_at dksX1_runs_11 3 rfl rfl)
theorem dX1_runs_264 : decode cX1_runs 264 = .ok (.aload_n 0, 1) := dk_42 (dk_at dksX1_runs_11 5 rfl rfl)
theorem dX1_runs_265 : decode cX1_runs 265 = .ok (.aload_n 0, 1) := dk_42 (dk_at dksX1_runs_11 6 rfl rfl)
theorem dX1_runs_266 : decode cX1_runs 266 = .ok (.getfield 66, 3) := dk_180 0 66 (dk_at dksX1_runs_11 7 rfl rfl)
theorem dX1_runs_269 : decode cX1_runs 269 = .ok (.aload_n 0, 1) := dk_42 (dk_at dksX1_runs_11 10 rfl rfl)
theorem dX1_runs_270 : decode cX1_runs 270 = .ok (.getfield 69, 3) := dk_180 0 69 (dk_at dksX1_runs_11 11 rfl rfl)
theorem dX1_runs_273 : decode cX1_runs 273 = .ok (.iload 12, 2) := dk_21 12 (dk_at dksX1_runs_11 14 rfl rfl)
theorem dX1_runs_275 : decode cX1_runs 275 = .ok (.iload 10, 2) := dk_21 10 (dk_at dksX1_runs_11 16 rfl rfl)
theorem dX1_runs_277 : decode cX1_runs 277 = .ok (.invokevirtual 242, 3) := dk_182 0 242 (dk_at dksX1_runs_11 18 rfl rfl)
theorem dX1_runs_280 : decode cX1_runs 280 = .ok (.aload_n 0, 1) := dk_42 (dk_at dksX1_runs_11 21 rfl rfl)
theorem dX1_runs_281 : decode cX1_runs 281 = .ok (.getfield 66, 3) := dk_180 0 66 (dk_at dksX1_runs_12 0 rfl rfl)
theorem dX1_runs_284 : decode cX1_runs 284 = .ok (.astore 13, 2) := dk_58 13 (dk_at dksX1_runs_12 3 rfl rfl)
theorem dX1_runs_286 : decode cX1_runs 286 = .ok (.aload_n 0, 1) := dk_42 (dk_at dksX1_runs_12 5 rfl rfl)
theorem dX1_runs_287 : decode cX1_runs 287 = .ok (.aload_n 0, 1) := dk_42 (dk_at dksX1_runs_12 6 rfl rfl)
theorem dX1_runs_288 : decode cX1_runs 288 = .ok (.getfield 69, 3) := dk_180 0 69 (dk_at dksX1_runs_12 7 rfl rfl)
theorem dX1_runs_291 : decode cX1_runs 291 = .ok (.putfield 66, 3) := dk_181 0 66 (dk_at dksX1_runs_12 10 rfl rfl)
theorem dX1_runs_294 : decode cX1_runs 294 = .ok (.aload_n 0, 1) := dk_42 (dk_at dksX1_runs_12 13 rfl rfl)
theorem dX1_runs_295 : decode cX1_runs 295 = .ok (.aload 13, 2) := dk_25 13 (dk_at dksX1_runs_12 14 rfl rfl)
theorem dX1_runs_297 : decode cX1_runs 297 = .ok (.putfield 69, 3) := dk_181 0 69 (dk_at dksX1_runs_12 16 rfl rfl)
theorem dX1_runs_300 : decode cX1_runs 300 = .ok (.aload_n 0, 1) := dk_42 (dk_at dksX1_runs_12 19 rfl rfl)
theorem dX1_runs_301 : decode cX1_runs 301 = .ok (.getfield 63, 3) := dk_180 0 63 (dk_at dksX1_runs_12 20 rfl rfl)
theorem dX1_runs_304 : decode cX1_runs 304 = .ok (.iconst 0, 1) := dk_3 (dk_at dksX1_runs_12 23 rfl rfl)
theorem dX1_runs_305 : decode cX1_runs 305 = .ok (.iload 11, 2) := dk_21 11 (dk_at dksX1_runs_13 0 rfl rfl)
theorem dX1_runs_307 : decode cX1_runs 307 = .ok (.iconst 4, 1) := dk_7 (dk_at dksX1_runs_13 2 rfl rfl)
theorem dX1_runs_308 : decode cX1_runs 308 = .ok (.if_icmp .ge 20, 3) := dk_162 0 20 (dk_at dksX1_runs_13 3 rfl rfl)
theorem dX1_runs_311 : decode cX1_runs 311 = .ok (.aload_n 0, 1) := dk_42 (dk_at dksX1_runs_13 6 rfl rfl)
theorem dX1_runs_312 : decode cX1_runs 312 = .ok (.getfield 12, 3) := dk_180 0 12 (dk_at dksX1_runs_13 7 rfl rfl)
theorem dX1_runs_315 : decode cX1_runs 315 = .ok (.getfield 109, 3) := dk_180 0 109 (dk_at dksX1_runs_13 10 rfl rfl)
theorem dX1_runs_318 : decode cX1_runs 318 = .ok (.iload 6, 2) := dk_21 6 (dk_at dksX1_runs_13 13 rfl rfl)
theorem dX1_runs_320 : decode cX1_runs 320 = .ok (.baload, 1) := dk_51 (dk_at dksX1_runs_13 15 rfl rfl)
theorem dX1_runs_321 : decode cX1_runs 321 = .ok (.ifCond .eq 7, 3) := dk_153 0 7 (dk_at dksX1_runs_13 16 rfl rfl)
theorem dX1_runs_324 : decode cX1_runs 324 = .ok (.iconst 1, 1) := dk_4 (dk_at dksX1_runs_13 19 rfl rfl)
theorem dX1_runs_325 : decode cX1_runs 325 = .ok (.goto 25, 3) := dk_167 0 25 (dk_at dksX1_runs_13 20 rfl rfl)
theorem dX1_runs_328 : decode cX1_runs 328 = .ok (.aload_n 0, 1) := dk_42 (dk_at dksX1_runs_13 23 rfl rfl)
theorem dX1_runs_329 : decode cX1_runs 329 = .ok (.aload_n 0, 1) := dk_42 (dk_at dksX1_runs_14 0 rfl rfl)
theorem dX1_runs_330 : decode cX1_runs 330 = .ok (.getfield 66, 3) := dk_180 0 66 (dk_at dksX1_runs_14 1 rfl rfl)
theorem dX1_runs_333 : decode cX1_runs 333 = .ok (.iload 6, 2) := dk_21 6 (dk_at dksX1_runs_14 4 rfl rfl)
theorem dX1_runs_335 : decode cX1_runs 335 = .ok (.iload 12, 2) := dk_21 12 (dk_at dksX1_runs_14 6 rfl rfl)
theorem dX1_runs_337 : decode cX1_runs 337 = .ok (.iload 10, 2) := dk_21 10 (dk_at dksX1_runs_14 8 rfl rfl)
theorem dX1_runs_339 : decode cX1_runs 339 = .ok (.invokevirtual 249, 3) := dk_182 0 249 (dk_at dksX1_runs_14 10 rfl rfl)
theorem dX1_runs_342 : decode cX1_runs 342 = .ok (.ifCond .eq 7, 3) := dk_153 0 7 (dk_at dksX1_runs_14 13 rfl rfl)
theorem dX1_runs_345 : decode cX1_runs 345 = .ok (.iconst 2, 1) := dk_5 (dk_at dksX1_runs_14 16 rfl rfl)
theorem dX1_runs_346 : decode cX1_runs 346 = .ok (.goto 4, 3) := dk_167 0 4 (dk_at dksX1_runs_14 17 rfl rfl)
theorem dX1_runs_349 : decode cX1_runs 349 = .ok (.iconst 0, 1) := dk_3 (dk_at dksX1_runs_14 20 rfl rfl)
theorem dX1_runs_350 : decode cX1_runs 350 = .ok (.iastore, 1) := dk_79 (dk_at dksX1_runs_14 21 rfl rfl)
theorem dX1_runs_351 : decode cX1_runs 351 = .ok (.iload 12, 2) := dk_21 12 (dk_at dksX1_runs_14 22 rfl rfl)
theorem dX1_runs_353 : decode cX1_runs 353 = .ok (.istore 5, 2) := dk_54 5 (dk_at dksX1_runs_15 0 rfl rfl)
theorem dX1_runs_355 : decode cX1_runs 355 = .ok (.iinc 9 1, 3) := dk_132 9 1 (dk_at dksX1_runs_15 2 rfl rfl)
theorem dX1_runs_358 : decode cX1_runs 358 = .ok (.goto (-287), 3) := dk_167 254 225 (dk_at dksX1_runs_15 5 rfl rfl)
theorem dX1_runs_361 : decode cX1_runs 361 = .ok (.aload_n 0, 1) := dk_42 (dk_at dksX1_runs_15 8 rfl rfl)
theorem dX1_runs_362 : decode cX1_runs 362 = .ok (.getfield 63, 3) := dk_180 0 63 (dk_at dksX1_runs_15 9 rfl rfl)
theorem dX1_runs_365 : decode cX1_runs 365 = .ok (.iconst 1, 1) := dk_4 (dk_at dksX1_runs_15 12 rfl rfl)
theorem dX1_runs_366 : decode cX1_runs 366 = .ok (.iload 9, 2) := dk_21 9 (dk_at dksX1_runs_15 13 rfl rfl)
theorem dX1_runs_368 : decode cX1_runs 368 = .ok (.iastore, 1) := dk_79 (dk_at dksX1_runs_15 15 rfl rfl)
theorem dX1_runs_369 : decode cX1_runs 369 = .ok (.aload_n 0, 1) := dk_42 (dk_at dksX1_runs_15 16 rfl rfl)
theorem dX1_runs_370 : decode cX1_runs 370 = .ok (.getfield 63, 3) := dk_180 0 63 (dk_at dksX1_runs_15 17 rfl rfl)
theorem dX1_runs_373 : decode cX1_runs 373 = .ok (.iconst 2, 1) := dk_5 (dk_at dksX1_runs_15 20 rfl rfl)
theorem dX1_runs_374 : decode cX1_runs 374 = .ok (.iload 6, 2) := dk_21 6 (dk_at dksX1_runs_15 21 rfl rfl)
theorem dX1_runs_376 : decode cX1_runs 376 = .ok (.iastore, 1) := dk_79 (dk_at dksX1_runs_15 23 rfl rfl)
theorem dX1_runs_377 : decode cX1_runs 377 = .ok (.aload_n 0, 1) := dk_42 (dk_at dksX1_runs_16 0 rfl rfl)
theorem dX1_runs_378 : decode cX1_runs 378 = .ok (.getfield 63, 3) := dk_180 0 63 (dk_at dksX1_runs_16 1 rfl rfl)
theorem dX1_runs_381 : decode cX1_runs 381 = .ok (.iconst 3, 1) := dk_6 (dk_at dksX1_runs_16 4 rfl rfl)
theorem dX1_runs_382 : decode cX1_runs 382 = .ok (.iload 7, 2) := dk_21 7 (dk_at dksX1_runs_16 5 rfl rfl)
theorem dX1_runs_384 : decode cX1_runs 384 = .ok (.iastore, 1) := dk_79 (dk_at dksX1_runs_16 7 rfl rfl)
theorem dX1_runs_385 : decode cX1_runs 385 = .ok (.return_, 1) := dk_177 (dk_at dksX1_runs_16 8 rfl rfl)
abbrev cX1_orderBy : ByteArray := prog_1_method_73_code
def yX1_orderBy : MethodName := ⟨RX1, "orderBy", "(LThroughPack$Text;IIIII)I"⟩
def dkwX1_orderBy_6 : List UInt8 := [172]
abbrev dktX1_orderBy_6 : List UInt8 := dkwX1_orderBy_6 ++ []
def dkwX1_orderBy_5 : List UInt8 := [29, 21, 4, 42, 180, 0, 66, 21, 5, 21, 6, 182, 0, 232, 2, 159, 0, 7, 7, 167, 0, 5, 16, 6]
abbrev dktX1_orderBy_5 : List UInt8 := dkwX1_orderBy_5 ++ dktX1_orderBy_6
def dkwX1_orderBy_4 : List UInt8 := [21, 6, 182, 0, 232, 2, 159, 0, 9, 25, 8, 182, 1, 121, 172, 132, 7, 1, 167, 255, 149, 42, 7, 28]
abbrev dktX1_orderBy_4 : List UInt8 := dkwX1_orderBy_4 ++ dktX1_orderBy_5
def dkwX1_orderBy_3 : List UInt8 := [185, 1, 115, 2, 0, 153, 0, 34, 42, 25, 8, 182, 1, 121, 28, 29, 21, 4, 42, 180, 0, 66, 21, 5]
abbrev dktX1_orderBy_3 : List UInt8 := dkwX1_orderBy_3 ++ dktX1_orderBy_4
def dkwX1_orderBy_2 : List UInt8 := [29, 79, 42, 180, 0, 30, 16, 10, 21, 4, 79, 25, 8, 182, 1, 111, 42, 180, 0, 30]
abbrev dktX1_orderBy_2 : List UInt8 := dkwX1_orderBy_2 ++ dktX1_orderBy_3
def dkwX1_orderBy_1 : List UInt8 := [192, 1, 109, 58, 8, 42, 42, 180, 0, 66, 28, 21, 5, 21, 6, 182, 0, 191, 42, 180, 0, 30, 16, 9]
abbrev dktX1_orderBy_1 : List UInt8 := dkwX1_orderBy_1 ++ dktX1_orderBy_2
def dkwX1_orderBy_0 : List UInt8 := [3, 54, 7, 21, 7, 43, 180, 1, 98, 182, 1, 101, 162, 0, 101, 43, 180, 1, 98, 21, 7, 182, 1, 105]
abbrev dktX1_orderBy_0 : List UInt8 := dkwX1_orderBy_0 ++ dktX1_orderBy_1
theorem dksX1_orderBy_0 : cX1_orderBy.data.toList.drop 0 = dktX1_orderBy_0 := by decide +kernel
theorem dksX1_orderBy_1 : cX1_orderBy.data.toList.drop 24 = dktX1_orderBy_1 := dk_seg dksX1_orderBy_0 24 rfl rfl
theorem dksX1_orderBy_2 : cX1_orderBy.data.toList.drop 48 = dktX1_orderBy_2 := dk_seg dksX1_orderBy_1 24 rfl rfl
theorem dksX1_orderBy_3 : cX1_orderBy.data.toList.drop 68 = dktX1_orderBy_3 := dk_seg dksX1_orderBy_2 20 rfl rfl
theorem dksX1_orderBy_4 : cX1_orderBy.data.toList.drop 92 = dktX1_orderBy_4 := dk_seg dksX1_orderBy_3 24 rfl rfl
theorem dksX1_orderBy_5 : cX1_orderBy.data.toList.drop 116 = dktX1_orderBy_5 := dk_seg dksX1_orderBy_4 24 rfl rfl
theorem dksX1_orderBy_6 : cX1_orderBy.data.toList.drop 140 = dktX1_orderBy_6 := dk_seg dksX1_orderBy_5 24 rfl rfl
theorem dX1_orderBy_0 : decode cX1_orderBy 0 = .ok (.iconst 0, 1) := dk_3 (dk_at dksX1_orderBy_0 0 rfl rfl)
theorem dX1_orderBy_1 : decode cX1_orderBy 1 = .ok (.istore 7, 2) := dk_54 7 (dk_at dksX1_orderBy_0 1 rfl rfl)
theorem dX1_orderBy_3 : decode cX1_orderBy 3 = .ok (.iload 7, 2) := dk_21 7 (dk_at dksX1_orderBy_0 3 rfl rfl)
theorem dX1_orderBy_5 : decode cX1_orderBy 5 = .ok (.aload_n 1, 1) := dk_43 (dk_at dksX1_orderBy_0 5 rfl rfl)
theorem dX1_orderBy_6 : decode cX1_orderBy 6 = .ok (.getfield 354, 3) := dk_180 1 98 (dk_at dksX1_orderBy_0 6 rfl rfl)
theorem dX1_orderBy_9 : decode cX1_orderBy 9 = .ok (.invokevirtual 357, 3) := dk_182 1 101 (dk_at dksX1_orderBy_0 9 rfl rfl)
theorem dX1_orderBy_12 : decode cX1_orderBy 12 = .ok (.if_icmp .ge 101, 3) := dk_162 0 101 (dk_at dksX1_orderBy_0 12 rfl rfl)
theorem dX1_orderBy_15 : decode cX1_orderBy 15 = .ok (.aload_n 1, 1) := dk_43 (dk_at dksX1_orderBy_0 15 rfl rfl)
theorem dX1_orderBy_16 : decode cX1_orderBy 16 = .ok (.getfield 354, 3) := dk_180 1 98 (dk_at dksX1_orderBy_0 16 rfl rfl)
theorem dX1_orderBy_19 : decode cX1_orderBy 19 = .ok (.iload 7, 2) := dk_21 7 (dk_at dksX1_orderBy_0 19 rfl rfl)
theorem dX1_orderBy_21 : decode cX1_orderBy 21 = .ok (.invokevirtual 361, 3) := dk_182 1 105 (dk_at dksX1_orderBy_0 21 rfl rfl)
theorem dX1_orderBy_24 : decode cX1_orderBy 24 = .ok (.checkcast 365, 3) := dk_192 1 109 (dk_at dksX1_orderBy_1 0 rfl rfl)
theorem dX1_orderBy_27 : decode cX1_orderBy 27 = .ok (.astore 8, 2) := dk_58 8 (dk_at dksX1_orderBy_1 3 rfl rfl)
theorem dX1_orderBy_29 : decode cX1_orderBy 29 = .ok (.aload_n 0, 1) := dk_42 (dk_at dksX1_orderBy_1 5 rfl rfl)
theorem dX1_orderBy_30 : decode cX1_orderBy 30 = .ok (.aload_n 0, 1) := dk_42 (dk_at dksX1_orderBy_1 6 rfl rfl)
theorem dX1_orderBy_31 : decode cX1_orderBy 31 = .ok (.getfield 66, 3) := dk_180 0 66 (dk_at dksX1_orderBy_1 7 rfl rfl)
theorem dX1_orderBy_34 : decode cX1_orderBy 34 = .ok (.iload_n 2, 1) := dk_28 (dk_at dksX1_orderBy_1 10 rfl rfl)
theorem dX1_orderBy_35 : decode cX1_orderBy 35 = .ok (.iload 5, 2) := dk_21 5 (dk_at dksX1_orderBy_1 11 rfl rfl)
theorem dX1_orderBy_37 : decode cX1_orderBy 37 = .ok (.iload 6, 2) := dk_21 6 (dk_at dksX1_orderBy_1 13 rfl rfl)
theorem dX1_orderBy_39 : decode cX1_orderBy 39 = .ok (.invokevirtual 191, 3) := dk_182 0 191 (dk_at dksX1_orderBy_1 15 rfl rfl)
theorem dX1_orderBy_42 : decode cX1_orderBy 42 = .ok (.aload_n 0, 1) := dk_42 (dk_at dksX1_orderBy_1 18 rfl rfl)
theorem dX1_orderBy_43 : decode cX1_orderBy 43 = .ok (.getfield 30, 3) := dk_180 0 30 (dk_at dksX1_orderBy_1 19 rfl rfl)
theorem dX1_orderBy_46 : decode cX1_orderBy 46 = .ok (.bipush 9, 2) := dk_16 9 (dk_at dksX1_orderBy_1 22 rfl rfl)
theorem dX1_orderBy_48 : decode cX1_orderBy 48 = .ok (.iload_n 3, 1) := dk_29 (dk_at dksX1_orderBy_2 0 rfl rfl)
theorem dX1_orderBy_49 : decode cX1_orderBy 49 = .ok (.iastore, 1) := dk_79 (dk_at dksX1_orderBy_2 1 rfl rfl)
theorem dX1_orderBy_50 : decode cX1_orderBy 50 = .ok (.aload_n 0, 1) := dk_42 (dk_at dksX1_orderBy_2 2 rfl rfl)
theorem dX1_orderBy_51 : decode cX1_orderBy 51 = .ok (.getfield 30, 3) := dk_180 0 30 (dk_at dksX1_orderBy_2 3 rfl rfl)
theorem dX1_orderBy_54 : decode cX1_orderBy 54 = .ok (.bipush 10, 2) := dk_16 10 (dk_at dksX1_orderBy_2 6 rfl rfl)
theorem dX1_orderBy_56 : decode cX1_orderBy 56 = .ok (.iload 4, 2) := dk_21 4 (dk_at dksX1_orderBy_2 8 rfl rfl)
theorem dX1_orderBy_58 : decode cX1_orderBy 58 = .ok (.iastore, 1) := dk_79 (dk_at dksX1_orderBy_2 10 rfl rfl)
theorem dX1_orderBy_59 : decode cX1_orderBy 59 = .ok (.aload 8, 2) := dk_25 8 (dk_at dksX1_orderBy_2 11 rfl rfl)
theorem dX1_orderBy_61 : decode cX1_orderBy 61 = .ok (.invokevirtual 367, 3) := dk_182 1 111 (dk_at dksX1_orderBy_2 13 rfl rfl)
theorem dX1_orderBy_64 : decode cX1_orderBy 64 = .ok (.aload_n 0, 1) := dk_42 (dk_at dksX1_orderBy_2 16 rfl rfl)
theorem dX1_orderBy_65 : decode cX1_orderBy 65 = .ok (.getfield 30, 3) := dk_180 0 30 (dk_at dksX1_orderBy_2 17 rfl rfl)
theorem dX1_orderBy_68 : decode cX1_orderBy 68 = .ok (.invokeinterface 371 2, 5) := by decide +kernel
theorem dX1_orderBy_73 : decode cX1_orderBy 73 = .ok (.ifCond .eq 34, 3) := dk_153 0 34 (dk_at dksX1_orderBy_3 5 rfl rfl)
theorem dX1_orderBy_76 : decode cX1_orderBy 76 = .ok (.aload_n 0, 1) := dk_42 (dk_at dksX1_orderBy_3 8 rfl rfl)
theorem dX1_orderBy_77 : decode cX1_orderBy 77 = .ok (.aload 8, 2) := dk_25 8 (dk_at dksX1_orderBy_3 9 rfl rfl)
theorem dX1_orderBy_79 : decode cX1_orderBy 79 = .ok (.invokevirtual 377, 3) := dk_182 1 121 (dk_at dksX1_orderBy_3 11 rfl rfl)
theorem dX1_orderBy_82 : decode cX1_orderBy 82 = .ok (.iload_n 2, 1) := dk_28 (dk_at dksX1_orderBy_3 14 rfl rfl)
theorem dX1_orderBy_83 : decode cX1_orderBy 83 = .ok (.iload_n 3, 1) := dk_29 (dk_at dksX1_orderBy_3 15 rfl rfl)
theorem dX1_orderBy_84 : decode cX1_orderBy 84 = .ok (.iload 4, 2) := dk_21 4 (dk_at dksX1_orderBy_3 16 rfl rfl)
theorem dX1_orderBy_86 : decode cX1_orderBy 86 = .ok (.aload_n 0, 1) := dk_42 (dk_at dksX1_orderBy_3 18 rfl rfl)
theorem dX1_orderBy_87 : decode cX1_orderBy 87 = .ok (.getfield 66, 3) := dk_180 0 66 (dk_at dksX1_orderBy_3 19 rfl rfl)
theorem dX1_orderBy_90 : decode cX1_orderBy 90 = .ok (.iload 5, 2) := dk_21 5 (dk_at dksX1_orderBy_3 22 rfl rfl)
theorem dX1_orderBy_92 : decode cX1_orderBy 92 = .ok (.iload 6, 2) := dk_21 6 (dk_at dksX1_orderBy_4 0 rfl rfl)
theorem dX1_orderBy_94 : decode cX1_orderBy 94 = .ok (.invokevirtual 232, 3) := dk_182 0 232 (dk_at dksX1_orderBy_4 2 rfl rfl)
theorem dX1_orderBy_97 : decode cX1_orderBy 97 = .ok (.iconst (-1), 1) := dk_2 (dk_at dksX1_orderBy_4 5 rfl rfl)
theorem dX1_orderBy_98 : decode cX1_orderBy 98 = .ok (.if_icmp .eq 9, 3) := dk_159 0 9 (dk_at dksX1_orderBy_4 6 rfl rfl)
theorem dX1_orderBy_101 : decode cX1_orderBy 101 = .ok (.aload 8, 2) := dk_25 8 (dk_at dksX1_orderBy_4 9 rfl rfl)
theorem dX1_orderBy_103 : decode cX1_orderBy 103 = .ok (.invokevirtual 377, 3) := dk_182 1 121 (dk_at dksX1_orderBy_4 11 rfl rfl)
theorem dX1_orderBy_106 : decode cX1_orderBy 106 = .ok (.ireturn, 1) := dk_172 (dk_at dksX1_orderBy_4 14 rfl rfl)
theorem dX1_orderBy_107 : decode cX1_orderBy 107 = .ok (.iinc 7 1, 3) := dk_132 7 1 (dk_at dksX1_orderBy_4 15 rfl rfl)
theorem dX1_orderBy_110 : decode cX1_orderBy 110 = .ok (.goto (-107), 3) := dk_167 255 149 (dk_at dksX1_orderBy_4 18 rfl rfl)
theorem dX1_orderBy_113 : decode cX1_orderBy 113 = .ok (.aload_n 0, 1) := dk_42 (dk_at dksX1_orderBy_4 21 rfl rfl)
theorem dX1_orderBy_114 : decode cX1_orderBy 114 = .ok (.iconst 4, 1) := dk_7 (dk_at dksX1_orderBy_4 22 rfl rfl)
theorem dX1_orderBy_115 : decode cX1_orderBy 115 = .ok (.iload_n 2, 1) := dk_28 (dk_at dksX1_orderBy_4 23 rfl rfl)
theorem dX1_orderBy_116 : decode cX1_orderBy 116 = .ok (.iload_n 3, 1) := dk_29 (dk_at dksX1_orderBy_5 0 rfl rfl)
theorem dX1_orderBy_117 : decode cX1_orderBy 117 = .ok (.iload 4, 2) := dk_21 4 (dk_at dksX1_orderBy_5 1 rfl rfl)
theorem dX1_orderBy_119 : decode cX1_orderBy 119 = .ok (.aload_n 0, 1) := dk_42 (dk_at dksX1_orderBy_5 3 rfl rfl)
theorem dX1_orderBy_120 : decode cX1_orderBy 120 = .ok (.getfield 66, 3) := dk_180 0 66 (dk_at dksX1_orderBy_5 4 rfl rfl)
theorem dX1_orderBy_123 : decode cX1_orderBy 123 = .ok (.iload 5, 2) := dk_21 5 (dk_at dksX1_orderBy_5 7 rfl rfl)
theorem dX1_orderBy_125 : decode cX1_orderBy 125 = .ok (.iload 6, 2) := dk_21 6 (dk_at dksX1_orderBy_5 9 rfl rfl)
theorem dX1_orderBy_127 : decode cX1_orderBy 127 = .ok (.invokevirtual 232, 3) := dk_182 0 232 (dk_at dksX1_orderBy_5 11 rfl rfl)
theorem dX1_orderBy_130 : decode cX1_orderBy 130 = .ok (.iconst (-1), 1) := dk_2 (dk_at dksX1_orderBy_5 14 rfl rfl)
theorem dX1_orderBy_131 : decode cX1_orderBy 131 = .ok (.if_icmp .eq 7, 3) := dk_159 0 7 (dk_at dksX1_orderBy_5 15 rfl rfl)
theorem dX1_orderBy_134 : decode cX1_orderBy 134 = .ok (.iconst 4, 1) := dk_7 (dk_at dksX1_orderBy_5 18 rfl rfl)
theorem dX1_orderBy_135 : decode cX1_orderBy 135 = .ok (.goto 5, 3) := dk_167 0 5 (dk_at dksX1_orderBy_5 19 rfl rfl)
theorem dX1_orderBy_138 : decode cX1_orderBy 138 = .ok (.bipush 6, 2) := dk_16 6 (dk_at dksX1_orderBy_5 22 rfl rfl)
theorem dX1_orderBy_140 : decode cX1_orderBy 140 = .ok (.ireturn, 1) := dk_172 (dk_at dksX1_orderBy_6 0 rfl rfl)
abbrev cX1_runs_2 : ByteArray := prog_1_method_76_code
def yX1_runs_2 : MethodName := ⟨RX1, "runs", "(IIIII)I"⟩
def dkwX1_runs_2_4 : List UInt8 := [132, 7, 1, 167, 255, 207, 21, 6, 172]
abbrev dktX1_runs_2_4 : List UInt8 := dkwX1_runs_2_4 ++ []
def dkwX1_runs_2_3 : List UInt8 := [182, 1, 126, 21, 6, 42, 180, 0, 63, 3, 46, 21, 5, 160, 0, 7, 4, 167, 0, 4, 3, 96, 54, 6]
abbrev dktX1_runs_2_3 : List UInt8 := dkwX1_runs_2_3 ++ dktX1_runs_2_4
def dkwX1_runs_2_2 : List UInt8 := [54, 7, 21, 7, 29, 162, 0, 49, 42, 42, 180, 0, 12, 180, 0, 143, 27, 50, 28, 21, 7, 96, 21, 4]
abbrev dktX1_runs_2_2 : List UInt8 := dkwX1_runs_2_2 ++ dktX1_runs_2_3
def dkwX1_runs_2_1 : List UInt8 := [4, 100, 17, 39, 15, 163, 0, 13, 21, 5, 3, 5, 184, 0, 94, 154, 0, 5, 2, 172, 3, 54, 6, 3]
abbrev dktX1_runs_2_1 : List UInt8 := dkwX1_runs_2_1 ++ dktX1_runs_2_2
def dkwX1_runs_2_0 : List UInt8 := [42, 27, 28, 21, 4, 182, 1, 123, 153, 0, 34, 29, 4, 16, 40, 184, 0, 94, 153, 0, 24, 28, 29, 96]
abbrev dktX1_runs_2_0 : List UInt8 := dkwX1_runs_2_0 ++ dktX1_runs_2_1
theorem dksX1_runs_2_0 : cX1_runs_2.data.toList.drop 0 = dktX1_runs_2_0 := by decide +kernel
theorem dksX1_runs_2_1 : cX1_runs_2.data.toList.drop 24 = dktX1_runs_2_1 := dk_seg dksX1_runs_2_0 24 rfl rfl
theorem dksX1_runs_2_2 : cX1_runs_2.data.toList.drop 48 = dktX1_runs_2_2 := dk_seg dksX1_runs_2_1 24 rfl rfl
theorem dksX1_runs_2_3 : cX1_runs_2.data.toList.drop 72 = dktX1_runs_2_3 := dk_seg dksX1_runs_2_2 24 rfl rfl
theorem dksX1_runs_2_4 : cX1_runs_2.data.toList.drop 96 = dktX1_runs_2_4 := dk_seg dksX1_runs_2_3 24 rfl rfl
theorem dX1_runs_2_0 : decode cX1_runs_2 0 = .ok (.aload_n 0, 1) := dk_42 (dk_at dksX1_runs_2_0 0 rfl rfl)
theorem dX1_runs_2_1 : decode cX1_runs_2 1 = .ok (.iload_n 1, 1) := dk_27 (dk_at dksX1_runs_2_0 1 rfl rfl)
theorem dX1_runs_2_2 : decode cX1_runs_2 2 = .ok (.iload_n 2, 1) := dk_28 (dk_at dksX1_runs_2_0 2 rfl rfl)
theorem dX1_runs_2_3 : decode cX1_runs_2 3 = .ok (.iload 4, 2) := dk_21 4 (dk_at dksX1_runs_2_0 3 rfl rfl)
theorem dX1_runs_2_5 : decode cX1_runs_2 5 = .ok (.invokevirtual 379, 3) := dk_182 1 123 (dk_at dksX1_runs_2_0 5 rfl rfl)
theorem dX1_runs_2_8 : decode cX1_runs_2 8 = .ok (.ifCond .eq 34, 3) := dk_153 0 34 (dk_at dksX1_runs_2_0 8 rfl rfl)
theorem dX1_runs_2_11 : decode cX1_runs_2 11 = .ok (.iload_n 3, 1) := dk_29 (dk_at dksX1_runs_2_0 11 rfl rfl)
theorem dX1_runs_2_12 : decode cX1_runs_2 12 = .ok (.iconst 1, 1) := dk_4 (dk_at dksX1_runs_2_0 12 rfl rfl)
theorem dX1_runs_2_13 : decode cX1_runs_2 13 = .ok (.bipush 40, 2) := dk_16 40 (dk_at dksX1_runs_2_0 13 rfl rfl)
theorem dX1_runs_2_15 : decode cX1_runs_2 15 = .ok (.invokestatic 94, 3) := dk_184 0 94 (dk_at dksX1_runs_2_0 15 rfl rfl)
theorem dX1_runs_2_18 : decode cX1_runs_2 18 = .ok (.ifCond .eq 24, 3) := dk_153 0 24 (dk_at dksX1_runs_2_0 18 rfl rfl)
theorem dX1_runs_2_21 : decode cX1_runs_2 21 = .ok (.iload_n 2, 1) := dk_28 (dk_at dksX1_runs_2_0 21 rfl rfl)
theorem dX1_runs_2_22 : decode cX1_runs_2 22 = .ok (.iload_n 3, 1) := dk_29 (dk_at dksX1_runs_2_0 22 rfl rfl)
theorem dX1_runs_2_23 : decode cX1_runs_2 23 = .ok (.iadd, 1) := dk_96 (dk_at dksX1_runs_2_0 23 rfl rfl)
theorem dX1_runs_2_24 : decode cX1_runs_2 24 = .ok (.iconst 1, 1) := dk_4 (dk_at dksX1_runs_2_1 0 rfl rfl)
theorem dX1_runs_2_25 : decode cX1_runs_2 25 = .ok (.isub, 1) := dk_100 (dk_at dksX1_runs_2_1 1 rfl rfl)
theorem dX1_runs_2_26 : decode cX1_runs_2 26 = .ok (.sipush 9999, 3) := dk_17 39 15 (dk_at dksX1_runs_2_1 2 rfl rfl)
theorem dX1_runs_2_29 : decode cX1_runs_2 29 = .ok (.if_icmp .gt 13, 3) := dk_163 0 13 (dk_at dksX1_runs_2_1 5 rfl rfl)
theorem dX1_runs_2_32 : decode cX1_runs_2 32 = .ok (.iload 5, 2) := dk_21 5 (dk_at dksX1_runs_2_1 8 rfl rfl)
theorem dX1_runs_2_34 : decode cX1_runs_2 34 = .ok (.iconst 0, 1) := dk_3 (dk_at dksX1_runs_2_1 10 rfl rfl)
theorem dX1_runs_2_35 : decode cX1_runs_2 35 = .ok (.iconst 2, 1) := dk_5 (dk_at dksX1_runs_2_1 11 rfl rfl)
theorem dX1_runs_2_36 : decode cX1_runs_2 36 = .ok (.invokestatic 94, 3) := dk_184 0 94 (dk_at dksX1_runs_2_1 12 rfl rfl)
theorem dX1_runs_2_39 : decode cX1_runs_2 39 = .ok (.ifCond .ne 5, 3) := dk_154 0 5 (dk_at dksX1_runs_2_1 15 rfl rfl)
theorem dX1_runs_2_42 : decode cX1_runs_2 42 = .ok (.iconst (-1), 1) := dk_2 (dk_at dksX1_runs_2_1 18 rfl rfl)
theorem dX1_runs_2_43 : decode cX1_runs_2 43 = .ok (.ireturn, 1) := dk_172 (dk_at dksX1_runs_2_1 19 rfl rfl)
theorem dX1_runs_2_44 : decode cX1_runs_2 44 = .ok (.iconst 0, 1) := dk_3 (dk_at dksX1_runs_2_1 20 rfl rfl)
theorem dX1_runs_2_45 : decode cX1_runs_2 45 = .ok (.istore 6, 2) := dk_54 6 (dk_at dksX1_runs_2_1 21 rfl rfl)
theorem dX1_runs_2_47 : decode cX1_runs_2 47 = .ok (.iconst 0, 1) := dk_3 (dk_at dksX1_runs_2_1 23 rfl rfl)
theorem dX1_runs_2_48 : decode cX1_runs_2 48 = .ok (.istore 7, 2) := dk_54 7 (dk_at dksX1_runs_2_2 0 rfl rfl)
theorem dX1_runs_2_50 : decode cX1_runs_2 50 = .ok (.iload 7, 2) := dk_21 7 (dk_at dksX1_runs_2_2 2 rfl rfl)
theorem dX1_runs_2_52 : decode cX1_runs_2 52 = .ok (.iload_n 3, 1) := dk_29 (dk_at dksX1_runs_2_2 4 rfl rfl)
theorem dX1_runs_2_53 : decode cX1_runs_2 53 = .ok (.if_icmp .ge 49, 3) := dk_162 0 49 (dk_at dksX1_runs_2_2 5 rfl rfl)
theorem dX1_runs_2_56 : decode cX1_runs_2 56 = .ok (.aload_n 0, 1) := dk_42 (dk_at dksX1_runs_2_2 8 rfl rfl)
theorem dX1_runs_2_57 : decode cX1_runs_2 57 = .ok (.aload_n 0, 1) := dk_42 (dk_at dksX1_runs_2_2 9 rfl rfl)
theorem dX1_runs_2_58 : decode cX1_runs_2 58 = .ok (.getfield 12, 3) := dk_180 0 12 (dk_at dksX1_runs_2_2 10 rfl rfl)
theorem dX1_runs_2_61 : decode cX1_runs_2 61 = .ok (.getfield 143, 3) := dk_180 0 143 (dk_at dksX1_runs_2_2 13 rfl rfl)
theorem dX1_runs_2_64 : decode cX1_runs_2 64 = .ok (.iload_n 1, 1) := dk_27 (dk_at dksX1_runs_2_2 16 rfl rfl)
theorem dX1_runs_2_65 : decode cX1_runs_2 65 = .ok (.aaload, 1) := dk_50 (dk_at dksX1_runs_2_2 17 rfl rfl)
theorem dX1_runs_2_66 : decode cX1_runs_2 66 = .ok (.iload_n 2, 1) := dk_28 (dk_at dksX1_runs_2_2 18 rfl rfl)
theorem dX1_runs_2_67 : decode cX1_runs_2 67 = .ok (.iload 7, 2) := dk_21 7 (dk_at dksX1_runs_2_2 19 rfl rfl)
theorem dX1_runs_2_69 : decode cX1_runs_2 69 = .ok (.iadd, 1) := dk_96 (dk_at dksX1_runs_2_2 21 rfl rfl)
theorem dX1_runs_2_70 : decode cX1_runs_2 70 = .ok (.iload 4, 2) := dk_21 4 (dk_at dksX1_runs_2_2 22 rfl rfl)
theorem dX1_runs_2_72 : decode cX1_runs_2 72 = .ok (.invokevirtual 382, 3) := dk_182 1 126 (dk_at dksX1_runs_2_3 0 rfl rfl)
theorem dX1_runs_2_75 : decode cX1_runs_2 75 = .ok (.iload 6, 2) := dk_21 6 (dk_at dksX1_runs_2_3 3 rfl rfl)
theorem dX1_runs_2_77 : decode cX1_runs_2 77 = .ok (.aload_n 0, 1) := dk_42 (dk_at dksX1_runs_2_3 5 rfl rfl)
theorem dX1_runs_2_78 : decode cX1_runs_2 78 = .ok (.getfield 63, 3) := dk_180 0 63 (dk_at dksX1_runs_2_3 6 rfl rfl)
theorem dX1_runs_2_81 : decode cX1_runs_2 81 = .ok (.iconst 0, 1) := dk_3 (dk_at dksX1_runs_2_3 9 rfl rfl)
theorem dX1_runs_2_82 : decode cX1_runs_2 82 = .ok (.iaload, 1) := dk_46 (dk_at dksX1_runs_2_3 10 rfl rfl)
theorem dX1_runs_2_83 : decode cX1_runs_2 83 = .ok (.iload 5, 2) := dk_21 5 (dk_at dksX1_runs_2_3 11 rfl rfl)
theorem dX1_runs_2_85 : decode cX1_runs_2 85 = .ok (.if_icmp .ne 7, 3) := dk_160 0 7 (dk_at dksX1_runs_2_3 13 rfl rfl)
theorem dX1_runs_2_88 : decode cX1_runs_2 88 = .ok (.iconst 1, 1) := dk_4 (dk_at dksX1_runs_2_3 16 rfl rfl)
theorem dX1_runs_2_89 : decode cX1_runs_2 89 = .ok (.goto 4, 3) := dk_167 0 4 (dk_at dksX1_runs_2_3 17 rfl rfl)
theorem dX1_runs_2_92 : decode cX1_runs_2 92 = .ok (.iconst 0, 1) := dk_3 (dk_at dksX1_runs_2_3 20 rfl rfl)
theorem dX1_runs_2_93 : decode cX1_runs_2 93 = .ok (.iadd, 1) := dk_96 (dk_at dksX1_runs_2_3 21 rfl rfl)
theorem dX1_runs_2_94 : decode cX1_runs_2 94 = .ok (.istore 6, 2) := dk_54 6 (dk_at dksX1_runs_2_3 22 rfl rfl)
theorem dX1_runs_2_96 : decode cX1_runs_2 96 = .ok (.iinc 7 1, 3) := dk_132 7 1 (dk_at dksX1_runs_2_4 0 rfl rfl)
theorem dX1_runs_2_99 : decode cX1_runs_2 99 = .ok (.goto (-49), 3) := dk_167 255 207 (dk_at dksX1_runs_2_4 3 rfl rfl)
theorem dX1_runs_2_102 : decode cX1_runs_2 102 = .ok (.iload 6, 2) := dk_21 6 (dk_at dksX1_runs_2_4 6 rfl rfl)
theorem dX1_runs_2_104 : decode cX1_runs_2 104 = .ok (.ireturn, 1) := dk_172 (dk_at dksX1_runs_2_4 8 rfl rfl)
abbrev cX1_image : ByteArray := prog_1_method_77_code
def yX1_image : MethodName := ⟨RX1, "image", "()I"⟩
def dkwX1_image_0 : List UInt8 := [42, 180, 0, 16, 42, 180, 0, 12, 182, 0, 90, 42, 180, 0, 12, 180, 0, 112, 3, 46, 172]
abbrev dktX1_image_0 : List UInt8 := dkwX1_image_0 ++ []
theorem dksX1_image_0 : cX1_image.data.toList.drop 0 = dktX1_image_0 := by decide +kernel
theorem dX1_image_0 : decode cX1_image 0 = .ok (.aload_n 0, 1) := dk_42 (dk_at dksX1_image_0 0 rfl rfl)
theorem dX1_image_1 : decode cX1_image 1 = .ok (.getfield 16, 3) := dk_180 0 16 (dk_at dksX1_image_0 1 rfl rfl)
theorem dX1_image_4 : decode cX1_image 4 = .ok (.aload_n 0, 1) := dk_42 (dk_at dksX1_image_0 4 rfl rfl)
theorem dX1_image_5 : decode cX1_image 5 = .ok (.getfield 12, 3) := dk_180 0 12 (dk_at dksX1_image_0 5 rfl rfl)
theorem dX1_image_8 : decode cX1_image 8 = .ok (.invokevirtual 90, 3) := dk_182 0 90 (dk_at dksX1_image_0 8 rfl rfl)
theorem dX1_image_11 : decode cX1_image 11 = .ok (.aload_n 0, 1) := dk_42 (dk_at dksX1_image_0 11 rfl rfl)
theorem dX1_image_12 : decode cX1_image 12 = .ok (.getfield 12, 3) := dk_180 0 12 (dk_at dksX1_image_0 12 rfl rfl)
theorem dX1_image_15 : decode cX1_image 15 = .ok (.getfield 112, 3) := dk_180 0 112 (dk_at dksX1_image_0 15 rfl rfl)
theorem dX1_image_18 : decode cX1_image 18 = .ok (.iconst 0, 1) := dk_3 (dk_at dksX1_image_0 18 rfl rfl)
theorem dX1_image_19 : decode cX1_image 19 = .ok (.iaload, 1) := dk_46 (dk_at dksX1_image_0 19 rfl rfl)
theorem dX1_image_20 : decode cX1_image 20 = .ok (.ireturn, 1) := dk_172 (dk_at dksX1_image_0 20 rfl rfl)
abbrev cX1_back : ByteArray := prog_1_method_78_code
def yX1_back : MethodName := ⟨RX1, "back", "()I"⟩
def dkwX1_back_0 : List UInt8 := [42, 180, 0, 12, 42, 180, 0, 16, 182, 0, 90, 42, 180, 0, 12, 180, 0, 112, 3, 46, 172]
abbrev dktX1_back_0 : List UInt8 := dkwX1_back_0 ++ []
theorem dksX1_back_0 : cX1_back.data.toList.drop 0 = dktX1_back_0 := by decide +kernel
theorem dX1_back_0 : decode cX1_back 0 = .ok (.aload_n 0, 1) := dk_42 (dk_at dksX1_back_0 0 rfl rfl)
theorem dX1_back_1 : decode cX1_back 1 = .ok (.getfield 12, 3) := dk_180 0 12 (dk_at dksX1_back_0 1 rfl rfl)
theorem dX1_back_4 : decode cX1_back 4 = .ok (.aload_n 0, 1) := dk_42 (dk_at dksX1_back_0 4 rfl rfl)
theorem dX1_back_5 : decode cX1_back 5 = .ok (.getfield 16, 3) := dk_180 0 16 (dk_at dksX1_back_0 5 rfl rfl)
theorem dX1_back_8 : decode cX1_back 8 = .ok (.invokevirtual 90, 3) := dk_182 0 90 (dk_at dksX1_back_0 8 rfl rfl)
theorem dX1_back_11 : decode cX1_back 11 = .ok (.aload_n 0, 1) := dk_42 (dk_at dksX1_back_0 11 rfl rfl)
theorem dX1_back_12 : decode cX1_back 12 = .ok (.getfield 12, 3) := dk_180 0 12 (dk_at dksX1_back_0 12 rfl rfl)
theorem dX1_back_15 : decode cX1_back 15 = .ok (.getfield 112, 3) := dk_180 0 112 (dk_at dksX1_back_0 15 rfl rfl)
theorem dX1_back_18 : decode cX1_back 18 = .ok (.iconst 0, 1) := dk_3 (dk_at dksX1_back_0 18 rfl rfl)
theorem dX1_back_19 : decode cX1_back 19 = .ok (.iaload, 1) := dk_46 (dk_at dksX1_back_0 19 rfl rfl)
theorem dX1_back_20 : decode cX1_back 20 = .ok (.ireturn, 1) := dk_172 (dk_at dksX1_back_0 20 rfl rfl)
abbrev cX1_about : ByteArray := prog_1_method_79_code
def yX1_about : MethodName := ⟨RX1, "about", "(I)I"⟩
def dkwX1_about_6 : List UInt8 := [180, 0, 136, 172, 42, 180, 0, 12, 180, 0, 112, 16, 8, 46, 172, 16, 254, 172]
abbrev dktX1_about_6 : List UInt8 := dkwX1_about_6 ++ []
def dkwX1_about_5 : List UInt8 := [180, 0, 12, 180, 0, 112, 16, 6, 46, 172, 42, 180, 0, 12, 180, 0, 112, 16, 7, 46, 172, 42]
abbrev dktX1_about_5 : List UInt8 := dkwX1_about_5 ++ dktX1_about_6
def dkwX1_about_4 : List UInt8 := [46, 172, 42, 180, 0, 12, 180, 0, 112, 7, 46, 172, 42, 180, 0, 12, 180, 0, 112, 8, 46, 172, 42]
abbrev dktX1_about_4 : List UInt8 := dkwX1_about_4 ++ dktX1_about_5
def dkwX1_about_3 : List UInt8 := [180, 0, 112, 4, 46, 172, 42, 180, 0, 12, 180, 0, 112, 5, 46, 172, 42, 180, 0, 12, 180, 0, 112, 6]
abbrev dktX1_about_3 : List UInt8 := dkwX1_about_3 ++ dktX1_about_4
def dkwX1_about_2 : List UInt8 := [42, 180, 0, 81, 172, 42, 180, 0, 84, 172, 42, 180, 0, 12, 180, 0, 112, 3, 46, 172, 42, 180, 0, 12]
abbrev dktX1_about_2 : List UInt8 := dkwX1_about_2 ++ dktX1_about_3
def dkwX1_about_1 : List UInt8 := [170, 0, 0, 0, 0, 0, 171, 0, 0, 0, 0, 0, 0, 0, 11, 0, 0, 0, 63, 0, 0, 0, 68, 0, 0, 0, 73, 0, 0, 0, 83, 0, 0, 0, 93, 0, 0, 0, 103, 0, 0, 0, 113, 0, 0, 0, 123, 0, 0, 0, 133, 0, 0, 0, 144, 0, 0, 0, 155, 0, 0, 0, 160]
abbrev dktX1_about_1 : List UInt8 := dkwX1_about_1 ++ dktX1_about_2
def dkwX1_about_0 : List UInt8 := [27]
abbrev dktX1_about_0 : List UInt8 := dkwX1_about_0 ++ dktX1_about_1
theorem dksX1_about_0 : cX1_about.data.toList.drop 0 = dktX1_about_0 := by decide +kernel
theorem dksX1_about_1 : cX1_about.data.toList.drop 1 = dktX1_about_1 := dk_seg dksX1_about_0 1 rfl rfl
theorem dksX1_about_2 : cX1_about.data.toList.drop 64 = dktX1_about_2 := dk_seg dksX1_about_1 63 rfl rfl
theorem dksX1_about_3 : cX1_about.data.toList.drop 88 = dktX1_about_3 := dk_seg dksX1_about_2 24 rfl rfl
theorem dksX1_about_4 : cX1_about.data.toList.drop 112 = dktX1_about_4 := dk_seg dksX1_about_3 24 rfl rfl
theorem dksX1_about_5 : cX1_about.data.toList.drop 135 = dktX1_about_5 := dk_seg dksX1_about_4 23 rfl rfl
theorem dksX1_about_6 : cX1_about.data.toList.drop 157 = dktX1_about_6 := dk_seg dksX1_about_5 22 rfl rfl
theorem dX1_about_0 : decode cX1_about 0 = .ok (.iload_n 1, 1) := dk_27 (dk_at dksX1_about_0 0 rfl rfl)
theorem dX1_about_1 : decode cX1_about 1 = .ok (.tableswitch 171 0 11 #[63, 68, 73, 83, 93, 103, 113, 123, 133, 144, 155, 160], 63) := by decide +kernel
theorem dX1_about_64 : decode cX1_about 64 = .ok (.aload_n 0, 1) := dk_42 (dk_at dksX1_about_2 0 rfl rfl)
theorem dX1_about_65 : decode cX1_about 65 = .ok (.getfield 81, 3) := dk_180 0 81 (dk_at dksX1_about_2 1 rfl rfl)
theorem dX1_about_68 : decode cX1_about 68 = .ok (.ireturn, 1) := dk_172 (dk_at dksX1_about_2 4 rfl rfl)
theorem dX1_about_69 : decode cX1_about 69 = .ok (.aload_n 0, 1) := dk_42 (dk_at dksX1_about_2 5 rfl rfl)
theorem dX1_about_70 : decode cX1_about 70 = .ok (.getfield 84, 3) := dk_180 0 84 (dk_at dksX1_about_2 6 rfl rfl)
theorem dX1_about_73 : decode cX1_about 73 = .ok (.ireturn, 1) := dk_172 (dk_at dksX1_about_2 9 rfl rfl)
theorem dX1_about_74 : decode cX1_about 74 = .ok (.aload_n 0, 1) := dk_42 (dk_at dksX1_about_2 10 rfl rfl)
theorem dX1_about_75 : decode cX1_about 75 = .ok (.getfield 12, 3) := dk_180 0 12 (dk_at dksX1_about_2 11 rfl rfl)
theorem dX1_about_78 : decode cX1_about 78 = .ok (.getfield 112, 3) := dk_180 0 112 (dk_at dksX1_about_2 14 rfl rfl)
theorem dX1_about_81 : decode cX1_about 81 = .ok (.iconst 0, 1) := dk_3 (dk_at dksX1_about_2 17 rfl rfl)
theorem dX1_about_82 : decode cX1_about 82 = .ok (.iaload, 1) := dk_46 (dk_at dksX1_about_2 18 rfl rfl)
theorem dX1_about_83 : decode cX1_about 83 = .ok (.ireturn, 1) := dk_172 (dk_at dksX1_about_2 19 rfl rfl)
theorem dX1_about_84 : decode cX1_about 84 = .ok (.aload_n 0, 1) := dk_42 (dk_at dksX1_about_2 20 rfl rfl)
theorem dX1_about_85 : decode cX1_about 85 = .ok (.getfield 12, 3) := dk_180 0 12 (dk_at dksX1_about_2 21 rfl rfl)
theorem dX1_about_88 : decode cX1_about 88 = .ok (.getfield 112, 3) := dk_180 0 112 (dk_at dksX1_about_3 0 rfl rfl)
theorem dX1_about_91 : decode cX1_about 91 = .ok (.iconst 1, 1) := dk_4 (dk_at dksX1_about_3 3 rfl rfl)
theorem dX1_about_92 : decode cX1_about 92 = .ok (.iaload, 1) := dk_46 (dk_at dksX1_about_3 4 rfl rfl)
theorem dX1_about_93 : decode cX1_about 93 = .ok (.ireturn, 1) := dk_172 (dk_at dksX1_about_3 5 rfl rfl)
theorem dX1_about_94 : decode cX1_about 94 = .ok (.aload_n 0, 1) := dk_42 (dk_at dksX1_about_3 6 rfl rfl)
theorem dX1_about_95 : decode cX1_about 95 = .ok (.getfield 12, 3) := dk_180 0 12 (dk_at dksX1_about_3 7 rfl rfl)
theorem dX1_about_98 : decode cX1_about 98 = .ok (.getfield 112, 3) := dk_180 0 112 (dk_at dksX1_about_3 10 rfl rfl)
theorem dX1_about_101 : decode cX1_about 101 = .ok (.iconst 2, 1) := dk_5 (dk_at dksX1_about_3 13 rfl rfl)
theorem dX1_about_102 : decode cX1_about 102 = .ok (.iaload, 1) := dk_46 (dk_at dksX1_about_3 14 rfl rfl)
theorem dX1_about_103 : decode cX1_about 103 = .ok (.ireturn, 1) := dk_172 (dk_at dksX1_about_3 15 rfl rfl)
theorem dX1_about_104 : decode cX1_about 104 = .ok (.aload_n 0, 1) := dk_42 (dk_at dksX1_about_3 16 rfl rfl)
theorem dX1_about_105 : decode cX1_about 105 = .ok (.getfield 12, 3) := dk_180 0 12 (dk_at dksX1_about_3 17 rfl rfl)
theorem dX1_about_108 : decode cX1_about 108 = .ok (.getfield 112, 3) := dk_180 0 112 (dk_at dksX1_about_3 20 rfl rfl)
theorem dX1_about_111 : decode cX1_about 111 = .ok (.iconst 3, 1) := dk_6 (dk_at dksX1_about_3 23 rfl rfl)
theorem dX1_about_112 : decode cX1_about 112 = .ok (.iaload, 1) := dk_46 (dk_at dksX1_about_4 0 rfl rfl)
theorem dX1_about_113 : decode cX1_about 113 = .ok (.ireturn, 1) := dk_172 (dk_at dksX1_about_4 1 rfl rfl)
theorem dX1_about_114 : decode cX1_about 114 = .ok (.aload_n 0, 1) := dk_42 (dk_at dksX1_about_4 2 rfl rfl)
theorem dX1_about_115 : decode cX1_about 115 = .ok (.getfield 12, 3) := dk_180 0 12 (dk_at dksX1_about_4 3 rfl rfl)
theorem dX1_about_118 : decode cX1_about 118 = .ok (.getfield 112, 3) := dk_180 0 112 (dk_at dksX1_about_4 6 rfl rfl)
theorem dX1_about_121 : decode cX1_about 121 = .ok (.iconst 4, 1) := dk_7 (dk_at dksX1_about_4 9 rfl rfl)
theorem dX1_about_122 : decode cX1_about 122 = .ok (.iaload, 1) := dk_46 (dk_at dksX1_about_4 10 rfl rfl)
theorem dX1_about_123 : decode cX1_about 123 = .ok (.ireturn, 1) := dk_172 (dk_at dksX1_about_4 11 rfl rfl)
theorem dX1_about_124 : decode cX1_about 124 = .ok (.aload_n 0, 1) := dk_42 (dk_at dksX1_about_4 12 rfl rfl)
theorem dX1_about_125 : decode cX1_about 125 = .ok (.getfield 12, 3) := dk_180 0 12 (dk_at dksX1_about_4 13 rfl rfl)
theorem dX1_about_128 : decode cX1_about 128 = .ok (.getfield 112, 3) := dk_180 0 112 (dk_at dksX1_about_4 16 rfl rfl)
theorem dX1_about_131 : decode cX1_about 131 = .ok (.iconst 5, 1) := dk_8 (dk_at dksX1_about_4 19 rfl rfl)
theorem dX1_about_132 : decode cX1_about 132 = .ok (.iaload, 1) := dk_46 (dk_at dksX1_about_4 20 rfl rfl)
theorem dX1_about_133 : decode cX1_about 133 = .ok (.ireturn, 1) := dk_172 (dk_at dksX1_about_4 21 rfl rfl)
theorem dX1_about_134 : decode cX1_about 134 = .ok (.aload_n 0, 1) := dk_42 (dk_at dksX1_about_4 22 rfl rfl)
theorem dX1_about_135 : decode cX1_about 135 = .ok (.getfield 12, 3) := dk_180 0 12 (dk_at dksX1_about_5 0 rfl rfl)
theorem dX1_about_138 : decode cX1_about 138 = .ok (.getfield 112, 3) := dk_180 0 112 (dk_at dksX1_about_5 3 rfl rfl)
theorem dX1_about_141 : decode cX1_about 141 = .ok (.bipush 6, 2) := dk_16 6 (dk_at dksX1_about_5 6 rfl rfl)
theorem dX1_about_143 : decode cX1_about 143 = .ok (.iaload, 1) := dk_46 (dk_at dksX1_about_5 8 rfl rfl)
theorem dX1_about_144 : decode cX1_about 144 = .ok (.ireturn, 1) := dk_172 (dk_at dksX1_about_5 9 rfl rfl)
theorem dX1_about_145 : decode cX1_about 145 = .ok (.aload_n 0, 1) := dk_42 (dk_at dksX1_about_5 10 rfl rfl)
theorem dX1_about_146 : decode cX1_about 146 = .ok (.getfield 12, 3) := dk_180 0 12 (dk_at dksX1_about_5 11 rfl rfl)
theorem dX1_about_149 : decode cX1_about 149 = .ok (.getfield 112, 3) := dk_180 0 112 (dk_at dksX1_about_5 14 rfl rfl)
theorem dX1_about_152 : decode cX1_about 152 = .ok (.bipush 7, 2) := dk_16 7 (dk_at dksX1_about_5 17 rfl rfl)
theorem dX1_about_154 : decode cX1_about 154 = .ok (.iaload, 1) := dk_46 (dk_at dksX1_about_5 19 rfl rfl)
theorem dX1_about_155 : decode cX1_about 155 = .ok (.ireturn, 1) := dk_172 (dk_at dksX1_about_5 20 rfl rfl)
theorem dX1_about_156 : decode cX1_about 156 = .ok (.aload_n 0, 1) := dk_42 (dk_at dksX1_about_5 21 rfl rfl)
theorem dX1_about_157 : decode cX1_about 157 = .ok (.getfield 136, 3) := dk_180 0 136 (dk_at dksX1_about_6 0 rfl rfl)
theorem dX1_about_160 : decode cX1_about 160 = .ok (.ireturn, 1) := dk_172 (dk_at dksX1_about_6 3 rfl rfl)
theorem dX1_about_161 : decode cX1_about 161 = .ok (.aload_n 0, 1) := dk_42 (dk_at dksX1_about_6 4 rfl rfl)
theorem dX1_about_162 : decode cX1_about 162 = .ok (.getfield 12, 3) := dk_180 0 12 (dk_at dksX1_about_6 5 rfl rfl)
theorem dX1_about_165 : decode cX1_about 165 = .ok (.getfield 112, 3) := dk_180 0 112 (dk_at dksX1_about_6 8 rfl rfl)
theorem dX1_about_168 : decode cX1_about 168 = .ok (.bipush 8, 2) := dk_16 8 (dk_at dksX1_about_6 11 rfl rfl)
theorem dX1_about_170 : decode cX1_about 170 = .ok (.iaload, 1) := dk_46 (dk_at dksX1_about_6 13 rfl rfl)
theorem dX1_about_171 : decode cX1_about 171 = .ok (.ireturn, 1) := dk_172 (dk_at dksX1_about_6 14 rfl rfl)
theorem dX1_about_172 : decode cX1_about 172 = .ok (.bipush (-2), 2) := dk_16 254 (dk_at dksX1_about_6 15 rfl rfl)
theorem dX1_about_174 : decode cX1_about 174 = .ok (.ireturn, 1) := dk_172 (dk_at dksX1_about_6 17 rfl rfl)
theorem q125 : (Jvm.Cond.initialized "ThroughPack") ∈ lw_all := lw_g (lw_at lw_m1 1 rfl) rfl
theorem q158 : (Jvm.Cond.instantiable "ThroughPack" (23 : Nat)) ∈ lw_all := lw_g (lw_at lw_m1 34 rfl) rfl
theorem q160 : (Jvm.Cond.instanceMethod ({ cls := "ThroughPack", name := "<init>", desc := "(II)V" } : Jvm.MethodName)) ∈ lw_all := lw_g (lw_at lw_m1 36 rfl) rfl
theorem q161 : (Jvm.Cond.code ({ cls := "ThroughPack", name := "<init>", desc := "(II)V" } : Jvm.MethodName) prog_1_method_1_code (3 : Nat) (Option.none : Option Jvm.ClassFile.FieldType)) ∈ lw_all := lw_g (lw_at lw_m1 37 rfl) rfl
theorem q162 : (Jvm.Cond.methodLink "ThroughPack" (3 : Nat) ({ cls := "java/lang/Object", name := "<init>", desc := "()V" } : Jvm.MethodName)) ∈ lw_all := lw_g (lw_at lw_m1 38 rfl) rfl
theorem q165 : (Jvm.Cond.classLink "ThroughPack" (9 : Nat) "ThroughPack$State") ∈ lw_all := lw_g (lw_at lw_m1 41 rfl) rfl
theorem q167 : (Jvm.Cond.methodLink "ThroughPack" (11 : Nat) ({ cls := "ThroughPack$State", name := "<init>", desc := "()V" } : Jvm.MethodName)) ∈ lw_all := lw_g (lw_at lw_m1 43 rfl) rfl
theorem q179 : (Jvm.Cond.fieldLinkNest "ThroughPack" (112 : Nat) "ThroughPack$State" "n" "[I" "ThroughPack") ∈ lw_tbl := lw_at lw_m1 55 rfl
theorem q181 : (Jvm.Cond.fieldLinkNest "ThroughPack" (102 : Nat) "ThroughPack$State" "ice" "[I" "ThroughPack") ∈ lw_tbl := lw_at lw_m1 57 rfl
theorem q183 : (Jvm.Cond.fieldLinkNest "ThroughPack" (133 : Nat) "ThroughPack$State" "cost" "[I" "ThroughPack") ∈ lw_tbl := lw_at lw_m1 59 rfl
theorem q185 : (Jvm.Cond.fieldLinkNest "ThroughPack" (257 : Nat) "ThroughPack$State" "ahead" "[I" "ThroughPack") ∈ lw_tbl := lw_at lw_m1 61 rfl
theorem q187 : (Jvm.Cond.fieldLinkNest "ThroughPack" (299 : Nat) "ThroughPack$State" "order" "[I" "ThroughPack") ∈ lw_tbl := lw_at lw_m1 63 rfl
theorem q189 : (Jvm.Cond.fieldLinkNest "ThroughPack" (340 : Nat) "ThroughPack$State" "prior" "[I" "ThroughPack") ∈ lw_tbl := lw_at lw_m1 65 rfl
theorem q191 : (Jvm.Cond.fieldLinkNest "ThroughPack" (109 : Nat) "ThroughPack$State" "exit" "[Z" "ThroughPack") ∈ lw_tbl := lw_at lw_m1 67 rfl
theorem q193 : (Jvm.Cond.fieldLinkNest "ThroughPack" (105 : Nat) "ThroughPack$State" "shore" "[Z" "ThroughPack") ∈ lw_tbl := lw_at lw_m1 69 rfl
theorem q195 : (Jvm.Cond.fieldLinkNest "ThroughPack" (118 : Nat) "ThroughPack$State" "drift" "[[I" "ThroughPack") ∈ lw_tbl := lw_at lw_m1 71 rfl
theorem q197 : (Jvm.Cond.fieldLinkNest "ThroughPack" (121 : Nat) "ThroughPack$State" "chance" "[[I" "ThroughPack") ∈ lw_tbl := lw_at lw_m1 73 rfl
theorem q199 : (Jvm.Cond.fieldLinkNest "ThroughPack" (130 : Nat) "ThroughPack$State" "ship" "[[I" "ThroughPack") ∈ lw_tbl := lw_at lw_m1 75 rfl
theorem q201 : (Jvm.Cond.fieldLinkNest "ThroughPack" (251 : Nat) "ThroughPack$State" "look" "[[I" "ThroughPack") ∈ lw_tbl := lw_at lw_m1 77 rfl
theorem q203 : (Jvm.Cond.fieldLinkNest "ThroughPack" (143 : Nat) "ThroughPack$State" "text" "[LThroughPack$Text;" "ThroughPack") ∈ lw_tbl := lw_at lw_m1 79 rfl
theorem q233 : (Jvm.Cond.classLink "ThroughPack" (40 : Nat) "[[I") ∈ lw_all := lw_g (lw_at lw_m1 109 rfl) rfl
theorem q234 : (Jvm.Cond.constant "ThroughPack" (45 : Nat) (86400 : Int32)) ∈ lw_all := lw_g (lw_at lw_m1 110 rfl) rfl
theorem q235 : (Jvm.Cond.classLink "ThroughPack" (52 : Nat) "[[[I") ∈ lw_all := lw_g (lw_at lw_m1 111 rfl) rfl
theorem q237 : (Jvm.Cond.methodLink "ThroughPack" (72 : Nat) ({ cls := "java/lang/Math", name := "min", desc := "(II)I" } : Jvm.MethodName)) ∈ lw_all := lw_g (lw_at lw_m1 113 rfl) rfl
theorem q240 : (Jvm.Cond.methodLink "ThroughPack" (78 : Nat) ({ cls := "java/lang/Math", name := "max", desc := "(II)I" } : Jvm.MethodName)) ∈ lw_all := lw_g (lw_at lw_m1 116 rfl) rfl
theorem q243 : (Jvm.Cond.methodLink "ThroughPack" (90 : Nat) ({ cls := "ThroughPack$State", name := "be", desc := "(LThroughPack$State;)V" } : Jvm.MethodName)) ∈ lw_all := lw_g (lw_at lw_m1 119 rfl) rfl
theorem q256 : (Jvm.Cond.fieldLink "ThroughPack" (12 : Nat) "ThroughPack" "now" "LThroughPack$State;") ∈ lw_all := lw_g (lw_at lw_m1 132 rfl) rfl
theorem q257 : (Jvm.Cond.fieldLink "ThroughPack" (16 : Nat) "ThroughPack" "image" "LThroughPack$State;") ∈ lw_all := lw_g (lw_at lw_m1 133 rfl) rfl
theorem q258 : (Jvm.Cond.fieldLink "ThroughPack" (81 : Nat) "ThroughPack" "wide" "I") ∈ lw_all := lw_g (lw_at lw_m1 134 rfl) rfl
theorem q259 : (Jvm.Cond.fieldLink "ThroughPack" (84 : Nat) "ThroughPack" "high" "I") ∈ lw_all := lw_g (lw_at lw_m1 135 rfl) rfl
theorem q260 : (Jvm.Cond.fieldLink "ThroughPack" (87 : Nat) "ThroughPack" "cells" "I") ∈ lw_all := lw_g (lw_at lw_m1 136 rfl) rfl
theorem q261 : (Jvm.Cond.fieldLink "ThroughPack" (19 : Nat) "ThroughPack" "tape" "[B") ∈ lw_all := lw_g (lw_at lw_m1 137 rfl) rfl
theorem q262 : (Jvm.Cond.fieldLink "ThroughPack" (136 : Nat) "ThroughPack" "taped" "I") ∈ lw_all := lw_g (lw_at lw_m1 138 rfl) rfl
theorem q263 : (Jvm.Cond.fieldLink "ThroughPack" (23 : Nat) "ThroughPack" "fault" "I") ∈ lw_all := lw_g (lw_at lw_m1 139 rfl) rfl
theorem q264 : (Jvm.Cond.fieldLink "ThroughPack" (27 : Nat) "ThroughPack" "faultAt" "I") ∈ lw_all := lw_g (lw_at lw_m1 140 rfl) rfl
theorem q265 : (Jvm.Cond.fieldLink "ThroughPack" (30 : Nat) "ThroughPack" "names" "[I") ∈ lw_all := lw_g (lw_at lw_m1 141 rfl) rfl
theorem q266 : (Jvm.Cond.fieldLink "ThroughPack" (34 : Nat) "ThroughPack" "drifted" "[I") ∈ lw_all := lw_g (lw_at lw_m1 142 rfl) rfl
theorem q267 : (Jvm.Cond.fieldLink "ThroughPack" (254 : Nat) "ThroughPack" "horizon" "I") ∈ lw_all := lw_g (lw_at lw_m1 143 rfl) rfl
theorem q268 : (Jvm.Cond.fieldLink "ThroughPack" (37 : Nat) "ThroughPack" "winds" "[I") ∈ lw_all := lw_g (lw_at lw_m1 144 rfl) rfl
theorem q269 : (Jvm.Cond.fieldLink "ThroughPack" (42 : Nat) "ThroughPack" "sea" "[[I") ∈ lw_all := lw_g (lw_at lw_m1 145 rfl) rfl
theorem q270 : (Jvm.Cond.fieldLink "ThroughPack" (46 : Nat) "ThroughPack" "best" "[I") ∈ lw_all := lw_g (lw_at lw_m1 146 rfl) rfl
theorem q271 : (Jvm.Cond.fieldLink "ThroughPack" (49 : Nat) "ThroughPack" "path" "[[I") ∈ lw_all := lw_g (lw_at lw_m1 147 rfl) rfl
theorem q272 : (Jvm.Cond.fieldLink "ThroughPack" (302 : Nat) "ThroughPack" "paths" "I") ∈ lw_all := lw_g (lw_at lw_m1 148 rfl) rfl
theorem q273 : (Jvm.Cond.fieldLink "ThroughPack" (54 : Nat) "ThroughPack" "next" "[[[I") ∈ lw_all := lw_g (lw_at lw_m1 149 rfl) rfl
theorem q274 : (Jvm.Cond.fieldLink "ThroughPack" (57 : Nat) "ThroughPack" "pushes" "[I") ∈ lw_all := lw_g (lw_at lw_m1 150 rfl) rfl
theorem q275 : (Jvm.Cond.fieldLink "ThroughPack" (60 : Nat) "ThroughPack" "open" "[I") ∈ lw_all := lw_g (lw_at lw_m1 151 rfl) rfl
theorem q276 : (Jvm.Cond.fieldLink "ThroughPack" (63 : Nat) "ThroughPack" "ended" "[I") ∈ lw_all := lw_g (lw_at lw_m1 152 rfl) rfl
theorem q277 : (Jvm.Cond.fieldLink "ThroughPack" (66 : Nat) "ThroughPack" "here" "[I") ∈ lw_all := lw_g (lw_at lw_m1 153 rfl) rfl
theorem q278 : (Jvm.Cond.fieldLink "ThroughPack" (69 : Nat) "ThroughPack" "behind" "[I") ∈ lw_all := lw_g (lw_at lw_m1 154 rfl) rfl
theorem q279 : (Jvm.Cond.laysFinal "ThroughPack" "ThroughPack" "now" "LThroughPack$State;") ∈ lw_all := lw_g (lw_at lw_m1 155 rfl) rfl
theorem q280 : (Jvm.Cond.soleField "ThroughPack" "now") ∈ lw_all := lw_g (lw_at lw_m1 156 rfl) rfl
theorem q281 : (Jvm.Cond.laysFinal "ThroughPack" "ThroughPack" "image" "LThroughPack$State;") ∈ lw_all := lw_g (lw_at lw_m1 157 rfl) rfl
theorem q282 : (Jvm.Cond.soleField "ThroughPack" "image") ∈ lw_all := lw_g (lw_at lw_m1 158 rfl) rfl
theorem q283 : (Jvm.Cond.laysFinal "ThroughPack" "ThroughPack" "wide" "I") ∈ lw_all := lw_g (lw_at lw_m1 159 rfl) rfl
theorem q284 : (Jvm.Cond.soleField "ThroughPack" "wide") ∈ lw_all := lw_g (lw_at lw_m1 160 rfl) rfl
theorem q285 : (Jvm.Cond.laysFinal "ThroughPack" "ThroughPack" "high" "I") ∈ lw_all := lw_g (lw_at lw_m1 161 rfl) rfl
theorem q286 : (Jvm.Cond.soleField "ThroughPack" "high") ∈ lw_all := lw_g (lw_at lw_m1 162 rfl) rfl
theorem q287 : (Jvm.Cond.laysFinal "ThroughPack" "ThroughPack" "cells" "I") ∈ lw_all := lw_g (lw_at lw_m1 163 rfl) rfl
theorem q288 : (Jvm.Cond.soleField "ThroughPack" "cells") ∈ lw_all := lw_g (lw_at lw_m1 164 rfl) rfl
theorem q289 : (Jvm.Cond.laysFinal "ThroughPack" "ThroughPack" "tape" "[B") ∈ lw_all := lw_g (lw_at lw_m1 165 rfl) rfl
theorem q290 : (Jvm.Cond.soleField "ThroughPack" "tape") ∈ lw_all := lw_g (lw_at lw_m1 166 rfl) rfl
theorem q291 : (Jvm.Cond.lays "ThroughPack" "ThroughPack" "taped" "I") ∈ lw_all := lw_g (lw_at lw_m1 167 rfl) rfl
theorem q292 : (Jvm.Cond.soleField "ThroughPack" "taped") ∈ lw_all := lw_g (lw_at lw_m1 168 rfl) rfl
theorem q293 : (Jvm.Cond.lays "ThroughPack" "ThroughPack" "fault" "I") ∈ lw_all := lw_g (lw_at lw_m1 169 rfl) rfl
theorem q294 : (Jvm.Cond.soleField "ThroughPack" "fault") ∈ lw_all := lw_g (lw_at lw_m1 170 rfl) rfl
theorem q295 : (Jvm.Cond.lays "ThroughPack" "ThroughPack" "faultAt" "I") ∈ lw_all := lw_g (lw_at lw_m1 171 rfl) rfl
theorem q296 : (Jvm.Cond.soleField "ThroughPack" "faultAt") ∈ lw_all := lw_g (lw_at lw_m1 172 rfl) rfl
theorem q297 : (Jvm.Cond.laysFinal "ThroughPack" "ThroughPack" "names" "[I") ∈ lw_all := lw_g (lw_at lw_m1 173 rfl) rfl
theorem q298 : (Jvm.Cond.soleField "ThroughPack" "names") ∈ lw_all := lw_g (lw_at lw_m1 174 rfl) rfl
theorem q299 : (Jvm.Cond.laysFinal "ThroughPack" "ThroughPack" "drifted" "[I") ∈ lw_all := lw_g (lw_at lw_m1 175 rfl) rfl
theorem q300 : (Jvm.Cond.soleField "ThroughPack" "drifted") ∈ lw_all := lw_g (lw_at lw_m1 176 rfl) rfl
theorem q301 : (Jvm.Cond.lays "ThroughPack" "ThroughPack" "horizon" "I") ∈ lw_all := lw_g (lw_at lw_m1 177 rfl) rfl
theorem q302 : (Jvm.Cond.soleField "ThroughPack" "horizon") ∈ lw_all := lw_g (lw_at lw_m1 178 rfl) rfl
theorem q303 : (Jvm.Cond.laysFinal "ThroughPack" "ThroughPack" "winds" "[I") ∈ lw_all := lw_g (lw_at lw_m1 179 rfl) rfl
theorem q304 : (Jvm.Cond.soleField "ThroughPack" "winds") ∈ lw_all := lw_g (lw_at lw_m1 180 rfl) rfl
theorem q305 : (Jvm.Cond.laysFinal "ThroughPack" "ThroughPack" "sea" "[[I") ∈ lw_all := lw_g (lw_at lw_m1 181 rfl) rfl
theorem q306 : (Jvm.Cond.soleField "ThroughPack" "sea") ∈ lw_all := lw_g (lw_at lw_m1 182 rfl) rfl
theorem q307 : (Jvm.Cond.laysFinal "ThroughPack" "ThroughPack" "best" "[I") ∈ lw_all := lw_g (lw_at lw_m1 183 rfl) rfl
theorem q308 : (Jvm.Cond.soleField "ThroughPack" "best") ∈ lw_all := lw_g (lw_at lw_m1 184 rfl) rfl
theorem q309 : (Jvm.Cond.laysFinal "ThroughPack" "ThroughPack" "path" "[[I") ∈ lw_all := lw_g (lw_at lw_m1 185 rfl) rfl
theorem q310 : (Jvm.Cond.soleField "ThroughPack" "path") ∈ lw_all := lw_g (lw_at lw_m1 186 rfl) rfl
theorem q311 : (Jvm.Cond.lays "ThroughPack" "ThroughPack" "paths" "I") ∈ lw_all := lw_g (lw_at lw_m1 187 rfl) rfl
theorem q312 : (Jvm.Cond.soleField "ThroughPack" "paths") ∈ lw_all := lw_g (lw_at lw_m1 188 rfl) rfl
theorem q313 : (Jvm.Cond.laysFinal "ThroughPack" "ThroughPack" "next" "[[[I") ∈ lw_all := lw_g (lw_at lw_m1 189 rfl) rfl
theorem q314 : (Jvm.Cond.soleField "ThroughPack" "next") ∈ lw_all := lw_g (lw_at lw_m1 190 rfl) rfl
theorem q315 : (Jvm.Cond.laysFinal "ThroughPack" "ThroughPack" "pushes" "[I") ∈ lw_all := lw_g (lw_at lw_m1 191 rfl) rfl
theorem q316 : (Jvm.Cond.soleField "ThroughPack" "pushes") ∈ lw_all := lw_g (lw_at lw_m1 192 rfl) rfl
theorem q317 : (Jvm.Cond.laysFinal "ThroughPack" "ThroughPack" "open" "[I") ∈ lw_all := lw_g (lw_at lw_m1 193 rfl) rfl
theorem q318 : (Jvm.Cond.soleField "ThroughPack" "open") ∈ lw_all := lw_g (lw_at lw_m1 194 rfl) rfl
theorem q319 : (Jvm.Cond.laysFinal "ThroughPack" "ThroughPack" "ended" "[I") ∈ lw_all := lw_g (lw_at lw_m1 195 rfl) rfl
theorem q320 : (Jvm.Cond.soleField "ThroughPack" "ended") ∈ lw_all := lw_g (lw_at lw_m1 196 rfl) rfl
theorem q321 : (Jvm.Cond.lays "ThroughPack" "ThroughPack" "here" "[I") ∈ lw_all := lw_g (lw_at lw_m1 197 rfl) rfl
theorem q322 : (Jvm.Cond.soleField "ThroughPack" "here") ∈ lw_all := lw_g (lw_at lw_m1 198 rfl) rfl
theorem q323 : (Jvm.Cond.lays "ThroughPack" "ThroughPack" "behind" "[I") ∈ lw_all := lw_g (lw_at lw_m1 199 rfl) rfl
theorem q324 : (Jvm.Cond.soleField "ThroughPack" "behind") ∈ lw_all := lw_g (lw_at lw_m1 200 rfl) rfl
theorem q325 : (Jvm.Cond.superclass "ThroughPack" "java/lang/Object") ∈ lw_all := lw_g (lw_at lw_m1 201 rfl) rfl
theorem q328 : (Jvm.Cond.instanceMethod ({ cls := "ThroughPack", name := "ice", desc := "(II)Z" } : Jvm.MethodName)) ∈ lw_all := lw_g (lw_at lw_m1 204 rfl) rfl
theorem q329 : (Jvm.Cond.selects "ThroughPack" ({ cls := "ThroughPack", name := "ice", desc := "(II)Z" } : Jvm.MethodName) ({ cls := "ThroughPack", name := "ice", desc := "(II)Z" } : Jvm.MethodName)) ∈ lw_all := lw_g (lw_at lw_m1 205 rfl) rfl
theorem q330 : (Jvm.Cond.code ({ cls := "ThroughPack", name := "ice", desc := "(II)Z" } : Jvm.MethodName) prog_1_method_5_code (3 : Nat) (Option.some Jvm.ClassFile.FieldType.boolean)) ∈ lw_all := lw_g (lw_at lw_m1 206 rfl) rfl
theorem q331 : (Jvm.Cond.methodLink "ThroughPack" (98 : Nat) ({ cls := "ThroughPack", name := "isCell", desc := "(I)Z" } : Jvm.MethodName)) ∈ lw_all := lw_g (lw_at lw_m1 207 rfl) rfl
theorem q332 : (Jvm.Cond.privateMethod ({ cls := "ThroughPack", name := "isCell", desc := "(I)Z" } : Jvm.MethodName)) ∈ lw_tbl := lw_at lw_m1 208 rfl
theorem q333 : (Jvm.Cond.instanceMethod ({ cls := "ThroughPack", name := "isCell", desc := "(I)Z" } : Jvm.MethodName)) ∈ lw_all := lw_g (lw_at lw_m1 209 rfl) rfl
theorem q334 : (Jvm.Cond.code ({ cls := "ThroughPack", name := "isCell", desc := "(I)Z" } : Jvm.MethodName) prog_1_method_3_code (2 : Nat) (Option.some Jvm.ClassFile.FieldType.boolean)) ∈ lw_all := lw_g (lw_at lw_m1 210 rfl) rfl
theorem q335 : (Jvm.Cond.methodLink "ThroughPack" (94 : Nat) ({ cls := "ThroughPack", name := "in", desc := "(III)Z" } : Jvm.MethodName)) ∈ lw_all := lw_g (lw_at lw_m1 211 rfl) rfl
theorem q336 : (Jvm.Cond.static ({ cls := "ThroughPack", name := "in", desc := "(III)Z" } : Jvm.MethodName)) ∈ lw_all := lw_g (lw_at lw_m1 212 rfl) rfl
theorem q337 : (Jvm.Cond.code ({ cls := "ThroughPack", name := "in", desc := "(III)Z" } : Jvm.MethodName) prog_1_method_2_code (3 : Nat) (Option.some Jvm.ClassFile.FieldType.boolean)) ∈ lw_all := lw_g (lw_at lw_m1 213 rfl) rfl
theorem q339 : (Jvm.Cond.instanceMethod ({ cls := "ThroughPack", name := "iceAt", desc := "(I)I" } : Jvm.MethodName)) ∈ lw_all := lw_g (lw_at lw_m1 215 rfl) rfl
theorem q340 : (Jvm.Cond.selects "ThroughPack" ({ cls := "ThroughPack", name := "iceAt", desc := "(I)I" } : Jvm.MethodName) ({ cls := "ThroughPack", name := "iceAt", desc := "(I)I" } : Jvm.MethodName)) ∈ lw_all := lw_g (lw_at lw_m1 216 rfl) rfl
theorem q341 : (Jvm.Cond.code ({ cls := "ThroughPack", name := "iceAt", desc := "(I)I" } : Jvm.MethodName) prog_1_method_6_code (2 : Nat) (Option.some Jvm.ClassFile.FieldType.int)) ∈ lw_all := lw_g (lw_at lw_m1 217 rfl) rfl
theorem q343 : (Jvm.Cond.instanceMethod ({ cls := "ThroughPack", name := "mark", desc := "(IZZ)Z" } : Jvm.MethodName)) ∈ lw_all := lw_g (lw_at lw_m1 219 rfl) rfl
theorem q344 : (Jvm.Cond.selects "ThroughPack" ({ cls := "ThroughPack", name := "mark", desc := "(IZZ)Z" } : Jvm.MethodName) ({ cls := "ThroughPack", name := "mark", desc := "(IZZ)Z" } : Jvm.MethodName)) ∈ lw_all := lw_g (lw_at lw_m1 220 rfl) rfl
theorem q345 : (Jvm.Cond.code ({ cls := "ThroughPack", name := "mark", desc := "(IZZ)Z" } : Jvm.MethodName) prog_1_method_7_code (4 : Nat) (Option.some Jvm.ClassFile.FieldType.boolean)) ∈ lw_all := lw_g (lw_at lw_m1 221 rfl) rfl
theorem q347 : (Jvm.Cond.instanceMethod ({ cls := "ThroughPack", name := "edge", desc := "(I)Z" } : Jvm.MethodName)) ∈ lw_all := lw_g (lw_at lw_m1 223 rfl) rfl
theorem q348 : (Jvm.Cond.selects "ThroughPack" ({ cls := "ThroughPack", name := "edge", desc := "(I)Z" } : Jvm.MethodName) ({ cls := "ThroughPack", name := "edge", desc := "(I)Z" } : Jvm.MethodName)) ∈ lw_all := lw_g (lw_at lw_m1 224 rfl) rfl
theorem q349 : (Jvm.Cond.code ({ cls := "ThroughPack", name := "edge", desc := "(I)Z" } : Jvm.MethodName) prog_1_method_8_code (2 : Nat) (Option.some Jvm.ClassFile.FieldType.boolean)) ∈ lw_all := lw_g (lw_at lw_m1 225 rfl) rfl
theorem q351 : (Jvm.Cond.instanceMethod ({ cls := "ThroughPack", name := "drift", desc := "(III)Z" } : Jvm.MethodName)) ∈ lw_all := lw_g (lw_at lw_m1 227 rfl) rfl
theorem q352 : (Jvm.Cond.selects "ThroughPack" ({ cls := "ThroughPack", name := "drift", desc := "(III)Z" } : Jvm.MethodName) ({ cls := "ThroughPack", name := "drift", desc := "(III)Z" } : Jvm.MethodName)) ∈ lw_all := lw_g (lw_at lw_m1 228 rfl) rfl
theorem q353 : (Jvm.Cond.code ({ cls := "ThroughPack", name := "drift", desc := "(III)Z" } : Jvm.MethodName) prog_1_method_9_code (4 : Nat) (Option.some Jvm.ClassFile.FieldType.boolean)) ∈ lw_all := lw_g (lw_at lw_m1 229 rfl) rfl
theorem q354 : (Jvm.Cond.methodLink "ThroughPack" (115 : Nat) ({ cls := "ThroughPack", name := "isWind", desc := "(I)Z" } : Jvm.MethodName)) ∈ lw_all := lw_g (lw_at lw_m1 230 rfl) rfl
theorem q355 : (Jvm.Cond.static ({ cls := "ThroughPack", name := "isWind", desc := "(I)Z" } : Jvm.MethodName)) ∈ lw_all := lw_g (lw_at lw_m1 231 rfl) rfl
theorem q356 : (Jvm.Cond.code ({ cls := "ThroughPack", name := "isWind", desc := "(I)Z" } : Jvm.MethodName) prog_1_method_4_code (1 : Nat) (Option.some Jvm.ClassFile.FieldType.boolean)) ∈ lw_all := lw_g (lw_at lw_m1 232 rfl) rfl
theorem q358 : (Jvm.Cond.instanceMethod ({ cls := "ThroughPack", name := "chances", desc := "(IIIII)Z" } : Jvm.MethodName)) ∈ lw_all := lw_g (lw_at lw_m1 234 rfl) rfl
theorem q359 : (Jvm.Cond.selects "ThroughPack" ({ cls := "ThroughPack", name := "chances", desc := "(IIIII)Z" } : Jvm.MethodName) ({ cls := "ThroughPack", name := "chances", desc := "(IIIII)Z" } : Jvm.MethodName)) ∈ lw_all := lw_g (lw_at lw_m1 235 rfl) rfl
theorem q360 : (Jvm.Cond.code ({ cls := "ThroughPack", name := "chances", desc := "(IIIII)Z" } : Jvm.MethodName) prog_1_method_10_code (8 : Nat) (Option.some Jvm.ClassFile.FieldType.boolean)) ∈ lw_all := lw_g (lw_at lw_m1 236 rfl) rfl
theorem q361 : (Jvm.Cond.methodLink "ThroughPack" (124 : Nat) ({ cls := "java/lang/System", name := "arraycopy", desc := "(Ljava/lang/Object;ILjava/lang/Object;II)V" } : Jvm.MethodName)) ∈ lw_all := lw_g (lw_at lw_m1 237 rfl) rfl
theorem q363 : (Jvm.Cond.instanceMethod ({ cls := "ThroughPack", name := "ship", desc := "(III)Z" } : Jvm.MethodName)) ∈ lw_all := lw_g (lw_at lw_m1 239 rfl) rfl
theorem q364 : (Jvm.Cond.selects "ThroughPack" ({ cls := "ThroughPack", name := "ship", desc := "(III)Z" } : Jvm.MethodName) ({ cls := "ThroughPack", name := "ship", desc := "(III)Z" } : Jvm.MethodName)) ∈ lw_all := lw_g (lw_at lw_m2 0 rfl) rfl
theorem q365 : (Jvm.Cond.code ({ cls := "ThroughPack", name := "ship", desc := "(III)Z" } : Jvm.MethodName) prog_1_method_11_code (5 : Nat) (Option.some Jvm.ClassFile.FieldType.boolean)) ∈ lw_all := lw_g (lw_at lw_m2 1 rfl) rfl
theorem q367 : (Jvm.Cond.instanceMethod ({ cls := "ThroughPack", name := "costs", desc := "(III)Z" } : Jvm.MethodName)) ∈ lw_all := lw_g (lw_at lw_m2 3 rfl) rfl
theorem q368 : (Jvm.Cond.selects "ThroughPack" ({ cls := "ThroughPack", name := "costs", desc := "(III)Z" } : Jvm.MethodName) ({ cls := "ThroughPack", name := "costs", desc := "(III)Z" } : Jvm.MethodName)) ∈ lw_all := lw_g (lw_at lw_m2 4 rfl) rfl
theorem q369 : (Jvm.Cond.code ({ cls := "ThroughPack", name := "costs", desc := "(III)Z" } : Jvm.MethodName) prog_1_method_12_code (5 : Nat) (Option.some Jvm.ClassFile.FieldType.boolean)) ∈ lw_all := lw_g (lw_at lw_m2 5 rfl) rfl
theorem q371 : (Jvm.Cond.instanceMethod ({ cls := "ThroughPack", name := "wind", desc := "(I)Z" } : Jvm.MethodName)) ∈ lw_all := lw_g (lw_at lw_m2 7 rfl) rfl
theorem q372 : (Jvm.Cond.selects "ThroughPack" ({ cls := "ThroughPack", name := "wind", desc := "(I)Z" } : Jvm.MethodName) ({ cls := "ThroughPack", name := "wind", desc := "(I)Z" } : Jvm.MethodName)) ∈ lw_all := lw_g (lw_at lw_m2 8 rfl) rfl
theorem q373 : (Jvm.Cond.code ({ cls := "ThroughPack", name := "wind", desc := "(I)Z" } : Jvm.MethodName) prog_1_method_13_code (2 : Nat) (Option.some Jvm.ClassFile.FieldType.boolean)) ∈ lw_all := lw_g (lw_at lw_m2 9 rfl) rfl
theorem q375 : (Jvm.Cond.instanceMethod ({ cls := "ThroughPack", name := "feed", desc := "(IIIII)I" } : Jvm.MethodName)) ∈ lw_all := lw_g (lw_at lw_m2 11 rfl) rfl
theorem q376 : (Jvm.Cond.selects "ThroughPack" ({ cls := "ThroughPack", name := "feed", desc := "(IIIII)I" } : Jvm.MethodName) ({ cls := "ThroughPack", name := "feed", desc := "(IIIII)I" } : Jvm.MethodName)) ∈ lw_all := lw_g (lw_at lw_m2 12 rfl) rfl
theorem q377 : (Jvm.Cond.code ({ cls := "ThroughPack", name := "feed", desc := "(IIIII)I" } : Jvm.MethodName) prog_1_method_15_code (6 : Nat) (Option.some Jvm.ClassFile.FieldType.int)) ∈ lw_all := lw_g (lw_at lw_m2 13 rfl) rfl
theorem q378 : (Jvm.Cond.methodLink "ThroughPack" (139 : Nat) ({ cls := "ThroughPack", name := "put", desc := "(I)V" } : Jvm.MethodName)) ∈ lw_all := lw_g (lw_at lw_m2 14 rfl) rfl
theorem q379 : (Jvm.Cond.privateMethod ({ cls := "ThroughPack", name := "put", desc := "(I)V" } : Jvm.MethodName)) ∈ lw_tbl := lw_at lw_m2 15 rfl
theorem q380 : (Jvm.Cond.instanceMethod ({ cls := "ThroughPack", name := "put", desc := "(I)V" } : Jvm.MethodName)) ∈ lw_all := lw_g (lw_at lw_m2 16 rfl) rfl
theorem q381 : (Jvm.Cond.code ({ cls := "ThroughPack", name := "put", desc := "(I)V" } : Jvm.MethodName) prog_1_method_14_code (3 : Nat) (Option.none : Option Jvm.ClassFile.FieldType)) ∈ lw_all := lw_g (lw_at lw_m2 17 rfl) rfl
theorem q383 : (Jvm.Cond.instanceMethod ({ cls := "ThroughPack", name := "end", desc := "(I)I" } : Jvm.MethodName)) ∈ lw_all := lw_g (lw_at lw_m2 19 rfl) rfl
theorem q384 : (Jvm.Cond.selects "ThroughPack" ({ cls := "ThroughPack", name := "end", desc := "(I)I" } : Jvm.MethodName) ({ cls := "ThroughPack", name := "end", desc := "(I)I" } : Jvm.MethodName)) ∈ lw_all := lw_g (lw_at lw_m2 20 rfl) rfl
theorem q385 : (Jvm.Cond.code ({ cls := "ThroughPack", name := "end", desc := "(I)I" } : Jvm.MethodName) prog_1_method_16_code (2 : Nat) (Option.some Jvm.ClassFile.FieldType.int)) ∈ lw_all := lw_g (lw_at lw_m2 21 rfl) rfl
theorem q387 : (Jvm.Cond.instanceMethod ({ cls := "ThroughPack", name := "text", desc := "()I" } : Jvm.MethodName)) ∈ lw_all := lw_g (lw_at lw_m2 23 rfl) rfl
theorem q388 : (Jvm.Cond.selects "ThroughPack" ({ cls := "ThroughPack", name := "text", desc := "()I" } : Jvm.MethodName) ({ cls := "ThroughPack", name := "text", desc := "()I" } : Jvm.MethodName)) ∈ lw_all := lw_g (lw_at lw_m2 24 rfl) rfl
theorem q389 : (Jvm.Cond.codeWith ({ cls := "ThroughPack", name := "text", desc := "()I" } : Jvm.MethodName) prog_1_method_17_code (5 : Nat) (Option.some Jvm.ClassFile.FieldType.int) [((30 : Nat), (62 : Nat), (70 : Nat), (156 : Nat)), ((30 : Nat), (62 : Nat), (96 : Nat), (0 : Nat)), ((70 : Nat), (89 : Nat), (96 : Nat), (0 : Nat)), ((96 : Nat), (98 : Nat), (96 : Nat), (0 : Nat))]) ∈ lw_all := lw_g (lw_at lw_m2 25 rfl) rfl
theorem q390 : (Jvm.Cond.classLink "ThroughPack" (156 : Nat) "ThroughPack$Wrong") ∈ lw_all := lw_g (lw_at lw_m2 26 rfl) rfl
theorem q391 : (Jvm.Cond.classLink "ThroughPack" (147 : Nat) "ThroughPack$Tokens") ∈ lw_all := lw_g (lw_at lw_m2 27 rfl) rfl
theorem q393 : (Jvm.Cond.methodLink "ThroughPack" (149 : Nat) ({ cls := "ThroughPack$Tokens", name := "<init>", desc := "([BI)V" } : Jvm.MethodName)) ∈ lw_all := lw_g (lw_at lw_m2 29 rfl) rfl
theorem q422 : (Jvm.Cond.methodLink "ThroughPack" (152 : Nat) ({ cls := "ThroughPack$Tokens", name := "read", desc := "()LThroughPack$Text;" } : Jvm.MethodName)) ∈ lw_all := lw_g (lw_at lw_m2 58 rfl) rfl
theorem q460 : (Jvm.Cond.fieldLinkNest "ThroughPack" (179 : Nat) "ThroughPack$Text" "may" "Ljava/util/ArrayList;" "ThroughPack") ∈ lw_tbl := lw_at lw_m2 96 rfl
theorem q463 : (Jvm.Cond.fieldLinkNest "ThroughPack" (214 : Nat) "ThroughPack$Text" "nips" "Ljava/util/ArrayList;" "ThroughPack") ∈ lw_tbl := lw_at lw_m2 99 rfl
theorem q466 : (Jvm.Cond.fieldLinkNest "ThroughPack" (217 : Nat) "ThroughPack$Text" "walk" "Ljava/util/ArrayList;" "ThroughPack") ∈ lw_tbl := lw_at lw_m2 102 rfl
theorem q469 : (Jvm.Cond.fieldLinkNest "ThroughPack" (354 : Nat) "ThroughPack$Text" "go" "Ljava/util/ArrayList;" "ThroughPack") ∈ lw_tbl := lw_at lw_m2 105 rfl
theorem q471 : (Jvm.Cond.fieldLinkNest "ThroughPack" (198 : Nat) "ThroughPack$Text" "cost" "LThroughPack$Sum;" "ThroughPack") ∈ lw_tbl := lw_at lw_m2 107 rfl
theorem q473 : (Jvm.Cond.fieldLinkNest "ThroughPack" (220 : Nat) "ThroughPack$Text" "ice" "LThroughPack$Sum;" "ThroughPack") ∈ lw_tbl := lw_at lw_m2 109 rfl
theorem q606 : (Jvm.Cond.fieldLinkNest "ThroughPack" (158 : Nat) "ThroughPack$Wrong" "fault" "I" "ThroughPack") ∈ lw_tbl := lw_at lw_m3 2 rfl
theorem q608 : (Jvm.Cond.fieldLinkNest "ThroughPack" (159 : Nat) "ThroughPack$Wrong" "place" "I" "ThroughPack") ∈ lw_tbl := lw_at lw_m3 4 rfl
theorem q782 : (Jvm.Cond.selects "ThroughPack" ({ cls := "java/lang/Object", name := "getClass", desc := "()Ljava/lang/Class;" } : Jvm.MethodName) ({ cls := "java/lang/Object", name := "getClass", desc := "()Ljava/lang/Class;" } : Jvm.MethodName)) ∈ lw_all := lw_g (lw_at lw_m3 178 rfl) rfl
theorem q878 : (Jvm.Cond.instanceMethod ({ cls := "ThroughPack", name := "fault", desc := "(I)I" } : Jvm.MethodName)) ∈ lw_all := lw_g (lw_at lw_m4 34 rfl) rfl
theorem q879 : (Jvm.Cond.selects "ThroughPack" ({ cls := "ThroughPack", name := "fault", desc := "(I)I" } : Jvm.MethodName) ({ cls := "ThroughPack", name := "fault", desc := "(I)I" } : Jvm.MethodName)) ∈ lw_all := lw_g (lw_at lw_m4 35 rfl) rfl
theorem q880 : (Jvm.Cond.code ({ cls := "ThroughPack", name := "fault", desc := "(I)I" } : Jvm.MethodName) prog_1_method_18_code (2 : Nat) (Option.some Jvm.ClassFile.FieldType.int)) ∈ lw_all := lw_g (lw_at lw_m4 36 rfl) rfl
theorem q882 : (Jvm.Cond.instanceMethod ({ cls := "ThroughPack", name := "by", desc := "(I)Z" } : Jvm.MethodName)) ∈ lw_all := lw_g (lw_at lw_m4 38 rfl) rfl
theorem q883 : (Jvm.Cond.selects "ThroughPack" ({ cls := "ThroughPack", name := "by", desc := "(I)Z" } : Jvm.MethodName) ({ cls := "ThroughPack", name := "by", desc := "(I)Z" } : Jvm.MethodName)) ∈ lw_all := lw_g (lw_at lw_m4 39 rfl) rfl
theorem q884 : (Jvm.Cond.code ({ cls := "ThroughPack", name := "by", desc := "(I)Z" } : Jvm.MethodName) prog_1_method_20_code (2 : Nat) (Option.some Jvm.ClassFile.FieldType.boolean)) ∈ lw_all := lw_g (lw_at lw_m4 40 rfl) rfl
theorem q885 : (Jvm.Cond.methodLink "ThroughPack" (162 : Nat) ({ cls := "ThroughPack", name := "isText", desc := "(I)Z" } : Jvm.MethodName)) ∈ lw_all := lw_g (lw_at lw_m4 41 rfl) rfl
theorem q886 : (Jvm.Cond.privateMethod ({ cls := "ThroughPack", name := "isText", desc := "(I)Z" } : Jvm.MethodName)) ∈ lw_tbl := lw_at lw_m4 42 rfl
theorem q887 : (Jvm.Cond.instanceMethod ({ cls := "ThroughPack", name := "isText", desc := "(I)Z" } : Jvm.MethodName)) ∈ lw_all := lw_g (lw_at lw_m4 43 rfl) rfl
theorem q888 : (Jvm.Cond.code ({ cls := "ThroughPack", name := "isText", desc := "(I)Z" } : Jvm.MethodName) prog_1_method_19_code (2 : Nat) (Option.some Jvm.ClassFile.FieldType.boolean)) ∈ lw_all := lw_g (lw_at lw_m4 44 rfl) rfl
theorem q890 : (Jvm.Cond.instanceMethod ({ cls := "ThroughPack", name := "can", desc := "(II)Z" } : Jvm.MethodName)) ∈ lw_all := lw_g (lw_at lw_m4 46 rfl) rfl
theorem q891 : (Jvm.Cond.selects "ThroughPack" ({ cls := "ThroughPack", name := "can", desc := "(II)Z" } : Jvm.MethodName) ({ cls := "ThroughPack", name := "can", desc := "(II)Z" } : Jvm.MethodName)) ∈ lw_all := lw_g (lw_at lw_m4 47 rfl) rfl
theorem q892 : (Jvm.Cond.code ({ cls := "ThroughPack", name := "can", desc := "(II)Z" } : Jvm.MethodName) prog_1_method_34_code (4 : Nat) (Option.some Jvm.ClassFile.FieldType.boolean)) ∈ lw_all := lw_g (lw_at lw_m4 48 rfl) rfl
theorem q893 : (Jvm.Cond.methodLink "ThroughPack" (229 : Nat) ({ cls := "ThroughPack", name := "isOrder", desc := "(I)Z" } : Jvm.MethodName)) ∈ lw_all := lw_g (lw_at lw_m4 49 rfl) rfl
theorem q894 : (Jvm.Cond.static ({ cls := "ThroughPack", name := "isOrder", desc := "(I)Z" } : Jvm.MethodName)) ∈ lw_all := lw_g (lw_at lw_m4 50 rfl) rfl
theorem q895 : (Jvm.Cond.code ({ cls := "ThroughPack", name := "isOrder", desc := "(I)Z" } : Jvm.MethodName) prog_1_method_33_code (1 : Nat) (Option.some Jvm.ClassFile.FieldType.boolean)) ∈ lw_all := lw_g (lw_at lw_m4 51 rfl) rfl
theorem q896 : (Jvm.Cond.methodLink "ThroughPack" (232 : Nat) ({ cls := "ThroughPack", name := "costOf", desc := "(IIII[III)I" } : Jvm.MethodName)) ∈ lw_all := lw_g (lw_at lw_m4 52 rfl) rfl
theorem q897 : (Jvm.Cond.privateMethod ({ cls := "ThroughPack", name := "costOf", desc := "(IIII[III)I" } : Jvm.MethodName)) ∈ lw_tbl := lw_at lw_m4 53 rfl
theorem q898 : (Jvm.Cond.instanceMethod ({ cls := "ThroughPack", name := "costOf", desc := "(IIII[III)I" } : Jvm.MethodName)) ∈ lw_all := lw_g (lw_at lw_m4 54 rfl) rfl
theorem q899 : (Jvm.Cond.code ({ cls := "ThroughPack", name := "costOf", desc := "(IIII[III)I" } : Jvm.MethodName) prog_1_method_32_code (10 : Nat) (Option.some Jvm.ClassFile.FieldType.int)) ∈ lw_all := lw_g (lw_at lw_m4 55 rfl) rfl
theorem q900 : (Jvm.Cond.methodLink "ThroughPack" (169 : Nat) ({ cls := "ThroughPack", name := "dx", desc := "(I)I" } : Jvm.MethodName)) ∈ lw_all := lw_g (lw_at lw_m4 56 rfl) rfl
theorem q901 : (Jvm.Cond.static ({ cls := "ThroughPack", name := "dx", desc := "(I)I" } : Jvm.MethodName)) ∈ lw_all := lw_g (lw_at lw_m4 57 rfl) rfl
theorem q902 : (Jvm.Cond.code ({ cls := "ThroughPack", name := "dx", desc := "(I)I" } : Jvm.MethodName) prog_1_method_22_code (1 : Nat) (Option.some Jvm.ClassFile.FieldType.int)) ∈ lw_all := lw_g (lw_at lw_m4 58 rfl) rfl
theorem q903 : (Jvm.Cond.methodLink "ThroughPack" (173 : Nat) ({ cls := "ThroughPack", name := "dy", desc := "(I)I" } : Jvm.MethodName)) ∈ lw_all := lw_g (lw_at lw_m4 59 rfl) rfl
theorem q904 : (Jvm.Cond.static ({ cls := "ThroughPack", name := "dy", desc := "(I)I" } : Jvm.MethodName)) ∈ lw_all := lw_g (lw_at lw_m4 60 rfl) rfl
theorem q905 : (Jvm.Cond.code ({ cls := "ThroughPack", name := "dy", desc := "(I)I" } : Jvm.MethodName) prog_1_method_23_code (1 : Nat) (Option.some Jvm.ClassFile.FieldType.int)) ∈ lw_all := lw_g (lw_at lw_m4 61 rfl) rfl
theorem q906 : (Jvm.Cond.methodLink "ThroughPack" (165 : Nat) ({ cls := "ThroughPack", name := "beside", desc := "(III)I" } : Jvm.MethodName)) ∈ lw_all := lw_g (lw_at lw_m4 62 rfl) rfl
theorem q907 : (Jvm.Cond.privateMethod ({ cls := "ThroughPack", name := "beside", desc := "(III)I" } : Jvm.MethodName)) ∈ lw_tbl := lw_at lw_m4 63 rfl
theorem q908 : (Jvm.Cond.instanceMethod ({ cls := "ThroughPack", name := "beside", desc := "(III)I" } : Jvm.MethodName)) ∈ lw_all := lw_g (lw_at lw_m4 64 rfl) rfl
theorem q909 : (Jvm.Cond.code ({ cls := "ThroughPack", name := "beside", desc := "(III)I" } : Jvm.MethodName) prog_1_method_24_code (6 : Nat) (Option.some Jvm.ClassFile.FieldType.int)) ∈ lw_all := lw_g (lw_at lw_m4 65 rfl) rfl
theorem q910 : (Jvm.Cond.methodLink "ThroughPack" (222 : Nat) ({ cls := "ThroughPack", name := "may", desc := "([IIII)Z" } : Jvm.MethodName)) ∈ lw_all := lw_g (lw_at lw_m4 66 rfl) rfl
theorem q911 : (Jvm.Cond.privateMethod ({ cls := "ThroughPack", name := "may", desc := "([IIII)Z" } : Jvm.MethodName)) ∈ lw_tbl := lw_at lw_m4 67 rfl
theorem q912 : (Jvm.Cond.instanceMethod ({ cls := "ThroughPack", name := "may", desc := "([IIII)Z" } : Jvm.MethodName)) ∈ lw_all := lw_g (lw_at lw_m4 68 rfl) rfl
theorem q913 : (Jvm.Cond.code ({ cls := "ThroughPack", name := "may", desc := "([IIII)Z" } : Jvm.MethodName) prog_1_method_27_code (6 : Nat) (Option.some Jvm.ClassFile.FieldType.boolean)) ∈ lw_all := lw_g (lw_at lw_m4 69 rfl) rfl
theorem q914 : (Jvm.Cond.methodLink "ThroughPack" (176 : Nat) ({ cls := "ThroughPack", name := "rules", desc := "()LThroughPack$Text;" } : Jvm.MethodName)) ∈ lw_all := lw_g (lw_at lw_m4 70 rfl) rfl
theorem q915 : (Jvm.Cond.privateMethod ({ cls := "ThroughPack", name := "rules", desc := "()LThroughPack$Text;" } : Jvm.MethodName)) ∈ lw_tbl := lw_at lw_m4 71 rfl
theorem q916 : (Jvm.Cond.instanceMethod ({ cls := "ThroughPack", name := "rules", desc := "()LThroughPack$Text;" } : Jvm.MethodName)) ∈ lw_all := lw_g (lw_at lw_m4 72 rfl) rfl
theorem q917 : (Jvm.Cond.code ({ cls := "ThroughPack", name := "rules", desc := "()LThroughPack$Text;" } : Jvm.MethodName) prog_1_method_21_code (1 : Nat) (Option.some (Jvm.ClassFile.FieldType.object "ThroughPack$Text"))) ∈ lw_all := lw_g (lw_at lw_m4 73 rfl) rfl
theorem q918 : (Jvm.Cond.methodLink "ThroughPack" (185 : Nat) ({ cls := "java/util/ArrayList", name := "isEmpty", desc := "()Z" } : Jvm.MethodName)) ∈ lw_all := lw_g (lw_at lw_m4 74 rfl) rfl
theorem q919 : (Jvm.Cond.methodLink "ThroughPack" (191 : Nat) ({ cls := "ThroughPack", name := "names", desc := "([IIII)V" } : Jvm.MethodName)) ∈ lw_all := lw_g (lw_at lw_m4 75 rfl) rfl
theorem q920 : (Jvm.Cond.privateMethod ({ cls := "ThroughPack", name := "names", desc := "([IIII)V" } : Jvm.MethodName)) ∈ lw_tbl := lw_at lw_m4 76 rfl
theorem q921 : (Jvm.Cond.instanceMethod ({ cls := "ThroughPack", name := "names", desc := "([IIII)V" } : Jvm.MethodName)) ∈ lw_all := lw_g (lw_at lw_m4 77 rfl) rfl
theorem q922 : (Jvm.Cond.code ({ cls := "ThroughPack", name := "names", desc := "([IIII)V" } : Jvm.MethodName) prog_1_method_26_code (7 : Nat) (Option.none : Option Jvm.ClassFile.FieldType)) ∈ lw_all := lw_g (lw_at lw_m4 78 rfl) rfl
theorem q923 : (Jvm.Cond.methodLink "ThroughPack" (194 : Nat) ({ cls := "ThroughPack$Text", name := "some", desc := "(Ljava/util/ArrayList;[I)Z" } : Jvm.MethodName)) ∈ lw_all := lw_g (lw_at lw_m4 79 rfl) rfl
theorem q1006 : (Jvm.Cond.methodLink "ThroughPack" (225 : Nat) ({ cls := "ThroughPack", name := "costOf", desc := "([IIII)I" } : Jvm.MethodName)) ∈ lw_all := lw_g (lw_at lw_m4 162 rfl) rfl
theorem q1007 : (Jvm.Cond.privateMethod ({ cls := "ThroughPack", name := "costOf", desc := "([IIII)I" } : Jvm.MethodName)) ∈ lw_tbl := lw_at lw_m4 163 rfl
theorem q1008 : (Jvm.Cond.instanceMethod ({ cls := "ThroughPack", name := "costOf", desc := "([IIII)I" } : Jvm.MethodName)) ∈ lw_all := lw_g (lw_at lw_m4 164 rfl) rfl
theorem q1009 : (Jvm.Cond.code ({ cls := "ThroughPack", name := "costOf", desc := "([IIII)I" } : Jvm.MethodName) prog_1_method_28_code (6 : Nat) (Option.some Jvm.ClassFile.FieldType.int)) ∈ lw_all := lw_g (lw_at lw_m4 165 rfl) rfl
theorem q1010 : (Jvm.Cond.constantLong "ThroughPack" (201 : Nat) (99 : Int64)) ∈ lw_all := lw_g (lw_at lw_m4 166 rfl) rfl
theorem q1011 : (Jvm.Cond.interfaceEntry "ThroughPack" (203 : Nat)) ∈ lw_tbl := lw_at lw_m4 167 rfl
theorem q1012 : (Jvm.Cond.methodLink "ThroughPack" (203 : Nat) ({ cls := "ThroughPack$Sum", name := "of", desc := "([I)J" } : Jvm.MethodName)) ∈ lw_all := lw_g (lw_at lw_m4 168 rfl) rfl
theorem q1013 : (Jvm.Cond.methodLink "ThroughPack" (209 : Nat) ({ cls := "java/lang/Math", name := "min", desc := "(JJ)J" } : Jvm.MethodName)) ∈ lw_all := lw_g (lw_at lw_m4 169 rfl) rfl
theorem q1014 : (Jvm.Cond.methodLink "ThroughPack" (212 : Nat) ({ cls := "java/lang/Math", name := "max", desc := "(JJ)J" } : Jvm.MethodName)) ∈ lw_all := lw_g (lw_at lw_m4 170 rfl) rfl
theorem q1016 : (Jvm.Cond.instanceMethod ({ cls := "ThroughPack", name := "watch", desc := "(III)I" } : Jvm.MethodName)) ∈ lw_all := lw_g (lw_at lw_m4 172 rfl) rfl
theorem q1017 : (Jvm.Cond.selects "ThroughPack" ({ cls := "ThroughPack", name := "watch", desc := "(III)I" } : Jvm.MethodName) ({ cls := "ThroughPack", name := "watch", desc := "(III)I" } : Jvm.MethodName)) ∈ lw_all := lw_g (lw_at lw_m4 173 rfl) rfl
theorem q1018 : (Jvm.Cond.code ({ cls := "ThroughPack", name := "watch", desc := "(III)I" } : Jvm.MethodName) prog_1_method_36_code (12 : Nat) (Option.some Jvm.ClassFile.FieldType.int)) ∈ lw_all := lw_g (lw_at lw_m4 174 rfl) rfl
theorem q1019 : (Jvm.Cond.methodLink "ThroughPack" (239 : Nat) ({ cls := "ThroughPack", name := "does", desc := "(II)Z" } : Jvm.MethodName)) ∈ lw_all := lw_g (lw_at lw_m4 175 rfl) rfl
theorem q1020 : (Jvm.Cond.privateMethod ({ cls := "ThroughPack", name := "does", desc := "(II)Z" } : Jvm.MethodName)) ∈ lw_tbl := lw_at lw_m4 176 rfl
theorem q1021 : (Jvm.Cond.instanceMethod ({ cls := "ThroughPack", name := "does", desc := "(II)Z" } : Jvm.MethodName)) ∈ lw_all := lw_g (lw_at lw_m4 177 rfl) rfl
theorem q1022 : (Jvm.Cond.code ({ cls := "ThroughPack", name := "does", desc := "(II)Z" } : Jvm.MethodName) prog_1_method_35_code (4 : Nat) (Option.some Jvm.ClassFile.FieldType.boolean)) ∈ lw_all := lw_g (lw_at lw_m4 178 rfl) rfl
theorem q1023 : (Jvm.Cond.methodLink "ThroughPack" (235 : Nat) ({ cls := "ThroughPack", name := "can", desc := "(II)Z" } : Jvm.MethodName)) ∈ lw_all := lw_g (lw_at lw_m4 179 rfl) rfl
theorem q1024 : (Jvm.Cond.methodLink "ThroughPack" (242 : Nat) ({ cls := "ThroughPack", name := "goes", desc := "([I[III)V" } : Jvm.MethodName)) ∈ lw_all := lw_g (lw_at lw_m4 180 rfl) rfl
theorem q1025 : (Jvm.Cond.privateMethod ({ cls := "ThroughPack", name := "goes", desc := "([I[III)V" } : Jvm.MethodName)) ∈ lw_tbl := lw_at lw_m4 181 rfl
theorem q1026 : (Jvm.Cond.instanceMethod ({ cls := "ThroughPack", name := "goes", desc := "([I[III)V" } : Jvm.MethodName)) ∈ lw_all := lw_g (lw_at lw_m4 182 rfl) rfl
theorem q1027 : (Jvm.Cond.code ({ cls := "ThroughPack", name := "goes", desc := "([I[III)V" } : Jvm.MethodName) prog_1_method_31_code (7 : Nat) (Option.none : Option Jvm.ClassFile.FieldType)) ∈ lw_all := lw_g (lw_at lw_m4 183 rfl) rfl
theorem q1028 : (Jvm.Cond.methodLink "ThroughPack" (246 : Nat) ({ cls := "ThroughPack", name := "drifts", desc := "(II)I" } : Jvm.MethodName)) ∈ lw_all := lw_g (lw_at lw_m4 184 rfl) rfl
theorem q1029 : (Jvm.Cond.privateMethod ({ cls := "ThroughPack", name := "drifts", desc := "(II)I" } : Jvm.MethodName)) ∈ lw_tbl := lw_at lw_m4 185 rfl
theorem q1030 : (Jvm.Cond.instanceMethod ({ cls := "ThroughPack", name := "drifts", desc := "(II)I" } : Jvm.MethodName)) ∈ lw_all := lw_g (lw_at lw_m4 186 rfl) rfl
theorem q1031 : (Jvm.Cond.code ({ cls := "ThroughPack", name := "drifts", desc := "(II)I" } : Jvm.MethodName) prog_1_method_25_code (4 : Nat) (Option.some Jvm.ClassFile.FieldType.int)) ∈ lw_all := lw_g (lw_at lw_m4 187 rfl) rfl
theorem q1032 : (Jvm.Cond.methodLink "ThroughPack" (249 : Nat) ({ cls := "ThroughPack", name := "nips", desc := "([IIII)Z" } : Jvm.MethodName)) ∈ lw_all := lw_g (lw_at lw_m4 188 rfl) rfl
theorem q1033 : (Jvm.Cond.privateMethod ({ cls := "ThroughPack", name := "nips", desc := "([IIII)Z" } : Jvm.MethodName)) ∈ lw_tbl := lw_at lw_m4 189 rfl
theorem q1034 : (Jvm.Cond.instanceMethod ({ cls := "ThroughPack", name := "nips", desc := "([IIII)Z" } : Jvm.MethodName)) ∈ lw_all := lw_g (lw_at lw_m4 190 rfl) rfl
theorem q1035 : (Jvm.Cond.code ({ cls := "ThroughPack", name := "nips", desc := "([IIII)Z" } : Jvm.MethodName) prog_1_method_29_code (6 : Nat) (Option.some Jvm.ClassFile.FieldType.boolean)) ∈ lw_all := lw_g (lw_at lw_m4 191 rfl) rfl
theorem q1037 : (Jvm.Cond.instanceMethod ({ cls := "ThroughPack", name := "of", desc := "(II)I" } : Jvm.MethodName)) ∈ lw_all := lw_g (lw_at lw_m4 193 rfl) rfl
theorem q1038 : (Jvm.Cond.selects "ThroughPack" ({ cls := "ThroughPack", name := "of", desc := "(II)I" } : Jvm.MethodName) ({ cls := "ThroughPack", name := "of", desc := "(II)I" } : Jvm.MethodName)) ∈ lw_all := lw_g (lw_at lw_m4 194 rfl) rfl
theorem q1039 : (Jvm.Cond.code ({ cls := "ThroughPack", name := "of", desc := "(II)I" } : Jvm.MethodName) prog_1_method_37_code (3 : Nat) (Option.some Jvm.ClassFile.FieldType.int)) ∈ lw_all := lw_g (lw_at lw_m4 195 rfl) rfl
theorem q1041 : (Jvm.Cond.instanceMethod ({ cls := "ThroughPack", name := "soonest", desc := "(I)I" } : Jvm.MethodName)) ∈ lw_all := lw_g (lw_at lw_m4 197 rfl) rfl
theorem q1042 : (Jvm.Cond.selects "ThroughPack" ({ cls := "ThroughPack", name := "soonest", desc := "(I)I" } : Jvm.MethodName) ({ cls := "ThroughPack", name := "soonest", desc := "(I)I" } : Jvm.MethodName)) ∈ lw_all := lw_g (lw_at lw_m4 198 rfl) rfl
theorem q1043 : (Jvm.Cond.code ({ cls := "ThroughPack", name := "soonest", desc := "(I)I" } : Jvm.MethodName) prog_1_method_48_code (8 : Nat) (Option.some Jvm.ClassFile.FieldType.int)) ∈ lw_all := lw_g (lw_at lw_m4 199 rfl) rfl
theorem q1044 : (Jvm.Cond.methodLink "ThroughPack" (287 : Nat) ({ cls := "ThroughPack", name := "ship", desc := "()[I" } : Jvm.MethodName)) ∈ lw_all := lw_g (lw_at lw_m4 200 rfl) rfl
theorem q1045 : (Jvm.Cond.privateMethod ({ cls := "ThroughPack", name := "ship", desc := "()[I" } : Jvm.MethodName)) ∈ lw_tbl := lw_at lw_m4 201 rfl
theorem q1046 : (Jvm.Cond.instanceMethod ({ cls := "ThroughPack", name := "ship", desc := "()[I" } : Jvm.MethodName)) ∈ lw_all := lw_g (lw_at lw_m4 202 rfl) rfl
theorem q1047 : (Jvm.Cond.code ({ cls := "ThroughPack", name := "ship", desc := "()[I" } : Jvm.MethodName) prog_1_method_47_code (1 : Nat) (Option.some (Jvm.ClassFile.FieldType.array Jvm.ClassFile.FieldType.int))) ∈ lw_all := lw_g (lw_at lw_m4 203 rfl) rfl
theorem q1048 : (Jvm.Cond.methodLink "ThroughPack" (290 : Nat) ({ cls := "ThroughPack", name := "laysAhead", desc := "()V" } : Jvm.MethodName)) ∈ lw_all := lw_g (lw_at lw_m4 204 rfl) rfl
theorem q1049 : (Jvm.Cond.privateMethod ({ cls := "ThroughPack", name := "laysAhead", desc := "()V" } : Jvm.MethodName)) ∈ lw_tbl := lw_at lw_m4 205 rfl
theorem q1050 : (Jvm.Cond.instanceMethod ({ cls := "ThroughPack", name := "laysAhead", desc := "()V" } : Jvm.MethodName)) ∈ lw_all := lw_g (lw_at lw_m4 206 rfl) rfl
theorem q1051 : (Jvm.Cond.code ({ cls := "ThroughPack", name := "laysAhead", desc := "()V" } : Jvm.MethodName) prog_1_method_39_code (1 : Nat) (Option.none : Option Jvm.ClassFile.FieldType)) ∈ lw_all := lw_g (lw_at lw_m4 207 rfl) rfl
theorem q1052 : (Jvm.Cond.methodLink "ThroughPack" (260 : Nat) ({ cls := "ThroughPack", name := "laysSea", desc := "()V" } : Jvm.MethodName)) ∈ lw_all := lw_g (lw_at lw_m4 208 rfl) rfl
theorem q1053 : (Jvm.Cond.privateMethod ({ cls := "ThroughPack", name := "laysSea", desc := "()V" } : Jvm.MethodName)) ∈ lw_tbl := lw_at lw_m4 209 rfl
theorem q1054 : (Jvm.Cond.instanceMethod ({ cls := "ThroughPack", name := "laysSea", desc := "()V" } : Jvm.MethodName)) ∈ lw_all := lw_g (lw_at lw_m4 210 rfl) rfl
theorem q1055 : (Jvm.Cond.code ({ cls := "ThroughPack", name := "laysSea", desc := "()V" } : Jvm.MethodName) prog_1_method_38_code (2 : Nat) (Option.none : Option Jvm.ClassFile.FieldType)) ∈ lw_all := lw_g (lw_at lw_m4 211 rfl) rfl
theorem q1056 : (Jvm.Cond.methodLink "ThroughPack" (293 : Nat) ({ cls := "java/util/Arrays", name := "fill", desc := "([II)V" } : Jvm.MethodName)) ∈ lw_all := lw_g (lw_at lw_m4 212 rfl) rfl
theorem q1057 : (Jvm.Cond.methodLink "ThroughPack" (283 : Nat) ({ cls := "ThroughPack", name := "soonest", desc := "(IIII)I" } : Jvm.MethodName)) ∈ lw_all := lw_g (lw_at lw_m4 213 rfl) rfl
theorem q1058 : (Jvm.Cond.privateMethod ({ cls := "ThroughPack", name := "soonest", desc := "(IIII)I" } : Jvm.MethodName)) ∈ lw_tbl := lw_at lw_m4 214 rfl
theorem q1059 : (Jvm.Cond.instanceMethod ({ cls := "ThroughPack", name := "soonest", desc := "(IIII)I" } : Jvm.MethodName)) ∈ lw_all := lw_g (lw_at lw_m4 215 rfl) rfl
theorem q1060 : (Jvm.Cond.code ({ cls := "ThroughPack", name := "soonest", desc := "(IIII)I" } : Jvm.MethodName) prog_1_method_45_code (8 : Nat) (Option.some Jvm.ClassFile.FieldType.int)) ∈ lw_all := lw_g (lw_at lw_m4 216 rfl) rfl
theorem q1061 : (Jvm.Cond.constant "ThroughPack" (266 : Nat) (1000000 : Int32)) ∈ lw_all := lw_g (lw_at lw_m4 217 rfl) rfl
theorem q1062 : (Jvm.Cond.methodLink "ThroughPack" (267 : Nat) ({ cls := "ThroughPack", name := "soonestBy", desc := "(IIIII)I" } : Jvm.MethodName)) ∈ lw_all := lw_g (lw_at lw_m4 218 rfl) rfl
theorem q1063 : (Jvm.Cond.privateMethod ({ cls := "ThroughPack", name := "soonestBy", desc := "(IIIII)I" } : Jvm.MethodName)) ∈ lw_tbl := lw_at lw_m4 219 rfl
theorem q1064 : (Jvm.Cond.instanceMethod ({ cls := "ThroughPack", name := "soonestBy", desc := "(IIIII)I" } : Jvm.MethodName)) ∈ lw_all := lw_g (lw_at lw_m4 220 rfl) rfl
theorem q1065 : (Jvm.Cond.code ({ cls := "ThroughPack", name := "soonestBy", desc := "(IIIII)I" } : Jvm.MethodName) prog_1_method_46_code (8 : Nat) (Option.some Jvm.ClassFile.FieldType.int)) ∈ lw_all := lw_g (lw_at lw_m4 221 rfl) rfl
theorem q1066 : (Jvm.Cond.methodLink "ThroughPack" (271 : Nat) ({ cls := "ThroughPack", name := "costAt", desc := "(IIIII)I" } : Jvm.MethodName)) ∈ lw_all := lw_g (lw_at lw_m4 222 rfl) rfl
theorem q1067 : (Jvm.Cond.privateMethod ({ cls := "ThroughPack", name := "costAt", desc := "(IIIII)I" } : Jvm.MethodName)) ∈ lw_tbl := lw_at lw_m4 223 rfl
theorem q1068 : (Jvm.Cond.instanceMethod ({ cls := "ThroughPack", name := "costAt", desc := "(IIIII)I" } : Jvm.MethodName)) ∈ lw_all := lw_g (lw_at lw_m4 224 rfl) rfl
theorem q1069 : (Jvm.Cond.code ({ cls := "ThroughPack", name := "costAt", desc := "(IIIII)I" } : Jvm.MethodName) prog_1_method_41_code (6 : Nat) (Option.some Jvm.ClassFile.FieldType.int)) ∈ lw_all := lw_g (lw_at lw_m4 225 rfl) rfl
theorem q1070 : (Jvm.Cond.methodLink "ThroughPack" (263 : Nat) ({ cls := "ThroughPack", name := "windAt", desc := "(I)I" } : Jvm.MethodName)) ∈ lw_all := lw_g (lw_at lw_m4 226 rfl) rfl
theorem q1071 : (Jvm.Cond.privateMethod ({ cls := "ThroughPack", name := "windAt", desc := "(I)I" } : Jvm.MethodName)) ∈ lw_tbl := lw_at lw_m4 227 rfl
theorem q1072 : (Jvm.Cond.instanceMethod ({ cls := "ThroughPack", name := "windAt", desc := "(I)I" } : Jvm.MethodName)) ∈ lw_all := lw_g (lw_at lw_m4 228 rfl) rfl
theorem q1073 : (Jvm.Cond.code ({ cls := "ThroughPack", name := "windAt", desc := "(I)I" } : Jvm.MethodName) prog_1_method_40_code (2 : Nat) (Option.some Jvm.ClassFile.FieldType.int)) ∈ lw_all := lw_g (lw_at lw_m4 229 rfl) rfl
theorem q1074 : (Jvm.Cond.methodLink "ThroughPack" (274 : Nat) ({ cls := "ThroughPack", name := "cellBehind", desc := "(III)I" } : Jvm.MethodName)) ∈ lw_all := lw_g (lw_at lw_m4 230 rfl) rfl
theorem q1075 : (Jvm.Cond.privateMethod ({ cls := "ThroughPack", name := "cellBehind", desc := "(III)I" } : Jvm.MethodName)) ∈ lw_tbl := lw_at lw_m4 231 rfl
theorem q1076 : (Jvm.Cond.instanceMethod ({ cls := "ThroughPack", name := "cellBehind", desc := "(III)I" } : Jvm.MethodName)) ∈ lw_all := lw_g (lw_at lw_m4 232 rfl) rfl
theorem q1077 : (Jvm.Cond.code ({ cls := "ThroughPack", name := "cellBehind", desc := "(III)I" } : Jvm.MethodName) prog_1_method_42_code (4 : Nat) (Option.some Jvm.ClassFile.FieldType.int)) ∈ lw_all := lw_g (lw_at lw_m4 233 rfl) rfl
theorem q1078 : (Jvm.Cond.methodLink "ThroughPack" (277 : Nat) ({ cls := "ThroughPack", name := "nippedAt", desc := "(II)Z" } : Jvm.MethodName)) ∈ lw_all := lw_g (lw_at lw_m4 234 rfl) rfl
theorem q1079 : (Jvm.Cond.privateMethod ({ cls := "ThroughPack", name := "nippedAt", desc := "(II)Z" } : Jvm.MethodName)) ∈ lw_tbl := lw_at lw_m4 235 rfl
theorem q1080 : (Jvm.Cond.instanceMethod ({ cls := "ThroughPack", name := "nippedAt", desc := "(II)Z" } : Jvm.MethodName)) ∈ lw_all := lw_g (lw_at lw_m4 236 rfl) rfl
theorem q1081 : (Jvm.Cond.code ({ cls := "ThroughPack", name := "nippedAt", desc := "(II)Z" } : Jvm.MethodName) prog_1_method_43_code (3 : Nat) (Option.some Jvm.ClassFile.FieldType.boolean)) ∈ lw_all := lw_g (lw_at lw_m4 237 rfl) rfl
theorem q1082 : (Jvm.Cond.methodLink "ThroughPack" (280 : Nat) ({ cls := "ThroughPack", name := "fires", desc := "(II)I" } : Jvm.MethodName)) ∈ lw_all := lw_g (lw_at lw_m4 238 rfl) rfl
theorem q1083 : (Jvm.Cond.static ({ cls := "ThroughPack", name := "fires", desc := "(II)I" } : Jvm.MethodName)) ∈ lw_all := lw_g (lw_at lw_m4 239 rfl) rfl
theorem q1084 : (Jvm.Cond.code ({ cls := "ThroughPack", name := "fires", desc := "(II)I" } : Jvm.MethodName) prog_1_method_44_code (2 : Nat) (Option.some Jvm.ClassFile.FieldType.int)) ∈ lw_all := lw_g (lw_at lw_m5 0 rfl) rfl
theorem q1086 : (Jvm.Cond.instanceMethod ({ cls := "ThroughPack", name := "least", desc := "()I" } : Jvm.MethodName)) ∈ lw_all := lw_g (lw_at lw_m5 2 rfl) rfl
theorem q1087 : (Jvm.Cond.selects "ThroughPack" ({ cls := "ThroughPack", name := "least", desc := "()I" } : Jvm.MethodName) ({ cls := "ThroughPack", name := "least", desc := "()I" } : Jvm.MethodName)) ∈ lw_all := lw_g (lw_at lw_m5 3 rfl) rfl
theorem q1088 : (Jvm.Cond.code ({ cls := "ThroughPack", name := "least", desc := "()I" } : Jvm.MethodName) prog_1_method_49_code (2 : Nat) (Option.some Jvm.ClassFile.FieldType.int)) ∈ lw_all := lw_g (lw_at lw_m5 4 rfl) rfl
theorem q1090 : (Jvm.Cond.instanceMethod ({ cls := "ThroughPack", name := "ahead", desc := "(II)I" } : Jvm.MethodName)) ∈ lw_all := lw_g (lw_at lw_m5 6 rfl) rfl
theorem q1091 : (Jvm.Cond.selects "ThroughPack" ({ cls := "ThroughPack", name := "ahead", desc := "(II)I" } : Jvm.MethodName) ({ cls := "ThroughPack", name := "ahead", desc := "(II)I" } : Jvm.MethodName)) ∈ lw_all := lw_g (lw_at lw_m5 7 rfl) rfl
theorem q1092 : (Jvm.Cond.code ({ cls := "ThroughPack", name := "ahead", desc := "(II)I" } : Jvm.MethodName) prog_1_method_50_code (3 : Nat) (Option.some Jvm.ClassFile.FieldType.int)) ∈ lw_all := lw_g (lw_at lw_m5 8 rfl) rfl
theorem q1094 : (Jvm.Cond.instanceMethod ({ cls := "ThroughPack", name := "many", desc := "(II)Z" } : Jvm.MethodName)) ∈ lw_all := lw_g (lw_at lw_m5 10 rfl) rfl
theorem q1095 : (Jvm.Cond.selects "ThroughPack" ({ cls := "ThroughPack", name := "many", desc := "(II)Z" } : Jvm.MethodName) ({ cls := "ThroughPack", name := "many", desc := "(II)Z" } : Jvm.MethodName)) ∈ lw_all := lw_g (lw_at lw_m5 11 rfl) rfl
theorem q1096 : (Jvm.Cond.code ({ cls := "ThroughPack", name := "many", desc := "(II)Z" } : Jvm.MethodName) prog_1_method_51_code (3 : Nat) (Option.some Jvm.ClassFile.FieldType.boolean)) ∈ lw_all := lw_g (lw_at lw_m5 12 rfl) rfl
theorem q1098 : (Jvm.Cond.instanceMethod ({ cls := "ThroughPack", name := "order", desc := "(II)I" } : Jvm.MethodName)) ∈ lw_all := lw_g (lw_at lw_m5 14 rfl) rfl
theorem q1099 : (Jvm.Cond.selects "ThroughPack" ({ cls := "ThroughPack", name := "order", desc := "(II)I" } : Jvm.MethodName) ({ cls := "ThroughPack", name := "order", desc := "(II)I" } : Jvm.MethodName)) ∈ lw_all := lw_g (lw_at lw_m5 15 rfl) rfl
theorem q1100 : (Jvm.Cond.code ({ cls := "ThroughPack", name := "order", desc := "(II)I" } : Jvm.MethodName) prog_1_method_52_code (3 : Nat) (Option.some Jvm.ClassFile.FieldType.int)) ∈ lw_all := lw_g (lw_at lw_m5 16 rfl) rfl
theorem q1102 : (Jvm.Cond.instanceMethod ({ cls := "ThroughPack", name := "told", desc := "(I)I" } : Jvm.MethodName)) ∈ lw_all := lw_g (lw_at lw_m5 18 rfl) rfl
theorem q1103 : (Jvm.Cond.selects "ThroughPack" ({ cls := "ThroughPack", name := "told", desc := "(I)I" } : Jvm.MethodName) ({ cls := "ThroughPack", name := "told", desc := "(I)I" } : Jvm.MethodName)) ∈ lw_all := lw_g (lw_at lw_m5 19 rfl) rfl
theorem q1104 : (Jvm.Cond.code ({ cls := "ThroughPack", name := "told", desc := "(I)I" } : Jvm.MethodName) prog_1_method_54_code (2 : Nat) (Option.some Jvm.ClassFile.FieldType.int)) ∈ lw_all := lw_g (lw_at lw_m5 20 rfl) rfl
theorem q1105 : (Jvm.Cond.methodLink "ThroughPack" (305 : Nat) ({ cls := "ThroughPack", name := "laysPath", desc := "()V" } : Jvm.MethodName)) ∈ lw_all := lw_g (lw_at lw_m5 21 rfl) rfl
theorem q1106 : (Jvm.Cond.privateMethod ({ cls := "ThroughPack", name := "laysPath", desc := "()V" } : Jvm.MethodName)) ∈ lw_tbl := lw_at lw_m5 22 rfl
theorem q1107 : (Jvm.Cond.instanceMethod ({ cls := "ThroughPack", name := "laysPath", desc := "()V" } : Jvm.MethodName)) ∈ lw_all := lw_g (lw_at lw_m5 23 rfl) rfl
theorem q1108 : (Jvm.Cond.code ({ cls := "ThroughPack", name := "laysPath", desc := "()V" } : Jvm.MethodName) prog_1_method_53_code (7 : Nat) (Option.none : Option Jvm.ClassFile.FieldType)) ∈ lw_all := lw_g (lw_at lw_m5 24 rfl) rfl
theorem q1110 : (Jvm.Cond.instanceMethod ({ cls := "ThroughPack", name := "home", desc := "(I)Z" } : Jvm.MethodName)) ∈ lw_all := lw_g (lw_at lw_m5 26 rfl) rfl
theorem q1111 : (Jvm.Cond.selects "ThroughPack" ({ cls := "ThroughPack", name := "home", desc := "(I)Z" } : Jvm.MethodName) ({ cls := "ThroughPack", name := "home", desc := "(I)Z" } : Jvm.MethodName)) ∈ lw_all := lw_g (lw_at lw_m5 27 rfl) rfl
theorem q1112 : (Jvm.Cond.code ({ cls := "ThroughPack", name := "home", desc := "(I)Z" } : Jvm.MethodName) prog_1_method_55_code (2 : Nat) (Option.some Jvm.ClassFile.FieldType.boolean)) ∈ lw_all := lw_g (lw_at lw_m5 28 rfl) rfl
theorem q1114 : (Jvm.Cond.instanceMethod ({ cls := "ThroughPack", name := "last", desc := "()I" } : Jvm.MethodName)) ∈ lw_all := lw_g (lw_at lw_m5 30 rfl) rfl
theorem q1115 : (Jvm.Cond.selects "ThroughPack" ({ cls := "ThroughPack", name := "last", desc := "()I" } : Jvm.MethodName) ({ cls := "ThroughPack", name := "last", desc := "()I" } : Jvm.MethodName)) ∈ lw_all := lw_g (lw_at lw_m5 31 rfl) rfl
theorem q1116 : (Jvm.Cond.code ({ cls := "ThroughPack", name := "last", desc := "()I" } : Jvm.MethodName) prog_1_method_57_code (2 : Nat) (Option.some Jvm.ClassFile.FieldType.int)) ∈ lw_all := lw_g (lw_at lw_m5 32 rfl) rfl
theorem q1117 : (Jvm.Cond.methodLink "ThroughPack" (308 : Nat) ({ cls := "ThroughPack", name := "comesHome", desc := "(IIII)Z" } : Jvm.MethodName)) ∈ lw_all := lw_g (lw_at lw_m5 33 rfl) rfl
theorem q1118 : (Jvm.Cond.privateMethod ({ cls := "ThroughPack", name := "comesHome", desc := "(IIII)Z" } : Jvm.MethodName)) ∈ lw_tbl := lw_at lw_m5 34 rfl
theorem q1119 : (Jvm.Cond.instanceMethod ({ cls := "ThroughPack", name := "comesHome", desc := "(IIII)Z" } : Jvm.MethodName)) ∈ lw_all := lw_g (lw_at lw_m5 35 rfl) rfl
theorem q1120 : (Jvm.Cond.code ({ cls := "ThroughPack", name := "comesHome", desc := "(IIII)Z" } : Jvm.MethodName) prog_1_method_56_code (10 : Nat) (Option.some Jvm.ClassFile.FieldType.boolean)) ∈ lw_all := lw_g (lw_at lw_m5 36 rfl) rfl
theorem q1122 : (Jvm.Cond.instanceMethod ({ cls := "ThroughPack", name := "walk", desc := "(I)I" } : Jvm.MethodName)) ∈ lw_all := lw_g (lw_at lw_m5 38 rfl) rfl
theorem q1123 : (Jvm.Cond.selects "ThroughPack" ({ cls := "ThroughPack", name := "walk", desc := "(I)I" } : Jvm.MethodName) ({ cls := "ThroughPack", name := "walk", desc := "(I)I" } : Jvm.MethodName)) ∈ lw_all := lw_g (lw_at lw_m5 39 rfl) rfl
theorem q1124 : (Jvm.Cond.code ({ cls := "ThroughPack", name := "walk", desc := "(I)I" } : Jvm.MethodName) prog_1_method_59_code (2 : Nat) (Option.some Jvm.ClassFile.FieldType.int)) ∈ lw_all := lw_g (lw_at lw_m5 40 rfl) rfl
theorem q1125 : (Jvm.Cond.methodLink "ThroughPack" (315 : Nat) ({ cls := "ThroughPack", name := "walkFrom", desc := "(I)I" } : Jvm.MethodName)) ∈ lw_all := lw_g (lw_at lw_m5 41 rfl) rfl
theorem q1126 : (Jvm.Cond.privateMethod ({ cls := "ThroughPack", name := "walkFrom", desc := "(I)I" } : Jvm.MethodName)) ∈ lw_tbl := lw_at lw_m5 42 rfl
theorem q1127 : (Jvm.Cond.instanceMethod ({ cls := "ThroughPack", name := "walkFrom", desc := "(I)I" } : Jvm.MethodName)) ∈ lw_all := lw_g (lw_at lw_m5 43 rfl) rfl
theorem q1128 : (Jvm.Cond.code ({ cls := "ThroughPack", name := "walkFrom", desc := "(I)I" } : Jvm.MethodName) prog_1_method_58_code (8 : Nat) (Option.some Jvm.ClassFile.FieldType.int)) ∈ lw_all := lw_g (lw_at lw_m5 44 rfl) rfl
theorem q1129 : (Jvm.Cond.methodLink "ThroughPack" (312 : Nat) ({ cls := "ThroughPack", name := "walks", desc := "([IIII)Z" } : Jvm.MethodName)) ∈ lw_all := lw_g (lw_at lw_m5 45 rfl) rfl
theorem q1130 : (Jvm.Cond.privateMethod ({ cls := "ThroughPack", name := "walks", desc := "([IIII)Z" } : Jvm.MethodName)) ∈ lw_tbl := lw_at lw_m5 46 rfl
theorem q1131 : (Jvm.Cond.instanceMethod ({ cls := "ThroughPack", name := "walks", desc := "([IIII)Z" } : Jvm.MethodName)) ∈ lw_all := lw_g (lw_at lw_m5 47 rfl) rfl
theorem q1132 : (Jvm.Cond.code ({ cls := "ThroughPack", name := "walks", desc := "([IIII)Z" } : Jvm.MethodName) prog_1_method_30_code (6 : Nat) (Option.some Jvm.ClassFile.FieldType.boolean)) ∈ lw_all := lw_g (lw_at lw_m5 48 rfl) rfl
theorem q1134 : (Jvm.Cond.instanceMethod ({ cls := "ThroughPack", name := "leave", desc := "()I" } : Jvm.MethodName)) ∈ lw_all := lw_g (lw_at lw_m5 50 rfl) rfl
theorem q1135 : (Jvm.Cond.selects "ThroughPack" ({ cls := "ThroughPack", name := "leave", desc := "()I" } : Jvm.MethodName) ({ cls := "ThroughPack", name := "leave", desc := "()I" } : Jvm.MethodName)) ∈ lw_all := lw_g (lw_at lw_m5 51 rfl) rfl
theorem q1136 : (Jvm.Cond.code ({ cls := "ThroughPack", name := "leave", desc := "()I" } : Jvm.MethodName) prog_1_method_60_code (2 : Nat) (Option.some Jvm.ClassFile.FieldType.int)) ∈ lw_all := lw_g (lw_at lw_m5 52 rfl) rfl
theorem q1138 : (Jvm.Cond.instanceMethod ({ cls := "ThroughPack", name := "winter", desc := "(I)I" } : Jvm.MethodName)) ∈ lw_all := lw_g (lw_at lw_m5 54 rfl) rfl
theorem q1139 : (Jvm.Cond.selects "ThroughPack" ({ cls := "ThroughPack", name := "winter", desc := "(I)I" } : Jvm.MethodName) ({ cls := "ThroughPack", name := "winter", desc := "(I)I" } : Jvm.MethodName)) ∈ lw_all := lw_g (lw_at lw_m5 55 rfl) rfl
theorem q1140 : (Jvm.Cond.code ({ cls := "ThroughPack", name := "winter", desc := "(I)I" } : Jvm.MethodName) prog_1_method_62_code (4 : Nat) (Option.some Jvm.ClassFile.FieldType.int)) ∈ lw_all := lw_g (lw_at lw_m5 56 rfl) rfl
theorem q1141 : (Jvm.Cond.methodLink "ThroughPack" (318 : Nat) ({ cls := "ThroughPack", name := "nipsFrom", desc := "(I)I" } : Jvm.MethodName)) ∈ lw_all := lw_g (lw_at lw_m5 57 rfl) rfl
theorem q1142 : (Jvm.Cond.privateMethod ({ cls := "ThroughPack", name := "nipsFrom", desc := "(I)I" } : Jvm.MethodName)) ∈ lw_tbl := lw_at lw_m5 58 rfl
theorem q1143 : (Jvm.Cond.instanceMethod ({ cls := "ThroughPack", name := "nipsFrom", desc := "(I)I" } : Jvm.MethodName)) ∈ lw_all := lw_g (lw_at lw_m5 59 rfl) rfl
theorem q1144 : (Jvm.Cond.code ({ cls := "ThroughPack", name := "nipsFrom", desc := "(I)I" } : Jvm.MethodName) prog_1_method_61_code (5 : Nat) (Option.some Jvm.ClassFile.FieldType.int)) ∈ lw_all := lw_g (lw_at lw_m5 60 rfl) rfl
theorem q1146 : (Jvm.Cond.instanceMethod ({ cls := "ThroughPack", name := "surest", desc := "(II)I" } : Jvm.MethodName)) ∈ lw_all := lw_g (lw_at lw_m5 62 rfl) rfl
theorem q1147 : (Jvm.Cond.selects "ThroughPack" ({ cls := "ThroughPack", name := "surest", desc := "(II)I" } : Jvm.MethodName) ({ cls := "ThroughPack", name := "surest", desc := "(II)I" } : Jvm.MethodName)) ∈ lw_all := lw_g (lw_at lw_m5 63 rfl) rfl
theorem q1148 : (Jvm.Cond.code ({ cls := "ThroughPack", name := "surest", desc := "(II)I" } : Jvm.MethodName) prog_1_method_66_code (6 : Nat) (Option.some Jvm.ClassFile.FieldType.int)) ∈ lw_all := lw_g (lw_at lw_m5 64 rfl) rfl
theorem q1149 : (Jvm.Cond.fieldLink "ThroughPack" (325 : Nat) "ThroughPack" "TENS" "[I") ∈ lw_all := lw_g (lw_at lw_m5 65 rfl) rfl
theorem q1150 : (Jvm.Cond.laysStatic "ThroughPack" "TENS" "[I") ∈ lw_tbl := lw_at lw_m5 66 rfl
theorem q1151 : (Jvm.Cond.methodLink "ThroughPack" (328 : Nat) ({ cls := "ThroughPack", name := "surest", desc := "(II[IIIII)I" } : Jvm.MethodName)) ∈ lw_all := lw_g (lw_at lw_m5 67 rfl) rfl
theorem q1152 : (Jvm.Cond.privateMethod ({ cls := "ThroughPack", name := "surest", desc := "(II[IIIII)I" } : Jvm.MethodName)) ∈ lw_tbl := lw_at lw_m5 68 rfl
theorem q1153 : (Jvm.Cond.instanceMethod ({ cls := "ThroughPack", name := "surest", desc := "(II[IIIII)I" } : Jvm.MethodName)) ∈ lw_all := lw_g (lw_at lw_m5 69 rfl) rfl
theorem q1154 : (Jvm.Cond.code ({ cls := "ThroughPack", name := "surest", desc := "(II[IIIII)I" } : Jvm.MethodName) prog_1_method_63_code (10 : Nat) (Option.some Jvm.ClassFile.FieldType.int)) ∈ lw_all := lw_g (lw_at lw_m5 70 rfl) rfl
theorem q1155 : (Jvm.Cond.methodLink "ThroughPack" (321 : Nat) ({ cls := "ThroughPack", name := "surestBy", desc := "(II[IIIIII)I" } : Jvm.MethodName)) ∈ lw_all := lw_g (lw_at lw_m5 71 rfl) rfl
theorem q1156 : (Jvm.Cond.privateMethod ({ cls := "ThroughPack", name := "surestBy", desc := "(II[IIIIII)I" } : Jvm.MethodName)) ∈ lw_tbl := lw_at lw_m5 72 rfl
theorem q1157 : (Jvm.Cond.instanceMethod ({ cls := "ThroughPack", name := "surestBy", desc := "(II[IIIIII)I" } : Jvm.MethodName)) ∈ lw_all := lw_g (lw_at lw_m5 73 rfl) rfl
theorem q1158 : (Jvm.Cond.code ({ cls := "ThroughPack", name := "surestBy", desc := "(II[IIIIII)I" } : Jvm.MethodName) prog_1_method_64_code (14 : Nat) (Option.some Jvm.ClassFile.FieldType.int)) ∈ lw_all := lw_g (lw_at lw_m5 74 rfl) rfl
theorem q1159 : (Jvm.Cond.methodLink "ThroughPack" (334 : Nat) ({ cls := "ThroughPack", name := "known", desc := "(I)I" } : Jvm.MethodName)) ∈ lw_all := lw_g (lw_at lw_m5 75 rfl) rfl
theorem q1160 : (Jvm.Cond.privateMethod ({ cls := "ThroughPack", name := "known", desc := "(I)I" } : Jvm.MethodName)) ∈ lw_tbl := lw_at lw_m5 76 rfl
theorem q1161 : (Jvm.Cond.instanceMethod ({ cls := "ThroughPack", name := "known", desc := "(I)I" } : Jvm.MethodName)) ∈ lw_all := lw_g (lw_at lw_m5 77 rfl) rfl
theorem q1162 : (Jvm.Cond.code ({ cls := "ThroughPack", name := "known", desc := "(I)I" } : Jvm.MethodName) prog_1_method_65_code (7 : Nat) (Option.some Jvm.ClassFile.FieldType.int)) ∈ lw_all := lw_g (lw_at lw_m5 78 rfl) rfl
theorem q1163 : (Jvm.Cond.methodLink "ThroughPack" (332 : Nat) ({ cls := "java/util/Arrays", name := "fill", desc := "([IIII)V" } : Jvm.MethodName)) ∈ lw_all := lw_g (lw_at lw_m5 79 rfl) rfl
theorem q1170 : (Jvm.Cond.instanceMethod ({ cls := "ThroughPack", name := "leads", desc := "(I)I" } : Jvm.MethodName)) ∈ lw_all := lw_g (lw_at lw_m5 86 rfl) rfl
theorem q1171 : (Jvm.Cond.selects "ThroughPack" ({ cls := "ThroughPack", name := "leads", desc := "(I)I" } : Jvm.MethodName) ({ cls := "ThroughPack", name := "leads", desc := "(I)I" } : Jvm.MethodName)) ∈ lw_all := lw_g (lw_at lw_m5 87 rfl) rfl
theorem q1172 : (Jvm.Cond.code ({ cls := "ThroughPack", name := "leads", desc := "(I)I" } : Jvm.MethodName) prog_1_method_67_code (7 : Nat) (Option.some Jvm.ClassFile.FieldType.int)) ∈ lw_all := lw_g (lw_at lw_m5 88 rfl) rfl
theorem q1174 : (Jvm.Cond.instanceMethod ({ cls := "ThroughPack", name := "prior", desc := "(II)Z" } : Jvm.MethodName)) ∈ lw_all := lw_g (lw_at lw_m5 90 rfl) rfl
theorem q1175 : (Jvm.Cond.selects "ThroughPack" ({ cls := "ThroughPack", name := "prior", desc := "(II)Z" } : Jvm.MethodName) ({ cls := "ThroughPack", name := "prior", desc := "(II)Z" } : Jvm.MethodName)) ∈ lw_all := lw_g (lw_at lw_m5 91 rfl) rfl
theorem q1176 : (Jvm.Cond.code ({ cls := "ThroughPack", name := "prior", desc := "(II)Z" } : Jvm.MethodName) prog_1_method_69_code (3 : Nat) (Option.some Jvm.ClassFile.FieldType.boolean)) ∈ lw_all := lw_g (lw_at lw_m5 92 rfl) rfl
theorem q1177 : (Jvm.Cond.methodLink "ThroughPack" (337 : Nat) ({ cls := "ThroughPack", name := "isClass", desc := "(I)Z" } : Jvm.MethodName)) ∈ lw_all := lw_g (lw_at lw_m5 93 rfl) rfl
theorem q1178 : (Jvm.Cond.static ({ cls := "ThroughPack", name := "isClass", desc := "(I)Z" } : Jvm.MethodName)) ∈ lw_all := lw_g (lw_at lw_m5 94 rfl) rfl
theorem q1179 : (Jvm.Cond.code ({ cls := "ThroughPack", name := "isClass", desc := "(I)Z" } : Jvm.MethodName) prog_1_method_68_code (1 : Nat) (Option.some Jvm.ClassFile.FieldType.boolean)) ∈ lw_all := lw_g (lw_at lw_m5 95 rfl) rfl
theorem q1181 : (Jvm.Cond.instanceMethod ({ cls := "ThroughPack", name := "look", desc := "(II)I" } : Jvm.MethodName)) ∈ lw_all := lw_g (lw_at lw_m5 97 rfl) rfl
theorem q1182 : (Jvm.Cond.selects "ThroughPack" ({ cls := "ThroughPack", name := "look", desc := "(II)I" } : Jvm.MethodName) ({ cls := "ThroughPack", name := "look", desc := "(II)I" } : Jvm.MethodName)) ∈ lw_all := lw_g (lw_at lw_m5 98 rfl) rfl
theorem q1183 : (Jvm.Cond.code ({ cls := "ThroughPack", name := "look", desc := "(II)I" } : Jvm.MethodName) prog_1_method_70_code (3 : Nat) (Option.some Jvm.ClassFile.FieldType.int)) ∈ lw_all := lw_g (lw_at lw_m5 99 rfl) rfl
theorem q1185 : (Jvm.Cond.instanceMethod ({ cls := "ThroughPack", name := "think", desc := "(II)I" } : Jvm.MethodName)) ∈ lw_all := lw_g (lw_at lw_m5 101 rfl) rfl
theorem q1186 : (Jvm.Cond.selects "ThroughPack" ({ cls := "ThroughPack", name := "think", desc := "(II)I" } : Jvm.MethodName) ({ cls := "ThroughPack", name := "think", desc := "(II)I" } : Jvm.MethodName)) ∈ lw_all := lw_g (lw_at lw_m5 102 rfl) rfl
theorem q1187 : (Jvm.Cond.code ({ cls := "ThroughPack", name := "think", desc := "(II)I" } : Jvm.MethodName) prog_1_method_71_code (8 : Nat) (Option.some Jvm.ClassFile.FieldType.int)) ∈ lw_all := lw_g (lw_at lw_m5 103 rfl) rfl
theorem q1188 : (Jvm.Cond.methodLink "ThroughPack" (343 : Nat) ({ cls := "java/lang/Math", name := "abs", desc := "(I)I" } : Jvm.MethodName)) ∈ lw_all := lw_g (lw_at lw_m5 104 rfl) rfl
theorem q1191 : (Jvm.Cond.constantLong "ThroughPack" (346 : Nat) (8 : Int64)) ∈ lw_all := lw_g (lw_at lw_m5 107 rfl) rfl
theorem q1192 : (Jvm.Cond.constantLong "ThroughPack" (348 : Nat) (1000 : Int64)) ∈ lw_all := lw_g (lw_at lw_m5 108 rfl) rfl
theorem q1195 : (Jvm.Cond.instanceMethod ({ cls := "ThroughPack", name := "run", desc := "(IIII)I" } : Jvm.MethodName)) ∈ lw_all := lw_g (lw_at lw_m5 111 rfl) rfl
theorem q1196 : (Jvm.Cond.selects "ThroughPack" ({ cls := "ThroughPack", name := "run", desc := "(IIII)I" } : Jvm.MethodName) ({ cls := "ThroughPack", name := "run", desc := "(IIII)I" } : Jvm.MethodName)) ∈ lw_all := lw_g (lw_at lw_m5 112 rfl) rfl
theorem q1197 : (Jvm.Cond.code ({ cls := "ThroughPack", name := "run", desc := "(IIII)I" } : Jvm.MethodName) prog_1_method_75_code (5 : Nat) (Option.some Jvm.ClassFile.FieldType.int)) ∈ lw_all := lw_g (lw_at lw_m5 113 rfl) rfl
theorem q1198 : (Jvm.Cond.methodLink "ThroughPack" (379 : Nat) ({ cls := "ThroughPack", name := "isRun", desc := "(III)Z" } : Jvm.MethodName)) ∈ lw_all := lw_g (lw_at lw_m5 114 rfl) rfl
theorem q1199 : (Jvm.Cond.privateMethod ({ cls := "ThroughPack", name := "isRun", desc := "(III)Z" } : Jvm.MethodName)) ∈ lw_tbl := lw_at lw_m5 115 rfl
theorem q1200 : (Jvm.Cond.instanceMethod ({ cls := "ThroughPack", name := "isRun", desc := "(III)Z" } : Jvm.MethodName)) ∈ lw_all := lw_g (lw_at lw_m5 116 rfl) rfl
theorem q1201 : (Jvm.Cond.code ({ cls := "ThroughPack", name := "isRun", desc := "(III)Z" } : Jvm.MethodName) prog_1_method_74_code (4 : Nat) (Option.some Jvm.ClassFile.FieldType.boolean)) ∈ lw_all := lw_g (lw_at lw_m5 117 rfl) rfl
theorem q1202 : (Jvm.Cond.methodLink "ThroughPack" (382 : Nat) ({ cls := "ThroughPack", name := "runs", desc := "(LThroughPack$Text;II)V" } : Jvm.MethodName)) ∈ lw_all := lw_g (lw_at lw_m5 118 rfl) rfl
theorem q1203 : (Jvm.Cond.privateMethod ({ cls := "ThroughPack", name := "runs", desc := "(LThroughPack$Text;II)V" } : Jvm.MethodName)) ∈ lw_tbl := lw_at lw_m5 119 rfl
theorem q1204 : (Jvm.Cond.instanceMethod ({ cls := "ThroughPack", name := "runs", desc := "(LThroughPack$Text;II)V" } : Jvm.MethodName)) ∈ lw_all := lw_g (lw_at lw_m5 120 rfl) rfl
theorem q1205 : (Jvm.Cond.code ({ cls := "ThroughPack", name := "runs", desc := "(LThroughPack$Text;II)V" } : Jvm.MethodName) prog_1_method_72_code (14 : Nat) (Option.none : Option Jvm.ClassFile.FieldType)) ∈ lw_all := lw_g (lw_at lw_m5 121 rfl) rfl
theorem q1206 : (Jvm.Cond.methodLink "ThroughPack" (350 : Nat) ({ cls := "ThroughPack", name := "orderBy", desc := "(LThroughPack$Text;IIIII)I" } : Jvm.MethodName)) ∈ lw_all := lw_g (lw_at lw_m5 122 rfl) rfl
theorem q1207 : (Jvm.Cond.privateMethod ({ cls := "ThroughPack", name := "orderBy", desc := "(LThroughPack$Text;IIIII)I" } : Jvm.MethodName)) ∈ lw_tbl := lw_at lw_m5 123 rfl
theorem q1208 : (Jvm.Cond.instanceMethod ({ cls := "ThroughPack", name := "orderBy", desc := "(LThroughPack$Text;IIIII)I" } : Jvm.MethodName)) ∈ lw_all := lw_g (lw_at lw_m5 124 rfl) rfl
theorem q1209 : (Jvm.Cond.code ({ cls := "ThroughPack", name := "orderBy", desc := "(LThroughPack$Text;IIIII)I" } : Jvm.MethodName) prog_1_method_73_code (9 : Nat) (Option.some Jvm.ClassFile.FieldType.int)) ∈ lw_all := lw_g (lw_at lw_m5 125 rfl) rfl
theorem q1210 : (Jvm.Cond.methodLink "ThroughPack" (357 : Nat) ({ cls := "java/util/ArrayList", name := "size", desc := "()I" } : Jvm.MethodName)) ∈ lw_all := lw_g (lw_at lw_m5 126 rfl) rfl
theorem q1211 : (Jvm.Cond.methodLink "ThroughPack" (361 : Nat) ({ cls := "java/util/ArrayList", name := "get", desc := "(I)Ljava/lang/Object;" } : Jvm.MethodName)) ∈ lw_all := lw_g (lw_at lw_m5 127 rfl) rfl
theorem q1212 : (Jvm.Cond.classLink "ThroughPack" (365 : Nat) "ThroughPack$Go") ∈ lw_all := lw_g (lw_at lw_m5 128 rfl) rfl
theorem q1213 : (Jvm.Cond.methodLink "ThroughPack" (367 : Nat) ({ cls := "ThroughPack$Go", name := "when", desc := "()LThroughPack$Asked;" } : Jvm.MethodName)) ∈ lw_all := lw_g (lw_at lw_m5 129 rfl) rfl
theorem q1217 : (Jvm.Cond.interfaceEntry "ThroughPack" (371 : Nat)) ∈ lw_tbl := lw_at lw_m5 133 rfl
theorem q1218 : (Jvm.Cond.methodLink "ThroughPack" (371 : Nat) ({ cls := "ThroughPack$Asked", name := "is", desc := "([I)Z" } : Jvm.MethodName)) ∈ lw_all := lw_g (lw_at lw_m5 134 rfl) rfl
theorem q1219 : (Jvm.Cond.methodLink "ThroughPack" (377 : Nat) ({ cls := "ThroughPack$Go", name := "order", desc := "()I" } : Jvm.MethodName)) ∈ lw_all := lw_g (lw_at lw_m5 135 rfl) rfl
theorem q1224 : (Jvm.Cond.instanceMethod ({ cls := "ThroughPack", name := "runs", desc := "(IIIII)I" } : Jvm.MethodName)) ∈ lw_all := lw_g (lw_at lw_m5 140 rfl) rfl
theorem q1225 : (Jvm.Cond.selects "ThroughPack" ({ cls := "ThroughPack", name := "runs", desc := "(IIIII)I" } : Jvm.MethodName) ({ cls := "ThroughPack", name := "runs", desc := "(IIIII)I" } : Jvm.MethodName)) ∈ lw_all := lw_g (lw_at lw_m5 141 rfl) rfl
theorem q1226 : (Jvm.Cond.code ({ cls := "ThroughPack", name := "runs", desc := "(IIIII)I" } : Jvm.MethodName) prog_1_method_76_code (8 : Nat) (Option.some Jvm.ClassFile.FieldType.int)) ∈ lw_all := lw_g (lw_at lw_m5 142 rfl) rfl
theorem q1228 : (Jvm.Cond.instanceMethod ({ cls := "ThroughPack", name := "image", desc := "()I" } : Jvm.MethodName)) ∈ lw_all := lw_g (lw_at lw_m5 144 rfl) rfl
theorem q1229 : (Jvm.Cond.selects "ThroughPack" ({ cls := "ThroughPack", name := "image", desc := "()I" } : Jvm.MethodName) ({ cls := "ThroughPack", name := "image", desc := "()I" } : Jvm.MethodName)) ∈ lw_all := lw_g (lw_at lw_m5 145 rfl) rfl
theorem q1230 : (Jvm.Cond.code ({ cls := "ThroughPack", name := "image", desc := "()I" } : Jvm.MethodName) prog_1_method_77_code (1 : Nat) (Option.some Jvm.ClassFile.FieldType.int)) ∈ lw_all := lw_g (lw_at lw_m5 146 rfl) rfl
theorem q1232 : (Jvm.Cond.instanceMethod ({ cls := "ThroughPack", name := "back", desc := "()I" } : Jvm.MethodName)) ∈ lw_all := lw_g (lw_at lw_m5 148 rfl) rfl
theorem q1233 : (Jvm.Cond.selects "ThroughPack" ({ cls := "ThroughPack", name := "back", desc := "()I" } : Jvm.MethodName) ({ cls := "ThroughPack", name := "back", desc := "()I" } : Jvm.MethodName)) ∈ lw_all := lw_g (lw_at lw_m5 149 rfl) rfl
theorem q1234 : (Jvm.Cond.code ({ cls := "ThroughPack", name := "back", desc := "()I" } : Jvm.MethodName) prog_1_method_78_code (1 : Nat) (Option.some Jvm.ClassFile.FieldType.int)) ∈ lw_all := lw_g (lw_at lw_m5 150 rfl) rfl
theorem q1236 : (Jvm.Cond.instanceMethod ({ cls := "ThroughPack", name := "about", desc := "(I)I" } : Jvm.MethodName)) ∈ lw_all := lw_g (lw_at lw_m5 152 rfl) rfl
theorem q1237 : (Jvm.Cond.selects "ThroughPack" ({ cls := "ThroughPack", name := "about", desc := "(I)I" } : Jvm.MethodName) ({ cls := "ThroughPack", name := "about", desc := "(I)I" } : Jvm.MethodName)) ∈ lw_all := lw_g (lw_at lw_m5 153 rfl) rfl
theorem q1238 : (Jvm.Cond.code ({ cls := "ThroughPack", name := "about", desc := "(I)I" } : Jvm.MethodName) prog_1_method_79_code (2 : Nat) (Option.some Jvm.ClassFile.FieldType.int)) ∈ lw_all := lw_g (lw_at lw_m5 154 rfl) rfl
theorem q1902 : (Jvm.Cond.castable "ThroughPack" "java/lang/Object") ∈ lw_tbl := lw_at lw_m8 98 rfl
theorem in_X1 : ∀ w ∈ wsX10, w ∈ lw_all := lw_in wsX10 [279, 281, 283, 285, 287, 289, 291, 293, 295, 297, 299, 301, 303, 305, 307, 309, 311, 313, 315, 317, 319, 321, 323] (by decide +kernel) (by decide +kernel)
