/-! ThroughPackModel -/
set_option maxRecDepth 100000
def RX3 : String := "ThroughPackModel"
def TX3 : u_T := fun k => match k with
  | 0 => ("ThroughPackModel", "wide", "I", true)
  | 1 => ("ThroughPackModel", "high", "I", true)
  | 2 => ("ThroughPackModel", "cells", "I", true)
  | 3 => ("ThroughPackModel", "a", "[I", true)
  | 4 => ("ThroughPackModel", "image", "[I", true)
  | 5 => ("ThroughPackModel", "texts", "[I", true)
  | 6 => ("ThroughPackModel", "tape", "[I", true)
  | 7 => ("ThroughPackModel", "taped", "I", false)
  | 8 => ("ThroughPackModel", "fault", "I", false)
  | 9 => ("ThroughPackModel", "faultPlace", "I", false)
  | 10 => ("ThroughPackModel", "at", "I", false)
  | 11 => ("ThroughPackModel", "place", "I", false)
  | 12 => ("ThroughPackModel", "token", "I", false)
  | 13 => ("ThroughPackModel", "number", "I", false)
  | 14 => ("ThroughPackModel", "word", "J", false)
  | 15 => ("ThroughPackModel", "text0", "I", false)
  | 16 => ("ThroughPackModel", "clauses", "I", false)
  | 17 => ("ThroughPackModel", "written", "I", false)
  | 18 => ("ThroughPackModel", "came", "I", false)
  | 19 => ("ThroughPackModel", "pile", "[I", true)
  | 20 => ("ThroughPackModel", "piled", "I", false)
  | 21 => ("ThroughPackModel", "opens", "I", false)
  | 22 => ("ThroughPackModel", "isWhole", "Z", false)
  | 23 => ("ThroughPackModel", "sort0", "I", false)
  | 24 => ("ThroughPackModel", "once", "I", false)
  | 25 => ("ThroughPackModel", "named", "[I", true)
  | 26 => ("ThroughPackModel", "values", "[J", true)
  | 27 => ("ThroughPackModel", "truth", "[Z", true)
  | 28 => ("ThroughPackModel", "seas", "[I", true)
  | 29 => ("ThroughPackModel", "push", "[I", true)
  | 30 => ("ThroughPackModel", "bites", "[Z", true)
  | 31 => ("ThroughPackModel", "out", "[I", true)
  | 32 => ("ThroughPackModel", "followed", "I", false)
  | 33 => ("ThroughPackModel", "cellAt", "[I", true)
  | 34 => ("ThroughPackModel", "coalAt", "[I", true)
  | 35 => ("ThroughPackModel", "firesAt", "[I", true)
  | 36 => ("ThroughPackModel", "homes", "[Z", true)
  | 37 => ("ThroughPackModel", "here", "[Z", true)
  | 38 => ("ThroughPackModel", "then", "[Z", true)
  | 39 => ("ThroughPackModel", "begins", "I", false)
  | 40 => ("ThroughPackModel", "keptAhead", "[I", true)
  | 41 => ("ThroughPackModel", "ranCell", "I", false)
  | 42 => ("ThroughPackModel", "ranCoal", "I", false)
  | 43 => ("ThroughPackModel", "ranBanked", "I", false)
  | 44 => ("ThroughPackModel", "ranState", "I", false)
  | 45 => ("ThroughPackModel", "ranWatches", "I", false)
  | _ => ("ThroughPackModel", "ranWind", "I", false)
def tyX3 : Nat → FieldType := fun k => match k with
  | 0 => .int
  | 1 => .int
  | 2 => .int
  | 3 => .array .int
  | 4 => .array .int
  | 5 => .array .int
  | 6 => .array .int
  | 7 => .int
  | 8 => .int
  | 9 => .int
  | 10 => .int
  | 11 => .int
  | 12 => .int
  | 13 => .int
  | 14 => .long
  | 15 => .int
  | 16 => .int
  | 17 => .int
  | 18 => .int
  | 19 => .array .int
  | 20 => .int
  | 21 => .int
  | 22 => .boolean
  | 23 => .int
  | 24 => .int
  | 25 => .array .int
  | 26 => .array .long
  | 27 => .array .boolean
  | 28 => .array .int
  | 29 => .array .int
  | 30 => .array .boolean
  | 31 => .array .int
  | 32 => .int
  | 33 => .array .int
  | 34 => .array .int
  | 35 => .array .int
  | 36 => .array .boolean
  | 37 => .array .boolean
  | 38 => .array .boolean
  | 39 => .int
  | 40 => .array .int
  | 41 => .int
  | 42 => .int
  | 43 => .int
  | 44 => .int
  | 45 => .int
  | _ => .int
abbrev wsX30 : List Cond := u_ws RX3 TX3 47
set_option maxRecDepth 100000 in
theorem nmX3 : ∀ a, a < 47 → ∀ b, b < 47 → a ≠ b → (TX3 a).2.1 ≠ (TX3 b).2.1 := by decide +kernel
set_option maxRecDepth 100000 in
theorem tyX3_ok : ∀ k, k < 47 → parseFieldDescriptor (TX3 k).2.2.1 = some (tyX3 k) := by decide +kernel
abbrev cX3_init : ByteArray := prog_17_method_1_code
def yX3_init : MethodName := ⟨RX3, "<init>", "(II)V"⟩
def dkwX3_init_16 : List UInt8 := [42, 180, 0, 13, 184, 0, 86, 177]
abbrev dktX3_init_16 : List UInt8 := dkwX3_init_16 ++ []
def dkwX3_init_15 : List UInt8 := [162, 0, 20, 42, 180, 0, 7, 17, 0, 210, 29, 96, 4, 79, 132, 3, 1, 167, 255, 236, 42, 180, 0, 7]
abbrev dktX3_init_15 : List UInt8 := dkwX3_init_15 ++ dktX3_init_16
def dkwX3_init_14 : List UInt8 := [42, 180, 0, 7, 17, 0, 195, 29, 96, 7, 79, 132, 3, 1, 167, 255, 236, 3, 62, 29, 16, 6]
abbrev dktX3_init_14 : List UInt8 := dkwX3_init_14 ++ dktX3_init_15
def dkwX3_init_13 : List UInt8 := [17, 0, 160, 8, 29, 104, 96, 16, 10, 79, 132, 3, 1, 167, 255, 234, 3, 62, 29, 16, 12, 162, 0, 20]
abbrev dktX3_init_13 : List UInt8 := dkwX3_init_13 ++ dktX3_init_14
def dkwX3_init_12 : List UInt8 := [16, 24, 4, 79, 42, 180, 0, 7, 16, 26, 16, 20, 79, 3, 62, 29, 7, 162, 0, 23, 42, 180, 0, 7]
abbrev dktX3_init_12 : List UInt8 := dkwX3_init_12 ++ dktX3_init_13
def dkwX3_init_11 : List UInt8 := [5, 79, 42, 180, 0, 7, 16, 11, 6, 79, 42, 180, 0, 7, 16, 21, 16, 20, 79, 42, 180, 0, 7]
abbrev dktX3_init_11 : List UInt8 := dkwX3_init_11 ++ dktX3_init_12
def dkwX3_init_10 : List UInt8 := [181, 0, 83, 42, 180, 0, 7, 6, 2, 79, 42, 180, 0, 7, 16, 9, 4, 79, 42, 180, 0, 7, 16, 10]
abbrev dktX3_init_10 : List UInt8 := dkwX3_init_10 ++ dktX3_init_11
def dkwX3_init_9 : List UInt8 := [16, 6, 164, 0, 8, 16, 6, 167, 0, 4, 28, 181, 0, 80, 42, 42, 180, 0, 77, 42, 180, 0, 80, 104]
abbrev dktX3_init_9 : List UInt8 := dkwX3_init_9 ++ dktX3_init_10
def dkwX3_init_8 : List UInt8 := [164, 0, 8, 16, 6, 167, 0, 4, 27, 181, 0, 77, 42, 28, 6, 162, 0, 7, 6, 167, 0, 15, 28]
abbrev dktX3_init_8 : List UInt8 := dkwX3_init_8 ++ dktX3_init_9
def dkwX3_init_7 : List UInt8 := [181, 0, 71, 42, 16, 13, 188, 10, 181, 0, 74, 42, 27, 6, 162, 0, 7, 6, 167, 0, 15, 27, 16, 6]
abbrev dktX3_init_7 : List UInt8 := dkwX3_init_7 ++ dktX3_init_8
def dkwX3_init_6 : List UInt8 := [181, 0, 62, 42, 18, 52, 188, 4, 181, 0, 65, 42, 16, 36, 188, 4, 181, 0, 68, 42, 16, 36, 188, 4]
abbrev dktX3_init_6 : List UInt8 := dkwX3_init_6 ++ dktX3_init_7
def dkwX3_init_5 : List UInt8 := [181, 0, 53, 42, 16, 13, 188, 10, 181, 0, 56, 42, 16, 13, 188, 10, 181, 0, 59, 42, 16, 13, 188, 10]
abbrev dktX3_init_5 : List UInt8 := dkwX3_init_5 ++ dktX3_init_6
def dkwX3_init_4 : List UInt8 := [17, 1, 212, 188, 10, 181, 0, 46, 42, 17, 1, 212, 188, 4, 181, 0, 49, 42, 18, 52, 188, 10]
abbrev dktX3_init_4 : List UInt8 := dkwX3_init_4 ++ dktX3_init_5
def dkwX3_init_3 : List UInt8 := [188, 11, 181, 0, 35, 42, 17, 1, 74, 188, 4, 181, 0, 39, 42, 17, 2, 208, 188, 10, 181, 0, 43, 42]
abbrev dktX3_init_3 : List UInt8 := dkwX3_init_3 ++ dktX3_init_4
def dkwX3_init_2 : List UInt8 := [181, 0, 26, 42, 17, 0, 160, 188, 10, 181, 0, 29, 42, 16, 11, 188, 10, 181, 0, 32, 42, 17, 1, 74]
abbrev dktX3_init_2 : List UInt8 := dkwX3_init_2 ++ dktX3_init_3
def dkwX3_init_1 : List UInt8 := [17, 12, 128, 188, 10, 181, 0, 16, 42, 17, 1, 44, 188, 10, 181, 0, 19, 42, 2, 181, 0, 22, 42, 2]
abbrev dktX3_init_1 : List UInt8 := dkwX3_init_1 ++ dktX3_init_2
def dkwX3_init_0 : List UInt8 := [42, 183, 0, 1, 42, 17, 1, 24, 188, 10, 181, 0, 7, 42, 17, 1, 24, 188, 10, 181, 0, 13, 42]
abbrev dktX3_init_0 : List UInt8 := dkwX3_init_0 ++ dktX3_init_1
theorem dksX3_init_0 : cX3_init.data.toList.drop 0 = dktX3_init_0 := by decide +kernel
theorem dksX3_init_1 : cX3_init.data.toList.drop 23 = dktX3_init_1 := dk_seg dksX3_init_0 23 rfl rfl
theorem dksX3_init_2 : cX3_init.data.toList.drop 47 = dktX3_init_2 := dk_seg dksX3_init_1 24 rfl rfl
theorem dksX3_init_3 : cX3_init.data.toList.drop 71 = dktX3_init_3 := dk_seg dksX3_init_2 24 rfl rfl
theorem dksX3_init_4 : cX3_init.data.toList.drop 95 = dktX3_init_4 := dk_seg dksX3_init_3 24 rfl rfl
theorem dksX3_init_5 : cX3_init.data.toList.drop 117 = dktX3_init_5 := dk_seg dksX3_init_4 22 rfl rfl
theorem dksX3_init_6 : cX3_init.data.toList.drop 141 = dktX3_init_6 := dk_seg dksX3_init_5 24 rfl rfl
theorem dksX3_init_7 : cX3_init.data.toList.drop 165 = dktX3_init_7 := dk_seg dksX3_init_6 24 rfl rfl
theorem dksX3_init_8 : cX3_init.data.toList.drop 189 = dktX3_init_8 := dk_seg dksX3_init_7 24 rfl rfl
theorem dksX3_init_9 : cX3_init.data.toList.drop 212 = dktX3_init_9 := dk_seg dksX3_init_8 23 rfl rfl
theorem dksX3_init_10 : cX3_init.data.toList.drop 236 = dktX3_init_10 := dk_seg dksX3_init_9 24 rfl rfl
theorem dksX3_init_11 : cX3_init.data.toList.drop 260 = dktX3_init_11 := dk_seg dksX3_init_10 24 rfl rfl
theorem dksX3_init_12 : cX3_init.data.toList.drop 283 = dktX3_init_12 := dk_seg dksX3_init_11 23 rfl rfl
theorem dksX3_init_13 : cX3_init.data.toList.drop 307 = dktX3_init_13 := dk_seg dksX3_init_12 24 rfl rfl
theorem dksX3_init_14 : cX3_init.data.toList.drop 331 = dktX3_init_14 := dk_seg dksX3_init_13 24 rfl rfl
theorem dksX3_init_15 : cX3_init.data.toList.drop 353 = dktX3_init_15 := dk_seg dksX3_init_14 22 rfl rfl
theorem dksX3_init_16 : cX3_init.data.toList.drop 377 = dktX3_init_16 := dk_seg dksX3_init_15 24 rfl rfl
theorem dX3_init_0 : decode cX3_init 0 = .ok (.aload_n 0, 1) := dk_42 (dk_at dksX3_init_0 0 rfl rfl)
theorem dX3_init_1 : decode cX3_init 1 = .ok (.invokespecial 1, 3) := dk_183 0 1 (dk_at dksX3_init_0 1 rfl rfl)
theorem dX3_init_4 : decode cX3_init 4 = .ok (.aload_n 0, 1) := dk_42 (dk_at dksX3_init_0 4 rfl rfl)
theorem dX3_init_5 : decode cX3_init 5 = .ok (.sipush 280, 3) := dk_17 1 24 (dk_at dksX3_init_0 5 rfl rfl)
theorem dX3_init_8 : decode cX3_init 8 = .ok (.newarray .int, 2) := dk_188_10 (dk_at dksX3_init_0 8 rfl rfl)
theorem dX3_init_10 : decode cX3_init 10 = .ok (.putfield 7, 3) := dk_181 0 7 (dk_at dksX3_init_0 10 rfl rfl)
theorem dX3_init_13 : decode cX3_init 13 = .ok (.aload_n 0, 1) := dk_42 (dk_at dksX3_init_0 13 rfl rfl)
theorem dX3_init_14 : decode cX3_init 14 = .ok (.sipush 280, 3) := dk_17 1 24 (dk_at dksX3_init_0 14 rfl rfl)
theorem dX3_init_17 : decode cX3_init 17 = .ok (.newarray .int, 2) := dk_188_10 (dk_at dksX3_init_0 17 rfl rfl)
theorem dX3_init_19 : decode cX3_init 19 = .ok (.putfield 13, 3) := dk_181 0 13 (dk_at dksX3_init_0 19 rfl rfl)
theorem dX3_init_22 : decode cX3_init 22 = .ok (.aload_n 0, 1) := dk_42 (dk_at dksX3_init_0 22 rfl rfl)
theorem dX3_init_23 : decode cX3_init 23 = .ok (.sipush 3200, 3) := dk_17 12 128 (dk_at dksX3_init_1 0 rfl rfl)
theorem dX3_init_26 : decode cX3_init 26 = .ok (.newarray .int, 2) := dk_188_10 (dk_at dksX3_init_1 3 rfl rfl)
theorem dX3_init_28 : decode cX3_init 28 = .ok (.putfield 16, 3) := dk_181 0 16 (dk_at dksX3_init_1 5 rfl rfl)
theorem dX3_init_31 : decode cX3_init 31 = .ok (.aload_n 0, 1) := dk_42 (dk_at dksX3_init_1 8 rfl rfl)
theorem dX3_init_32 : decode cX3_init 32 = .ok (.sipush 300, 3) := dk_17 1 44 (dk_at dksX3_init_1 9 rfl rfl)
theorem dX3_init_35 : decode cX3_init 35 = .ok (.newarray .int, 2) := dk_188_10 (dk_at dksX3_init_1 12 rfl rfl)
theorem dX3_init_37 : decode cX3_init 37 = .ok (.putfield 19, 3) := dk_181 0 19 (dk_at dksX3_init_1 14 rfl rfl)
theorem dX3_init_40 : decode cX3_init 40 = .ok (.aload_n 0, 1) := dk_42 (dk_at dksX3_init_1 17 rfl rfl)
theorem dX3_init_41 : decode cX3_init 41 = .ok (.iconst (-1), 1) := dk_2 (dk_at dksX3_init_1 18 rfl rfl)
theorem dX3_init_42 : decode cX3_init 42 = .ok (.putfield 22, 3) := dk_181 0 22 (dk_at dksX3_init_1 19 rfl rfl)
theorem dX3_init_45 : decode cX3_init 45 = .ok (.aload_n 0, 1) := dk_42 (dk_at dksX3_init_1 22 rfl rfl)
theorem dX3_init_46 : decode cX3_init 46 = .ok (.iconst (-1), 1) := dk_2 (dk_at dksX3_init_1 23 rfl rfl)
theorem dX3_init_47 : decode cX3_init 47 = .ok (.putfield 26, 3) := dk_181 0 26 (dk_at dksX3_init_2 0 rfl rfl)
theorem dX3_init_50 : decode cX3_init 50 = .ok (.aload_n 0, 1) := dk_42 (dk_at dksX3_init_2 3 rfl rfl)
theorem dX3_init_51 : decode cX3_init 51 = .ok (.sipush 160, 3) := dk_17 0 160 (dk_at dksX3_init_2 4 rfl rfl)
theorem dX3_init_54 : decode cX3_init 54 = .ok (.newarray .int, 2) := dk_188_10 (dk_at dksX3_init_2 7 rfl rfl)
theorem dX3_init_56 : decode cX3_init 56 = .ok (.putfield 29, 3) := dk_181 0 29 (dk_at dksX3_init_2 9 rfl rfl)
theorem dX3_init_59 : decode cX3_init 59 = .ok (.aload_n 0, 1) := dk_42 (dk_at dksX3_init_2 12 rfl rfl)
theorem dX3_init_60 : decode cX3_init 60 = .ok (.bipush 11, 2) := dk_16 11 (dk_at dksX3_init_2 13 rfl rfl)
theorem dX3_init_62 : decode cX3_init 62 = .ok (.newarray .int, 2) := dk_188_10 (dk_at dksX3_init_2 15 rfl rfl)
theorem dX3_init_64 : decode cX3_init 64 = .ok (.putfield 32, 3) := dk_181 0 32 (dk_at dksX3_init_2 17 rfl rfl)
theorem dX3_init_67 : decode cX3_init 67 = .ok (.aload_n 0, 1) := dk_42 (dk_at dksX3_init_2 20 rfl rfl)
theorem dX3_init_68 : decode cX3_init 68 = .ok (.sipush 330, 3) := dk_17 1 74 (dk_at dksX3_init_2 21 rfl rfl)
theorem dX3_init_71 : decode cX3_init 71 = .ok (.newarray .long, 2) := dk_188_11 (dk_at dksX3_init_3 0 rfl rfl)
theorem dX3_init_73 : decode cX3_init 73 = .ok (.putfield 35, 3) := dk_181 0 35 (dk_at dksX3_init_3 2 rfl rfl)
theorem dX3_init_76 : decode cX3_init 76 = .ok (.aload_n 0, 1) := dk_42 (dk_at dksX3_init_3 5 rfl rfl)
theorem dX3_init_77 : decode cX3_init 77 = .ok (.sipush 330, 3) := dk_17 1 74 (dk_at dksX3_init_3 6 rfl rfl)
theorem dX3_init_80 : decode cX3_init 80 = .ok (.newarray .boolean, 2) := dk_188_4 (dk_at dksX3_init_3 9 rfl rfl)
theorem dX3_init_82 : decode cX3_init 82 = .ok (.putfield 39, 3) := dk_181 0 39 (dk_at dksX3_init_3 11 rfl rfl)
theorem dX3_init_85 : decode cX3_init 85 = .ok (.aload_n 0, 1) := dk_42 (dk_at dksX3_init_3 14 rfl rfl)
theorem dX3_init_86 : decode cX3_init 86 = .ok (.sipush 720, 3) := dk_17 2 208 (dk_at dksX3_init_3 15 rfl rfl)
theorem dX3_init_89 : decode cX3_init 89 = .ok (.newarray .int, 2) := dk_188_10 (dk_at dksX3_init_3 18 rfl rfl)
theorem dX3_init_91 : decode cX3_init 91 = .ok (.putfield 43, 3) := dk_181 0 43 (dk_at dksX3_init_3 20 rfl rfl)
theorem dX3_init_94 : decode cX3_init 94 = .ok (.aload_n 0, 1) := dk_42 (dk_at dksX3_init_3 23 rfl rfl)
theorem dX3_init_95 : decode cX3_init 95 = .ok (.sipush 468, 3) := dk_17 1 212 (dk_at dksX3_init_4 0 rfl rfl)
theorem dX3_init_98 : decode cX3_init 98 = .ok (.newarray .int, 2) := dk_188_10 (dk_at dksX3_init_4 3 rfl rfl)
theorem dX3_init_100 : decode cX3_init 100 = .ok (.putfield 46, 3) := dk_181 0 46 (dk_at dksX3_init_4 5 rfl rfl)
theorem dX3_init_103 : decode cX3_init 103 = .ok (.aload_n 0, 1) := dk_42 (dk_at dksX3_init_4 8 rfl rfl)
theorem dX3_init_104 : decode cX3_init 104 = .ok (.sipush 468, 3) := dk_17 1 212 (dk_at dksX3_init_4 9 rfl rfl)
theorem dX3_init_107 : decode cX3_init 107 = .ok (.newarray .boolean, 2) := dk_188_4 (dk_at dksX3_init_4 12 rfl rfl)
theorem dX3_init_109 : decode cX3_init 109 = .ok (.putfield 49, 3) := dk_181 0 49 (dk_at dksX3_init_4 14 rfl rfl)
theorem dX3_init_112 : decode cX3_init 112 = .ok (.aload_n 0, 1) := dk_42 (dk_at dksX3_init_4 17 rfl rfl)
theorem dX3_init_113 : decode cX3_init 113 = .ok (.ldc 52, 2) := dk_18 52 (dk_at dksX3_init_4 18 rfl rfl)
theorem dX3_init_115 : decode cX3_init 115 = .ok (.newarray .int, 2) := dk_188_10 (dk_at dksX3_init_4 20 rfl rfl)
theorem dX3_init_117 : decode cX3_init 117 = .ok (.putfield 53, 3) := dk_181 0 53 (dk_at dksX3_init_5 0 rfl rfl)
theorem dX3_init_120 : decode cX3_init 120 = .ok (.aload_n 0, 1) := dk_42 (dk_at dksX3_init_5 3 rfl rfl)
theorem dX3_init_121 : decode cX3_init 121 = .ok (.bipush 13, 2) := dk_16 13 (dk_at dksX3_init_5 4 rfl rfl)
theorem dX3_init_123 : decode cX3_init 123 = .ok (.newarray .int, 2) := dk_188_10 (dk_at dksX3_init_5 6 rfl rfl)
theorem dX3_init_125 : decode cX3_init 125 = .ok (.putfield 56, 3) := dk_181 0 56 (dk_at dksX3_init_5 8 rfl rfl)
theorem dX3_init_128 : decode cX3_init 128 = .ok (.aload_n 0, 1) := dk_42 (dk_at dksX3_init_5 11 rfl rfl)
theorem dX3_init_129 : decode cX3_init 129 = .ok (.bipush 13, 2) := dk_16 13 (dk_at dksX3_init_5 12 rfl rfl)
theorem dX3_init_131 : decode cX3_init 131 = .ok (.newarray .int, 2) := dk_188_10 (dk_at dksX3_init_5 14 rfl rfl)
theorem dX3_init_133 : decode cX3_init 133 = .ok (.putfield 59, 3) := dk_181 0 59 (dk_at dksX3_init_5 16 rfl rfl)
theorem dX3_init_136 : decode cX3_init 136 = .ok (.aload_n 0, 1) := dk_42 (dk_at dksX3_init_5 19 rfl rfl)
theorem dX3_init_137 : decode cX3_init 137 = .ok (.bipush 13, 2) := dk_16 13 (dk_at dksX3_init_5 20 rfl rfl)
theorem dX3_init_139 : decode cX3_init 139 = .ok (.newarray .int, 2) := dk_188_10 (dk_at dksX3_init_5 22 rfl rfl)
theorem dX3_init_141 : decode cX3_init 141 = .ok (.putfield 62, 3) := dk_181 0 62 (dk_at dksX3_init_6 0 rfl rfl)
theorem dX3_init_144 : decode cX3_init 144 = .ok (.aload_n 0, 1) := dk_42 (dk_at dksX3_init_6 3 rfl rfl)
theorem dX3_init_145 : decode cX3_init 145 = .ok (.ldc 52, 2) := dk_18 52 (dk_at dksX3_init_6 4 rfl rfl)
theorem dX3_init_147 : decode cX3_init 147 = .ok (.newarray .boolean, 2) := dk_188_4 (dk_at dksX3_init_6 6 rfl rfl)
theorem dX3_init_149 : decode cX3_init 149 = .ok (.putfield 65, 3) := dk_181 0 65 (dk_at dksX3_init_6 8 rfl rfl)
theorem dX3_init_152 : decode cX3_init 152 = .ok (.aload_n 0, 1) := dk_42 (dk_at dksX3_init_6 11 rfl rfl)
theorem dX3_init_153 : decode cX3_init 153 = .ok (.bipush 36, 2) := dk_16 36 (dk_at dksX3_init_6 12 rfl rfl)
theorem dX3_init_155 : decode cX3_init 155 = .ok (.newarray .boolean, 2) := dk_188_4 (dk_at dksX3_init_6 14 rfl rfl)
theorem dX3_init_157 : decode cX3_init 157 = .ok (.putfield 68, 3) := dk_181 0 68 (dk_at dksX3_init_6 16 rfl rfl)
theorem dX3_init_160 : decode cX3_init 160 = .ok (.aload_n 0, 1) := dk_42 (dk_at dksX3_init_6 19 rfl rfl)
theorem dX3_init_161 : decode cX3_init 161 = .ok (.bipush 36, 2) := dk_16 36 (dk_at dksX3_init_6 20 rfl rfl)
theorem dX3_init_163 : decode cX3_init 163 = .ok (.newarray .boolean, 2) := dk_188_4 (dk_at dksX3_init_6 22 rfl rfl)
theorem dX3_init_165 : decode cX3_init 165 = .ok (.putfield 71, 3) := dk_181 0 71 (dk_at dksX3_init_7 0 rfl rfl)
theorem dX3_init_168 : decode cX3_init 168 = .ok (.aload_n 0, 1) := dk_42 (dk_at dksX3_init_7 3 rfl rfl)
theorem dX3_init_169 : decode cX3_init 169 = .ok (.bipush 13, 2) := dk_16 13 (dk_at dksX3_init_7 4 rfl rfl)
theorem dX3_init_171 : decode cX3_init 171 = .ok (.newarray .int, 2) := dk_188_10 (dk_at dksX3_init_7 6 rfl rfl)
theorem dX3_init_173 : decode cX3_init 173 = .ok (.putfield 74, 3) := dk_181 0 74 (dk_at dksX3_init_7 8 rfl rfl)
theorem dX3_init_176 : decode cX3_init 176 = .ok (.aload_n 0, 1) := dk_42 (dk_at dksX3_init_7 11 rfl rfl)
theorem dX3_init_177 : decode cX3_init 177 = .ok (.iload_n 1, 1) := dk_27 (dk_at dksX3_init_7 12 rfl rfl)
theorem dX3_init_178 : decode cX3_init 178 = .ok (.iconst 3, 1) := dk_6 (dk_at dksX3_init_7 13 rfl rfl)
theorem dX3_init_179 : decode cX3_init 179 = .ok (.if_icmp .ge 7, 3) := dk_162 0 7 (dk_at dksX3_init_7 14 rfl rfl)
theorem dX3_init_182 : decode cX3_init 182 = .ok (.iconst 3, 1) := dk_6 (dk_at dksX3_init_7 17 rfl rfl)
theorem dX3_init_183 : decode cX3_init 183 = .ok (.goto 15, 3) := dk_167 0 15 (dk_at dksX3_init_7 18 rfl rfl)
theorem dX3_init_186 : decode cX3_init 186 = .ok (.iload_n 1, 1) := dk_27 (dk_at dksX3_init_7 21 rfl rfl)
theorem dX3_init_187 : decode cX3_init 187 = .ok (.bipush 6, 2) := dk_16 6 (dk_at dksX3_init_7 22 rfl rfl)
theorem dX3_init_189 : decode cX3_init 189 = .ok (.if_icmp .le 8, 3) := dk_164 0 8 (dk_at dksX3_init_8 0 rfl rfl)
theorem dX3_init_192 : decode cX3_init 192 = .ok (.bipush 6, 2) := dk_16 6 (dk_at dksX3_init_8 3 rfl rfl)
theorem dX3_init_194 : decode cX3_init 194 = .ok (.goto 4, 3) := dk_167 0 4 (dk_at dksX3_init_8 5 rfl rfl)
theorem dX3_init_197 : decode cX3_init 197 = .ok (.iload_n 1, 1) := dk_27 (dk_at dksX3_init_8 8 rfl rfl)
theorem dX3_init_198 : decode cX3_init 198 = .ok (.putfield 77, 3) := dk_181 0 77 (dk_at dksX3_init_8 9 rfl rfl)
theorem dX3_init_201 : decode cX3_init 201 = .ok (.aload_n 0, 1) := dk_42 (dk_at dksX3_init_8 12 rfl rfl)
theorem dX3_init_202 : decode cX3_init 202 = .ok (.iload_n 2, 1) := dk_28 (dk_at dksX3_init_8 13 rfl rfl)
theorem dX3_init_203 : decode cX3_init 203 = .ok (.iconst 3, 1) := dk_6 (dk_at dksX3_init_8 14 rfl rfl)
theorem dX3_init_204 : decode cX3_init 204 = .ok (.if_icmp .ge 7, 3) := dk_162 0 7 (dk_at dksX3_init_8 15 rfl rfl)
theorem dX3_init_207 : decode cX3_init 207 = .ok (.iconst 3, 1) := dk_6 (dk_at dksX3_init_8 18 rfl rfl)
theorem dX3_init_208 : decode cX3_init 208 = .ok (.goto 15, 3) := dk_167 0 15 (dk_at dksX3_init_8 19 rfl rfl)
theorem dX3_init_211 : decode cX3_init 211 = .ok (.iload_n 2, 1) := dk_28 (dk_at dksX3_init_8 22 rfl rfl)
theorem dX3_init_212 : decode cX3_init 212 = .ok (.bipush 6, 2) := dk_16 6 (dk_at dksX3_init_9 0 rfl rfl)
theorem dX3_init_214 : decode cX3_init 214 = .ok (.if_icmp .le 8, 3) := dk_164 0 8 (dk_at dksX3_init_9 2 rfl rfl)
theorem dX3_init_217 : decode cX3_init 217 = .ok (.bipush 6, 2) := dk_16 6 (dk_at dksX3_init_9 5 rfl rfl)
theorem dX3_init_219 : decode cX3_init 219 = .ok (.goto 4, 3) := dk_167 0 4 (dk_at dksX3_init_9 7 rfl rfl)
theorem dX3_init_222 : decode cX3_init 222 = .ok (.iload_n 2, 1) := dk_28 (dk_at dksX3_init_9 10 rfl rfl)
theorem dX3_init_223 : decode cX3_init 223 = .ok (.putfield 80, 3) := dk_181 0 80 (dk_at dksX3_init_9 11 rfl rfl)
theorem dX3_init_226 : decode cX3_init 226 = .ok (.aload_n 0, 1) := dk_42 (dk_at dksX3_init_9 14 rfl rfl)
theorem dX3_init_227 : decode cX3_init 227 = .ok (.aload_n 0, 1) := dk_42 (dk_at dksX3_init_9 15 rfl rfl)
theorem dX3_init_228 : decode cX3_init 228 = .ok (.getfield 77, 3) := dk_180 0 77 (dk_at dksX3_init_9 16 rfl rfl)
theorem dX3_init_231 : decode cX3_init 231 = .ok (.aload_n 0, 1) := dk_42 (dk_at dksX3_init_9 19 rfl rfl)
theorem dX3_init_232 : decode cX3_init 232 = .ok (.getfield 80, 3) := dk_180 0 80 (dk_at dksX3_init_9 20 rfl rfl)
theorem dX3_init_235 : decode cX3_init 235 = .ok (.imul, 1) := dk_104 (dk_at dksX3_init_9 23 rfl rfl)
theorem dX3_init_236 : decode cX3_init 236 = .ok (.putfield 83, 3) := dk_181 0 83 (dk_at dksX3_init_10 0 rfl rfl)
theorem dX3_init_239 : decode cX3_init 239 = .ok (.aload_n 0, 1) := dk_42 (dk_at dksX3_init_10 3 rfl rfl)
theorem dX3_init_240 : decode cX3_init 240 = .ok (.getfield 7, 3) := dk_180 0 7 (dk_at dksX3_init_10 4 rfl rfl)
theorem dX3_init_243 : decode cX3_init 243 = .ok (.iconst 3, 1) := dk_6 (dk_at dksX3_init_10 7 rfl rfl)
theorem dX3_init_244 : decode cX3_init 244 = .ok (.iconst (-1), 1) := dk_2 (dk_at dksX3_init_10 8 rfl rfl)
theorem dX3_init_245 : decode cX3_init 245 = .ok (.iastore, 1) := dk_79 (dk_at dksX3_init_10 9 rfl rfl)
theorem dX3_init_246 : decode cX3_init 246 = .ok (.aload_n 0, 1) := dk_42 (dk_at dksX3_init_10 10 rfl rfl)
theorem dX3_init_247 : decode cX3_init 247 = .ok (.getfield 7, 3) := dk_180 0 7 (dk_at dksX3_init_10 11 rfl rfl)
theorem dX3_init_250 : decode cX3_init 250 = .ok (.bipush 9, 2) := dk_16 9 (dk_at dksX3_init_10 14 rfl rfl)
theorem dX3_init_252 : decode cX3_init 252 = .ok (.iconst 1, 1) := dk_4 (dk_at dksX3_init_10 16 rfl rfl)
theorem dX3_init_253 : decode cX3_init 253 = .ok (.iastore, 1) := dk_79 (dk_at dksX3_init_10 17 rfl rfl)
theorem dX3_init_254 : decode cX3_init 254 = .ok (.aload_n 0, 1) := dk_42 (dk_at dksX3_init_10 18 rfl rfl)
theorem dX3_init_255 : decode cX3_init 255 = .ok (.getfield 7, 3) := dk_180 0 7 (dk_at dksX3_init_10 19 rfl rfl)
theorem dX3_init_258 : decode cX3_init 258 = .ok (.bipush 10, 2) := dk_16 10 (dk_at dksX3_init_10 22 rfl rfl)
theorem dX3_init_260 : decode cX3_init 260 = .ok (.iconst 2, 1) := dk_5 (dk_at dksX3_init_11 0 rfl rfl)
theorem dX3_init_261 : decode cX3_init 261 = .ok (.iastore, 1) := dk_79 (dk_at dksX3_init_11 1 rfl rfl)
theorem dX3_init_262 : decode cX3_init 262 = .ok (.aload_n 0, 1) := dk_42 (dk_at dksX3_init_11 2 rfl rfl)
theorem dX3_init_263 : decode cX3_init 263 = .ok (.getfield 7, 3) := dk_180 0 7 (dk_at dksX3_init_11 3 rfl rfl)
theorem dX3_init_266 : decode cX3_init 266 = .ok (.bipush 11, 2) := dk_16 11 (dk_at dksX3_init_11 6 rfl rfl)
theorem dX3_init_268 : decode cX3_init 268 = .ok (.iconst 3, 1) := dk_6 (dk_at dksX3_init_11 8 rfl rfl)
theorem dX3_init_269 : decode cX3_init 269 = .ok (.iastore, 1) := dk_79 (dk_at dksX3_init_11 9 rfl rfl)
theorem dX3_init_270 : decode cX3_init 270 = .ok (.aload_n 0, 1) := dk_42 (dk_at dksX3_init_11 10 rfl rfl)
theorem dX3_init_271 : decode cX3_init 271 = .ok (.getfield 7, 3) := dk_180 0 7 (dk_at dksX3_init_11 11 rfl rfl)
theorem dX3_init_274 : decode cX3_init 274 = .ok (.bipush 21, 2) := dk_16 21 (dk_at dksX3_init_11 14 rfl rfl)
theorem dX3_init_276 : decode cX3_init 276 = .ok (.bipush 20, 2) := dk_16 20 (dk_at dksX3_init_11 16 rfl rfl)
theorem dX3_init_278 : decode cX3_init 278 = .ok (.iastore, 1) := dk_79 (dk_at dksX3_init_11 18 rfl rfl)
theorem dX3_init_279 : decode cX3_init 279 = .ok (.aload_n 0, 1) := dk_42 (dk_at dksX3_init_11 19 rfl rfl)
theorem dX3_init_280 : decode cX3_init 280 = .ok (.getfield 7, 3) := dk_180 0 7 (dk_at dksX3_init_11 20 rfl rfl)
theorem dX3_init_283 : decode cX3_init 283 = .ok (.bipush 24, 2) := dk_16 24 (dk_at dksX3_init_12 0 rfl rfl)
theorem dX3_init_285 : decode cX3_init 285 = .ok (.iconst 1, 1) := dk_4 (dk_at dksX3_init_12 2 rfl rfl)
theorem dX3_init_286 : decode cX3_init 286 = .ok (.iastore, 1) := dk_79 (dk_at dksX3_init_12 3 rfl rfl)
theorem dX3_init_287 : decode cX3_init 287 = .ok (.aload_n 0, 1) := dk_42 (dk_at dksX3_init_12 4 rfl rfl)
theorem dX3_init_288 : decode cX3_init 288 = .ok (.getfield 7, 3) := dk_180 0 7 (dk_at dksX3_init_12 5 rfl rfl)
theorem dX3_init_291 : decode cX3_init 291 = .ok (.bipush 26, 2) := dk_16 26 (dk_at dksX3_init_12 8 rfl rfl)
theorem dX3_init_293 : decode cX3_init 293 = .ok (.bipush 20, 2) := dk_16 20 (dk_at dksX3_init_12 10 rfl rfl)
theorem dX3_init_295 : decode cX3_init 295 = .ok (.iastore, 1) := dk_79 (dk_at dksX3_init_12 12 rfl rfl)
theorem dX3_init_296 : decode cX3_init 296 = .ok (.iconst 0, 1) := dk_3 (dk_at dksX3_init_12 13 rfl rfl)
theorem dX3_init_297 : decode cX3_init 297 = .ok (.istore_n 3, 1) := dk_62 (dk_at dksX3_init_12 14 rfl rfl)
theorem dX3_init_298 : decode cX3_init 298 = .ok (.iload_n 3, 1) := dk_29 (dk_at dksX3_init_12 15 rfl rfl)
theorem dX3_init_299 : decode cX3_init 299 = .ok (.iconst 4, 1) := dk_7 (dk_at dksX3_init_12 16 rfl rfl)
theorem dX3_init_300 : decode cX3_init 300 = .ok (.if_icmp .ge 23, 3) := dk_162 0 23 (dk_at dksX3_init_12 17 rfl rfl)
theorem dX3_init_303 : decode cX3_init 303 = .ok (.aload_n 0, 1) := dk_42 (dk_at dksX3_init_12 20 rfl rfl)
theorem dX3_init_304 : decode cX3_init 304 = .ok (.getfield 7, 3) := dk_180 0 7 (dk_at dksX3_init_12 21 rfl rfl)
theorem dX3_init_307 : decode cX3_init 307 = .ok (.sipush 160, 3) := dk_17 0 160 (dk_at dksX3_init_13 0 rfl rfl)
theorem dX3_init_310 : decode cX3_init 310 = .ok (.iconst 5, 1) := dk_8 (dk_at dksX3_init_13 3 rfl rfl)
theorem dX3_init_311 : decode cX3_init 311 = .ok (.iload_n 3, 1) := dk_29 (dk_at dksX3_init_13 4 rfl rfl)
theorem dX3_init_312 : decode cX3_init 312 = .ok (.imul, 1) := dk_104 (dk_at dksX3_init_13 5 rfl rfl)
theorem dX3_init_313 : decode cX3_init 313 = .ok (.iadd, 1) := dk_96 (dk_at dksX3_init_13 6 rfl rfl)
theorem dX3_init_314 : decode cX3_init 314 = .ok (.bipush 10, 2) := dk_16 10 (dk_at dksX3_init_13 7 rfl rfl)
theorem dX3_init_316 : decode cX3_init 316 = .ok (.iastore, 1) := dk_79 (dk_at dksX3_init_13 9 rfl rfl)
theorem dX3_init_317 : decode cX3_init 317 = .ok (.iinc 3 1, 3) := dk_132 3 1 (dk_at dksX3_init_13 10 rfl rfl)
theorem dX3_init_320 : decode cX3_init 320 = .ok (.goto (-22), 3) := dk_167 255 234 (dk_at dksX3_init_13 13 rfl rfl)
theorem dX3_init_323 : decode cX3_init 323 = .ok (.iconst 0, 1) := dk_3 (dk_at dksX3_init_13 16 rfl rfl)
theorem dX3_init_324 : decode cX3_init 324 = .ok (.istore_n 3, 1) := dk_62 (dk_at dksX3_init_13 17 rfl rfl)
theorem dX3_init_325 : decode cX3_init 325 = .ok (.iload_n 3, 1) := dk_29 (dk_at dksX3_init_13 18 rfl rfl)
theorem dX3_init_326 : decode cX3_init 326 = .ok (.bipush 12, 2) := dk_16 12 (dk_at dksX3_init_13 19 rfl rfl)
theorem dX3_init_328 : decode cX3_init 328 = .ok (.if_icmp .ge 20, 3) := dk_162 0 20 (dk_at dksX3_init_13 21 rfl rfl)
theorem dX3_init_331 : decode cX3_init 331 = .ok (.aload_n 0, 1) := dk_42 (dk_at dksX3_init_14 0 rfl rfl)
theorem dX3_init_332 : decode cX3_init 332 = .ok (.getfield 7, 3) := dk_180 0 7 (dk_at dksX3_init_14 1 rfl rfl)
theorem dX3_init_335 : decode cX3_init 335 = .ok (.sipush 195, 3) := dk_17 0 195 (dk_at dksX3_init_14 4 rfl rfl)
theorem dX3_init_338 : decode cX3_init 338 = .ok (.iload_n 3, 1) := dk_29 (dk_at dksX3_init_14 7 rfl rfl)
theorem dX3_init_339 : decode cX3_init 339 = .ok (.iadd, 1) := dk_96 (dk_at dksX3_init_14 8 rfl rfl)
theorem dX3_init_340 : decode cX3_init 340 = .ok (.iconst 4, 1) := dk_7 (dk_at dksX3_init_14 9 rfl rfl)
theorem dX3_init_341 : decode cX3_init 341 = .ok (.iastore, 1) := dk_79 (dk_at dksX3_init_14 10 rfl rfl)
theorem dX3_init_342 : decode cX3_init 342 = .ok (.iinc 3 1, 3) := dk_132 3 1 (dk_at dksX3_init_14 11 rfl rfl)
theorem dX3_init_345 : decode cX3_init 345 = .ok (.goto (-20), 3) := dk_167 255 236 (dk_at dksX3_init_14 14 rfl rfl)
theorem dX3_init_348 : decode cX3_init 348 = .ok (.iconst 0, 1) := dk_3 (dk_at dksX3_init_14 17 rfl rfl)
theorem dX3_init_349 : decode cX3_init 349 = .ok (.istore_n 3, 1) := dk_62 (dk_at dksX3_init_14 18 rfl rfl)
theorem dX3_init_350 : decode cX3_init 350 = .ok (.iload_n 3, 1) := dk_29 (dk_at dksX3_init_14 19 rfl rfl)
theorem dX3_init_351 : decode cX3_init 351 = .ok (.bipush 6, 2) := dk_16 6 (dk_at dksX3_init_14 20 rfl rfl)
theorem dX3_init_353 : decode cX3_init 353 = .ok (.if_icmp .ge 20, 3) := dk_162 0 20 (dk_at dksX3_init_15 0 rfl rfl)
theorem dX3_init_356 : decode cX3_init 356 = .ok (.aload_n 0, 1) := dk_42 (dk_at dksX3_init_15 3 rfl rfl)
theorem dX3_init_357 : decode cX3_init 357 = .ok (.getfield 7, 3) := dk_180 0 7 (dk_at dksX3_init_15 4 rfl rfl)
theorem dX3_init_360 : decode cX3_init 360 = .ok (.sipush 210, 3) := dk_17 0 210 (dk_at dksX3_init_15 7 rfl rfl)
theorem dX3_init_363 : decode cX3_init 363 = .ok (.iload_n 3, 1) := dk_29 (dk_at dksX3_init_15 10 rfl rfl)
theorem dX3_init_364 : decode cX3_init 364 = .ok (.iadd, 1) := dk_96 (dk_at dksX3_init_15 11 rfl rfl)
theorem dX3_init_365 : decode cX3_init 365 = .ok (.iconst 1, 1) := dk_4 (dk_at dksX3_init_15 12 rfl rfl)
theorem dX3_init_366 : decode cX3_init 366 = .ok (.iastore, 1) := dk_79 (dk_at dksX3_init_15 13 rfl rfl)
theorem dX3_init_367 : decode cX3_init 367 = .ok (.iinc 3 1, 3) := dk_132 3 1 (dk_at dksX3_init_15 14 rfl rfl)
theorem dX3_init_370 : decode cX3_init 370 = .ok (.goto (-20), 3) := dk_167 255 236 (dk_at dksX3_init_15 17 rfl rfl)
theorem dX3_init_373 : decode cX3_init 373 = .ok (.aload_n 0, 1) := dk_42 (dk_at dksX3_init_15 20 rfl rfl)
theorem dX3_init_374 : decode cX3_init 374 = .ok (.getfield 7, 3) := dk_180 0 7 (dk_at dksX3_init_15 21 rfl rfl)
theorem dX3_init_377 : decode cX3_init 377 = .ok (.aload_n 0, 1) := dk_42 (dk_at dksX3_init_16 0 rfl rfl)
theorem dX3_init_378 : decode cX3_init 378 = .ok (.getfield 13, 3) := dk_180 0 13 (dk_at dksX3_init_16 1 rfl rfl)
theorem dX3_init_381 : decode cX3_init 381 = .ok (.invokestatic 86, 3) := dk_184 0 86 (dk_at dksX3_init_16 4 rfl rfl)
theorem dX3_init_384 : decode cX3_init 384 = .ok (.return_, 1) := dk_177 (dk_at dksX3_init_16 7 rfl rfl)
abbrev cX3_copyRow : ByteArray := prog_17_method_2_code
def yX3_copyRow : MethodName := ⟨RX3, "copyRow", "([I[I)V"⟩
def dkwX3_copyRow_0 : List UInt8 := [3, 61, 28, 17, 1, 24, 162, 0, 15, 43, 28, 42, 28, 46, 79, 132, 2, 1, 167, 255, 240, 177]
abbrev dktX3_copyRow_0 : List UInt8 := dkwX3_copyRow_0 ++ []
theorem dksX3_copyRow_0 : cX3_copyRow.data.toList.drop 0 = dktX3_copyRow_0 := by decide +kernel
theorem dX3_copyRow_0 : decode cX3_copyRow 0 = .ok (.iconst 0, 1) := dk_3 (dk_at dksX3_copyRow_0 0 rfl rfl)
theorem dX3_copyRow_1 : decode cX3_copyRow 1 = .ok (.istore_n 2, 1) := dk_61 (dk_at dksX3_copyRow_0 1 rfl rfl)
theorem dX3_copyRow_2 : decode cX3_copyRow 2 = .ok (.iload_n 2, 1) := dk_28 (dk_at dksX3_copyRow_0 2 rfl rfl)
theorem dX3_copyRow_3 : decode cX3_copyRow 3 = .ok (.sipush 280, 3) := dk_17 1 24 (dk_at dksX3_copyRow_0 3 rfl rfl)
theorem dX3_copyRow_6 : decode cX3_copyRow 6 = .ok (.if_icmp .ge 15, 3) := dk_162 0 15 (dk_at dksX3_copyRow_0 6 rfl rfl)
theorem dX3_copyRow_9 : decode cX3_copyRow 9 = .ok (.aload_n 1, 1) := dk_43 (dk_at dksX3_copyRow_0 9 rfl rfl)
theorem dX3_copyRow_10 : decode cX3_copyRow 10 = .ok (.iload_n 2, 1) := dk_28 (dk_at dksX3_copyRow_0 10 rfl rfl)
theorem dX3_copyRow_11 : decode cX3_copyRow 11 = .ok (.aload_n 0, 1) := dk_42 (dk_at dksX3_copyRow_0 11 rfl rfl)
theorem dX3_copyRow_12 : decode cX3_copyRow 12 = .ok (.iload_n 2, 1) := dk_28 (dk_at dksX3_copyRow_0 12 rfl rfl)
theorem dX3_copyRow_13 : decode cX3_copyRow 13 = .ok (.iaload, 1) := dk_46 (dk_at dksX3_copyRow_0 13 rfl rfl)
theorem dX3_copyRow_14 : decode cX3_copyRow 14 = .ok (.iastore, 1) := dk_79 (dk_at dksX3_copyRow_0 14 rfl rfl)
theorem dX3_copyRow_15 : decode cX3_copyRow 15 = .ok (.iinc 2 1, 3) := dk_132 2 1 (dk_at dksX3_copyRow_0 15 rfl rfl)
theorem dX3_copyRow_18 : decode cX3_copyRow 18 = .ok (.goto (-16), 3) := dk_167 255 240 (dk_at dksX3_copyRow_0 18 rfl rfl)
theorem dX3_copyRow_21 : decode cX3_copyRow 21 = .ok (.return_, 1) := dk_177 (dk_at dksX3_copyRow_0 21 rfl rfl)
abbrev cX3_ice : ByteArray := prog_17_method_8_code
def yX3_ice : MethodName := ⟨RX3, "ice", "(II)Z"⟩
def dkwX3_ice_1 : List UInt8 := [16, 30, 27, 96, 28, 79, 4, 172]
abbrev dktX3_ice_1 : List UInt8 := dkwX3_ice_1 ++ []
def dkwX3_ice_0 : List UInt8 := [42, 27, 182, 0, 98, 153, 0, 13, 28, 3, 16, 99, 184, 0, 90, 154, 0, 5, 3, 172, 42, 180, 0, 7]
abbrev dktX3_ice_0 : List UInt8 := dkwX3_ice_0 ++ dktX3_ice_1
theorem dksX3_ice_0 : cX3_ice.data.toList.drop 0 = dktX3_ice_0 := by decide +kernel
theorem dksX3_ice_1 : cX3_ice.data.toList.drop 24 = dktX3_ice_1 := dk_seg dksX3_ice_0 24 rfl rfl
theorem dX3_ice_0 : decode cX3_ice 0 = .ok (.aload_n 0, 1) := dk_42 (dk_at dksX3_ice_0 0 rfl rfl)
theorem dX3_ice_1 : decode cX3_ice 1 = .ok (.iload_n 1, 1) := dk_27 (dk_at dksX3_ice_0 1 rfl rfl)
theorem dX3_ice_2 : decode cX3_ice 2 = .ok (.invokevirtual 98, 3) := dk_182 0 98 (dk_at dksX3_ice_0 2 rfl rfl)
theorem dX3_ice_5 : decode cX3_ice 5 = .ok (.ifCond .eq 13, 3) := dk_153 0 13 (dk_at dksX3_ice_0 5 rfl rfl)
theorem dX3_ice_8 : decode cX3_ice 8 = .ok (.iload_n 2, 1) := dk_28 (dk_at dksX3_ice_0 8 rfl rfl)
theorem dX3_ice_9 : decode cX3_ice 9 = .ok (.iconst 0, 1) := dk_3 (dk_at dksX3_ice_0 9 rfl rfl)
theorem dX3_ice_10 : decode cX3_ice 10 = .ok (.bipush 99, 2) := dk_16 99 (dk_at dksX3_ice_0 10 rfl rfl)
theorem dX3_ice_12 : decode cX3_ice 12 = .ok (.invokestatic 90, 3) := dk_184 0 90 (dk_at dksX3_ice_0 12 rfl rfl)
theorem dX3_ice_15 : decode cX3_ice 15 = .ok (.ifCond .ne 5, 3) := dk_154 0 5 (dk_at dksX3_ice_0 15 rfl rfl)
theorem dX3_ice_18 : decode cX3_ice 18 = .ok (.iconst 0, 1) := dk_3 (dk_at dksX3_ice_0 18 rfl rfl)
theorem dX3_ice_19 : decode cX3_ice 19 = .ok (.ireturn, 1) := dk_172 (dk_at dksX3_ice_0 19 rfl rfl)
theorem dX3_ice_20 : decode cX3_ice 20 = .ok (.aload_n 0, 1) := dk_42 (dk_at dksX3_ice_0 20 rfl rfl)
theorem dX3_ice_21 : decode cX3_ice 21 = .ok (.getfield 7, 3) := dk_180 0 7 (dk_at dksX3_ice_0 21 rfl rfl)
theorem dX3_ice_24 : decode cX3_ice 24 = .ok (.bipush 30, 2) := dk_16 30 (dk_at dksX3_ice_1 0 rfl rfl)
theorem dX3_ice_26 : decode cX3_ice 26 = .ok (.iload_n 1, 1) := dk_27 (dk_at dksX3_ice_1 2 rfl rfl)
theorem dX3_ice_27 : decode cX3_ice 27 = .ok (.iadd, 1) := dk_96 (dk_at dksX3_ice_1 3 rfl rfl)
theorem dX3_ice_28 : decode cX3_ice 28 = .ok (.iload_n 2, 1) := dk_28 (dk_at dksX3_ice_1 4 rfl rfl)
theorem dX3_ice_29 : decode cX3_ice 29 = .ok (.iastore, 1) := dk_79 (dk_at dksX3_ice_1 5 rfl rfl)
theorem dX3_ice_30 : decode cX3_ice 30 = .ok (.iconst 1, 1) := dk_4 (dk_at dksX3_ice_1 6 rfl rfl)
theorem dX3_ice_31 : decode cX3_ice 31 = .ok (.ireturn, 1) := dk_172 (dk_at dksX3_ice_1 7 rfl rfl)
abbrev cX3_isCell : ByteArray := prog_17_method_4_code
def yX3_isCell : MethodName := ⟨RX3, "isCell", "(I)Z"⟩
def dkwX3_isCell_0 : List UInt8 := [27, 3, 42, 180, 0, 83, 4, 100, 184, 0, 90, 172]
abbrev dktX3_isCell_0 : List UInt8 := dkwX3_isCell_0 ++ []
theorem dksX3_isCell_0 : cX3_isCell.data.toList.drop 0 = dktX3_isCell_0 := by decide +kernel
theorem dX3_isCell_0 : decode cX3_isCell 0 = .ok (.iload_n 1, 1) := dk_27 (dk_at dksX3_isCell_0 0 rfl rfl)
theorem dX3_isCell_1 : decode cX3_isCell 1 = .ok (.iconst 0, 1) := dk_3 (dk_at dksX3_isCell_0 1 rfl rfl)
theorem dX3_isCell_2 : decode cX3_isCell 2 = .ok (.aload_n 0, 1) := dk_42 (dk_at dksX3_isCell_0 2 rfl rfl)
theorem dX3_isCell_3 : decode cX3_isCell 3 = .ok (.getfield 83, 3) := dk_180 0 83 (dk_at dksX3_isCell_0 3 rfl rfl)
theorem dX3_isCell_6 : decode cX3_isCell 6 = .ok (.iconst 1, 1) := dk_4 (dk_at dksX3_isCell_0 6 rfl rfl)
theorem dX3_isCell_7 : decode cX3_isCell 7 = .ok (.isub, 1) := dk_100 (dk_at dksX3_isCell_0 7 rfl rfl)
theorem dX3_isCell_8 : decode cX3_isCell 8 = .ok (.invokestatic 90, 3) := dk_184 0 90 (dk_at dksX3_isCell_0 8 rfl rfl)
theorem dX3_isCell_11 : decode cX3_isCell 11 = .ok (.ireturn, 1) := dk_172 (dk_at dksX3_isCell_0 11 rfl rfl)
abbrev cX3_isIn : ByteArray := prog_17_method_3_code
def yX3_isIn : MethodName := ⟨RX3, "isIn", "(III)Z"⟩
def dkwX3_isIn_0 : List UInt8 := [26, 27, 161, 0, 12, 26, 28, 163, 0, 7, 4, 167, 0, 4, 3, 172]
abbrev dktX3_isIn_0 : List UInt8 := dkwX3_isIn_0 ++ []
theorem dksX3_isIn_0 : cX3_isIn.data.toList.drop 0 = dktX3_isIn_0 := by decide +kernel
theorem dX3_isIn_0 : decode cX3_isIn 0 = .ok (.iload_n 0, 1) := dk_26 (dk_at dksX3_isIn_0 0 rfl rfl)
theorem dX3_isIn_1 : decode cX3_isIn 1 = .ok (.iload_n 1, 1) := dk_27 (dk_at dksX3_isIn_0 1 rfl rfl)
theorem dX3_isIn_2 : decode cX3_isIn 2 = .ok (.if_icmp .lt 12, 3) := dk_161 0 12 (dk_at dksX3_isIn_0 2 rfl rfl)
theorem dX3_isIn_5 : decode cX3_isIn 5 = .ok (.iload_n 0, 1) := dk_26 (dk_at dksX3_isIn_0 5 rfl rfl)
theorem dX3_isIn_6 : decode cX3_isIn 6 = .ok (.iload_n 2, 1) := dk_28 (dk_at dksX3_isIn_0 6 rfl rfl)
theorem dX3_isIn_7 : decode cX3_isIn 7 = .ok (.if_icmp .gt 7, 3) := dk_163 0 7 (dk_at dksX3_isIn_0 7 rfl rfl)
theorem dX3_isIn_10 : decode cX3_isIn 10 = .ok (.iconst 1, 1) := dk_4 (dk_at dksX3_isIn_0 10 rfl rfl)
theorem dX3_isIn_11 : decode cX3_isIn 11 = .ok (.goto 4, 3) := dk_167 0 4 (dk_at dksX3_isIn_0 11 rfl rfl)
theorem dX3_isIn_14 : decode cX3_isIn 14 = .ok (.iconst 0, 1) := dk_3 (dk_at dksX3_isIn_0 14 rfl rfl)
theorem dX3_isIn_15 : decode cX3_isIn 15 = .ok (.ireturn, 1) := dk_172 (dk_at dksX3_isIn_0 15 rfl rfl)
abbrev cX3_iceAt : ByteArray := prog_17_method_9_code
def yX3_iceAt : MethodName := ⟨RX3, "iceAt", "(I)I"⟩
def dkwX3_iceAt_0 : List UInt8 := [42, 27, 182, 0, 98, 153, 0, 15, 42, 180, 0, 7, 16, 30, 27, 96, 46, 167, 0, 4, 2, 172]
abbrev dktX3_iceAt_0 : List UInt8 := dkwX3_iceAt_0 ++ []
theorem dksX3_iceAt_0 : cX3_iceAt.data.toList.drop 0 = dktX3_iceAt_0 := by decide +kernel
theorem dX3_iceAt_0 : decode cX3_iceAt 0 = .ok (.aload_n 0, 1) := dk_42 (dk_at dksX3_iceAt_0 0 rfl rfl)
theorem dX3_iceAt_1 : decode cX3_iceAt 1 = .ok (.iload_n 1, 1) := dk_27 (dk_at dksX3_iceAt_0 1 rfl rfl)
theorem dX3_iceAt_2 : decode cX3_iceAt 2 = .ok (.invokevirtual 98, 3) := dk_182 0 98 (dk_at dksX3_iceAt_0 2 rfl rfl)
theorem dX3_iceAt_5 : decode cX3_iceAt 5 = .ok (.ifCond .eq 15, 3) := dk_153 0 15 (dk_at dksX3_iceAt_0 5 rfl rfl)
theorem dX3_iceAt_8 : decode cX3_iceAt 8 = .ok (.aload_n 0, 1) := dk_42 (dk_at dksX3_iceAt_0 8 rfl rfl)
theorem dX3_iceAt_9 : decode cX3_iceAt 9 = .ok (.getfield 7, 3) := dk_180 0 7 (dk_at dksX3_iceAt_0 9 rfl rfl)
theorem dX3_iceAt_12 : decode cX3_iceAt 12 = .ok (.bipush 30, 2) := dk_16 30 (dk_at dksX3_iceAt_0 12 rfl rfl)
theorem dX3_iceAt_14 : decode cX3_iceAt 14 = .ok (.iload_n 1, 1) := dk_27 (dk_at dksX3_iceAt_0 14 rfl rfl)
theorem dX3_iceAt_15 : decode cX3_iceAt 15 = .ok (.iadd, 1) := dk_96 (dk_at dksX3_iceAt_0 15 rfl rfl)
theorem dX3_iceAt_16 : decode cX3_iceAt 16 = .ok (.iaload, 1) := dk_46 (dk_at dksX3_iceAt_0 16 rfl rfl)
theorem dX3_iceAt_17 : decode cX3_iceAt 17 = .ok (.goto 4, 3) := dk_167 0 4 (dk_at dksX3_iceAt_0 17 rfl rfl)
theorem dX3_iceAt_20 : decode cX3_iceAt 20 = .ok (.iconst (-1), 1) := dk_2 (dk_at dksX3_iceAt_0 20 rfl rfl)
theorem dX3_iceAt_21 : decode cX3_iceAt 21 = .ok (.ireturn, 1) := dk_172 (dk_at dksX3_iceAt_0 21 rfl rfl)
abbrev cX3_mark : ByteArray := prog_17_method_10_code
def yX3_mark : MethodName := ⟨RX3, "mark", "(IZZ)Z"⟩
def dkwX3_mark_1 : List UInt8 := [16, 70, 27, 96, 29, 153, 0, 7, 4, 167, 0, 4, 3, 79, 4, 172]
abbrev dktX3_mark_1 : List UInt8 := dkwX3_mark_1 ++ []
def dkwX3_mark_0 : List UInt8 := [42, 27, 182, 0, 98, 154, 0, 5, 3, 172, 42, 180, 0, 7, 28, 153, 0, 8, 16, 110, 167, 0, 5]
abbrev dktX3_mark_0 : List UInt8 := dkwX3_mark_0 ++ dktX3_mark_1
theorem dksX3_mark_0 : cX3_mark.data.toList.drop 0 = dktX3_mark_0 := by decide +kernel
theorem dksX3_mark_1 : cX3_mark.data.toList.drop 23 = dktX3_mark_1 := dk_seg dksX3_mark_0 23 rfl rfl
theorem dX3_mark_0 : decode cX3_mark 0 = .ok (.aload_n 0, 1) := dk_42 (dk_at dksX3_mark_0 0 rfl rfl)
theorem dX3_mark_1 : decode cX3_mark 1 = .ok (.iload_n 1, 1) := dk_27 (dk_at dksX3_mark_0 1 rfl rfl)
theorem dX3_mark_2 : decode cX3_mark 2 = .ok (.invokevirtual 98, 3) := dk_182 0 98 (dk_at dksX3_mark_0 2 rfl rfl)
theorem dX3_mark_5 : decode cX3_mark 5 = .ok (.ifCond .ne 5, 3) := dk_154 0 5 (dk_at dksX3_mark_0 5 rfl rfl)
theorem dX3_mark_8 : decode cX3_mark 8 = .ok (.iconst 0, 1) := dk_3 (dk_at dksX3_mark_0 8 rfl rfl)
theorem dX3_mark_9 : decode cX3_mark 9 = .ok (.ireturn, 1) := dk_172 (dk_at dksX3_mark_0 9 rfl rfl)
theorem dX3_mark_10 : decode cX3_mark 10 = .ok (.aload_n 0, 1) := dk_42 (dk_at dksX3_mark_0 10 rfl rfl)
theorem dX3_mark_11 : decode cX3_mark 11 = .ok (.getfield 7, 3) := dk_180 0 7 (dk_at dksX3_mark_0 11 rfl rfl)
theorem dX3_mark_14 : decode cX3_mark 14 = .ok (.iload_n 2, 1) := dk_28 (dk_at dksX3_mark_0 14 rfl rfl)
theorem dX3_mark_15 : decode cX3_mark 15 = .ok (.ifCond .eq 8, 3) := dk_153 0 8 (dk_at dksX3_mark_0 15 rfl rfl)
theorem dX3_mark_18 : decode cX3_mark 18 = .ok (.bipush 110, 2) := dk_16 110 (dk_at dksX3_mark_0 18 rfl rfl)
theorem dX3_mark_20 : decode cX3_mark 20 = .ok (.goto 5, 3) := dk_167 0 5 (dk_at dksX3_mark_0 20 rfl rfl)
theorem dX3_mark_23 : decode cX3_mark 23 = .ok (.bipush 70, 2) := dk_16 70 (dk_at dksX3_mark_1 0 rfl rfl)
theorem dX3_mark_25 : decode cX3_mark 25 = .ok (.iload_n 1, 1) := dk_27 (dk_at dksX3_mark_1 2 rfl rfl)
theorem dX3_mark_26 : decode cX3_mark 26 = .ok (.iadd, 1) := dk_96 (dk_at dksX3_mark_1 3 rfl rfl)
theorem dX3_mark_27 : decode cX3_mark 27 = .ok (.iload_n 3, 1) := dk_29 (dk_at dksX3_mark_1 4 rfl rfl)
theorem dX3_mark_28 : decode cX3_mark 28 = .ok (.ifCond .eq 7, 3) := dk_153 0 7 (dk_at dksX3_mark_1 5 rfl rfl)
theorem dX3_mark_31 : decode cX3_mark 31 = .ok (.iconst 1, 1) := dk_4 (dk_at dksX3_mark_1 8 rfl rfl)
theorem dX3_mark_32 : decode cX3_mark 32 = .ok (.goto 4, 3) := dk_167 0 4 (dk_at dksX3_mark_1 9 rfl rfl)
theorem dX3_mark_35 : decode cX3_mark 35 = .ok (.iconst 0, 1) := dk_3 (dk_at dksX3_mark_1 12 rfl rfl)
theorem dX3_mark_36 : decode cX3_mark 36 = .ok (.iastore, 1) := dk_79 (dk_at dksX3_mark_1 13 rfl rfl)
theorem dX3_mark_37 : decode cX3_mark 37 = .ok (.iconst 1, 1) := dk_4 (dk_at dksX3_mark_1 14 rfl rfl)
theorem dX3_mark_38 : decode cX3_mark 38 = .ok (.ireturn, 1) := dk_172 (dk_at dksX3_mark_1 15 rfl rfl)
abbrev cX3_edge : ByteArray := prog_17_method_11_code
def yX3_edge : MethodName := ⟨RX3, "edge", "(I)Z"⟩
def dkwX3_edge_0 : List UInt8 := [27, 3, 16, 99, 184, 0, 90, 154, 0, 5, 3, 172, 42, 180, 0, 7, 16, 8, 27, 79, 4, 172]
abbrev dktX3_edge_0 : List UInt8 := dkwX3_edge_0 ++ []
theorem dksX3_edge_0 : cX3_edge.data.toList.drop 0 = dktX3_edge_0 := by decide +kernel
theorem dX3_edge_0 : decode cX3_edge 0 = .ok (.iload_n 1, 1) := dk_27 (dk_at dksX3_edge_0 0 rfl rfl)
theorem dX3_edge_1 : decode cX3_edge 1 = .ok (.iconst 0, 1) := dk_3 (dk_at dksX3_edge_0 1 rfl rfl)
theorem dX3_edge_2 : decode cX3_edge 2 = .ok (.bipush 99, 2) := dk_16 99 (dk_at dksX3_edge_0 2 rfl rfl)
theorem dX3_edge_4 : decode cX3_edge 4 = .ok (.invokestatic 90, 3) := dk_184 0 90 (dk_at dksX3_edge_0 4 rfl rfl)
theorem dX3_edge_7 : decode cX3_edge 7 = .ok (.ifCond .ne 5, 3) := dk_154 0 5 (dk_at dksX3_edge_0 7 rfl rfl)
theorem dX3_edge_10 : decode cX3_edge 10 = .ok (.iconst 0, 1) := dk_3 (dk_at dksX3_edge_0 10 rfl rfl)
theorem dX3_edge_11 : decode cX3_edge 11 = .ok (.ireturn, 1) := dk_172 (dk_at dksX3_edge_0 11 rfl rfl)
theorem dX3_edge_12 : decode cX3_edge 12 = .ok (.aload_n 0, 1) := dk_42 (dk_at dksX3_edge_0 12 rfl rfl)
theorem dX3_edge_13 : decode cX3_edge 13 = .ok (.getfield 7, 3) := dk_180 0 7 (dk_at dksX3_edge_0 13 rfl rfl)
theorem dX3_edge_16 : decode cX3_edge 16 = .ok (.bipush 8, 2) := dk_16 8 (dk_at dksX3_edge_0 16 rfl rfl)
theorem dX3_edge_18 : decode cX3_edge 18 = .ok (.iload_n 1, 1) := dk_27 (dk_at dksX3_edge_0 18 rfl rfl)
theorem dX3_edge_19 : decode cX3_edge 19 = .ok (.iastore, 1) := dk_79 (dk_at dksX3_edge_0 19 rfl rfl)
theorem dX3_edge_20 : decode cX3_edge 20 = .ok (.iconst 1, 1) := dk_4 (dk_at dksX3_edge_0 20 rfl rfl)
theorem dX3_edge_21 : decode cX3_edge 21 = .ok (.ireturn, 1) := dk_172 (dk_at dksX3_edge_0 21 rfl rfl)
abbrev cX3_drift : ByteArray := prog_17_method_12_code
def yX3_drift : MethodName := ⟨RX3, "drift", "(III)Z"⟩
def dkwX3_drift_2 : List UInt8 := [17, 0, 150, 5, 27, 104, 96, 4, 96, 29, 79, 4, 172]
abbrev dktX3_drift_2 : List UInt8 := dkwX3_drift_2 ++ []
def dkwX3_drift_1 : List UInt8 := [154, 0, 5, 3, 172, 42, 180, 0, 7, 17, 0, 150, 5, 27, 104, 96, 28, 79, 42, 180, 0, 7]
abbrev dktX3_drift_1 : List UInt8 := dkwX3_drift_1 ++ dktX3_drift_2
def dkwX3_drift_0 : List UInt8 := [27, 184, 0, 102, 153, 0, 21, 28, 2, 4, 184, 0, 90, 153, 0, 12, 29, 2, 4, 184, 0, 90]
abbrev dktX3_drift_0 : List UInt8 := dkwX3_drift_0 ++ dktX3_drift_1
theorem dksX3_drift_0 : cX3_drift.data.toList.drop 0 = dktX3_drift_0 := by decide +kernel
theorem dksX3_drift_1 : cX3_drift.data.toList.drop 22 = dktX3_drift_1 := dk_seg dksX3_drift_0 22 rfl rfl
theorem dksX3_drift_2 : cX3_drift.data.toList.drop 44 = dktX3_drift_2 := dk_seg dksX3_drift_1 22 rfl rfl
theorem dX3_drift_0 : decode cX3_drift 0 = .ok (.iload_n 1, 1) := dk_27 (dk_at dksX3_drift_0 0 rfl rfl)
theorem dX3_drift_1 : decode cX3_drift 1 = .ok (.invokestatic 102, 3) := dk_184 0 102 (dk_at dksX3_drift_0 1 rfl rfl)
theorem dX3_drift_4 : decode cX3_drift 4 = .ok (.ifCond .eq 21, 3) := dk_153 0 21 (dk_at dksX3_drift_0 4 rfl rfl)
theorem dX3_drift_7 : decode cX3_drift 7 = .ok (.iload_n 2, 1) := dk_28 (dk_at dksX3_drift_0 7 rfl rfl)
theorem dX3_drift_8 : decode cX3_drift 8 = .ok (.iconst (-1), 1) := dk_2 (dk_at dksX3_drift_0 8 rfl rfl)
theorem dX3_drift_9 : decode cX3_drift 9 = .ok (.iconst 1, 1) := dk_4 (dk_at dksX3_drift_0 9 rfl rfl)
theorem dX3_drift_10 : decode cX3_drift 10 = .ok (.invokestatic 90, 3) := dk_184 0 90 (dk_at dksX3_drift_0 10 rfl rfl)
theorem dX3_drift_13 : decode cX3_drift 13 = .ok (.ifCond .eq 12, 3) := dk_153 0 12 (dk_at dksX3_drift_0 13 rfl rfl)
theorem dX3_drift_16 : decode cX3_drift 16 = .ok (.iload_n 3, 1) := dk_29 (dk_at dksX3_drift_0 16 rfl rfl)
theorem dX3_drift_17 : decode cX3_drift 17 = .ok (.iconst (-1), 1) := dk_2 (dk_at dksX3_drift_0 17 rfl rfl)
theorem dX3_drift_18 : decode cX3_drift 18 = .ok (.iconst 1, 1) := dk_4 (dk_at dksX3_drift_0 18 rfl rfl)
theorem dX3_drift_19 : decode cX3_drift 19 = .ok (.invokestatic 90, 3) := dk_184 0 90 (dk_at dksX3_drift_0 19 rfl rfl)
theorem dX3_drift_22 : decode cX3_drift 22 = .ok (.ifCond .ne 5, 3) := dk_154 0 5 (dk_at dksX3_drift_1 0 rfl rfl)
theorem dX3_drift_25 : decode cX3_drift 25 = .ok (.iconst 0, 1) := dk_3 (dk_at dksX3_drift_1 3 rfl rfl)
theorem dX3_drift_26 : decode cX3_drift 26 = .ok (.ireturn, 1) := dk_172 (dk_at dksX3_drift_1 4 rfl rfl)
theorem dX3_drift_27 : decode cX3_drift 27 = .ok (.aload_n 0, 1) := dk_42 (dk_at dksX3_drift_1 5 rfl rfl)
theorem dX3_drift_28 : decode cX3_drift 28 = .ok (.getfield 7, 3) := dk_180 0 7 (dk_at dksX3_drift_1 6 rfl rfl)
theorem dX3_drift_31 : decode cX3_drift 31 = .ok (.sipush 150, 3) := dk_17 0 150 (dk_at dksX3_drift_1 9 rfl rfl)
theorem dX3_drift_34 : decode cX3_drift 34 = .ok (.iconst 2, 1) := dk_5 (dk_at dksX3_drift_1 12 rfl rfl)
theorem dX3_drift_35 : decode cX3_drift 35 = .ok (.iload_n 1, 1) := dk_27 (dk_at dksX3_drift_1 13 rfl rfl)
theorem dX3_drift_36 : decode cX3_drift 36 = .ok (.imul, 1) := dk_104 (dk_at dksX3_drift_1 14 rfl rfl)
theorem dX3_drift_37 : decode cX3_drift 37 = .ok (.iadd, 1) := dk_96 (dk_at dksX3_drift_1 15 rfl rfl)
theorem dX3_drift_38 : decode cX3_drift 38 = .ok (.iload_n 2, 1) := dk_28 (dk_at dksX3_drift_1 16 rfl rfl)
theorem dX3_drift_39 : decode cX3_drift 39 = .ok (.iastore, 1) := dk_79 (dk_at dksX3_drift_1 17 rfl rfl)
theorem dX3_drift_40 : decode cX3_drift 40 = .ok (.aload_n 0, 1) := dk_42 (dk_at dksX3_drift_1 18 rfl rfl)
theorem dX3_drift_41 : decode cX3_drift 41 = .ok (.getfield 7, 3) := dk_180 0 7 (dk_at dksX3_drift_1 19 rfl rfl)
theorem dX3_drift_44 : decode cX3_drift 44 = .ok (.sipush 150, 3) := dk_17 0 150 (dk_at dksX3_drift_2 0 rfl rfl)
theorem dX3_drift_47 : decode cX3_drift 47 = .ok (.iconst 2, 1) := dk_5 (dk_at dksX3_drift_2 3 rfl rfl)
theorem dX3_drift_48 : decode cX3_drift 48 = .ok (.iload_n 1, 1) := dk_27 (dk_at dksX3_drift_2 4 rfl rfl)
theorem dX3_drift_49 : decode cX3_drift 49 = .ok (.imul, 1) := dk_104 (dk_at dksX3_drift_2 5 rfl rfl)
theorem dX3_drift_50 : decode cX3_drift 50 = .ok (.iadd, 1) := dk_96 (dk_at dksX3_drift_2 6 rfl rfl)
theorem dX3_drift_51 : decode cX3_drift 51 = .ok (.iconst 1, 1) := dk_4 (dk_at dksX3_drift_2 7 rfl rfl)
theorem dX3_drift_52 : decode cX3_drift 52 = .ok (.iadd, 1) := dk_96 (dk_at dksX3_drift_2 8 rfl rfl)
theorem dX3_drift_53 : decode cX3_drift 53 = .ok (.iload_n 3, 1) := dk_29 (dk_at dksX3_drift_2 9 rfl rfl)
theorem dX3_drift_54 : decode cX3_drift 54 = .ok (.iastore, 1) := dk_79 (dk_at dksX3_drift_2 10 rfl rfl)
theorem dX3_drift_55 : decode cX3_drift 55 = .ok (.iconst 1, 1) := dk_4 (dk_at dksX3_drift_2 11 rfl rfl)
theorem dX3_drift_56 : decode cX3_drift 56 = .ok (.ireturn, 1) := dk_172 (dk_at dksX3_drift_2 12 rfl rfl)
abbrev cX3_isWind : ByteArray := prog_17_method_5_code
def yX3_isWind : MethodName := ⟨RX3, "isWind", "(I)Z"⟩
def dkwX3_isWind_0 : List UInt8 := [26, 3, 6, 184, 0, 90, 172]
abbrev dktX3_isWind_0 : List UInt8 := dkwX3_isWind_0 ++ []
theorem dksX3_isWind_0 : cX3_isWind.data.toList.drop 0 = dktX3_isWind_0 := by decide +kernel
theorem dX3_isWind_0 : decode cX3_isWind 0 = .ok (.iload_n 0, 1) := dk_26 (dk_at dksX3_isWind_0 0 rfl rfl)
theorem dX3_isWind_1 : decode cX3_isWind 1 = .ok (.iconst 0, 1) := dk_3 (dk_at dksX3_isWind_0 1 rfl rfl)
theorem dX3_isWind_2 : decode cX3_isWind 2 = .ok (.iconst 3, 1) := dk_6 (dk_at dksX3_isWind_0 2 rfl rfl)
theorem dX3_isWind_3 : decode cX3_isWind 3 = .ok (.invokestatic 90, 3) := dk_184 0 90 (dk_at dksX3_isWind_0 3 rfl rfl)
theorem dX3_isWind_6 : decode cX3_isWind 6 = .ok (.ireturn, 1) := dk_172 (dk_at dksX3_isWind_0 6 rfl rfl)
abbrev cX3_chances : ByteArray := prog_17_method_13_code
def yX3_chances : MethodName := ⟨RX3, "chances", "(IIIII)Z"⟩
def dkwX3_chances_5 : List UInt8 := [27, 104, 96, 6, 96, 21, 5, 79, 4, 172]
abbrev dktX3_chances_5 : List UInt8 := dkwX3_chances_5 ++ []
def dkwX3_chances_4 : List UInt8 := [42, 180, 0, 7, 17, 0, 160, 7, 27, 104, 96, 5, 96, 21, 4, 79, 42, 180, 0, 7, 17, 0, 160, 7]
abbrev dktX3_chances_4 : List UInt8 := dkwX3_chances_4 ++ dktX3_chances_5
def dkwX3_chances_3 : List UInt8 := [17, 0, 160, 7, 27, 104, 96, 28, 79, 42, 180, 0, 7, 17, 0, 160, 7, 27, 104, 96, 4, 96, 29, 79]
abbrev dktX3_chances_3 : List UInt8 := dkwX3_chances_3 ++ dktX3_chances_4
def dkwX3_chances_2 : List UInt8 := [153, 0, 17, 28, 29, 96, 21, 4, 96, 21, 5, 96, 16, 10, 159, 0, 5, 3, 172, 42, 180, 0, 7]
abbrev dktX3_chances_2 : List UInt8 := dkwX3_chances_2 ++ dktX3_chances_3
def dkwX3_chances_1 : List UInt8 := [153, 0, 39, 21, 4, 3, 16, 10, 184, 0, 90, 153, 0, 28, 21, 5, 3, 16, 10, 184, 0, 90]
abbrev dktX3_chances_1 : List UInt8 := dkwX3_chances_1 ++ dktX3_chances_2
def dkwX3_chances_0 : List UInt8 := [27, 184, 0, 102, 153, 0, 59, 28, 3, 16, 10, 184, 0, 90, 153, 0, 49, 29, 3, 16, 10, 184, 0, 90]
abbrev dktX3_chances_0 : List UInt8 := dkwX3_chances_0 ++ dktX3_chances_1
theorem dksX3_chances_0 : cX3_chances.data.toList.drop 0 = dktX3_chances_0 := by decide +kernel
theorem dksX3_chances_1 : cX3_chances.data.toList.drop 24 = dktX3_chances_1 := dk_seg dksX3_chances_0 24 rfl rfl
theorem dksX3_chances_2 : cX3_chances.data.toList.drop 46 = dktX3_chances_2 := dk_seg dksX3_chances_1 22 rfl rfl
theorem dksX3_chances_3 : cX3_chances.data.toList.drop 69 = dktX3_chances_3 := dk_seg dksX3_chances_2 23 rfl rfl
theorem dksX3_chances_4 : cX3_chances.data.toList.drop 93 = dktX3_chances_4 := dk_seg dksX3_chances_3 24 rfl rfl
theorem dksX3_chances_5 : cX3_chances.data.toList.drop 117 = dktX3_chances_5 := dk_seg dksX3_chances_4 24 rfl rfl
theorem dX3_chances_0 : decode cX3_chances 0 = .ok (.iload_n 1, 1) := dk_27 (dk_at dksX3_chances_0 0 rfl rfl)
theorem dX3_chances_1 : decode cX3_chances 1 = .ok (.invokestatic 102, 3) := dk_184 0 102 (dk_at dksX3_chances_0 1 rfl rfl)
theorem dX3_chances_4 : decode cX3_chances 4 = .ok (.ifCond .eq 59, 3) := dk_153 0 59 (dk_at dksX3_chances_0 4 rfl rfl)
theorem dX3_chances_7 : decode cX3_chances 7 = .ok (.iload_n 2, 1) := dk_28 (dk_at dksX3_chances_0 7 rfl rfl)
theorem dX3_chances_8 : decode cX3_chances 8 = .ok (.iconst 0, 1) := dk_3 (dk_at dksX3_chances_0 8 rfl rfl)
theorem dX3_chances_9 : decode cX3_chances 9 = .ok (.bipush 10, 2) := dk_16 10 (dk_at dksX3_chances_0 9 rfl rfl)
theorem dX3_chances_11 : decode cX3_chances 11 = .ok (.invokestatic 90, 3) := dk_184 0 90 (dk_at dksX3_chances_0 11 rfl rfl)
theorem dX3_chances_14 : decode cX3_chances 14 = .ok (.ifCond .eq 49, 3) := dk_153 0 49 (dk_at dksX3_chances_0 14 rfl rfl)
theorem dX3_chances_17 : decode cX3_chances 17 = .ok (.iload_n 3, 1) := dk_29 (dk_at dksX3_chances_0 17 rfl rfl)
theorem dX3_chances_18 : decode cX3_chances 18 = .ok (.iconst 0, 1) := dk_3 (dk_at dksX3_chances_0 18 rfl rfl)
theorem dX3_chances_19 : decode cX3_chances 19 = .ok (.bipush 10, 2) := dk_16 10 (dk_at dksX3_chances_0 19 rfl rfl)
theorem dX3_chances_21 : decode cX3_chances 21 = .ok (.invokestatic 90, 3) := dk_184 0 90 (dk_at dksX3_chances_0 21 rfl rfl)
theorem dX3_chances_24 : decode cX3_chances 24 = .ok (.ifCond .eq 39, 3) := dk_153 0 39 (dk_at dksX3_chances_1 0 rfl rfl)
theorem dX3_chances_27 : decode cX3_chances 27 = .ok (.iload 4, 2) := dk_21 4 (dk_at dksX3_chances_1 3 rfl rfl)
theorem dX3_chances_29 : decode cX3_chances 29 = .ok (.iconst 0, 1) := dk_3 (dk_at dksX3_chances_1 5 rfl rfl)
theorem dX3_chances_30 : decode cX3_chances 30 = .ok (.bipush 10, 2) := dk_16 10 (dk_at dksX3_chances_1 6 rfl rfl)
theorem dX3_chances_32 : decode cX3_chances 32 = .ok (.invokestatic 90, 3) := dk_184 0 90 (dk_at dksX3_chances_1 8 rfl rfl)
theorem dX3_chances_35 : decode cX3_chances 35 = .ok (.ifCond .eq 28, 3) := dk_153 0 28 (dk_at dksX3_chances_1 11 rfl rfl)
theorem dX3_chances_38 : decode cX3_chances 38 = .ok (.iload 5, 2) := dk_21 5 (dk_at dksX3_chances_1 14 rfl rfl)
theorem dX3_chances_40 : decode cX3_chances 40 = .ok (.iconst 0, 1) := dk_3 (dk_at dksX3_chances_1 16 rfl rfl)
theorem dX3_chances_41 : decode cX3_chances 41 = .ok (.bipush 10, 2) := dk_16 10 (dk_at dksX3_chances_1 17 rfl rfl)
theorem dX3_chances_43 : decode cX3_chances 43 = .ok (.invokestatic 90, 3) := dk_184 0 90 (dk_at dksX3_chances_1 19 rfl rfl)
theorem dX3_chances_46 : decode cX3_chances 46 = .ok (.ifCond .eq 17, 3) := dk_153 0 17 (dk_at dksX3_chances_2 0 rfl rfl)
theorem dX3_chances_49 : decode cX3_chances 49 = .ok (.iload_n 2, 1) := dk_28 (dk_at dksX3_chances_2 3 rfl rfl)
theorem dX3_chances_50 : decode cX3_chances 50 = .ok (.iload_n 3, 1) := dk_29 (dk_at dksX3_chances_2 4 rfl rfl)
theorem dX3_chances_51 : decode cX3_chances 51 = .ok (.iadd, 1) := dk_96 (dk_at dksX3_chances_2 5 rfl rfl)
theorem dX3_chances_52 : decode cX3_chances 52 = .ok (.iload 4, 2) := dk_21 4 (dk_at dksX3_chances_2 6 rfl rfl)
theorem dX3_chances_54 : decode cX3_chances 54 = .ok (.iadd, 1) := dk_96 (dk_at dksX3_chances_2 8 rfl rfl)
theorem dX3_chances_55 : decode cX3_chances 55 = .ok (.iload 5, 2) := dk_21 5 (dk_at dksX3_chances_2 9 rfl rfl)
theorem dX3_chances_57 : decode cX3_chances 57 = .ok (.iadd, 1) := dk_96 (dk_at dksX3_chances_2 11 rfl rfl)
theorem dX3_chances_58 : decode cX3_chances 58 = .ok (.bipush 10, 2) := dk_16 10 (dk_at dksX3_chances_2 12 rfl rfl)
theorem dX3_chances_60 : decode cX3_chances 60 = .ok (.if_icmp .eq 5, 3) := dk_159 0 5 (dk_at dksX3_chances_2 14 rfl rfl)
theorem dX3_chances_63 : decode cX3_chances 63 = .ok (.iconst 0, 1) := dk_3 (dk_at dksX3_chances_2 17 rfl rfl)
theorem dX3_chances_64 : decode cX3_chances 64 = .ok (.ireturn, 1) := dk_172 (dk_at dksX3_chances_2 18 rfl rfl)
theorem dX3_chances_65 : decode cX3_chances 65 = .ok (.aload_n 0, 1) := dk_42 (dk_at dksX3_chances_2 19 rfl rfl)
theorem dX3_chances_66 : decode cX3_chances 66 = .ok (.getfield 7, 3) := dk_180 0 7 (dk_at dksX3_chances_2 20 rfl rfl)
theorem dX3_chances_69 : decode cX3_chances 69 = .ok (.sipush 160, 3) := dk_17 0 160 (dk_at dksX3_chances_3 0 rfl rfl)
theorem dX3_chances_72 : decode cX3_chances 72 = .ok (.iconst 4, 1) := dk_7 (dk_at dksX3_chances_3 3 rfl rfl)
theorem dX3_chances_73 : decode cX3_chances 73 = .ok (.iload_n 1, 1) := dk_27 (dk_at dksX3_chances_3 4 rfl rfl)
theorem dX3_chances_74 : decode cX3_chances 74 = .ok (.imul, 1) := dk_104 (dk_at dksX3_chances_3 5 rfl rfl)
theorem dX3_chances_75 : decode cX3_chances 75 = .ok (.iadd, 1) := dk_96 (dk_at dksX3_chances_3 6 rfl rfl)
theorem dX3_chances_76 : decode cX3_chances 76 = .ok (.iload_n 2, 1) := dk_28 (dk_at dksX3_chances_3 7 rfl rfl)
theorem dX3_chances_77 : decode cX3_chances 77 = .ok (.iastore, 1) := dk_79 (dk_at dksX3_chances_3 8 rfl rfl)
theorem dX3_chances_78 : decode cX3_chances 78 = .ok (.aload_n 0, 1) := dk_42 (dk_at dksX3_chances_3 9 rfl rfl)
theorem dX3_chances_79 : decode cX3_chances 79 = .ok (.getfield 7, 3) := dk_180 0 7 (dk_at dksX3_chances_3 10 rfl rfl)
theorem dX3_chances_82 : decode cX3_chances 82 = .ok (.sipush 160, 3) := dk_17 0 160 (dk_at dksX3_chances_3 13 rfl rfl)
theorem dX3_chances_85 : decode cX3_chances 85 = .ok (.iconst 4, 1) := dk_7 (dk_at dksX3_chances_3 16 rfl rfl)
theorem dX3_chances_86 : decode cX3_chances 86 = .ok (.iload_n 1, 1) := dk_27 (dk_at dksX3_chances_3 17 rfl rfl)
theorem dX3_chances_87 : decode cX3_chances 87 = .ok (.imul, 1) := dk_104 (dk_at dksX3_chances_3 18 rfl rfl)
theorem dX3_chances_88 : decode cX3_chances 88 = .ok (.iadd, 1) := dk_96 (dk_at dksX3_chances_3 19 rfl rfl)
theorem dX3_chances_89 : decode cX3_chances 89 = .ok (.iconst 1, 1) := dk_4 (dk_at dksX3_chances_3 20 rfl rfl)
theorem dX3_chances_90 : decode cX3_chances 90 = .ok (.iadd, 1) := dk_96 (dk_at dksX3_chances_3 21 rfl rfl)
theorem dX3_chances_91 : decode cX3_chances 91 = .ok (.iload_n 3, 1) := dk_29 (dk_at dksX3_chances_3 22 rfl rfl)
theorem dX3_chances_92 : decode cX3_chances 92 = .ok (.iastore, 1) := dk_79 (dk_at dksX3_chances_3 23 rfl rfl)
theorem dX3_chances_93 : decode cX3_chances 93 = .ok (.aload_n 0, 1) := dk_42 (dk_at dksX3_chances_4 0 rfl rfl)
theorem dX3_chances_94 : decode cX3_chances 94 = .ok (.getfield 7, 3) := dk_180 0 7 (dk_at dksX3_chances_4 1 rfl rfl)
theorem dX3_chances_97 : decode cX3_chances 97 = .ok (.sipush 160, 3) := dk_17 0 160 (dk_at dksX3_chances_4 4 rfl rfl)
theorem dX3_chances_100 : decode cX3_chances 100 = .ok (.iconst 4, 1) := dk_7 (dk_at dksX3_chances_4 7 rfl rfl)
theorem dX3_chances_101 : decode cX3_chances 101 = .ok (.iload_n 1, 1) := dk_27 (dk_at dksX3_chances_4 8 rfl rfl)
theorem dX3_chances_102 : decode cX3_chances 102 = .ok (.imul, 1) := dk_104 (dk_at dksX3_chances_4 9 rfl rfl)
theorem dX3_chances_103 : decode cX3_chances 103 = .ok (.iadd, 1) := dk_96 (dk_at dksX3_chances_4 10 rfl rfl)
theorem dX3_chances_104 : decode cX3_chances 104 = .ok (.iconst 2, 1) := dk_5 (dk_at dksX3_chances_4 11 rfl rfl)
theorem dX3_chances_105 : decode cX3_chances 105 = .ok (.iadd, 1) := dk_96 (dk_at dksX3_chances_4 12 rfl rfl)
theorem dX3_chances_106 : decode cX3_chances 106 = .ok (.iload 4, 2) := dk_21 4 (dk_at dksX3_chances_4 13 rfl rfl)
theorem dX3_chances_108 : decode cX3_chances 108 = .ok (.iastore, 1) := dk_79 (dk_at dksX3_chances_4 15 rfl rfl)
theorem dX3_chances_109 : decode cX3_chances 109 = .ok (.aload_n 0, 1) := dk_42 (dk_at dksX3_chances_4 16 rfl rfl)
theorem dX3_chances_110 : decode cX3_chances 110 = .ok (.getfield 7, 3) := dk_180 0 7 (dk_at dksX3_chances_4 17 rfl rfl)
theorem dX3_chances_113 : decode cX3_chances 113 = .ok (.sipush 160, 3) := dk_17 0 160 (dk_at dksX3_chances_4 20 rfl rfl)
theorem dX3_chances_116 : decode cX3_chances 116 = .ok (.iconst 4, 1) := dk_7 (dk_at dksX3_chances_4 23 rfl rfl)
theorem dX3_chances_117 : decode cX3_chances 117 = .ok (.iload_n 1, 1) := dk_27 (dk_at dksX3_chances_5 0 rfl rfl)
theorem dX3_chances_118 : decode cX3_chances 118 = .ok (.imul, 1) := dk_104 (dk_at dksX3_chances_5 1 rfl rfl)
theorem dX3_chances_119 : decode cX3_chances 119 = .ok (.iadd, 1) := dk_96 (dk_at dksX3_chances_5 2 rfl rfl)
theorem dX3_chances_120 : decode cX3_chances 120 = .ok (.iconst 3, 1) := dk_6 (dk_at dksX3_chances_5 3 rfl rfl)
theorem dX3_chances_121 : decode cX3_chances 121 = .ok (.iadd, 1) := dk_96 (dk_at dksX3_chances_5 4 rfl rfl)
theorem dX3_chances_122 : decode cX3_chances 122 = .ok (.iload 5, 2) := dk_21 5 (dk_at dksX3_chances_5 5 rfl rfl)
theorem dX3_chances_124 : decode cX3_chances 124 = .ok (.iastore, 1) := dk_79 (dk_at dksX3_chances_5 7 rfl rfl)
theorem dX3_chances_125 : decode cX3_chances 125 = .ok (.iconst 1, 1) := dk_4 (dk_at dksX3_chances_5 8 rfl rfl)
theorem dX3_chances_126 : decode cX3_chances 126 = .ok (.ireturn, 1) := dk_172 (dk_at dksX3_chances_5 9 rfl rfl)
abbrev cX3_ship : ByteArray := prog_17_method_16_code
def yX3_ship : MethodName := ⟨RX3, "ship", "(III)Z"⟩
def dkwX3_ship_4 : List UInt8 := [184, 0, 108, 3, 79, 42, 180, 0, 7, 27, 7, 184, 0, 108, 4, 79, 4, 172]
abbrev dktX3_ship_4 : List UInt8 := dkwX3_ship_4 ++ []
def dkwX3_ship_3 : List UInt8 := [184, 0, 108, 29, 79, 42, 180, 0, 7, 27, 5, 184, 0, 108, 3, 79, 42, 180, 0, 7, 27, 6]
abbrev dktX3_ship_3 : List UInt8 := dkwX3_ship_3 ++ dktX3_ship_4
def dkwX3_ship_2 : List UInt8 := [154, 0, 5, 3, 172, 42, 180, 0, 7, 27, 3, 184, 0, 108, 28, 79, 42, 180, 0, 7, 27, 4]
abbrev dktX3_ship_2 : List UInt8 := dkwX3_ship_2 ++ dktX3_ship_3
def dkwX3_ship_1 : List UInt8 := [27, 4, 160, 0, 16, 42, 180, 0, 7, 4, 7, 184, 0, 108, 3, 79, 4, 172, 42, 28, 182, 0, 98]
abbrev dktX3_ship_1 : List UInt8 := dkwX3_ship_1 ++ dktX3_ship_2
def dkwX3_ship_0 : List UInt8 := [27, 184, 0, 105, 153, 0, 13, 29, 3, 16, 99, 184, 0, 90, 154, 0, 5, 3, 172, 28, 2, 160, 0, 21]
abbrev dktX3_ship_0 : List UInt8 := dkwX3_ship_0 ++ dktX3_ship_1
theorem dksX3_ship_0 : cX3_ship.data.toList.drop 0 = dktX3_ship_0 := by decide +kernel
theorem dksX3_ship_1 : cX3_ship.data.toList.drop 24 = dktX3_ship_1 := dk_seg dksX3_ship_0 24 rfl rfl
theorem dksX3_ship_2 : cX3_ship.data.toList.drop 47 = dktX3_ship_2 := dk_seg dksX3_ship_1 23 rfl rfl
theorem dksX3_ship_3 : cX3_ship.data.toList.drop 69 = dktX3_ship_3 := dk_seg dksX3_ship_2 22 rfl rfl
theorem dksX3_ship_4 : cX3_ship.data.toList.drop 91 = dktX3_ship_4 := dk_seg dksX3_ship_3 22 rfl rfl
theorem dX3_ship_0 : decode cX3_ship 0 = .ok (.iload_n 1, 1) := dk_27 (dk_at dksX3_ship_0 0 rfl rfl)
theorem dX3_ship_1 : decode cX3_ship 1 = .ok (.invokestatic 105, 3) := dk_184 0 105 (dk_at dksX3_ship_0 1 rfl rfl)
theorem dX3_ship_4 : decode cX3_ship 4 = .ok (.ifCond .eq 13, 3) := dk_153 0 13 (dk_at dksX3_ship_0 4 rfl rfl)
theorem dX3_ship_7 : decode cX3_ship 7 = .ok (.iload_n 3, 1) := dk_29 (dk_at dksX3_ship_0 7 rfl rfl)
theorem dX3_ship_8 : decode cX3_ship 8 = .ok (.iconst 0, 1) := dk_3 (dk_at dksX3_ship_0 8 rfl rfl)
theorem dX3_ship_9 : decode cX3_ship 9 = .ok (.bipush 99, 2) := dk_16 99 (dk_at dksX3_ship_0 9 rfl rfl)
theorem dX3_ship_11 : decode cX3_ship 11 = .ok (.invokestatic 90, 3) := dk_184 0 90 (dk_at dksX3_ship_0 11 rfl rfl)
theorem dX3_ship_14 : decode cX3_ship 14 = .ok (.ifCond .ne 5, 3) := dk_154 0 5 (dk_at dksX3_ship_0 14 rfl rfl)
theorem dX3_ship_17 : decode cX3_ship 17 = .ok (.iconst 0, 1) := dk_3 (dk_at dksX3_ship_0 17 rfl rfl)
theorem dX3_ship_18 : decode cX3_ship 18 = .ok (.ireturn, 1) := dk_172 (dk_at dksX3_ship_0 18 rfl rfl)
theorem dX3_ship_19 : decode cX3_ship 19 = .ok (.iload_n 2, 1) := dk_28 (dk_at dksX3_ship_0 19 rfl rfl)
theorem dX3_ship_20 : decode cX3_ship 20 = .ok (.iconst (-1), 1) := dk_2 (dk_at dksX3_ship_0 20 rfl rfl)
theorem dX3_ship_21 : decode cX3_ship 21 = .ok (.if_icmp .ne 21, 3) := dk_160 0 21 (dk_at dksX3_ship_0 21 rfl rfl)
theorem dX3_ship_24 : decode cX3_ship 24 = .ok (.iload_n 1, 1) := dk_27 (dk_at dksX3_ship_1 0 rfl rfl)
theorem dX3_ship_25 : decode cX3_ship 25 = .ok (.iconst 1, 1) := dk_4 (dk_at dksX3_ship_1 1 rfl rfl)
theorem dX3_ship_26 : decode cX3_ship 26 = .ok (.if_icmp .ne 16, 3) := dk_160 0 16 (dk_at dksX3_ship_1 2 rfl rfl)
theorem dX3_ship_29 : decode cX3_ship 29 = .ok (.aload_n 0, 1) := dk_42 (dk_at dksX3_ship_1 5 rfl rfl)
theorem dX3_ship_30 : decode cX3_ship 30 = .ok (.getfield 7, 3) := dk_180 0 7 (dk_at dksX3_ship_1 6 rfl rfl)
theorem dX3_ship_33 : decode cX3_ship 33 = .ok (.iconst 1, 1) := dk_4 (dk_at dksX3_ship_1 9 rfl rfl)
theorem dX3_ship_34 : decode cX3_ship 34 = .ok (.iconst 4, 1) := dk_7 (dk_at dksX3_ship_1 10 rfl rfl)
theorem dX3_ship_35 : decode cX3_ship 35 = .ok (.invokestatic 108, 3) := dk_184 0 108 (dk_at dksX3_ship_1 11 rfl rfl)
theorem dX3_ship_38 : decode cX3_ship 38 = .ok (.iconst 0, 1) := dk_3 (dk_at dksX3_ship_1 14 rfl rfl)
theorem dX3_ship_39 : decode cX3_ship 39 = .ok (.iastore, 1) := dk_79 (dk_at dksX3_ship_1 15 rfl rfl)
theorem dX3_ship_40 : decode cX3_ship 40 = .ok (.iconst 1, 1) := dk_4 (dk_at dksX3_ship_1 16 rfl rfl)
theorem dX3_ship_41 : decode cX3_ship 41 = .ok (.ireturn, 1) := dk_172 (dk_at dksX3_ship_1 17 rfl rfl)
theorem dX3_ship_42 : decode cX3_ship 42 = .ok (.aload_n 0, 1) := dk_42 (dk_at dksX3_ship_1 18 rfl rfl)
theorem dX3_ship_43 : decode cX3_ship 43 = .ok (.iload_n 2, 1) := dk_28 (dk_at dksX3_ship_1 19 rfl rfl)
theorem dX3_ship_44 : decode cX3_ship 44 = .ok (.invokevirtual 98, 3) := dk_182 0 98 (dk_at dksX3_ship_1 20 rfl rfl)
theorem dX3_ship_47 : decode cX3_ship 47 = .ok (.ifCond .ne 5, 3) := dk_154 0 5 (dk_at dksX3_ship_2 0 rfl rfl)
theorem dX3_ship_50 : decode cX3_ship 50 = .ok (.iconst 0, 1) := dk_3 (dk_at dksX3_ship_2 3 rfl rfl)
theorem dX3_ship_51 : decode cX3_ship 51 = .ok (.ireturn, 1) := dk_172 (dk_at dksX3_ship_2 4 rfl rfl)
theorem dX3_ship_52 : decode cX3_ship 52 = .ok (.aload_n 0, 1) := dk_42 (dk_at dksX3_ship_2 5 rfl rfl)
theorem dX3_ship_53 : decode cX3_ship 53 = .ok (.getfield 7, 3) := dk_180 0 7 (dk_at dksX3_ship_2 6 rfl rfl)
theorem dX3_ship_56 : decode cX3_ship 56 = .ok (.iload_n 1, 1) := dk_27 (dk_at dksX3_ship_2 9 rfl rfl)
theorem dX3_ship_57 : decode cX3_ship 57 = .ok (.iconst 0, 1) := dk_3 (dk_at dksX3_ship_2 10 rfl rfl)
theorem dX3_ship_58 : decode cX3_ship 58 = .ok (.invokestatic 108, 3) := dk_184 0 108 (dk_at dksX3_ship_2 11 rfl rfl)
theorem dX3_ship_61 : decode cX3_ship 61 = .ok (.iload_n 2, 1) := dk_28 (dk_at dksX3_ship_2 14 rfl rfl)
theorem dX3_ship_62 : decode cX3_ship 62 = .ok (.iastore, 1) := dk_79 (dk_at dksX3_ship_2 15 rfl rfl)
theorem dX3_ship_63 : decode cX3_ship 63 = .ok (.aload_n 0, 1) := dk_42 (dk_at dksX3_ship_2 16 rfl rfl)
theorem dX3_ship_64 : decode cX3_ship 64 = .ok (.getfield 7, 3) := dk_180 0 7 (dk_at dksX3_ship_2 17 rfl rfl)
theorem dX3_ship_67 : decode cX3_ship 67 = .ok (.iload_n 1, 1) := dk_27 (dk_at dksX3_ship_2 20 rfl rfl)
theorem dX3_ship_68 : decode cX3_ship 68 = .ok (.iconst 1, 1) := dk_4 (dk_at dksX3_ship_2 21 rfl rfl)
theorem dX3_ship_69 : decode cX3_ship 69 = .ok (.invokestatic 108, 3) := dk_184 0 108 (dk_at dksX3_ship_3 0 rfl rfl)
theorem dX3_ship_72 : decode cX3_ship 72 = .ok (.iload_n 3, 1) := dk_29 (dk_at dksX3_ship_3 3 rfl rfl)
theorem dX3_ship_73 : decode cX3_ship 73 = .ok (.iastore, 1) := dk_79 (dk_at dksX3_ship_3 4 rfl rfl)
theorem dX3_ship_74 : decode cX3_ship 74 = .ok (.aload_n 0, 1) := dk_42 (dk_at dksX3_ship_3 5 rfl rfl)
theorem dX3_ship_75 : decode cX3_ship 75 = .ok (.getfield 7, 3) := dk_180 0 7 (dk_at dksX3_ship_3 6 rfl rfl)
theorem dX3_ship_78 : decode cX3_ship 78 = .ok (.iload_n 1, 1) := dk_27 (dk_at dksX3_ship_3 9 rfl rfl)
theorem dX3_ship_79 : decode cX3_ship 79 = .ok (.iconst 2, 1) := dk_5 (dk_at dksX3_ship_3 10 rfl rfl)
theorem dX3_ship_80 : decode cX3_ship 80 = .ok (.invokestatic 108, 3) := dk_184 0 108 (dk_at dksX3_ship_3 11 rfl rfl)
theorem dX3_ship_83 : decode cX3_ship 83 = .ok (.iconst 0, 1) := dk_3 (dk_at dksX3_ship_3 14 rfl rfl)
theorem dX3_ship_84 : decode cX3_ship 84 = .ok (.iastore, 1) := dk_79 (dk_at dksX3_ship_3 15 rfl rfl)
theorem dX3_ship_85 : decode cX3_ship 85 = .ok (.aload_n 0, 1) := dk_42 (dk_at dksX3_ship_3 16 rfl rfl)
theorem dX3_ship_86 : decode cX3_ship 86 = .ok (.getfield 7, 3) := dk_180 0 7 (dk_at dksX3_ship_3 17 rfl rfl)
theorem dX3_ship_89 : decode cX3_ship 89 = .ok (.iload_n 1, 1) := dk_27 (dk_at dksX3_ship_3 20 rfl rfl)
theorem dX3_ship_90 : decode cX3_ship 90 = .ok (.iconst 3, 1) := dk_6 (dk_at dksX3_ship_3 21 rfl rfl)
theorem dX3_ship_91 : decode cX3_ship 91 = .ok (.invokestatic 108, 3) := dk_184 0 108 (dk_at dksX3_ship_4 0 rfl rfl)
theorem dX3_ship_94 : decode cX3_ship 94 = .ok (.iconst 0, 1) := dk_3 (dk_at dksX3_ship_4 3 rfl rfl)
theorem dX3_ship_95 : decode cX3_ship 95 = .ok (.iastore, 1) := dk_79 (dk_at dksX3_ship_4 4 rfl rfl)
theorem dX3_ship_96 : decode cX3_ship 96 = .ok (.aload_n 0, 1) := dk_42 (dk_at dksX3_ship_4 5 rfl rfl)
theorem dX3_ship_97 : decode cX3_ship 97 = .ok (.getfield 7, 3) := dk_180 0 7 (dk_at dksX3_ship_4 6 rfl rfl)
theorem dX3_ship_100 : decode cX3_ship 100 = .ok (.iload_n 1, 1) := dk_27 (dk_at dksX3_ship_4 9 rfl rfl)
theorem dX3_ship_101 : decode cX3_ship 101 = .ok (.iconst 4, 1) := dk_7 (dk_at dksX3_ship_4 10 rfl rfl)
theorem dX3_ship_102 : decode cX3_ship 102 = .ok (.invokestatic 108, 3) := dk_184 0 108 (dk_at dksX3_ship_4 11 rfl rfl)
theorem dX3_ship_105 : decode cX3_ship 105 = .ok (.iconst 1, 1) := dk_4 (dk_at dksX3_ship_4 14 rfl rfl)
theorem dX3_ship_106 : decode cX3_ship 106 = .ok (.iastore, 1) := dk_79 (dk_at dksX3_ship_4 15 rfl rfl)
theorem dX3_ship_107 : decode cX3_ship 107 = .ok (.iconst 1, 1) := dk_4 (dk_at dksX3_ship_4 16 rfl rfl)
theorem dX3_ship_108 : decode cX3_ship 108 = .ok (.ireturn, 1) := dk_172 (dk_at dksX3_ship_4 17 rfl rfl)
abbrev cX3_isShip : ByteArray := prog_17_method_14_code
def yX3_isShip : MethodName := ⟨RX3, "isShip", "(I)Z"⟩
def dkwX3_isShip_0 : List UInt8 := [26, 3, 4, 184, 0, 90, 172]
abbrev dktX3_isShip_0 : List UInt8 := dkwX3_isShip_0 ++ []
theorem dksX3_isShip_0 : cX3_isShip.data.toList.drop 0 = dktX3_isShip_0 := by decide +kernel
theorem dX3_isShip_0 : decode cX3_isShip 0 = .ok (.iload_n 0, 1) := dk_26 (dk_at dksX3_isShip_0 0 rfl rfl)
theorem dX3_isShip_1 : decode cX3_isShip 1 = .ok (.iconst 0, 1) := dk_3 (dk_at dksX3_isShip_0 1 rfl rfl)
theorem dX3_isShip_2 : decode cX3_isShip 2 = .ok (.iconst 1, 1) := dk_4 (dk_at dksX3_isShip_0 2 rfl rfl)
theorem dX3_isShip_3 : decode cX3_isShip 3 = .ok (.invokestatic 90, 3) := dk_184 0 90 (dk_at dksX3_isShip_0 3 rfl rfl)
theorem dX3_isShip_6 : decode cX3_isShip 6 = .ok (.ireturn, 1) := dk_172 (dk_at dksX3_isShip_0 6 rfl rfl)
abbrev cX3_ofShip : ByteArray := prog_17_method_15_code
def yX3_ofShip : MethodName := ⟨RX3, "ofShip", "(II)I"⟩
def dkwX3_ofShip_0 : List UInt8 := [16, 20, 8, 26, 104, 96, 27, 96, 172]
abbrev dktX3_ofShip_0 : List UInt8 := dkwX3_ofShip_0 ++ []
theorem dksX3_ofShip_0 : cX3_ofShip.data.toList.drop 0 = dktX3_ofShip_0 := by decide +kernel
theorem dX3_ofShip_0 : decode cX3_ofShip 0 = .ok (.bipush 20, 2) := dk_16 20 (dk_at dksX3_ofShip_0 0 rfl rfl)
theorem dX3_ofShip_2 : decode cX3_ofShip 2 = .ok (.iconst 5, 1) := dk_8 (dk_at dksX3_ofShip_0 2 rfl rfl)
theorem dX3_ofShip_3 : decode cX3_ofShip 3 = .ok (.iload_n 0, 1) := dk_26 (dk_at dksX3_ofShip_0 3 rfl rfl)
theorem dX3_ofShip_4 : decode cX3_ofShip 4 = .ok (.imul, 1) := dk_104 (dk_at dksX3_ofShip_0 4 rfl rfl)
theorem dX3_ofShip_5 : decode cX3_ofShip 5 = .ok (.iadd, 1) := dk_96 (dk_at dksX3_ofShip_0 5 rfl rfl)
theorem dX3_ofShip_6 : decode cX3_ofShip 6 = .ok (.iload_n 1, 1) := dk_27 (dk_at dksX3_ofShip_0 6 rfl rfl)
theorem dX3_ofShip_7 : decode cX3_ofShip 7 = .ok (.iadd, 1) := dk_96 (dk_at dksX3_ofShip_0 7 rfl rfl)
theorem dX3_ofShip_8 : decode cX3_ofShip 8 = .ok (.ireturn, 1) := dk_172 (dk_at dksX3_ofShip_0 8 rfl rfl)
abbrev cX3_costs : ByteArray := prog_17_method_17_code
def yX3_costs : MethodName := ⟨RX3, "costs", "(III)Z"⟩
def dkwX3_costs_2 : List UInt8 := [42, 180, 0, 7, 16, 11, 29, 79, 4, 172]
abbrev dktX3_costs_2 : List UInt8 := dkwX3_costs_2 ++ []
def dkwX3_costs_1 : List UInt8 := [184, 0, 90, 154, 0, 5, 3, 172, 42, 180, 0, 7, 16, 9, 27, 79, 42, 180, 0, 7, 16, 10, 28, 79]
abbrev dktX3_costs_1 : List UInt8 := dkwX3_costs_1 ++ dktX3_costs_2
def dkwX3_costs_0 : List UInt8 := [27, 3, 16, 99, 184, 0, 90, 153, 0, 23, 28, 3, 16, 99, 184, 0, 90, 153, 0, 13, 29, 3, 16, 99]
abbrev dktX3_costs_0 : List UInt8 := dkwX3_costs_0 ++ dktX3_costs_1
theorem dksX3_costs_0 : cX3_costs.data.toList.drop 0 = dktX3_costs_0 := by decide +kernel
theorem dksX3_costs_1 : cX3_costs.data.toList.drop 24 = dktX3_costs_1 := dk_seg dksX3_costs_0 24 rfl rfl
theorem dksX3_costs_2 : cX3_costs.data.toList.drop 48 = dktX3_costs_2 := dk_seg dksX3_costs_1 24 rfl rfl
theorem dX3_costs_0 : decode cX3_costs 0 = .ok (.iload_n 1, 1) := dk_27 (dk_at dksX3_costs_0 0 rfl rfl)
theorem dX3_costs_1 : decode cX3_costs 1 = .ok (.iconst 0, 1) := dk_3 (dk_at dksX3_costs_0 1 rfl rfl)
theorem dX3_costs_2 : decode cX3_costs 2 = .ok (.bipush 99, 2) := dk_16 99 (dk_at dksX3_costs_0 2 rfl rfl)
theorem dX3_costs_4 : decode cX3_costs 4 = .ok (.invokestatic 90, 3) := dk_184 0 90 (dk_at dksX3_costs_0 4 rfl rfl)
theorem dX3_costs_7 : decode cX3_costs 7 = .ok (.ifCond .eq 23, 3) := dk_153 0 23 (dk_at dksX3_costs_0 7 rfl rfl)
theorem dX3_costs_10 : decode cX3_costs 10 = .ok (.iload_n 2, 1) := dk_28 (dk_at dksX3_costs_0 10 rfl rfl)
theorem dX3_costs_11 : decode cX3_costs 11 = .ok (.iconst 0, 1) := dk_3 (dk_at dksX3_costs_0 11 rfl rfl)
theorem dX3_costs_12 : decode cX3_costs 12 = .ok (.bipush 99, 2) := dk_16 99 (dk_at dksX3_costs_0 12 rfl rfl)
theorem dX3_costs_14 : decode cX3_costs 14 = .ok (.invokestatic 90, 3) := dk_184 0 90 (dk_at dksX3_costs_0 14 rfl rfl)
theorem dX3_costs_17 : decode cX3_costs 17 = .ok (.ifCond .eq 13, 3) := dk_153 0 13 (dk_at dksX3_costs_0 17 rfl rfl)
theorem dX3_costs_20 : decode cX3_costs 20 = .ok (.iload_n 3, 1) := dk_29 (dk_at dksX3_costs_0 20 rfl rfl)
theorem dX3_costs_21 : decode cX3_costs 21 = .ok (.iconst 0, 1) := dk_3 (dk_at dksX3_costs_0 21 rfl rfl)
theorem dX3_costs_22 : decode cX3_costs 22 = .ok (.bipush 99, 2) := dk_16 99 (dk_at dksX3_costs_0 22 rfl rfl)
theorem dX3_costs_24 : decode cX3_costs 24 = .ok (.invokestatic 90, 3) := dk_184 0 90 (dk_at dksX3_costs_1 0 rfl rfl)
theorem dX3_costs_27 : decode cX3_costs 27 = .ok (.ifCond .ne 5, 3) := dk_154 0 5 (dk_at dksX3_costs_1 3 rfl rfl)
theorem dX3_costs_30 : decode cX3_costs 30 = .ok (.iconst 0, 1) := dk_3 (dk_at dksX3_costs_1 6 rfl rfl)
theorem dX3_costs_31 : decode cX3_costs 31 = .ok (.ireturn, 1) := dk_172 (dk_at dksX3_costs_1 7 rfl rfl)
theorem dX3_costs_32 : decode cX3_costs 32 = .ok (.aload_n 0, 1) := dk_42 (dk_at dksX3_costs_1 8 rfl rfl)
theorem dX3_costs_33 : decode cX3_costs 33 = .ok (.getfield 7, 3) := dk_180 0 7 (dk_at dksX3_costs_1 9 rfl rfl)
theorem dX3_costs_36 : decode cX3_costs 36 = .ok (.bipush 9, 2) := dk_16 9 (dk_at dksX3_costs_1 12 rfl rfl)
theorem dX3_costs_38 : decode cX3_costs 38 = .ok (.iload_n 1, 1) := dk_27 (dk_at dksX3_costs_1 14 rfl rfl)
theorem dX3_costs_39 : decode cX3_costs 39 = .ok (.iastore, 1) := dk_79 (dk_at dksX3_costs_1 15 rfl rfl)
theorem dX3_costs_40 : decode cX3_costs 40 = .ok (.aload_n 0, 1) := dk_42 (dk_at dksX3_costs_1 16 rfl rfl)
theorem dX3_costs_41 : decode cX3_costs 41 = .ok (.getfield 7, 3) := dk_180 0 7 (dk_at dksX3_costs_1 17 rfl rfl)
theorem dX3_costs_44 : decode cX3_costs 44 = .ok (.bipush 10, 2) := dk_16 10 (dk_at dksX3_costs_1 20 rfl rfl)
theorem dX3_costs_46 : decode cX3_costs 46 = .ok (.iload_n 2, 1) := dk_28 (dk_at dksX3_costs_1 22 rfl rfl)
theorem dX3_costs_47 : decode cX3_costs 47 = .ok (.iastore, 1) := dk_79 (dk_at dksX3_costs_1 23 rfl rfl)
theorem dX3_costs_48 : decode cX3_costs 48 = .ok (.aload_n 0, 1) := dk_42 (dk_at dksX3_costs_2 0 rfl rfl)
theorem dX3_costs_49 : decode cX3_costs 49 = .ok (.getfield 7, 3) := dk_180 0 7 (dk_at dksX3_costs_2 1 rfl rfl)
theorem dX3_costs_52 : decode cX3_costs 52 = .ok (.bipush 11, 2) := dk_16 11 (dk_at dksX3_costs_2 4 rfl rfl)
theorem dX3_costs_54 : decode cX3_costs 54 = .ok (.iload_n 3, 1) := dk_29 (dk_at dksX3_costs_2 6 rfl rfl)
theorem dX3_costs_55 : decode cX3_costs 55 = .ok (.iastore, 1) := dk_79 (dk_at dksX3_costs_2 7 rfl rfl)
theorem dX3_costs_56 : decode cX3_costs 56 = .ok (.iconst 1, 1) := dk_4 (dk_at dksX3_costs_2 8 rfl rfl)
theorem dX3_costs_57 : decode cX3_costs 57 = .ok (.ireturn, 1) := dk_172 (dk_at dksX3_costs_2 9 rfl rfl)
abbrev cX3_wind : ByteArray := prog_17_method_18_code
def yX3_wind : MethodName := ⟨RX3, "wind", "(I)Z"⟩
def dkwX3_wind_0 : List UInt8 := [27, 184, 0, 102, 154, 0, 5, 3, 172, 42, 180, 0, 7, 4, 27, 79, 4, 172]
abbrev dktX3_wind_0 : List UInt8 := dkwX3_wind_0 ++ []
theorem dksX3_wind_0 : cX3_wind.data.toList.drop 0 = dktX3_wind_0 := by decide +kernel
theorem dX3_wind_0 : decode cX3_wind 0 = .ok (.iload_n 1, 1) := dk_27 (dk_at dksX3_wind_0 0 rfl rfl)
theorem dX3_wind_1 : decode cX3_wind 1 = .ok (.invokestatic 102, 3) := dk_184 0 102 (dk_at dksX3_wind_0 1 rfl rfl)
theorem dX3_wind_4 : decode cX3_wind 4 = .ok (.ifCond .ne 5, 3) := dk_154 0 5 (dk_at dksX3_wind_0 4 rfl rfl)
theorem dX3_wind_7 : decode cX3_wind 7 = .ok (.iconst 0, 1) := dk_3 (dk_at dksX3_wind_0 7 rfl rfl)
theorem dX3_wind_8 : decode cX3_wind 8 = .ok (.ireturn, 1) := dk_172 (dk_at dksX3_wind_0 8 rfl rfl)
theorem dX3_wind_9 : decode cX3_wind 9 = .ok (.aload_n 0, 1) := dk_42 (dk_at dksX3_wind_0 9 rfl rfl)
theorem dX3_wind_10 : decode cX3_wind 10 = .ok (.getfield 7, 3) := dk_180 0 7 (dk_at dksX3_wind_0 10 rfl rfl)
theorem dX3_wind_13 : decode cX3_wind 13 = .ok (.iconst 1, 1) := dk_4 (dk_at dksX3_wind_0 13 rfl rfl)
theorem dX3_wind_14 : decode cX3_wind 14 = .ok (.iload_n 1, 1) := dk_27 (dk_at dksX3_wind_0 14 rfl rfl)
theorem dX3_wind_15 : decode cX3_wind 15 = .ok (.iastore, 1) := dk_79 (dk_at dksX3_wind_0 15 rfl rfl)
theorem dX3_wind_16 : decode cX3_wind 16 = .ok (.iconst 1, 1) := dk_4 (dk_at dksX3_wind_0 16 rfl rfl)
theorem dX3_wind_17 : decode cX3_wind 17 = .ok (.ireturn, 1) := dk_172 (dk_at dksX3_wind_0 17 rfl rfl)
abbrev cX3_feed : ByteArray := prog_17_method_20_code
def yX3_feed : MethodName := ⟨RX3, "feed", "(IIIII)I"⟩
def dkwX3_feed_2 : List UInt8 := [172]
abbrev dktX3_feed_2 : List UInt8 := dkwX3_feed_2 ++ []
def dkwX3_feed_1 : List UInt8 := [182, 0, 115, 42, 29, 182, 0, 115, 42, 21, 4, 182, 0, 115, 42, 21, 5, 182, 0, 115, 42, 180, 0, 112]
abbrev dktX3_feed_1 : List UInt8 := dkwX3_feed_1 ++ dktX3_feed_2
def dkwX3_feed_0 : List UInt8 := [42, 180, 0, 112, 16, 20, 96, 17, 1, 44, 164, 0, 5, 2, 172, 42, 27, 182, 0, 115, 42, 28]
abbrev dktX3_feed_0 : List UInt8 := dkwX3_feed_0 ++ dktX3_feed_1
theorem dksX3_feed_0 : cX3_feed.data.toList.drop 0 = dktX3_feed_0 := by decide +kernel
theorem dksX3_feed_1 : cX3_feed.data.toList.drop 22 = dktX3_feed_1 := dk_seg dksX3_feed_0 22 rfl rfl
theorem dksX3_feed_2 : cX3_feed.data.toList.drop 46 = dktX3_feed_2 := dk_seg dksX3_feed_1 24 rfl rfl
theorem dX3_feed_0 : decode cX3_feed 0 = .ok (.aload_n 0, 1) := dk_42 (dk_at dksX3_feed_0 0 rfl rfl)
theorem dX3_feed_1 : decode cX3_feed 1 = .ok (.getfield 112, 3) := dk_180 0 112 (dk_at dksX3_feed_0 1 rfl rfl)
theorem dX3_feed_4 : decode cX3_feed 4 = .ok (.bipush 20, 2) := dk_16 20 (dk_at dksX3_feed_0 4 rfl rfl)
theorem dX3_feed_6 : decode cX3_feed 6 = .ok (.iadd, 1) := dk_96 (dk_at dksX3_feed_0 6 rfl rfl)
theorem dX3_feed_7 : decode cX3_feed 7 = .ok (.sipush 300, 3) := dk_17 1 44 (dk_at dksX3_feed_0 7 rfl rfl)
theorem dX3_feed_10 : decode cX3_feed 10 = .ok (.if_icmp .le 5, 3) := dk_164 0 5 (dk_at dksX3_feed_0 10 rfl rfl)
theorem dX3_feed_13 : decode cX3_feed 13 = .ok (.iconst (-1), 1) := dk_2 (dk_at dksX3_feed_0 13 rfl rfl)
theorem dX3_feed_14 : decode cX3_feed 14 = .ok (.ireturn, 1) := dk_172 (dk_at dksX3_feed_0 14 rfl rfl)
theorem dX3_feed_15 : decode cX3_feed 15 = .ok (.aload_n 0, 1) := dk_42 (dk_at dksX3_feed_0 15 rfl rfl)
theorem dX3_feed_16 : decode cX3_feed 16 = .ok (.iload_n 1, 1) := dk_27 (dk_at dksX3_feed_0 16 rfl rfl)
theorem dX3_feed_17 : decode cX3_feed 17 = .ok (.invokevirtual 115, 3) := dk_182 0 115 (dk_at dksX3_feed_0 17 rfl rfl)
theorem dX3_feed_20 : decode cX3_feed 20 = .ok (.aload_n 0, 1) := dk_42 (dk_at dksX3_feed_0 20 rfl rfl)
theorem dX3_feed_21 : decode cX3_feed 21 = .ok (.iload_n 2, 1) := dk_28 (dk_at dksX3_feed_0 21 rfl rfl)
theorem dX3_feed_22 : decode cX3_feed 22 = .ok (.invokevirtual 115, 3) := dk_182 0 115 (dk_at dksX3_feed_1 0 rfl rfl)
theorem dX3_feed_25 : decode cX3_feed 25 = .ok (.aload_n 0, 1) := dk_42 (dk_at dksX3_feed_1 3 rfl rfl)
theorem dX3_feed_26 : decode cX3_feed 26 = .ok (.iload_n 3, 1) := dk_29 (dk_at dksX3_feed_1 4 rfl rfl)
theorem dX3_feed_27 : decode cX3_feed 27 = .ok (.invokevirtual 115, 3) := dk_182 0 115 (dk_at dksX3_feed_1 5 rfl rfl)
theorem dX3_feed_30 : decode cX3_feed 30 = .ok (.aload_n 0, 1) := dk_42 (dk_at dksX3_feed_1 8 rfl rfl)
theorem dX3_feed_31 : decode cX3_feed 31 = .ok (.iload 4, 2) := dk_21 4 (dk_at dksX3_feed_1 9 rfl rfl)
theorem dX3_feed_33 : decode cX3_feed 33 = .ok (.invokevirtual 115, 3) := dk_182 0 115 (dk_at dksX3_feed_1 11 rfl rfl)
theorem dX3_feed_36 : decode cX3_feed 36 = .ok (.aload_n 0, 1) := dk_42 (dk_at dksX3_feed_1 14 rfl rfl)
theorem dX3_feed_37 : decode cX3_feed 37 = .ok (.iload 5, 2) := dk_21 5 (dk_at dksX3_feed_1 15 rfl rfl)
theorem dX3_feed_39 : decode cX3_feed 39 = .ok (.invokevirtual 115, 3) := dk_182 0 115 (dk_at dksX3_feed_1 17 rfl rfl)
theorem dX3_feed_42 : decode cX3_feed 42 = .ok (.aload_n 0, 1) := dk_42 (dk_at dksX3_feed_1 20 rfl rfl)
theorem dX3_feed_43 : decode cX3_feed 43 = .ok (.getfield 112, 3) := dk_180 0 112 (dk_at dksX3_feed_1 21 rfl rfl)
theorem dX3_feed_46 : decode cX3_feed 46 = .ok (.ireturn, 1) := dk_172 (dk_at dksX3_feed_2 0 rfl rfl)
abbrev cX3_four : ByteArray := prog_17_method_19_code
def yX3_four : MethodName := ⟨RX3, "four", "(I)V"⟩
def dkwX3_four_1 : List UInt8 := [89, 180, 0, 112, 4, 96, 181, 0, 112, 132, 2, 248, 167, 255, 223, 177]
abbrev dktX3_four_1 : List UInt8 := dkwX3_four_1 ++ []
def dkwX3_four_0 : List UInt8 := [16, 24, 61, 28, 155, 0, 35, 42, 180, 0, 19, 42, 180, 0, 112, 27, 28, 122, 17, 0, 255, 126, 79, 42]
abbrev dktX3_four_0 : List UInt8 := dkwX3_four_0 ++ dktX3_four_1
theorem dksX3_four_0 : cX3_four.data.toList.drop 0 = dktX3_four_0 := by decide +kernel
theorem dksX3_four_1 : cX3_four.data.toList.drop 24 = dktX3_four_1 := dk_seg dksX3_four_0 24 rfl rfl
theorem dX3_four_0 : decode cX3_four 0 = .ok (.bipush 24, 2) := dk_16 24 (dk_at dksX3_four_0 0 rfl rfl)
theorem dX3_four_2 : decode cX3_four 2 = .ok (.istore_n 2, 1) := dk_61 (dk_at dksX3_four_0 2 rfl rfl)
theorem dX3_four_3 : decode cX3_four 3 = .ok (.iload_n 2, 1) := dk_28 (dk_at dksX3_four_0 3 rfl rfl)
theorem dX3_four_4 : decode cX3_four 4 = .ok (.ifCond .lt 35, 3) := dk_155 0 35 (dk_at dksX3_four_0 4 rfl rfl)
theorem dX3_four_7 : decode cX3_four 7 = .ok (.aload_n 0, 1) := dk_42 (dk_at dksX3_four_0 7 rfl rfl)
theorem dX3_four_8 : decode cX3_four 8 = .ok (.getfield 19, 3) := dk_180 0 19 (dk_at dksX3_four_0 8 rfl rfl)
theorem dX3_four_11 : decode cX3_four 11 = .ok (.aload_n 0, 1) := dk_42 (dk_at dksX3_four_0 11 rfl rfl)
theorem dX3_four_12 : decode cX3_four 12 = .ok (.getfield 112, 3) := dk_180 0 112 (dk_at dksX3_four_0 12 rfl rfl)
theorem dX3_four_15 : decode cX3_four 15 = .ok (.iload_n 1, 1) := dk_27 (dk_at dksX3_four_0 15 rfl rfl)
theorem dX3_four_16 : decode cX3_four 16 = .ok (.iload_n 2, 1) := dk_28 (dk_at dksX3_four_0 16 rfl rfl)
theorem dX3_four_17 : decode cX3_four 17 = .ok (.ishr, 1) := dk_122 (dk_at dksX3_four_0 17 rfl rfl)
theorem dX3_four_18 : decode cX3_four 18 = .ok (.sipush 255, 3) := dk_17 0 255 (dk_at dksX3_four_0 18 rfl rfl)
theorem dX3_four_21 : decode cX3_four 21 = .ok (.iand, 1) := dk_126 (dk_at dksX3_four_0 21 rfl rfl)
theorem dX3_four_22 : decode cX3_four 22 = .ok (.iastore, 1) := dk_79 (dk_at dksX3_four_0 22 rfl rfl)
theorem dX3_four_23 : decode cX3_four 23 = .ok (.aload_n 0, 1) := dk_42 (dk_at dksX3_four_0 23 rfl rfl)
theorem dX3_four_24 : decode cX3_four 24 = .ok (.dup, 1) := dk_89 (dk_at dksX3_four_1 0 rfl rfl)
theorem dX3_four_25 : decode cX3_four 25 = .ok (.getfield 112, 3) := dk_180 0 112 (dk_at dksX3_four_1 1 rfl rfl)
theorem dX3_four_28 : decode cX3_four 28 = .ok (.iconst 1, 1) := dk_4 (dk_at dksX3_four_1 4 rfl rfl)
theorem dX3_four_29 : decode cX3_four 29 = .ok (.iadd, 1) := dk_96 (dk_at dksX3_four_1 5 rfl rfl)
theorem dX3_four_30 : decode cX3_four 30 = .ok (.putfield 112, 3) := dk_181 0 112 (dk_at dksX3_four_1 6 rfl rfl)
theorem dX3_four_33 : decode cX3_four 33 = .ok (.iinc 2 (-8), 3) := dk_132 2 248 (dk_at dksX3_four_1 9 rfl rfl)
theorem dX3_four_36 : decode cX3_four 36 = .ok (.goto (-33), 3) := dk_167 255 223 (dk_at dksX3_four_1 12 rfl rfl)
theorem dX3_four_39 : decode cX3_four 39 = .ok (.return_, 1) := dk_177 (dk_at dksX3_four_1 15 rfl rfl)
abbrev cX3_end : ByteArray := prog_17_method_21_code
def yX3_end : MethodName := ⟨RX3, "end", "(I)I"⟩
def dkwX3_end_0 : List UInt8 := [27, 3, 42, 180, 0, 112, 184, 0, 90, 154, 0, 5, 2, 172, 42, 27, 181, 0, 112, 27, 172]
abbrev dktX3_end_0 : List UInt8 := dkwX3_end_0 ++ []
theorem dksX3_end_0 : cX3_end.data.toList.drop 0 = dktX3_end_0 := by decide +kernel
theorem dX3_end_0 : decode cX3_end 0 = .ok (.iload_n 1, 1) := dk_27 (dk_at dksX3_end_0 0 rfl rfl)
theorem dX3_end_1 : decode cX3_end 1 = .ok (.iconst 0, 1) := dk_3 (dk_at dksX3_end_0 1 rfl rfl)
theorem dX3_end_2 : decode cX3_end 2 = .ok (.aload_n 0, 1) := dk_42 (dk_at dksX3_end_0 2 rfl rfl)
theorem dX3_end_3 : decode cX3_end 3 = .ok (.getfield 112, 3) := dk_180 0 112 (dk_at dksX3_end_0 3 rfl rfl)
theorem dX3_end_6 : decode cX3_end 6 = .ok (.invokestatic 90, 3) := dk_184 0 90 (dk_at dksX3_end_0 6 rfl rfl)
theorem dX3_end_9 : decode cX3_end 9 = .ok (.ifCond .ne 5, 3) := dk_154 0 5 (dk_at dksX3_end_0 9 rfl rfl)
theorem dX3_end_12 : decode cX3_end 12 = .ok (.iconst (-1), 1) := dk_2 (dk_at dksX3_end_0 12 rfl rfl)
theorem dX3_end_13 : decode cX3_end 13 = .ok (.ireturn, 1) := dk_172 (dk_at dksX3_end_0 13 rfl rfl)
theorem dX3_end_14 : decode cX3_end 14 = .ok (.aload_n 0, 1) := dk_42 (dk_at dksX3_end_0 14 rfl rfl)
theorem dX3_end_15 : decode cX3_end 15 = .ok (.iload_n 1, 1) := dk_27 (dk_at dksX3_end_0 15 rfl rfl)
theorem dX3_end_16 : decode cX3_end 16 = .ok (.putfield 112, 3) := dk_181 0 112 (dk_at dksX3_end_0 16 rfl rfl)
theorem dX3_end_19 : decode cX3_end 19 = .ok (.iload_n 1, 1) := dk_27 (dk_at dksX3_end_0 19 rfl rfl)
theorem dX3_end_20 : decode cX3_end 20 = .ok (.ireturn, 1) := dk_172 (dk_at dksX3_end_0 20 rfl rfl)
abbrev cX3_text : ByteArray := prog_17_method_49_code
def yX3_text : MethodName := ⟨RX3, "text", "()I"⟩
def dkwX3_text_3 : List UInt8 := [4, 100, 172]
abbrev dktX3_text_3 : List UInt8 := dkwX3_text_3 ++ []
def dkwX3_text_2 : List UInt8 := [180, 0, 22, 153, 0, 5, 2, 172, 42, 180, 0, 7, 5, 92, 46, 4, 96, 79, 42, 180, 0, 7, 5, 46]
abbrev dktX3_text_2 : List UInt8 := dkwX3_text_2 ++ dktX3_text_3
def dkwX3_text_1 : List UInt8 := [180, 0, 22, 154, 0, 7, 2, 167, 0, 7, 42, 180, 0, 126, 181, 0, 26, 42, 3, 181, 0, 112, 42]
abbrev dktX3_text_1 : List UInt8 := dkwX3_text_1 ++ dktX3_text_2
def dkwX3_text_0 : List UInt8 := [42, 180, 0, 7, 5, 46, 7, 160, 0, 5, 2, 172, 42, 42, 182, 0, 252, 181, 0, 22, 42, 42]
abbrev dktX3_text_0 : List UInt8 := dkwX3_text_0 ++ dktX3_text_1
theorem dksX3_text_0 : cX3_text.data.toList.drop 0 = dktX3_text_0 := by decide +kernel
theorem dksX3_text_1 : cX3_text.data.toList.drop 22 = dktX3_text_1 := dk_seg dksX3_text_0 22 rfl rfl
theorem dksX3_text_2 : cX3_text.data.toList.drop 45 = dktX3_text_2 := dk_seg dksX3_text_1 23 rfl rfl
theorem dksX3_text_3 : cX3_text.data.toList.drop 69 = dktX3_text_3 := dk_seg dksX3_text_2 24 rfl rfl
theorem dX3_text_0 : decode cX3_text 0 = .ok (.aload_n 0, 1) := dk_42 (dk_at dksX3_text_0 0 rfl rfl)
theorem dX3_text_1 : decode cX3_text 1 = .ok (.getfield 7, 3) := dk_180 0 7 (dk_at dksX3_text_0 1 rfl rfl)
theorem dX3_text_4 : decode cX3_text 4 = .ok (.iconst 2, 1) := dk_5 (dk_at dksX3_text_0 4 rfl rfl)
theorem dX3_text_5 : decode cX3_text 5 = .ok (.iaload, 1) := dk_46 (dk_at dksX3_text_0 5 rfl rfl)
theorem dX3_text_6 : decode cX3_text 6 = .ok (.iconst 4, 1) := dk_7 (dk_at dksX3_text_0 6 rfl rfl)
theorem dX3_text_7 : decode cX3_text 7 = .ok (.if_icmp .ne 5, 3) := dk_160 0 5 (dk_at dksX3_text_0 7 rfl rfl)
theorem dX3_text_10 : decode cX3_text 10 = .ok (.iconst (-1), 1) := dk_2 (dk_at dksX3_text_0 10 rfl rfl)
theorem dX3_text_11 : decode cX3_text 11 = .ok (.ireturn, 1) := dk_172 (dk_at dksX3_text_0 11 rfl rfl)
theorem dX3_text_12 : decode cX3_text 12 = .ok (.aload_n 0, 1) := dk_42 (dk_at dksX3_text_0 12 rfl rfl)
theorem dX3_text_13 : decode cX3_text 13 = .ok (.aload_n 0, 1) := dk_42 (dk_at dksX3_text_0 13 rfl rfl)
theorem dX3_text_14 : decode cX3_text 14 = .ok (.invokevirtual 252, 3) := dk_182 0 252 (dk_at dksX3_text_0 14 rfl rfl)
theorem dX3_text_17 : decode cX3_text 17 = .ok (.putfield 22, 3) := dk_181 0 22 (dk_at dksX3_text_0 17 rfl rfl)
theorem dX3_text_20 : decode cX3_text 20 = .ok (.aload_n 0, 1) := dk_42 (dk_at dksX3_text_0 20 rfl rfl)
theorem dX3_text_21 : decode cX3_text 21 = .ok (.aload_n 0, 1) := dk_42 (dk_at dksX3_text_0 21 rfl rfl)
theorem dX3_text_22 : decode cX3_text 22 = .ok (.getfield 22, 3) := dk_180 0 22 (dk_at dksX3_text_1 0 rfl rfl)
theorem dX3_text_25 : decode cX3_text 25 = .ok (.ifCond .ne 7, 3) := dk_154 0 7 (dk_at dksX3_text_1 3 rfl rfl)
theorem dX3_text_28 : decode cX3_text 28 = .ok (.iconst (-1), 1) := dk_2 (dk_at dksX3_text_1 6 rfl rfl)
theorem dX3_text_29 : decode cX3_text 29 = .ok (.goto 7, 3) := dk_167 0 7 (dk_at dksX3_text_1 7 rfl rfl)
theorem dX3_text_32 : decode cX3_text 32 = .ok (.aload_n 0, 1) := dk_42 (dk_at dksX3_text_1 10 rfl rfl)
theorem dX3_text_33 : decode cX3_text 33 = .ok (.getfield 126, 3) := dk_180 0 126 (dk_at dksX3_text_1 11 rfl rfl)
theorem dX3_text_36 : decode cX3_text 36 = .ok (.putfield 26, 3) := dk_181 0 26 (dk_at dksX3_text_1 14 rfl rfl)
theorem dX3_text_39 : decode cX3_text 39 = .ok (.aload_n 0, 1) := dk_42 (dk_at dksX3_text_1 17 rfl rfl)
theorem dX3_text_40 : decode cX3_text 40 = .ok (.iconst 0, 1) := dk_3 (dk_at dksX3_text_1 18 rfl rfl)
theorem dX3_text_41 : decode cX3_text 41 = .ok (.putfield 112, 3) := dk_181 0 112 (dk_at dksX3_text_1 19 rfl rfl)
theorem dX3_text_44 : decode cX3_text 44 = .ok (.aload_n 0, 1) := dk_42 (dk_at dksX3_text_1 22 rfl rfl)
theorem dX3_text_45 : decode cX3_text 45 = .ok (.getfield 22, 3) := dk_180 0 22 (dk_at dksX3_text_2 0 rfl rfl)
theorem dX3_text_48 : decode cX3_text 48 = .ok (.ifCond .eq 5, 3) := dk_153 0 5 (dk_at dksX3_text_2 3 rfl rfl)
theorem dX3_text_51 : decode cX3_text 51 = .ok (.iconst (-1), 1) := dk_2 (dk_at dksX3_text_2 6 rfl rfl)
theorem dX3_text_52 : decode cX3_text 52 = .ok (.ireturn, 1) := dk_172 (dk_at dksX3_text_2 7 rfl rfl)
theorem dX3_text_53 : decode cX3_text 53 = .ok (.aload_n 0, 1) := dk_42 (dk_at dksX3_text_2 8 rfl rfl)
theorem dX3_text_54 : decode cX3_text 54 = .ok (.getfield 7, 3) := dk_180 0 7 (dk_at dksX3_text_2 9 rfl rfl)
theorem dX3_text_57 : decode cX3_text 57 = .ok (.iconst 2, 1) := dk_5 (dk_at dksX3_text_2 12 rfl rfl)
theorem dX3_text_58 : decode cX3_text 58 = .ok (.dup2, 1) := dk_92 (dk_at dksX3_text_2 13 rfl rfl)
theorem dX3_text_59 : decode cX3_text 59 = .ok (.iaload, 1) := dk_46 (dk_at dksX3_text_2 14 rfl rfl)
theorem dX3_text_60 : decode cX3_text 60 = .ok (.iconst 1, 1) := dk_4 (dk_at dksX3_text_2 15 rfl rfl)
theorem dX3_text_61 : decode cX3_text 61 = .ok (.iadd, 1) := dk_96 (dk_at dksX3_text_2 16 rfl rfl)
theorem dX3_text_62 : decode cX3_text 62 = .ok (.iastore, 1) := dk_79 (dk_at dksX3_text_2 17 rfl rfl)
theorem dX3_text_63 : decode cX3_text 63 = .ok (.aload_n 0, 1) := dk_42 (dk_at dksX3_text_2 18 rfl rfl)
theorem dX3_text_64 : decode cX3_text 64 = .ok (.getfield 7, 3) := dk_180 0 7 (dk_at dksX3_text_2 19 rfl rfl)
theorem dX3_text_67 : decode cX3_text 67 = .ok (.iconst 2, 1) := dk_5 (dk_at dksX3_text_2 22 rfl rfl)
theorem dX3_text_68 : decode cX3_text 68 = .ok (.iaload, 1) := dk_46 (dk_at dksX3_text_2 23 rfl rfl)
theorem dX3_text_69 : decode cX3_text 69 = .ok (.iconst 1, 1) := dk_4 (dk_at dksX3_text_3 0 rfl rfl)
theorem dX3_text_70 : decode cX3_text 70 = .ok (.isub, 1) := dk_100 (dk_at dksX3_text_3 1 rfl rfl)
theorem dX3_text_71 : decode cX3_text 71 = .ok (.ireturn, 1) := dk_172 (dk_at dksX3_text_3 2 rfl rfl)
abbrev cX3_readText : ByteArray := prog_17_method_48_code
def yX3_readText : MethodName := ⟨RX3, "readText", "()I"⟩
def dkwX3_readText_2 : List UInt8 := [42, 180, 0, 129, 153, 0, 17, 42, 182, 0, 249, 60, 27, 153, 0, 5, 27, 172, 167, 255, 238, 3, 172]
abbrev dktX3_readText_2 : List UInt8 := dkwX3_readText_2 ++ []
def dkwX3_readText_1 : List UInt8 := [42, 3, 181, 0, 157, 42, 3, 181, 0, 167, 42, 3, 181, 0, 240, 42, 3, 181, 0, 119, 42, 182, 0, 189]
abbrev dktX3_readText_1 : List UInt8 := dkwX3_readText_1 ++ dktX3_readText_2
def dkwX3_readText_0 : List UInt8 := [42, 17, 3, 32, 42, 180, 0, 7, 5, 46, 104, 181, 0, 154, 42, 180, 0, 16, 42, 180, 0, 154, 3, 79]
abbrev dktX3_readText_0 : List UInt8 := dkwX3_readText_0 ++ dktX3_readText_1
theorem dksX3_readText_0 : cX3_readText.data.toList.drop 0 = dktX3_readText_0 := by decide +kernel
theorem dksX3_readText_1 : cX3_readText.data.toList.drop 24 = dktX3_readText_1 := dk_seg dksX3_readText_0 24 rfl rfl
theorem dksX3_readText_2 : cX3_readText.data.toList.drop 48 = dktX3_readText_2 := dk_seg dksX3_readText_1 24 rfl rfl
theorem dX3_readText_0 : decode cX3_readText 0 = .ok (.aload_n 0, 1) := dk_42 (dk_at dksX3_readText_0 0 rfl rfl)
theorem dX3_readText_1 : decode cX3_readText 1 = .ok (.sipush 800, 3) := dk_17 3 32 (dk_at dksX3_readText_0 1 rfl rfl)
theorem dX3_readText_4 : decode cX3_readText 4 = .ok (.aload_n 0, 1) := dk_42 (dk_at dksX3_readText_0 4 rfl rfl)
theorem dX3_readText_5 : decode cX3_readText 5 = .ok (.getfield 7, 3) := dk_180 0 7 (dk_at dksX3_readText_0 5 rfl rfl)
theorem dX3_readText_8 : decode cX3_readText 8 = .ok (.iconst 2, 1) := dk_5 (dk_at dksX3_readText_0 8 rfl rfl)
theorem dX3_readText_9 : decode cX3_readText 9 = .ok (.iaload, 1) := dk_46 (dk_at dksX3_readText_0 9 rfl rfl)
theorem dX3_readText_10 : decode cX3_readText 10 = .ok (.imul, 1) := dk_104 (dk_at dksX3_readText_0 10 rfl rfl)
theorem dX3_readText_11 : decode cX3_readText 11 = .ok (.putfield 154, 3) := dk_181 0 154 (dk_at dksX3_readText_0 11 rfl rfl)
theorem dX3_readText_14 : decode cX3_readText 14 = .ok (.aload_n 0, 1) := dk_42 (dk_at dksX3_readText_0 14 rfl rfl)
theorem dX3_readText_15 : decode cX3_readText 15 = .ok (.getfield 16, 3) := dk_180 0 16 (dk_at dksX3_readText_0 15 rfl rfl)
theorem dX3_readText_18 : decode cX3_readText 18 = .ok (.aload_n 0, 1) := dk_42 (dk_at dksX3_readText_0 18 rfl rfl)
theorem dX3_readText_19 : decode cX3_readText 19 = .ok (.getfield 154, 3) := dk_180 0 154 (dk_at dksX3_readText_0 19 rfl rfl)
theorem dX3_readText_22 : decode cX3_readText 22 = .ok (.iconst 0, 1) := dk_3 (dk_at dksX3_readText_0 22 rfl rfl)
theorem dX3_readText_23 : decode cX3_readText 23 = .ok (.iastore, 1) := dk_79 (dk_at dksX3_readText_0 23 rfl rfl)
theorem dX3_readText_24 : decode cX3_readText 24 = .ok (.aload_n 0, 1) := dk_42 (dk_at dksX3_readText_1 0 rfl rfl)
theorem dX3_readText_25 : decode cX3_readText 25 = .ok (.iconst 0, 1) := dk_3 (dk_at dksX3_readText_1 1 rfl rfl)
theorem dX3_readText_26 : decode cX3_readText 26 = .ok (.putfield 157, 3) := dk_181 0 157 (dk_at dksX3_readText_1 2 rfl rfl)
theorem dX3_readText_29 : decode cX3_readText 29 = .ok (.aload_n 0, 1) := dk_42 (dk_at dksX3_readText_1 5 rfl rfl)
theorem dX3_readText_30 : decode cX3_readText 30 = .ok (.iconst 0, 1) := dk_3 (dk_at dksX3_readText_1 6 rfl rfl)
theorem dX3_readText_31 : decode cX3_readText 31 = .ok (.putfield 167, 3) := dk_181 0 167 (dk_at dksX3_readText_1 7 rfl rfl)
theorem dX3_readText_34 : decode cX3_readText 34 = .ok (.aload_n 0, 1) := dk_42 (dk_at dksX3_readText_1 10 rfl rfl)
theorem dX3_readText_35 : decode cX3_readText 35 = .ok (.iconst 0, 1) := dk_3 (dk_at dksX3_readText_1 11 rfl rfl)
theorem dX3_readText_36 : decode cX3_readText 36 = .ok (.putfield 240, 3) := dk_181 0 240 (dk_at dksX3_readText_1 12 rfl rfl)
theorem dX3_readText_39 : decode cX3_readText 39 = .ok (.aload_n 0, 1) := dk_42 (dk_at dksX3_readText_1 15 rfl rfl)
theorem dX3_readText_40 : decode cX3_readText 40 = .ok (.iconst 0, 1) := dk_3 (dk_at dksX3_readText_1 16 rfl rfl)
theorem dX3_readText_41 : decode cX3_readText 41 = .ok (.putfield 119, 3) := dk_181 0 119 (dk_at dksX3_readText_1 17 rfl rfl)
theorem dX3_readText_44 : decode cX3_readText 44 = .ok (.aload_n 0, 1) := dk_42 (dk_at dksX3_readText_1 20 rfl rfl)
theorem dX3_readText_45 : decode cX3_readText 45 = .ok (.invokevirtual 189, 3) := dk_182 0 189 (dk_at dksX3_readText_1 21 rfl rfl)
theorem dX3_readText_48 : decode cX3_readText 48 = .ok (.aload_n 0, 1) := dk_42 (dk_at dksX3_readText_2 0 rfl rfl)
theorem dX3_readText_49 : decode cX3_readText 49 = .ok (.getfield 129, 3) := dk_180 0 129 (dk_at dksX3_readText_2 1 rfl rfl)
theorem dX3_readText_52 : decode cX3_readText 52 = .ok (.ifCond .eq 17, 3) := dk_153 0 17 (dk_at dksX3_readText_2 4 rfl rfl)
theorem dX3_readText_55 : decode cX3_readText 55 = .ok (.aload_n 0, 1) := dk_42 (dk_at dksX3_readText_2 7 rfl rfl)
theorem dX3_readText_56 : decode cX3_readText 56 = .ok (.invokevirtual 249, 3) := dk_182 0 249 (dk_at dksX3_readText_2 8 rfl rfl)
theorem dX3_readText_59 : decode cX3_readText 59 = .ok (.istore_n 1, 1) := dk_60 (dk_at dksX3_readText_2 11 rfl rfl)
theorem dX3_readText_60 : decode cX3_readText 60 = .ok (.iload_n 1, 1) := dk_27 (dk_at dksX3_readText_2 12 rfl rfl)
theorem dX3_readText_61 : decode cX3_readText 61 = .ok (.ifCond .eq 5, 3) := dk_153 0 5 (dk_at dksX3_readText_2 13 rfl rfl)
theorem dX3_readText_64 : decode cX3_readText 64 = .ok (.iload_n 1, 1) := dk_27 (dk_at dksX3_readText_2 16 rfl rfl)
theorem dX3_readText_65 : decode cX3_readText 65 = .ok (.ireturn, 1) := dk_172 (dk_at dksX3_readText_2 17 rfl rfl)
theorem dX3_readText_66 : decode cX3_readText 66 = .ok (.goto (-18), 3) := dk_167 255 238 (dk_at dksX3_readText_2 18 rfl rfl)
theorem dX3_readText_69 : decode cX3_readText 69 = .ok (.iconst 0, 1) := dk_3 (dk_at dksX3_readText_2 21 rfl rfl)
theorem dX3_readText_70 : decode cX3_readText 70 = .ok (.ireturn, 1) := dk_172 (dk_at dksX3_readText_2 22 rfl rfl)
abbrev cX3_nextToken : ByteArray := prog_17_method_25_code
def yX3_nextToken : MethodName := ⟨RX3, "nextToken", "()V"⟩
def dkwX3_nextToken_16 : List UInt8 := [16, 60, 160, 0, 7, 7, 167, 0, 4, 8, 181, 0, 129, 177]
abbrev dktX3_nextToken_16 : List UInt8 := dkwX3_nextToken_16 ++ []
def dkwX3_nextToken_15 : List UInt8 := [42, 180, 0, 119, 182, 0, 122, 16, 61, 160, 0, 28, 42, 89, 180, 0, 119, 4, 96, 181, 0, 119, 42, 27]
abbrev dktX3_nextToken_15 : List UInt8 := dkwX3_nextToken_15 ++ dktX3_nextToken_16
def dkwX3_nextToken_14 : List UInt8 := [153, 0, 7, 27, 167, 0, 4, 6, 181, 0, 129, 27, 16, 60, 159, 0, 9, 27, 16, 62, 160, 0, 41, 42]
abbrev dktX3_nextToken_14 : List UInt8 := dkwX3_nextToken_14 ++ dktX3_nextToken_15
def dkwX3_nextToken_13 : List UInt8 := [159, 0, 15, 27, 16, 41, 159, 0, 9, 27, 16, 59, 160, 0, 7, 4, 167, 0, 4, 3, 61, 42, 28]
abbrev dktX3_nextToken_13 : List UInt8 := dkwX3_nextToken_13 ++ dktX3_nextToken_14
def dkwX3_nextToken_12 : List UInt8 := [159, 0, 39, 27, 16, 45, 159, 0, 33, 27, 16, 42, 159, 0, 27, 27, 16, 47, 159, 0, 21, 27, 16, 40]
abbrev dktX3_nextToken_12 : List UInt8 := dkwX3_nextToken_12 ++ dktX3_nextToken_13
def dkwX3_nextToken_11 : List UInt8 := [159, 0, 63, 27, 16, 62, 159, 0, 57, 27, 16, 61, 159, 0, 51, 27, 16, 35, 159, 0, 45, 27, 16, 43]
abbrev dktX3_nextToken_11 : List UInt8 := dkwX3_nextToken_11 ++ dktX3_nextToken_12
def dkwX3_nextToken_10 : List UInt8 := [164, 0, 156, 42, 9, 181, 0, 142, 167, 0, 148, 42, 89, 180, 0, 119, 4, 96, 181, 0, 119, 27, 16, 60]
abbrev dktX3_nextToken_10 : List UInt8 := dkwX3_nextToken_10 ++ dktX3_nextToken_11
def dkwX3_nextToken_9 : List UInt8 := [42, 89, 180, 0, 119, 4, 96, 181, 0, 119, 167, 255, 197, 42, 180, 0, 119, 42, 180, 0, 126, 100, 16, 7]
abbrev dktX3_nextToken_9 : List UInt8 := dkwX3_nextToken_9 ++ dktX3_nextToken_10
def dkwX3_nextToken_8 : List UInt8 := [162, 0, 24, 42, 42, 180, 0, 142, 16, 8, 121, 42, 42, 180, 0, 119, 182, 0, 122, 133, 129, 181, 0, 142]
abbrev dktX3_nextToken_8 : List UInt8 := dkwX3_nextToken_8 ++ dktX3_nextToken_9
def dkwX3_nextToken_7 : List UInt8 := [180, 0, 119, 182, 0, 122, 184, 0, 139, 153, 0, 51, 42, 180, 0, 119, 42, 180, 0, 126, 100, 16, 7]
abbrev dktX3_nextToken_7 : List UInt8 := dkwX3_nextToken_7 ++ dktX3_nextToken_8
def dkwX3_nextToken_6 : List UInt8 := [167, 255, 200, 27, 184, 0, 139, 153, 0, 97, 42, 5, 181, 0, 129, 42, 9, 181, 0, 142, 42, 42]
abbrev dktX3_nextToken_6 : List UInt8 := dkwX3_nextToken_6 ++ dktX3_nextToken_7
def dkwX3_nextToken_5 : List UInt8 := [42, 180, 0, 119, 182, 0, 122, 96, 16, 48, 100, 181, 0, 135, 42, 89, 180, 0, 119, 4, 96, 181, 0, 119]
abbrev dktX3_nextToken_5 : List UInt8 := dkwX3_nextToken_5 ++ dktX3_nextToken_6
def dkwX3_nextToken_4 : List UInt8 := [184, 0, 132, 153, 1, 38, 42, 180, 0, 135, 18, 138, 162, 0, 26, 42, 16, 10, 42, 180, 0, 135, 104, 42]
abbrev dktX3_nextToken_4 : List UInt8 := dkwX3_nextToken_4 ++ dktX3_nextToken_5
def dkwX3_nextToken_3 : List UInt8 := [184, 0, 132, 153, 0, 72, 42, 4, 181, 0, 129, 42, 3, 181, 0, 135, 42, 42, 180, 0, 119, 182, 0, 122]
abbrev dktX3_nextToken_3 : List UInt8 := dkwX3_nextToken_3 ++ dktX3_nextToken_4
def dkwX3_nextToken_2 : List UInt8 := [42, 42, 180, 0, 119, 182, 0, 122, 60, 27, 156, 0, 11, 42, 3, 181, 0, 129, 167, 1, 69, 27]
abbrev dktX3_nextToken_2 : List UInt8 := dkwX3_nextToken_2 ++ dktX3_nextToken_3
def dkwX3_nextToken_1 : List UInt8 := [160, 0, 16, 42, 89, 180, 0, 119, 4, 96, 181, 0, 119, 167, 255, 220, 42, 42, 180, 0, 119, 181, 0, 126]
abbrev dktX3_nextToken_1 : List UInt8 := dkwX3_nextToken_1 ++ dktX3_nextToken_2
def dkwX3_nextToken_0 : List UInt8 := [42, 42, 180, 0, 119, 182, 0, 122, 16, 32, 159, 0, 16, 42, 42, 180, 0, 119, 182, 0, 122, 16, 10]
abbrev dktX3_nextToken_0 : List UInt8 := dkwX3_nextToken_0 ++ dktX3_nextToken_1
theorem dksX3_nextToken_0 : cX3_nextToken.data.toList.drop 0 = dktX3_nextToken_0 := by decide +kernel
theorem dksX3_nextToken_1 : cX3_nextToken.data.toList.drop 23 = dktX3_nextToken_1 := dk_seg dksX3_nextToken_0 23 rfl rfl
theorem dksX3_nextToken_2 : cX3_nextToken.data.toList.drop 47 = dktX3_nextToken_2 := dk_seg dksX3_nextToken_1 24 rfl rfl
theorem dksX3_nextToken_3 : cX3_nextToken.data.toList.drop 69 = dktX3_nextToken_3 := dk_seg dksX3_nextToken_2 22 rfl rfl
theorem dksX3_nextToken_4 : cX3_nextToken.data.toList.drop 93 = dktX3_nextToken_4 := dk_seg dksX3_nextToken_3 24 rfl rfl
theorem dksX3_nextToken_5 : cX3_nextToken.data.toList.drop 117 = dktX3_nextToken_5 := dk_seg dksX3_nextToken_4 24 rfl rfl
theorem dksX3_nextToken_6 : cX3_nextToken.data.toList.drop 141 = dktX3_nextToken_6 := dk_seg dksX3_nextToken_5 24 rfl rfl
theorem dksX3_nextToken_7 : cX3_nextToken.data.toList.drop 163 = dktX3_nextToken_7 := dk_seg dksX3_nextToken_6 22 rfl rfl
theorem dksX3_nextToken_8 : cX3_nextToken.data.toList.drop 186 = dktX3_nextToken_8 := dk_seg dksX3_nextToken_7 23 rfl rfl
theorem dksX3_nextToken_9 : cX3_nextToken.data.toList.drop 210 = dktX3_nextToken_9 := dk_seg dksX3_nextToken_8 24 rfl rfl
theorem dksX3_nextToken_10 : cX3_nextToken.data.toList.drop 234 = dktX3_nextToken_10 := dk_seg dksX3_nextToken_9 24 rfl rfl
theorem dksX3_nextToken_11 : cX3_nextToken.data.toList.drop 258 = dktX3_nextToken_11 := dk_seg dksX3_nextToken_10 24 rfl rfl
theorem dksX3_nextToken_12 : cX3_nextToken.data.toList.drop 282 = dktX3_nextToken_12 := dk_seg dksX3_nextToken_11 24 rfl rfl
theorem dksX3_nextToken_13 : cX3_nextToken.data.toList.drop 306 = dktX3_nextToken_13 := dk_seg dksX3_nextToken_12 24 rfl rfl
theorem dksX3_nextToken_14 : cX3_nextToken.data.toList.drop 329 = dktX3_nextToken_14 := dk_seg dksX3_nextToken_13 23 rfl rfl
theorem dksX3_nextToken_15 : cX3_nextToken.data.toList.drop 353 = dktX3_nextToken_15 := dk_seg dksX3_nextToken_14 24 rfl rfl
theorem dksX3_nextToken_16 : cX3_nextToken.data.toList.drop 377 = dktX3_nextToken_16 := dk_seg dksX3_nextToken_15 24 rfl rfl
theorem dX3_nextToken_0 : decode cX3_nextToken 0 = .ok (.aload_n 0, 1) := dk_42 (dk_at dksX3_nextToken_0 0 rfl rfl)
theorem dX3_nextToken_1 : decode cX3_nextToken 1 = .ok (.aload_n 0, 1) := dk_42 (dk_at dksX3_nextToken_0 1 rfl rfl)
theorem dX3_nextToken_2 : decode cX3_nextToken 2 = .ok (.getfield 119, 3) := dk_180 0 119 (dk_at dksX3_nextToken_0 2 rfl rfl)
theorem dX3_nextToken_5 : decode cX3_nextToken 5 = .ok (.invokevirtual 122, 3) := dk_182 0 122 (dk_at dksX3_nextToken_0 5 rfl rfl)
theorem dX3_nextToken_8 : decode cX3_nextToken 8 = .ok (.bipush 32, 2) := dk_16 32 (dk_at dksX3_nextToken_0 8 rfl rfl)
theorem dX3_nextToken_10 : decode cX3_nextToken 10 = .ok (.if_icmp .eq 16, 3) := dk_159 0 16 (dk_at dksX3_nextToken_0 10 rfl rfl)
theorem dX3_nextToken_13 : decode cX3_nextToken 13 = .ok (.aload_n 0, 1) := dk_42 (dk_at dksX3_nextToken_0 13 rfl rfl)
theorem dX3_nextToken_14 : decode cX3_nextToken 14 = .ok (.aload_n 0, 1) := dk_42 (dk_at dksX3_nextToken_0 14 rfl rfl)
theorem dX3_nextToken_15 : decode cX3_nextToken 15 = .ok (.getfield 119, 3) := dk_180 0 119 (dk_at dksX3_nextToken_0 15 rfl rfl)
theorem dX3_nextToken_18 : decode cX3_nextToken 18 = .ok (.invokevirtual 122, 3) := dk_182 0 122 (dk_at dksX3_nextToken_0 18 rfl rfl)
theorem dX3_nextToken_21 : decode cX3_nextToken 21 = .ok (.bipush 10, 2) := dk_16 10 (dk_at dksX3_nextToken_0 21 rfl rfl)
theorem dX3_nextToken_23 : decode cX3_nextToken 23 = .ok (.if_icmp .ne 16, 3) := dk_160 0 16 (dk_at dksX3_nextToken_1 0 rfl rfl)
theorem dX3_nextToken_26 : decode cX3_nextToken 26 = .ok (.aload_n 0, 1) := dk_42 (dk_at dksX3_nextToken_1 3 rfl rfl)
theorem dX3_nextToken_27 : decode cX3_nextToken 27 = .ok (.dup, 1) := dk_89 (dk_at dksX3_nextToken_1 4 rfl rfl)
theorem dX3_nextToken_28 : decode cX3_nextToken 28 = .ok (.getfield 119, 3) := dk_180 0 119 (dk_at dksX3_nextToken_1 5 rfl rfl)
theorem dX3_nextToken_31 : decode cX3_nextToken 31 = .ok (.iconst 1, 1) := dk_4 (dk_at dksX3_nextToken_1 8 rfl rfl)
theorem dX3_nextToken_32 : decode cX3_nextToken 32 = .ok (.iadd, 1) := dk_96 (dk_at dksX3_nextToken_1 9 rfl rfl)
theorem dX3_nextToken_33 : decode cX3_nextToken 33 = .ok (.putfield 119, 3) := dk_181 0 119 (dk_at dksX3_nextToken_1 10 rfl rfl)
theorem dX3_nextToken_36 : decode cX3_nextToken 36 = .ok (.goto (-36), 3) := dk_167 255 220 (dk_at dksX3_nextToken_1 13 rfl rfl)
theorem dX3_nextToken_39 : decode cX3_nextToken 39 = .ok (.aload_n 0, 1) := dk_42 (dk_at dksX3_nextToken_1 16 rfl rfl)
theorem dX3_nextToken_40 : decode cX3_nextToken 40 = .ok (.aload_n 0, 1) := dk_42 (dk_at dksX3_nextToken_1 17 rfl rfl)
theorem dX3_nextToken_41 : decode cX3_nextToken 41 = .ok (.getfield 119, 3) := dk_180 0 119 (dk_at dksX3_nextToken_1 18 rfl rfl)
theorem dX3_nextToken_44 : decode cX3_nextToken 44 = .ok (.putfield 126, 3) := dk_181 0 126 (dk_at dksX3_nextToken_1 21 rfl rfl)
theorem dX3_nextToken_47 : decode cX3_nextToken 47 = .ok (.aload_n 0, 1) := dk_42 (dk_at dksX3_nextToken_2 0 rfl rfl)
theorem dX3_nextToken_48 : decode cX3_nextToken 48 = .ok (.aload_n 0, 1) := dk_42 (dk_at dksX3_nextToken_2 1 rfl rfl)
theorem dX3_nextToken_49 : decode cX3_nextToken 49 = .ok (.getfield 119, 3) := dk_180 0 119 (dk_at dksX3_nextToken_2 2 rfl rfl)
theorem dX3_nextToken_52 : decode cX3_nextToken 52 = .ok (.invokevirtual 122, 3) := dk_182 0 122 (dk_at dksX3_nextToken_2 5 rfl rfl)
theorem dX3_nextToken_55 : decode cX3_nextToken 55 = .ok (.istore_n 1, 1) := dk_60 (dk_at dksX3_nextToken_2 8 rfl rfl)
theorem dX3_nextToken_56 : decode cX3_nextToken 56 = .ok (.iload_n 1, 1) := dk_27 (dk_at dksX3_nextToken_2 9 rfl rfl)
theorem dX3_nextToken_57 : decode cX3_nextToken 57 = .ok (.ifCond .ge 11, 3) := dk_156 0 11 (dk_at dksX3_nextToken_2 10 rfl rfl)
theorem dX3_nextToken_60 : decode cX3_nextToken 60 = .ok (.aload_n 0, 1) := dk_42 (dk_at dksX3_nextToken_2 13 rfl rfl)
theorem dX3_nextToken_61 : decode cX3_nextToken 61 = .ok (.iconst 0, 1) := dk_3 (dk_at dksX3_nextToken_2 14 rfl rfl)
theorem dX3_nextToken_62 : decode cX3_nextToken 62 = .ok (.putfield 129, 3) := dk_181 0 129 (dk_at dksX3_nextToken_2 15 rfl rfl)
theorem dX3_nextToken_65 : decode cX3_nextToken 65 = .ok (.goto 325, 3) := dk_167 1 69 (dk_at dksX3_nextToken_2 18 rfl rfl)
theorem dX3_nextToken_68 : decode cX3_nextToken 68 = .ok (.iload_n 1, 1) := dk_27 (dk_at dksX3_nextToken_2 21 rfl rfl)
theorem dX3_nextToken_69 : decode cX3_nextToken 69 = .ok (.invokestatic 132, 3) := dk_184 0 132 (dk_at dksX3_nextToken_3 0 rfl rfl)
theorem dX3_nextToken_72 : decode cX3_nextToken 72 = .ok (.ifCond .eq 72, 3) := dk_153 0 72 (dk_at dksX3_nextToken_3 3 rfl rfl)
theorem dX3_nextToken_75 : decode cX3_nextToken 75 = .ok (.aload_n 0, 1) := dk_42 (dk_at dksX3_nextToken_3 6 rfl rfl)
theorem dX3_nextToken_76 : decode cX3_nextToken 76 = .ok (.iconst 1, 1) := dk_4 (dk_at dksX3_nextToken_3 7 rfl rfl)
theorem dX3_nextToken_77 : decode cX3_nextToken 77 = .ok (.putfield 129, 3) := dk_181 0 129 (dk_at dksX3_nextToken_3 8 rfl rfl)
theorem dX3_nextToken_80 : decode cX3_nextToken 80 = .ok (.aload_n 0, 1) := dk_42 (dk_at dksX3_nextToken_3 11 rfl rfl)
theorem dX3_nextToken_81 : decode cX3_nextToken 81 = .ok (.iconst 0, 1) := dk_3 (dk_at dksX3_nextToken_3 12 rfl rfl)
theorem dX3_nextToken_82 : decode cX3_nextToken 82 = .ok (.putfield 135, 3) := dk_181 0 135 (dk_at dksX3_nextToken_3 13 rfl rfl)
theorem dX3_nextToken_85 : decode cX3_nextToken 85 = .ok (.aload_n 0, 1) := dk_42 (dk_at dksX3_nextToken_3 16 rfl rfl)
theorem dX3_nextToken_86 : decode cX3_nextToken 86 = .ok (.aload_n 0, 1) := dk_42 (dk_at dksX3_nextToken_3 17 rfl rfl)
theorem dX3_nextToken_87 : decode cX3_nextToken 87 = .ok (.getfield 119, 3) := dk_180 0 119 (dk_at dksX3_nextToken_3 18 rfl rfl)
theorem dX3_nextToken_90 : decode cX3_nextToken 90 = .ok (.invokevirtual 122, 3) := dk_182 0 122 (dk_at dksX3_nextToken_3 21 rfl rfl)
theorem dX3_nextToken_93 : decode cX3_nextToken 93 = .ok (.invokestatic 132, 3) := dk_184 0 132 (dk_at dksX3_nextToken_4 0 rfl rfl)
theorem dX3_nextToken_96 : decode cX3_nextToken 96 = .ok (.ifCond .eq 294, 3) := dk_153 1 38 (dk_at dksX3_nextToken_4 3 rfl rfl)
theorem dX3_nextToken_99 : decode cX3_nextToken 99 = .ok (.aload_n 0, 1) := dk_42 (dk_at dksX3_nextToken_4 6 rfl rfl)
theorem dX3_nextToken_100 : decode cX3_nextToken 100 = .ok (.getfield 135, 3) := dk_180 0 135 (dk_at dksX3_nextToken_4 7 rfl rfl)
theorem dX3_nextToken_103 : decode cX3_nextToken 103 = .ok (.ldc 138, 2) := dk_18 138 (dk_at dksX3_nextToken_4 10 rfl rfl)
theorem dX3_nextToken_105 : decode cX3_nextToken 105 = .ok (.if_icmp .ge 26, 3) := dk_162 0 26 (dk_at dksX3_nextToken_4 12 rfl rfl)
theorem dX3_nextToken_108 : decode cX3_nextToken 108 = .ok (.aload_n 0, 1) := dk_42 (dk_at dksX3_nextToken_4 15 rfl rfl)
theorem dX3_nextToken_109 : decode cX3_nextToken 109 = .ok (.bipush 10, 2) := dk_16 10 (dk_at dksX3_nextToken_4 16 rfl rfl)
theorem dX3_nextToken_111 : decode cX3_nextToken 111 = .ok (.aload_n 0, 1) := dk_42 (dk_at dksX3_nextToken_4 18 rfl rfl)
theorem dX3_nextToken_112 : decode cX3_nextToken 112 = .ok (.getfield 135, 3) := dk_180 0 135 (dk_at dksX3_nextToken_4 19 rfl rfl)
theorem dX3_nextToken_115 : decode cX3_nextToken 115 = .ok (.imul, 1) := dk_104 (dk_at dksX3_nextToken_4 22 rfl rfl)
theorem dX3_nextToken_116 : decode cX3_nextToken 116 = .ok (.aload_n 0, 1) := dk_42 (dk_at dksX3_nextToken_4 23 rfl rfl)
theorem dX3_nextToken_117 : decode cX3_nextToken 117 = .ok (.aload_n 0, 1) := dk_42 (dk_at dksX3_nextToken_5 0 rfl rfl)
theorem dX3_nextToken_118 : decode cX3_nextToken 118 = .ok (.getfield 119, 3) := dk_180 0 119 (dk_at dksX3_nextToken_5 1 rfl rfl)
theorem dX3_nextToken_121 : decode cX3_nextToken 121 = .ok (.invokevirtual 122, 3) := dk_182 0 122 (dk_at dksX3_nextToken_5 4 rfl rfl)
theorem dX3_nextToken_124 : decode cX3_nextToken 124 = .ok (.iadd, 1) := dk_96 (dk_at dksX3_nextToken_5 7 rfl rfl)
theorem dX3_nextToken_125 : decode cX3_nextToken 125 = .ok (.bipush 48, 2) := dk_16 48 (dk_at dksX3_nextToken_5 8 rfl rfl)
theorem dX3_nextToken_127 : decode cX3_nextToken 127 = .ok (.isub, 1) := dk_100 (dk_at dksX3_nextToken_5 10 rfl rfl)
theorem dX3_nextToken_128 : decode cX3_nextToken 128 = .ok (.putfield 135, 3) := dk_181 0 135 (dk_at dksX3_nextToken_5 11 rfl rfl)
theorem dX3_nextToken_131 : decode cX3_nextToken 131 = .ok (.aload_n 0, 1) := dk_42 (dk_at dksX3_nextToken_5 14 rfl rfl)
theorem dX3_nextToken_132 : decode cX3_nextToken 132 = .ok (.dup, 1) := dk_89 (dk_at dksX3_nextToken_5 15 rfl rfl)
theorem dX3_nextToken_133 : decode cX3_nextToken 133 = .ok (.getfield 119, 3) := dk_180 0 119 (dk_at dksX3_nextToken_5 16 rfl rfl)
theorem dX3_nextToken_136 : decode cX3_nextToken 136 = .ok (.iconst 1, 1) := dk_4 (dk_at dksX3_nextToken_5 19 rfl rfl)
theorem dX3_nextToken_137 : decode cX3_nextToken 137 = .ok (.iadd, 1) := dk_96 (dk_at dksX3_nextToken_5 20 rfl rfl)
theorem dX3_nextToken_138 : decode cX3_nextToken 138 = .ok (.putfield 119, 3) := dk_181 0 119 (dk_at dksX3_nextToken_5 21 rfl rfl)
theorem dX3_nextToken_141 : decode cX3_nextToken 141 = .ok (.goto (-56), 3) := dk_167 255 200 (dk_at dksX3_nextToken_6 0 rfl rfl)
theorem dX3_nextToken_144 : decode cX3_nextToken 144 = .ok (.iload_n 1, 1) := dk_27 (dk_at dksX3_nextToken_6 3 rfl rfl)
theorem dX3_nextToken_145 : decode cX3_nextToken 145 = .ok (.invokestatic 139, 3) := dk_184 0 139 (dk_at dksX3_nextToken_6 4 rfl rfl)
theorem dX3_nextToken_148 : decode cX3_nextToken 148 = .ok (.ifCond .eq 97, 3) := dk_153 0 97 (dk_at dksX3_nextToken_6 7 rfl rfl)
theorem dX3_nextToken_151 : decode cX3_nextToken 151 = .ok (.aload_n 0, 1) := dk_42 (dk_at dksX3_nextToken_6 10 rfl rfl)
theorem dX3_nextToken_152 : decode cX3_nextToken 152 = .ok (.iconst 2, 1) := dk_5 (dk_at dksX3_nextToken_6 11 rfl rfl)
theorem dX3_nextToken_153 : decode cX3_nextToken 153 = .ok (.putfield 129, 3) := dk_181 0 129 (dk_at dksX3_nextToken_6 12 rfl rfl)
theorem dX3_nextToken_156 : decode cX3_nextToken 156 = .ok (.aload_n 0, 1) := dk_42 (dk_at dksX3_nextToken_6 15 rfl rfl)
theorem dX3_nextToken_157 : decode cX3_nextToken 157 = .ok (.lconst 0, 1) := dk_9 (dk_at dksX3_nextToken_6 16 rfl rfl)
theorem dX3_nextToken_158 : decode cX3_nextToken 158 = .ok (.putfield 142, 3) := dk_181 0 142 (dk_at dksX3_nextToken_6 17 rfl rfl)
theorem dX3_nextToken_161 : decode cX3_nextToken 161 = .ok (.aload_n 0, 1) := dk_42 (dk_at dksX3_nextToken_6 20 rfl rfl)
theorem dX3_nextToken_162 : decode cX3_nextToken 162 = .ok (.aload_n 0, 1) := dk_42 (dk_at dksX3_nextToken_6 21 rfl rfl)
theorem dX3_nextToken_163 : decode cX3_nextToken 163 = .ok (.getfield 119, 3) := dk_180 0 119 (dk_at dksX3_nextToken_7 0 rfl rfl)
theorem dX3_nextToken_166 : decode cX3_nextToken 166 = .ok (.invokevirtual 122, 3) := dk_182 0 122 (dk_at dksX3_nextToken_7 3 rfl rfl)
theorem dX3_nextToken_169 : decode cX3_nextToken 169 = .ok (.invokestatic 139, 3) := dk_184 0 139 (dk_at dksX3_nextToken_7 6 rfl rfl)
theorem dX3_nextToken_172 : decode cX3_nextToken 172 = .ok (.ifCond .eq 51, 3) := dk_153 0 51 (dk_at dksX3_nextToken_7 9 rfl rfl)
theorem dX3_nextToken_175 : decode cX3_nextToken 175 = .ok (.aload_n 0, 1) := dk_42 (dk_at dksX3_nextToken_7 12 rfl rfl)
theorem dX3_nextToken_176 : decode cX3_nextToken 176 = .ok (.getfield 119, 3) := dk_180 0 119 (dk_at dksX3_nextToken_7 13 rfl rfl)
theorem dX3_nextToken_179 : decode cX3_nextToken 179 = .ok (.aload_n 0, 1) := dk_42 (dk_at dksX3_nextToken_7 16 rfl rfl)
theorem dX3_nextToken_180 : decode cX3_nextToken 180 = .ok (.getfield 126, 3) := dk_180 0 126 (dk_at dksX3_nextToken_7 17 rfl rfl)
theorem dX3_nextToken_183 : decode cX3_nextToken 183 = .ok (.isub, 1) := dk_100 (dk_at dksX3_nextToken_7 20 rfl rfl)
theorem dX3_nextToken_184 : decode cX3_nextToken 184 = .ok (.bipush 7, 2) := dk_16 7 (dk_at dksX3_nextToken_7 21 rfl rfl)
theorem dX3_nextToken_186 : decode cX3_nextToken 186 = .ok (.if_icmp .ge 24, 3) := dk_162 0 24 (dk_at dksX3_nextToken_8 0 rfl rfl)
theorem dX3_nextToken_189 : decode cX3_nextToken 189 = .ok (.aload_n 0, 1) := dk_42 (dk_at dksX3_nextToken_8 3 rfl rfl)
theorem dX3_nextToken_190 : decode cX3_nextToken 190 = .ok (.aload_n 0, 1) := dk_42 (dk_at dksX3_nextToken_8 4 rfl rfl)
theorem dX3_nextToken_191 : decode cX3_nextToken 191 = .ok (.getfield 142, 3) := dk_180 0 142 (dk_at dksX3_nextToken_8 5 rfl rfl)
theorem dX3_nextToken_194 : decode cX3_nextToken 194 = .ok (.bipush 8, 2) := dk_16 8 (dk_at dksX3_nextToken_8 8 rfl rfl)
theorem dX3_nextToken_196 : decode cX3_nextToken 196 = .ok (.lshl, 1) := dk_121 (dk_at dksX3_nextToken_8 10 rfl rfl)
theorem dX3_nextToken_197 : decode cX3_nextToken 197 = .ok (.aload_n 0, 1) := dk_42 (dk_at dksX3_nextToken_8 11 rfl rfl)
theorem dX3_nextToken_198 : decode cX3_nextToken 198 = .ok (.aload_n 0, 1) := dk_42 (dk_at dksX3_nextToken_8 12 rfl rfl)
theorem dX3_nextToken_199 : decode cX3_nextToken 199 = .ok (.getfield 119, 3) := dk_180 0 119 (dk_at dksX3_nextToken_8 13 rfl rfl)
theorem dX3_nextToken_202 : decode cX3_nextToken 202 = .ok (.invokevirtual 122, 3) := dk_182 0 122 (dk_at dksX3_nextToken_8 16 rfl rfl)
theorem dX3_nextToken_205 : decode cX3_nextToken 205 = .ok (.i2l, 1) := dk_133 (dk_at dksX3_nextToken_8 19 rfl rfl)
theorem dX3_nextToken_206 : decode cX3_nextToken 206 = .ok (.lor, 1) := dk_129 (dk_at dksX3_nextToken_8 20 rfl rfl)
theorem dX3_nextToken_207 : decode cX3_nextToken 207 = .ok (.putfield 142, 3) := dk_181 0 142 (dk_at dksX3_nextToken_8 21 rfl rfl)
theorem dX3_nextToken_210 : decode cX3_nextToken 210 = .ok (.aload_n 0, 1) := dk_42 (dk_at dksX3_nextToken_9 0 rfl rfl)
theorem dX3_nextToken_211 : decode cX3_nextToken 211 = .ok (.dup, 1) := dk_89 (dk_at dksX3_nextToken_9 1 rfl rfl)
theorem dX3_nextToken_212 : decode cX3_nextToken 212 = .ok (.getfield 119, 3) := dk_180 0 119 (dk_at dksX3_nextToken_9 2 rfl rfl)
theorem dX3_nextToken_215 : decode cX3_nextToken 215 = .ok (.iconst 1, 1) := dk_4 (dk_at dksX3_nextToken_9 5 rfl rfl)
theorem dX3_nextToken_216 : decode cX3_nextToken 216 = .ok (.iadd, 1) := dk_96 (dk_at dksX3_nextToken_9 6 rfl rfl)
theorem dX3_nextToken_217 : decode cX3_nextToken 217 = .ok (.putfield 119, 3) := dk_181 0 119 (dk_at dksX3_nextToken_9 7 rfl rfl)
theorem dX3_nextToken_220 : decode cX3_nextToken 220 = .ok (.goto (-59), 3) := dk_167 255 197 (dk_at dksX3_nextToken_9 10 rfl rfl)
theorem dX3_nextToken_223 : decode cX3_nextToken 223 = .ok (.aload_n 0, 1) := dk_42 (dk_at dksX3_nextToken_9 13 rfl rfl)
theorem dX3_nextToken_224 : decode cX3_nextToken 224 = .ok (.getfield 119, 3) := dk_180 0 119 (dk_at dksX3_nextToken_9 14 rfl rfl)
theorem dX3_nextToken_227 : decode cX3_nextToken 227 = .ok (.aload_n 0, 1) := dk_42 (dk_at dksX3_nextToken_9 17 rfl rfl)
theorem dX3_nextToken_228 : decode cX3_nextToken 228 = .ok (.getfield 126, 3) := dk_180 0 126 (dk_at dksX3_nextToken_9 18 rfl rfl)
theorem dX3_nextToken_231 : decode cX3_nextToken 231 = .ok (.isub, 1) := dk_100 (dk_at dksX3_nextToken_9 21 rfl rfl)
theorem dX3_nextToken_232 : decode cX3_nextToken 232 = .ok (.bipush 7, 2) := dk_16 7 (dk_at dksX3_nextToken_9 22 rfl rfl)
theorem dX3_nextToken_234 : decode cX3_nextToken 234 = .ok (.if_icmp .le 156, 3) := dk_164 0 156 (dk_at dksX3_nextToken_10 0 rfl rfl)
theorem dX3_nextToken_237 : decode cX3_nextToken 237 = .ok (.aload_n 0, 1) := dk_42 (dk_at dksX3_nextToken_10 3 rfl rfl)
theorem dX3_nextToken_238 : decode cX3_nextToken 238 = .ok (.lconst 0, 1) := dk_9 (dk_at dksX3_nextToken_10 4 rfl rfl)
theorem dX3_nextToken_239 : decode cX3_nextToken 239 = .ok (.putfield 142, 3) := dk_181 0 142 (dk_at dksX3_nextToken_10 5 rfl rfl)
theorem dX3_nextToken_242 : decode cX3_nextToken 242 = .ok (.goto 148, 3) := dk_167 0 148 (dk_at dksX3_nextToken_10 8 rfl rfl)
theorem dX3_nextToken_245 : decode cX3_nextToken 245 = .ok (.aload_n 0, 1) := dk_42 (dk_at dksX3_nextToken_10 11 rfl rfl)
theorem dX3_nextToken_246 : decode cX3_nextToken 246 = .ok (.dup, 1) := dk_89 (dk_at dksX3_nextToken_10 12 rfl rfl)
theorem dX3_nextToken_247 : decode cX3_nextToken 247 = .ok (.getfield 119, 3) := dk_180 0 119 (dk_at dksX3_nextToken_10 13 rfl rfl)
theorem dX3_nextToken_250 : decode cX3_nextToken 250 = .ok (.iconst 1, 1) := dk_4 (dk_at dksX3_nextToken_10 16 rfl rfl)
theorem dX3_nextToken_251 : decode cX3_nextToken 251 = .ok (.iadd, 1) := dk_96 (dk_at dksX3_nextToken_10 17 rfl rfl)
theorem dX3_nextToken_252 : decode cX3_nextToken 252 = .ok (.putfield 119, 3) := dk_181 0 119 (dk_at dksX3_nextToken_10 18 rfl rfl)
theorem dX3_nextToken_255 : decode cX3_nextToken 255 = .ok (.iload_n 1, 1) := dk_27 (dk_at dksX3_nextToken_10 21 rfl rfl)
theorem dX3_nextToken_256 : decode cX3_nextToken 256 = .ok (.bipush 60, 2) := dk_16 60 (dk_at dksX3_nextToken_10 22 rfl rfl)
theorem dX3_nextToken_258 : decode cX3_nextToken 258 = .ok (.if_icmp .eq 63, 3) := dk_159 0 63 (dk_at dksX3_nextToken_11 0 rfl rfl)
theorem dX3_nextToken_261 : decode cX3_nextToken 261 = .ok (.iload_n 1, 1) := dk_27 (dk_at dksX3_nextToken_11 3 rfl rfl)
theorem dX3_nextToken_262 : decode cX3_nextToken 262 = .ok (.bipush 62, 2) := dk_16 62 (dk_at dksX3_nextToken_11 4 rfl rfl)
theorem dX3_nextToken_264 : decode cX3_nextToken 264 = .ok (.if_icmp .eq 57, 3) := dk_159 0 57 (dk_at dksX3_nextToken_11 6 rfl rfl)
theorem dX3_nextToken_267 : decode cX3_nextToken 267 = .ok (.iload_n 1, 1) := dk_27 (dk_at dksX3_nextToken_11 9 rfl rfl)
theorem dX3_nextToken_268 : decode cX3_nextToken 268 = .ok (.bipush 61, 2) := dk_16 61 (dk_at dksX3_nextToken_11 10 rfl rfl)
theorem dX3_nextToken_270 : decode cX3_nextToken 270 = .ok (.if_icmp .eq 51, 3) := dk_159 0 51 (dk_at dksX3_nextToken_11 12 rfl rfl)
theorem dX3_nextToken_273 : decode cX3_nextToken 273 = .ok (.iload_n 1, 1) := dk_27 (dk_at dksX3_nextToken_11 15 rfl rfl)
theorem dX3_nextToken_274 : decode cX3_nextToken 274 = .ok (.bipush 35, 2) := dk_16 35 (dk_at dksX3_nextToken_11 16 rfl rfl)
theorem dX3_nextToken_276 : decode cX3_nextToken 276 = .ok (.if_icmp .eq 45, 3) := dk_159 0 45 (dk_at dksX3_nextToken_11 18 rfl rfl)
theorem dX3_nextToken_279 : decode cX3_nextToken 279 = .ok (.iload_n 1, 1) := dk_27 (dk_at dksX3_nextToken_11 21 rfl rfl)
theorem dX3_nextToken_280 : decode cX3_nextToken 280 = .ok (.bipush 43, 2) := dk_16 43 (dk_at dksX3_nextToken_11 22 rfl rfl)
theorem dX3_nextToken_282 : decode cX3_nextToken 282 = .ok (.if_icmp .eq 39, 3) := dk_159 0 39 (dk_at dksX3_nextToken_12 0 rfl rfl)
theorem dX3_nextToken_285 : decode cX3_nextToken 285 = .ok (.iload_n 1, 1) := dk_27 (dk_at dksX3_nextToken_12 3 rfl rfl)
theorem dX3_nextToken_286 : decode cX3_nextToken 286 = .ok (.bipush 45, 2) := dk_16 45 (dk_at dksX3_nextToken_12 4 rfl rfl)
theorem dX3_nextToken_288 : decode cX3_nextToken 288 = .ok (.if_icmp .eq 33, 3) := dk_159 0 33 (dk_at dksX3_nextToken_12 6 rfl rfl)
theorem dX3_nextToken_291 : decode cX3_nextToken 291 = .ok (.iload_n 1, 1) := dk_27 (dk_at dksX3_nextToken_12 9 rfl rfl)
theorem dX3_nextToken_292 : decode cX3_nextToken 292 = .ok (.bipush 42, 2) := dk_16 42 (dk_at dksX3_nextToken_12 10 rfl rfl)
theorem dX3_nextToken_294 : decode cX3_nextToken 294 = .ok (.if_icmp .eq 27, 3) := dk_159 0 27 (dk_at dksX3_nextToken_12 12 rfl rfl)
theorem dX3_nextToken_297 : decode cX3_nextToken 297 = .ok (.iload_n 1, 1) := dk_27 (dk_at dksX3_nextToken_12 15 rfl rfl)
theorem dX3_nextToken_298 : decode cX3_nextToken 298 = .ok (.bipush 47, 2) := dk_16 47 (dk_at dksX3_nextToken_12 16 rfl rfl)
theorem dX3_nextToken_300 : decode cX3_nextToken 300 = .ok (.if_icmp .eq 21, 3) := dk_159 0 21 (dk_at dksX3_nextToken_12 18 rfl rfl)
theorem dX3_nextToken_303 : decode cX3_nextToken 303 = .ok (.iload_n 1, 1) := dk_27 (dk_at dksX3_nextToken_12 21 rfl rfl)
theorem dX3_nextToken_304 : decode cX3_nextToken 304 = .ok (.bipush 40, 2) := dk_16 40 (dk_at dksX3_nextToken_12 22 rfl rfl)
theorem dX3_nextToken_306 : decode cX3_nextToken 306 = .ok (.if_icmp .eq 15, 3) := dk_159 0 15 (dk_at dksX3_nextToken_13 0 rfl rfl)
theorem dX3_nextToken_309 : decode cX3_nextToken 309 = .ok (.iload_n 1, 1) := dk_27 (dk_at dksX3_nextToken_13 3 rfl rfl)
theorem dX3_nextToken_310 : decode cX3_nextToken 310 = .ok (.bipush 41, 2) := dk_16 41 (dk_at dksX3_nextToken_13 4 rfl rfl)
theorem dX3_nextToken_312 : decode cX3_nextToken 312 = .ok (.if_icmp .eq 9, 3) := dk_159 0 9 (dk_at dksX3_nextToken_13 6 rfl rfl)
theorem dX3_nextToken_315 : decode cX3_nextToken 315 = .ok (.iload_n 1, 1) := dk_27 (dk_at dksX3_nextToken_13 9 rfl rfl)
theorem dX3_nextToken_316 : decode cX3_nextToken 316 = .ok (.bipush 59, 2) := dk_16 59 (dk_at dksX3_nextToken_13 10 rfl rfl)
theorem dX3_nextToken_318 : decode cX3_nextToken 318 = .ok (.if_icmp .ne 7, 3) := dk_160 0 7 (dk_at dksX3_nextToken_13 12 rfl rfl)
theorem dX3_nextToken_321 : decode cX3_nextToken 321 = .ok (.iconst 1, 1) := dk_4 (dk_at dksX3_nextToken_13 15 rfl rfl)
theorem dX3_nextToken_322 : decode cX3_nextToken 322 = .ok (.goto 4, 3) := dk_167 0 4 (dk_at dksX3_nextToken_13 16 rfl rfl)
theorem dX3_nextToken_325 : decode cX3_nextToken 325 = .ok (.iconst 0, 1) := dk_3 (dk_at dksX3_nextToken_13 19 rfl rfl)
theorem dX3_nextToken_326 : decode cX3_nextToken 326 = .ok (.istore_n 2, 1) := dk_61 (dk_at dksX3_nextToken_13 20 rfl rfl)
theorem dX3_nextToken_327 : decode cX3_nextToken 327 = .ok (.aload_n 0, 1) := dk_42 (dk_at dksX3_nextToken_13 21 rfl rfl)
theorem dX3_nextToken_328 : decode cX3_nextToken 328 = .ok (.iload_n 2, 1) := dk_28 (dk_at dksX3_nextToken_13 22 rfl rfl)
theorem dX3_nextToken_329 : decode cX3_nextToken 329 = .ok (.ifCond .eq 7, 3) := dk_153 0 7 (dk_at dksX3_nextToken_14 0 rfl rfl)
theorem dX3_nextToken_332 : decode cX3_nextToken 332 = .ok (.iload_n 1, 1) := dk_27 (dk_at dksX3_nextToken_14 3 rfl rfl)
theorem dX3_nextToken_333 : decode cX3_nextToken 333 = .ok (.goto 4, 3) := dk_167 0 4 (dk_at dksX3_nextToken_14 4 rfl rfl)
theorem dX3_nextToken_336 : decode cX3_nextToken 336 = .ok (.iconst 3, 1) := dk_6 (dk_at dksX3_nextToken_14 7 rfl rfl)
theorem dX3_nextToken_337 : decode cX3_nextToken 337 = .ok (.putfield 129, 3) := dk_181 0 129 (dk_at dksX3_nextToken_14 8 rfl rfl)
theorem dX3_nextToken_340 : decode cX3_nextToken 340 = .ok (.iload_n 1, 1) := dk_27 (dk_at dksX3_nextToken_14 11 rfl rfl)
theorem dX3_nextToken_341 : decode cX3_nextToken 341 = .ok (.bipush 60, 2) := dk_16 60 (dk_at dksX3_nextToken_14 12 rfl rfl)
theorem dX3_nextToken_343 : decode cX3_nextToken 343 = .ok (.if_icmp .eq 9, 3) := dk_159 0 9 (dk_at dksX3_nextToken_14 14 rfl rfl)
theorem dX3_nextToken_346 : decode cX3_nextToken 346 = .ok (.iload_n 1, 1) := dk_27 (dk_at dksX3_nextToken_14 17 rfl rfl)
theorem dX3_nextToken_347 : decode cX3_nextToken 347 = .ok (.bipush 62, 2) := dk_16 62 (dk_at dksX3_nextToken_14 18 rfl rfl)
theorem dX3_nextToken_349 : decode cX3_nextToken 349 = .ok (.if_icmp .ne 41, 3) := dk_160 0 41 (dk_at dksX3_nextToken_14 20 rfl rfl)
theorem dX3_nextToken_352 : decode cX3_nextToken 352 = .ok (.aload_n 0, 1) := dk_42 (dk_at dksX3_nextToken_14 23 rfl rfl)
theorem dX3_nextToken_353 : decode cX3_nextToken 353 = .ok (.aload_n 0, 1) := dk_42 (dk_at dksX3_nextToken_15 0 rfl rfl)
theorem dX3_nextToken_354 : decode cX3_nextToken 354 = .ok (.getfield 119, 3) := dk_180 0 119 (dk_at dksX3_nextToken_15 1 rfl rfl)
theorem dX3_nextToken_357 : decode cX3_nextToken 357 = .ok (.invokevirtual 122, 3) := dk_182 0 122 (dk_at dksX3_nextToken_15 4 rfl rfl)
theorem dX3_nextToken_360 : decode cX3_nextToken 360 = .ok (.bipush 61, 2) := dk_16 61 (dk_at dksX3_nextToken_15 7 rfl rfl)
theorem dX3_nextToken_362 : decode cX3_nextToken 362 = .ok (.if_icmp .ne 28, 3) := dk_160 0 28 (dk_at dksX3_nextToken_15 9 rfl rfl)
theorem dX3_nextToken_365 : decode cX3_nextToken 365 = .ok (.aload_n 0, 1) := dk_42 (dk_at dksX3_nextToken_15 12 rfl rfl)
theorem dX3_nextToken_366 : decode cX3_nextToken 366 = .ok (.dup, 1) := dk_89 (dk_at dksX3_nextToken_15 13 rfl rfl)
theorem dX3_nextToken_367 : decode cX3_nextToken 367 = .ok (.getfield 119, 3) := dk_180 0 119 (dk_at dksX3_nextToken_15 14 rfl rfl)
theorem dX3_nextToken_370 : decode cX3_nextToken 370 = .ok (.iconst 1, 1) := dk_4 (dk_at dksX3_nextToken_15 17 rfl rfl)
theorem dX3_nextToken_371 : decode cX3_nextToken 371 = .ok (.iadd, 1) := dk_96 (dk_at dksX3_nextToken_15 18 rfl rfl)
theorem dX3_nextToken_372 : decode cX3_nextToken 372 = .ok (.putfield 119, 3) := dk_181 0 119 (dk_at dksX3_nextToken_15 19 rfl rfl)
theorem dX3_nextToken_375 : decode cX3_nextToken 375 = .ok (.aload_n 0, 1) := dk_42 (dk_at dksX3_nextToken_15 22 rfl rfl)
theorem dX3_nextToken_376 : decode cX3_nextToken 376 = .ok (.iload_n 1, 1) := dk_27 (dk_at dksX3_nextToken_15 23 rfl rfl)
theorem dX3_nextToken_377 : decode cX3_nextToken 377 = .ok (.bipush 60, 2) := dk_16 60 (dk_at dksX3_nextToken_16 0 rfl rfl)
theorem dX3_nextToken_379 : decode cX3_nextToken 379 = .ok (.if_icmp .ne 7, 3) := dk_160 0 7 (dk_at dksX3_nextToken_16 2 rfl rfl)
theorem dX3_nextToken_382 : decode cX3_nextToken 382 = .ok (.iconst 4, 1) := dk_7 (dk_at dksX3_nextToken_16 5 rfl rfl)
theorem dX3_nextToken_383 : decode cX3_nextToken 383 = .ok (.goto 4, 3) := dk_167 0 4 (dk_at dksX3_nextToken_16 6 rfl rfl)
theorem dX3_nextToken_386 : decode cX3_nextToken 386 = .ok (.iconst 5, 1) := dk_8 (dk_at dksX3_nextToken_16 9 rfl rfl)
theorem dX3_nextToken_387 : decode cX3_nextToken 387 = .ok (.putfield 129, 3) := dk_181 0 129 (dk_at dksX3_nextToken_16 10 rfl rfl)
theorem dX3_nextToken_390 : decode cX3_nextToken 390 = .ok (.return_, 1) := dk_177 (dk_at dksX3_nextToken_16 13 rfl rfl)
abbrev cX3_byteAt : ByteArray := prog_17_method_22_code
def yX3_byteAt : MethodName := ⟨RX3, "byteAt", "(I)I"⟩
def dkwX3_byteAt_0 : List UInt8 := [27, 42, 180, 0, 112, 162, 0, 12, 42, 180, 0, 19, 27, 46, 167, 0, 4, 2, 172]
abbrev dktX3_byteAt_0 : List UInt8 := dkwX3_byteAt_0 ++ []
theorem dksX3_byteAt_0 : cX3_byteAt.data.toList.drop 0 = dktX3_byteAt_0 := by decide +kernel
theorem dX3_byteAt_0 : decode cX3_byteAt 0 = .ok (.iload_n 1, 1) := dk_27 (dk_at dksX3_byteAt_0 0 rfl rfl)
theorem dX3_byteAt_1 : decode cX3_byteAt 1 = .ok (.aload_n 0, 1) := dk_42 (dk_at dksX3_byteAt_0 1 rfl rfl)
theorem dX3_byteAt_2 : decode cX3_byteAt 2 = .ok (.getfield 112, 3) := dk_180 0 112 (dk_at dksX3_byteAt_0 2 rfl rfl)
theorem dX3_byteAt_5 : decode cX3_byteAt 5 = .ok (.if_icmp .ge 12, 3) := dk_162 0 12 (dk_at dksX3_byteAt_0 5 rfl rfl)
theorem dX3_byteAt_8 : decode cX3_byteAt 8 = .ok (.aload_n 0, 1) := dk_42 (dk_at dksX3_byteAt_0 8 rfl rfl)
theorem dX3_byteAt_9 : decode cX3_byteAt 9 = .ok (.getfield 19, 3) := dk_180 0 19 (dk_at dksX3_byteAt_0 9 rfl rfl)
theorem dX3_byteAt_12 : decode cX3_byteAt 12 = .ok (.iload_n 1, 1) := dk_27 (dk_at dksX3_byteAt_0 12 rfl rfl)
theorem dX3_byteAt_13 : decode cX3_byteAt 13 = .ok (.iaload, 1) := dk_46 (dk_at dksX3_byteAt_0 13 rfl rfl)
theorem dX3_byteAt_14 : decode cX3_byteAt 14 = .ok (.goto 4, 3) := dk_167 0 4 (dk_at dksX3_byteAt_0 14 rfl rfl)
theorem dX3_byteAt_17 : decode cX3_byteAt 17 = .ok (.iconst (-1), 1) := dk_2 (dk_at dksX3_byteAt_0 17 rfl rfl)
theorem dX3_byteAt_18 : decode cX3_byteAt 18 = .ok (.ireturn, 1) := dk_172 (dk_at dksX3_byteAt_0 18 rfl rfl)
abbrev cX3_isDigit : ByteArray := prog_17_method_24_code
def yX3_isDigit : MethodName := ⟨RX3, "isDigit", "(I)Z"⟩
def dkwX3_isDigit_0 : List UInt8 := [26, 16, 48, 16, 57, 184, 0, 90, 172]
abbrev dktX3_isDigit_0 : List UInt8 := dkwX3_isDigit_0 ++ []
theorem dksX3_isDigit_0 : cX3_isDigit.data.toList.drop 0 = dktX3_isDigit_0 := by decide +kernel
theorem dX3_isDigit_0 : decode cX3_isDigit 0 = .ok (.iload_n 0, 1) := dk_26 (dk_at dksX3_isDigit_0 0 rfl rfl)
theorem dX3_isDigit_1 : decode cX3_isDigit 1 = .ok (.bipush 48, 2) := dk_16 48 (dk_at dksX3_isDigit_0 1 rfl rfl)
theorem dX3_isDigit_3 : decode cX3_isDigit 3 = .ok (.bipush 57, 2) := dk_16 57 (dk_at dksX3_isDigit_0 3 rfl rfl)
theorem dX3_isDigit_5 : decode cX3_isDigit 5 = .ok (.invokestatic 90, 3) := dk_184 0 90 (dk_at dksX3_isDigit_0 5 rfl rfl)
theorem dX3_isDigit_8 : decode cX3_isDigit 8 = .ok (.ireturn, 1) := dk_172 (dk_at dksX3_isDigit_0 8 rfl rfl)
abbrev cX3_isLetter : ByteArray := prog_17_method_23_code
def yX3_isLetter : MethodName := ⟨RX3, "isLetter", "(I)Z"⟩
def dkwX3_isLetter_1 : List UInt8 := [167, 0, 4, 3, 172]
abbrev dktX3_isLetter_1 : List UInt8 := dkwX3_isLetter_1 ++ []
def dkwX3_isLetter_0 : List UInt8 := [26, 16, 97, 16, 122, 184, 0, 90, 154, 0, 14, 26, 16, 65, 16, 90, 184, 0, 90, 153, 0, 7, 4]
abbrev dktX3_isLetter_0 : List UInt8 := dkwX3_isLetter_0 ++ dktX3_isLetter_1
theorem dksX3_isLetter_0 : cX3_isLetter.data.toList.drop 0 = dktX3_isLetter_0 := by decide +kernel
theorem dksX3_isLetter_1 : cX3_isLetter.data.toList.drop 23 = dktX3_isLetter_1 := dk_seg dksX3_isLetter_0 23 rfl rfl
theorem dX3_isLetter_0 : decode cX3_isLetter 0 = .ok (.iload_n 0, 1) := dk_26 (dk_at dksX3_isLetter_0 0 rfl rfl)
theorem dX3_isLetter_1 : decode cX3_isLetter 1 = .ok (.bipush 97, 2) := dk_16 97 (dk_at dksX3_isLetter_0 1 rfl rfl)
theorem dX3_isLetter_3 : decode cX3_isLetter 3 = .ok (.bipush 122, 2) := dk_16 122 (dk_at dksX3_isLetter_0 3 rfl rfl)
theorem dX3_isLetter_5 : decode cX3_isLetter 5 = .ok (.invokestatic 90, 3) := dk_184 0 90 (dk_at dksX3_isLetter_0 5 rfl rfl)
theorem dX3_isLetter_8 : decode cX3_isLetter 8 = .ok (.ifCond .ne 14, 3) := dk_154 0 14 (dk_at dksX3_isLetter_0 8 rfl rfl)
theorem dX3_isLetter_11 : decode cX3_isLetter 11 = .ok (.iload_n 0, 1) := dk_26 (dk_at dksX3_isLetter_0 11 rfl rfl)
theorem dX3_isLetter_12 : decode cX3_isLetter 12 = .ok (.bipush 65, 2) := dk_16 65 (dk_at dksX3_isLetter_0 12 rfl rfl)
theorem dX3_isLetter_14 : decode cX3_isLetter 14 = .ok (.bipush 90, 2) := dk_16 90 (dk_at dksX3_isLetter_0 14 rfl rfl)
theorem dX3_isLetter_16 : decode cX3_isLetter 16 = .ok (.invokestatic 90, 3) := dk_184 0 90 (dk_at dksX3_isLetter_0 16 rfl rfl)
theorem dX3_isLetter_19 : decode cX3_isLetter 19 = .ok (.ifCond .eq 7, 3) := dk_153 0 7 (dk_at dksX3_isLetter_0 19 rfl rfl)
theorem dX3_isLetter_22 : decode cX3_isLetter 22 = .ok (.iconst 1, 1) := dk_4 (dk_at dksX3_isLetter_0 22 rfl rfl)
theorem dX3_isLetter_23 : decode cX3_isLetter 23 = .ok (.goto 4, 3) := dk_167 0 4 (dk_at dksX3_isLetter_1 0 rfl rfl)
theorem dX3_isLetter_26 : decode cX3_isLetter 26 = .ok (.iconst 0, 1) := dk_3 (dk_at dksX3_isLetter_1 3 rfl rfl)
theorem dX3_isLetter_27 : decode cX3_isLetter 27 = .ok (.ireturn, 1) := dk_172 (dk_at dksX3_isLetter_1 4 rfl rfl)
abbrev cX3_clause : ByteArray := prog_17_method_47_code
def yX3_clause : MethodName := ⟨RX3, "clause", "()I"⟩
def dkwX3_clause_8 : List UInt8 := [172, 42, 182, 0, 189, 3, 172]
abbrev dktX3_clause_8 : List UInt8 := dkwX3_clause_8 ++ []
def dkwX3_clause_7 : List UInt8 := [79, 42, 180, 0, 16, 42, 180, 0, 154, 92, 46, 4, 96, 79, 42, 180, 0, 129, 16, 59, 159, 0, 5, 4]
abbrev dktX3_clause_7 : List UInt8 := dkwX3_clause_7 ++ dktX3_clause_8
def dkwX3_clause_6 : List UInt8 := [182, 0, 246, 54, 4, 21, 4, 153, 0, 6, 21, 4, 172, 42, 180, 0, 16, 29, 6, 96, 42, 180, 0, 157]
abbrev dktX3_clause_6 : List UInt8 := dkwX3_clause_6 ++ dktX3_clause_7
def dkwX3_clause_5 : List UInt8 := [180, 0, 16, 29, 5, 96, 42, 180, 0, 157, 79, 27, 8, 161, 0, 10, 42, 182, 0, 224, 167, 0, 7, 42]
abbrev dktX3_clause_5 : List UInt8 := dkwX3_clause_5 ++ dktX3_clause_6
def dkwX3_clause_4 : List UInt8 := [160, 0, 11, 42, 29, 182, 0, 243, 167, 0, 4, 3, 54, 4, 21, 4, 153, 0, 6, 21, 4, 172, 42]
abbrev dktX3_clause_4 : List UInt8 := dkwX3_clause_4 ++ dktX3_clause_5
def dkwX3_clause_3 : List UInt8 := [182, 0, 189, 42, 180, 0, 154, 4, 96, 7, 28, 104, 96, 62, 42, 180, 0, 16, 29, 27, 79, 27, 7]
abbrev dktX3_clause_3 : List UInt8 := dkwX3_clause_3 ++ dktX3_clause_4
def dkwX3_clause_2 : List UInt8 := [172, 27, 8, 161, 0, 15, 42, 89, 180, 0, 240, 4, 27, 120, 128, 181, 0, 240, 42, 27, 181, 0, 186, 42]
abbrev dktX3_clause_2 : List UInt8 := dkwX3_clause_2 ++ dktX3_clause_3
def dkwX3_clause_1 : List UInt8 := [4, 160, 0, 5, 7, 172, 42, 180, 0, 16, 42, 180, 0, 154, 46, 61, 28, 16, 12, 160, 0, 6, 16, 6]
abbrev dktX3_clause_1 : List UInt8 := dkwX3_clause_1 ++ dktX3_clause_2
def dkwX3_clause_0 : List UInt8 := [42, 182, 0, 237, 60, 27, 154, 0, 5, 4, 172, 27, 8, 161, 0, 17, 42, 180, 0, 240, 27, 122, 4, 126]
abbrev dktX3_clause_0 : List UInt8 := dkwX3_clause_0 ++ dktX3_clause_1
theorem dksX3_clause_0 : cX3_clause.data.toList.drop 0 = dktX3_clause_0 := by decide +kernel
theorem dksX3_clause_1 : cX3_clause.data.toList.drop 24 = dktX3_clause_1 := dk_seg dksX3_clause_0 24 rfl rfl
theorem dksX3_clause_2 : cX3_clause.data.toList.drop 48 = dktX3_clause_2 := dk_seg dksX3_clause_1 24 rfl rfl
theorem dksX3_clause_3 : cX3_clause.data.toList.drop 72 = dktX3_clause_3 := dk_seg dksX3_clause_2 24 rfl rfl
theorem dksX3_clause_4 : cX3_clause.data.toList.drop 95 = dktX3_clause_4 := dk_seg dksX3_clause_3 23 rfl rfl
theorem dksX3_clause_5 : cX3_clause.data.toList.drop 118 = dktX3_clause_5 := dk_seg dksX3_clause_4 23 rfl rfl
theorem dksX3_clause_6 : cX3_clause.data.toList.drop 142 = dktX3_clause_6 := dk_seg dksX3_clause_5 24 rfl rfl
theorem dksX3_clause_7 : cX3_clause.data.toList.drop 166 = dktX3_clause_7 := dk_seg dksX3_clause_6 24 rfl rfl
theorem dksX3_clause_8 : cX3_clause.data.toList.drop 190 = dktX3_clause_8 := dk_seg dksX3_clause_7 24 rfl rfl
theorem dX3_clause_0 : decode cX3_clause 0 = .ok (.aload_n 0, 1) := dk_42 (dk_at dksX3_clause_0 0 rfl rfl)
theorem dX3_clause_1 : decode cX3_clause 1 = .ok (.invokevirtual 237, 3) := dk_182 0 237 (dk_at dksX3_clause_0 1 rfl rfl)
theorem dX3_clause_4 : decode cX3_clause 4 = .ok (.istore_n 1, 1) := dk_60 (dk_at dksX3_clause_0 4 rfl rfl)
theorem dX3_clause_5 : decode cX3_clause 5 = .ok (.iload_n 1, 1) := dk_27 (dk_at dksX3_clause_0 5 rfl rfl)
theorem dX3_clause_6 : decode cX3_clause 6 = .ok (.ifCond .ne 5, 3) := dk_154 0 5 (dk_at dksX3_clause_0 6 rfl rfl)
theorem dX3_clause_9 : decode cX3_clause 9 = .ok (.iconst 1, 1) := dk_4 (dk_at dksX3_clause_0 9 rfl rfl)
theorem dX3_clause_10 : decode cX3_clause 10 = .ok (.ireturn, 1) := dk_172 (dk_at dksX3_clause_0 10 rfl rfl)
theorem dX3_clause_11 : decode cX3_clause 11 = .ok (.iload_n 1, 1) := dk_27 (dk_at dksX3_clause_0 11 rfl rfl)
theorem dX3_clause_12 : decode cX3_clause 12 = .ok (.iconst 5, 1) := dk_8 (dk_at dksX3_clause_0 12 rfl rfl)
theorem dX3_clause_13 : decode cX3_clause 13 = .ok (.if_icmp .lt 17, 3) := dk_161 0 17 (dk_at dksX3_clause_0 13 rfl rfl)
theorem dX3_clause_16 : decode cX3_clause 16 = .ok (.aload_n 0, 1) := dk_42 (dk_at dksX3_clause_0 16 rfl rfl)
theorem dX3_clause_17 : decode cX3_clause 17 = .ok (.getfield 240, 3) := dk_180 0 240 (dk_at dksX3_clause_0 17 rfl rfl)
theorem dX3_clause_20 : decode cX3_clause 20 = .ok (.iload_n 1, 1) := dk_27 (dk_at dksX3_clause_0 20 rfl rfl)
theorem dX3_clause_21 : decode cX3_clause 21 = .ok (.ishr, 1) := dk_122 (dk_at dksX3_clause_0 21 rfl rfl)
theorem dX3_clause_22 : decode cX3_clause 22 = .ok (.iconst 1, 1) := dk_4 (dk_at dksX3_clause_0 22 rfl rfl)
theorem dX3_clause_23 : decode cX3_clause 23 = .ok (.iand, 1) := dk_126 (dk_at dksX3_clause_0 23 rfl rfl)
theorem dX3_clause_24 : decode cX3_clause 24 = .ok (.iconst 1, 1) := dk_4 (dk_at dksX3_clause_1 0 rfl rfl)
theorem dX3_clause_25 : decode cX3_clause 25 = .ok (.if_icmp .ne 5, 3) := dk_160 0 5 (dk_at dksX3_clause_1 1 rfl rfl)
theorem dX3_clause_28 : decode cX3_clause 28 = .ok (.iconst 4, 1) := dk_7 (dk_at dksX3_clause_1 4 rfl rfl)
theorem dX3_clause_29 : decode cX3_clause 29 = .ok (.ireturn, 1) := dk_172 (dk_at dksX3_clause_1 5 rfl rfl)
theorem dX3_clause_30 : decode cX3_clause 30 = .ok (.aload_n 0, 1) := dk_42 (dk_at dksX3_clause_1 6 rfl rfl)
theorem dX3_clause_31 : decode cX3_clause 31 = .ok (.getfield 16, 3) := dk_180 0 16 (dk_at dksX3_clause_1 7 rfl rfl)
theorem dX3_clause_34 : decode cX3_clause 34 = .ok (.aload_n 0, 1) := dk_42 (dk_at dksX3_clause_1 10 rfl rfl)
theorem dX3_clause_35 : decode cX3_clause 35 = .ok (.getfield 154, 3) := dk_180 0 154 (dk_at dksX3_clause_1 11 rfl rfl)
theorem dX3_clause_38 : decode cX3_clause 38 = .ok (.iaload, 1) := dk_46 (dk_at dksX3_clause_1 14 rfl rfl)
theorem dX3_clause_39 : decode cX3_clause 39 = .ok (.istore_n 2, 1) := dk_61 (dk_at dksX3_clause_1 15 rfl rfl)
theorem dX3_clause_40 : decode cX3_clause 40 = .ok (.iload_n 2, 1) := dk_28 (dk_at dksX3_clause_1 16 rfl rfl)
theorem dX3_clause_41 : decode cX3_clause 41 = .ok (.bipush 12, 2) := dk_16 12 (dk_at dksX3_clause_1 17 rfl rfl)
theorem dX3_clause_43 : decode cX3_clause 43 = .ok (.if_icmp .ne 6, 3) := dk_160 0 6 (dk_at dksX3_clause_1 19 rfl rfl)
theorem dX3_clause_46 : decode cX3_clause 46 = .ok (.bipush 6, 2) := dk_16 6 (dk_at dksX3_clause_1 22 rfl rfl)
theorem dX3_clause_48 : decode cX3_clause 48 = .ok (.ireturn, 1) := dk_172 (dk_at dksX3_clause_2 0 rfl rfl)
theorem dX3_clause_49 : decode cX3_clause 49 = .ok (.iload_n 1, 1) := dk_27 (dk_at dksX3_clause_2 1 rfl rfl)
theorem dX3_clause_50 : decode cX3_clause 50 = .ok (.iconst 5, 1) := dk_8 (dk_at dksX3_clause_2 2 rfl rfl)
theorem dX3_clause_51 : decode cX3_clause 51 = .ok (.if_icmp .lt 15, 3) := dk_161 0 15 (dk_at dksX3_clause_2 3 rfl rfl)
theorem dX3_clause_54 : decode cX3_clause 54 = .ok (.aload_n 0, 1) := dk_42 (dk_at dksX3_clause_2 6 rfl rfl)
theorem dX3_clause_55 : decode cX3_clause 55 = .ok (.dup, 1) := dk_89 (dk_at dksX3_clause_2 7 rfl rfl)
theorem dX3_clause_56 : decode cX3_clause 56 = .ok (.getfield 240, 3) := dk_180 0 240 (dk_at dksX3_clause_2 8 rfl rfl)
theorem dX3_clause_59 : decode cX3_clause 59 = .ok (.iconst 1, 1) := dk_4 (dk_at dksX3_clause_2 11 rfl rfl)
theorem dX3_clause_60 : decode cX3_clause 60 = .ok (.iload_n 1, 1) := dk_27 (dk_at dksX3_clause_2 12 rfl rfl)
theorem dX3_clause_61 : decode cX3_clause 61 = .ok (.ishl, 1) := dk_120 (dk_at dksX3_clause_2 13 rfl rfl)
theorem dX3_clause_62 : decode cX3_clause 62 = .ok (.ior, 1) := dk_128 (dk_at dksX3_clause_2 14 rfl rfl)
theorem dX3_clause_63 : decode cX3_clause 63 = .ok (.putfield 240, 3) := dk_181 0 240 (dk_at dksX3_clause_2 15 rfl rfl)
theorem dX3_clause_66 : decode cX3_clause 66 = .ok (.aload_n 0, 1) := dk_42 (dk_at dksX3_clause_2 18 rfl rfl)
theorem dX3_clause_67 : decode cX3_clause 67 = .ok (.iload_n 1, 1) := dk_27 (dk_at dksX3_clause_2 19 rfl rfl)
theorem dX3_clause_68 : decode cX3_clause 68 = .ok (.putfield 186, 3) := dk_181 0 186 (dk_at dksX3_clause_2 20 rfl rfl)
theorem dX3_clause_71 : decode cX3_clause 71 = .ok (.aload_n 0, 1) := dk_42 (dk_at dksX3_clause_2 23 rfl rfl)
theorem dX3_clause_72 : decode cX3_clause 72 = .ok (.invokevirtual 189, 3) := dk_182 0 189 (dk_at dksX3_clause_3 0 rfl rfl)
theorem dX3_clause_75 : decode cX3_clause 75 = .ok (.aload_n 0, 1) := dk_42 (dk_at dksX3_clause_3 3 rfl rfl)
theorem dX3_clause_76 : decode cX3_clause 76 = .ok (.getfield 154, 3) := dk_180 0 154 (dk_at dksX3_clause_3 4 rfl rfl)
theorem dX3_clause_79 : decode cX3_clause 79 = .ok (.iconst 1, 1) := dk_4 (dk_at dksX3_clause_3 7 rfl rfl)
theorem dX3_clause_80 : decode cX3_clause 80 = .ok (.iadd, 1) := dk_96 (dk_at dksX3_clause_3 8 rfl rfl)
theorem dX3_clause_81 : decode cX3_clause 81 = .ok (.iconst 4, 1) := dk_7 (dk_at dksX3_clause_3 9 rfl rfl)
theorem dX3_clause_82 : decode cX3_clause 82 = .ok (.iload_n 2, 1) := dk_28 (dk_at dksX3_clause_3 10 rfl rfl)
theorem dX3_clause_83 : decode cX3_clause 83 = .ok (.imul, 1) := dk_104 (dk_at dksX3_clause_3 11 rfl rfl)
theorem dX3_clause_84 : decode cX3_clause 84 = .ok (.iadd, 1) := dk_96 (dk_at dksX3_clause_3 12 rfl rfl)
theorem dX3_clause_85 : decode cX3_clause 85 = .ok (.istore_n 3, 1) := dk_62 (dk_at dksX3_clause_3 13 rfl rfl)
theorem dX3_clause_86 : decode cX3_clause 86 = .ok (.aload_n 0, 1) := dk_42 (dk_at dksX3_clause_3 14 rfl rfl)
theorem dX3_clause_87 : decode cX3_clause 87 = .ok (.getfield 16, 3) := dk_180 0 16 (dk_at dksX3_clause_3 15 rfl rfl)
theorem dX3_clause_90 : decode cX3_clause 90 = .ok (.iload_n 3, 1) := dk_29 (dk_at dksX3_clause_3 18 rfl rfl)
theorem dX3_clause_91 : decode cX3_clause 91 = .ok (.iload_n 1, 1) := dk_27 (dk_at dksX3_clause_3 19 rfl rfl)
theorem dX3_clause_92 : decode cX3_clause 92 = .ok (.iastore, 1) := dk_79 (dk_at dksX3_clause_3 20 rfl rfl)
theorem dX3_clause_93 : decode cX3_clause 93 = .ok (.iload_n 1, 1) := dk_27 (dk_at dksX3_clause_3 21 rfl rfl)
theorem dX3_clause_94 : decode cX3_clause 94 = .ok (.iconst 4, 1) := dk_7 (dk_at dksX3_clause_3 22 rfl rfl)
theorem dX3_clause_95 : decode cX3_clause 95 = .ok (.if_icmp .ne 11, 3) := dk_160 0 11 (dk_at dksX3_clause_4 0 rfl rfl)
theorem dX3_clause_98 : decode cX3_clause 98 = .ok (.aload_n 0, 1) := dk_42 (dk_at dksX3_clause_4 3 rfl rfl)
theorem dX3_clause_99 : decode cX3_clause 99 = .ok (.iload_n 3, 1) := dk_29 (dk_at dksX3_clause_4 4 rfl rfl)
theorem dX3_clause_100 : decode cX3_clause 100 = .ok (.invokevirtual 243, 3) := dk_182 0 243 (dk_at dksX3_clause_4 5 rfl rfl)
theorem dX3_clause_103 : decode cX3_clause 103 = .ok (.goto 4, 3) := dk_167 0 4 (dk_at dksX3_clause_4 8 rfl rfl)
theorem dX3_clause_106 : decode cX3_clause 106 = .ok (.iconst 0, 1) := dk_3 (dk_at dksX3_clause_4 11 rfl rfl)
theorem dX3_clause_107 : decode cX3_clause 107 = .ok (.istore 4, 2) := dk_54 4 (dk_at dksX3_clause_4 12 rfl rfl)
theorem dX3_clause_109 : decode cX3_clause 109 = .ok (.iload 4, 2) := dk_21 4 (dk_at dksX3_clause_4 14 rfl rfl)
theorem dX3_clause_111 : decode cX3_clause 111 = .ok (.ifCond .eq 6, 3) := dk_153 0 6 (dk_at dksX3_clause_4 16 rfl rfl)
theorem dX3_clause_114 : decode cX3_clause 114 = .ok (.iload 4, 2) := dk_21 4 (dk_at dksX3_clause_4 19 rfl rfl)
theorem dX3_clause_116 : decode cX3_clause 116 = .ok (.ireturn, 1) := dk_172 (dk_at dksX3_clause_4 21 rfl rfl)
theorem dX3_clause_117 : decode cX3_clause 117 = .ok (.aload_n 0, 1) := dk_42 (dk_at dksX3_clause_4 22 rfl rfl)
theorem dX3_clause_118 : decode cX3_clause 118 = .ok (.getfield 16, 3) := dk_180 0 16 (dk_at dksX3_clause_5 0 rfl rfl)
theorem dX3_clause_121 : decode cX3_clause 121 = .ok (.iload_n 3, 1) := dk_29 (dk_at dksX3_clause_5 3 rfl rfl)
theorem dX3_clause_122 : decode cX3_clause 122 = .ok (.iconst 2, 1) := dk_5 (dk_at dksX3_clause_5 4 rfl rfl)
theorem dX3_clause_123 : decode cX3_clause 123 = .ok (.iadd, 1) := dk_96 (dk_at dksX3_clause_5 5 rfl rfl)
theorem dX3_clause_124 : decode cX3_clause 124 = .ok (.aload_n 0, 1) := dk_42 (dk_at dksX3_clause_5 6 rfl rfl)
theorem dX3_clause_125 : decode cX3_clause 125 = .ok (.getfield 157, 3) := dk_180 0 157 (dk_at dksX3_clause_5 7 rfl rfl)
theorem dX3_clause_128 : decode cX3_clause 128 = .ok (.iastore, 1) := dk_79 (dk_at dksX3_clause_5 10 rfl rfl)
theorem dX3_clause_129 : decode cX3_clause 129 = .ok (.iload_n 1, 1) := dk_27 (dk_at dksX3_clause_5 11 rfl rfl)
theorem dX3_clause_130 : decode cX3_clause 130 = .ok (.iconst 5, 1) := dk_8 (dk_at dksX3_clause_5 12 rfl rfl)
theorem dX3_clause_131 : decode cX3_clause 131 = .ok (.if_icmp .lt 10, 3) := dk_161 0 10 (dk_at dksX3_clause_5 13 rfl rfl)
theorem dX3_clause_134 : decode cX3_clause 134 = .ok (.aload_n 0, 1) := dk_42 (dk_at dksX3_clause_5 16 rfl rfl)
theorem dX3_clause_135 : decode cX3_clause 135 = .ok (.invokevirtual 224, 3) := dk_182 0 224 (dk_at dksX3_clause_5 17 rfl rfl)
theorem dX3_clause_138 : decode cX3_clause 138 = .ok (.goto 7, 3) := dk_167 0 7 (dk_at dksX3_clause_5 20 rfl rfl)
theorem dX3_clause_141 : decode cX3_clause 141 = .ok (.aload_n 0, 1) := dk_42 (dk_at dksX3_clause_5 23 rfl rfl)
theorem dX3_clause_142 : decode cX3_clause 142 = .ok (.invokevirtual 246, 3) := dk_182 0 246 (dk_at dksX3_clause_6 0 rfl rfl)
theorem dX3_clause_145 : decode cX3_clause 145 = .ok (.istore 4, 2) := dk_54 4 (dk_at dksX3_clause_6 3 rfl rfl)
theorem dX3_clause_147 : decode cX3_clause 147 = .ok (.iload 4, 2) := dk_21 4 (dk_at dksX3_clause_6 5 rfl rfl)
theorem dX3_clause_149 : decode cX3_clause 149 = .ok (.ifCond .eq 6, 3) := dk_153 0 6 (dk_at dksX3_clause_6 7 rfl rfl)
theorem dX3_clause_152 : decode cX3_clause 152 = .ok (.iload 4, 2) := dk_21 4 (dk_at dksX3_clause_6 10 rfl rfl)
theorem dX3_clause_154 : decode cX3_clause 154 = .ok (.ireturn, 1) := dk_172 (dk_at dksX3_clause_6 12 rfl rfl)
theorem dX3_clause_155 : decode cX3_clause 155 = .ok (.aload_n 0, 1) := dk_42 (dk_at dksX3_clause_6 13 rfl rfl)
theorem dX3_clause_156 : decode cX3_clause 156 = .ok (.getfield 16, 3) := dk_180 0 16 (dk_at dksX3_clause_6 14 rfl rfl)
theorem dX3_clause_159 : decode cX3_clause 159 = .ok (.iload_n 3, 1) := dk_29 (dk_at dksX3_clause_6 17 rfl rfl)
theorem dX3_clause_160 : decode cX3_clause 160 = .ok (.iconst 3, 1) := dk_6 (dk_at dksX3_clause_6 18 rfl rfl)
theorem dX3_clause_161 : decode cX3_clause 161 = .ok (.iadd, 1) := dk_96 (dk_at dksX3_clause_6 19 rfl rfl)
theorem dX3_clause_162 : decode cX3_clause 162 = .ok (.aload_n 0, 1) := dk_42 (dk_at dksX3_clause_6 20 rfl rfl)
theorem dX3_clause_163 : decode cX3_clause 163 = .ok (.getfield 157, 3) := dk_180 0 157 (dk_at dksX3_clause_6 21 rfl rfl)
theorem dX3_clause_166 : decode cX3_clause 166 = .ok (.iastore, 1) := dk_79 (dk_at dksX3_clause_7 0 rfl rfl)
theorem dX3_clause_167 : decode cX3_clause 167 = .ok (.aload_n 0, 1) := dk_42 (dk_at dksX3_clause_7 1 rfl rfl)
theorem dX3_clause_168 : decode cX3_clause 168 = .ok (.getfield 16, 3) := dk_180 0 16 (dk_at dksX3_clause_7 2 rfl rfl)
theorem dX3_clause_171 : decode cX3_clause 171 = .ok (.aload_n 0, 1) := dk_42 (dk_at dksX3_clause_7 5 rfl rfl)
theorem dX3_clause_172 : decode cX3_clause 172 = .ok (.getfield 154, 3) := dk_180 0 154 (dk_at dksX3_clause_7 6 rfl rfl)
theorem dX3_clause_175 : decode cX3_clause 175 = .ok (.dup2, 1) := dk_92 (dk_at dksX3_clause_7 9 rfl rfl)
theorem dX3_clause_176 : decode cX3_clause 176 = .ok (.iaload, 1) := dk_46 (dk_at dksX3_clause_7 10 rfl rfl)
theorem dX3_clause_177 : decode cX3_clause 177 = .ok (.iconst 1, 1) := dk_4 (dk_at dksX3_clause_7 11 rfl rfl)
theorem dX3_clause_178 : decode cX3_clause 178 = .ok (.iadd, 1) := dk_96 (dk_at dksX3_clause_7 12 rfl rfl)
theorem dX3_clause_179 : decode cX3_clause 179 = .ok (.iastore, 1) := dk_79 (dk_at dksX3_clause_7 13 rfl rfl)
theorem dX3_clause_180 : decode cX3_clause 180 = .ok (.aload_n 0, 1) := dk_42 (dk_at dksX3_clause_7 14 rfl rfl)
theorem dX3_clause_181 : decode cX3_clause 181 = .ok (.getfield 129, 3) := dk_180 0 129 (dk_at dksX3_clause_7 15 rfl rfl)
theorem dX3_clause_184 : decode cX3_clause 184 = .ok (.bipush 59, 2) := dk_16 59 (dk_at dksX3_clause_7 18 rfl rfl)
theorem dX3_clause_186 : decode cX3_clause 186 = .ok (.if_icmp .eq 5, 3) := dk_159 0 5 (dk_at dksX3_clause_7 20 rfl rfl)
theorem dX3_clause_189 : decode cX3_clause 189 = .ok (.iconst 1, 1) := dk_4 (dk_at dksX3_clause_7 23 rfl rfl)
theorem dX3_clause_190 : decode cX3_clause 190 = .ok (.ireturn, 1) := dk_172 (dk_at dksX3_clause_8 0 rfl rfl)
theorem dX3_clause_191 : decode cX3_clause 191 = .ok (.aload_n 0, 1) := dk_42 (dk_at dksX3_clause_8 1 rfl rfl)
theorem dX3_clause_192 : decode cX3_clause 192 = .ok (.invokevirtual 189, 3) := dk_182 0 189 (dk_at dksX3_clause_8 2 rfl rfl)
theorem dX3_clause_195 : decode cX3_clause 195 = .ok (.iconst 0, 1) := dk_3 (dk_at dksX3_clause_8 5 rfl rfl)
theorem dX3_clause_196 : decode cX3_clause 196 = .ok (.ireturn, 1) := dk_172 (dk_at dksX3_clause_8 6 rfl rfl)
abbrev cX3_sortOf : ByteArray := prog_17_method_45_code
def yX3_sortOf : MethodName := ⟨RX3, "sortOf", "()I"⟩
def dkwX3_sortOf_4 : List UInt8 := [16, 99, 16, 101, 184, 0, 146, 182, 0, 220, 153, 0, 8, 16, 6, 167, 0, 4, 3, 172]
abbrev dktX3_sortOf_4 : List UInt8 := dkwX3_sortOf_4 ++ []
def dkwX3_sortOf_3 : List UInt8 := [16, 99, 16, 111, 16, 115, 16, 116, 184, 0, 174, 182, 0, 220, 153, 0, 7, 8, 167, 0, 25, 42, 16, 105]
abbrev dktX3_sortOf_3 : List UInt8 := dkwX3_sortOf_3 ++ dktX3_sortOf_4
def dkwX3_sortOf_2 : List UInt8 := [184, 0, 174, 182, 0, 220, 153, 0, 5, 6, 172, 42, 20, 0, 235, 182, 0, 220, 153, 0, 5, 7, 172, 42]
abbrev dktX3_sortOf_2 : List UInt8 := dkwX3_sortOf_2 ++ dktX3_sortOf_3
def dkwX3_sortOf_1 : List UInt8 := [16, 112, 16, 115, 184, 0, 174, 182, 0, 220, 153, 0, 5, 5, 172, 42, 16, 119, 16, 97, 16, 108, 16, 107]
abbrev dktX3_sortOf_1 : List UInt8 := dkwX3_sortOf_1 ++ dktX3_sortOf_2
def dkwX3_sortOf_0 : List UInt8 := [42, 16, 109, 16, 97, 16, 121, 184, 0, 146, 182, 0, 220, 153, 0, 5, 4, 172, 42, 16, 110, 16, 105]
abbrev dktX3_sortOf_0 : List UInt8 := dkwX3_sortOf_0 ++ dktX3_sortOf_1
theorem dksX3_sortOf_0 : cX3_sortOf.data.toList.drop 0 = dktX3_sortOf_0 := by decide +kernel
theorem dksX3_sortOf_1 : cX3_sortOf.data.toList.drop 23 = dktX3_sortOf_1 := dk_seg dksX3_sortOf_0 23 rfl rfl
theorem dksX3_sortOf_2 : cX3_sortOf.data.toList.drop 47 = dktX3_sortOf_2 := dk_seg dksX3_sortOf_1 24 rfl rfl
theorem dksX3_sortOf_3 : cX3_sortOf.data.toList.drop 71 = dktX3_sortOf_3 := dk_seg dksX3_sortOf_2 24 rfl rfl
theorem dksX3_sortOf_4 : cX3_sortOf.data.toList.drop 95 = dktX3_sortOf_4 := dk_seg dksX3_sortOf_3 24 rfl rfl
theorem dX3_sortOf_0 : decode cX3_sortOf 0 = .ok (.aload_n 0, 1) := dk_42 (dk_at dksX3_sortOf_0 0 rfl rfl)
theorem dX3_sortOf_1 : decode cX3_sortOf 1 = .ok (.bipush 109, 2) := dk_16 109 (dk_at dksX3_sortOf_0 1 rfl rfl)
theorem dX3_sortOf_3 : decode cX3_sortOf 3 = .ok (.bipush 97, 2) := dk_16 97 (dk_at dksX3_sortOf_0 3 rfl rfl)
theorem dX3_sortOf_5 : decode cX3_sortOf 5 = .ok (.bipush 121, 2) := dk_16 121 (dk_at dksX3_sortOf_0 5 rfl rfl)
theorem dX3_sortOf_7 : decode cX3_sortOf 7 = .ok (.invokestatic 146, 3) := dk_184 0 146 (dk_at dksX3_sortOf_0 7 rfl rfl)
theorem dX3_sortOf_10 : decode cX3_sortOf 10 = .ok (.invokevirtual 220, 3) := dk_182 0 220 (dk_at dksX3_sortOf_0 10 rfl rfl)
theorem dX3_sortOf_13 : decode cX3_sortOf 13 = .ok (.ifCond .eq 5, 3) := dk_153 0 5 (dk_at dksX3_sortOf_0 13 rfl rfl)
theorem dX3_sortOf_16 : decode cX3_sortOf 16 = .ok (.iconst 1, 1) := dk_4 (dk_at dksX3_sortOf_0 16 rfl rfl)
theorem dX3_sortOf_17 : decode cX3_sortOf 17 = .ok (.ireturn, 1) := dk_172 (dk_at dksX3_sortOf_0 17 rfl rfl)
theorem dX3_sortOf_18 : decode cX3_sortOf 18 = .ok (.aload_n 0, 1) := dk_42 (dk_at dksX3_sortOf_0 18 rfl rfl)
theorem dX3_sortOf_19 : decode cX3_sortOf 19 = .ok (.bipush 110, 2) := dk_16 110 (dk_at dksX3_sortOf_0 19 rfl rfl)
theorem dX3_sortOf_21 : decode cX3_sortOf 21 = .ok (.bipush 105, 2) := dk_16 105 (dk_at dksX3_sortOf_0 21 rfl rfl)
theorem dX3_sortOf_23 : decode cX3_sortOf 23 = .ok (.bipush 112, 2) := dk_16 112 (dk_at dksX3_sortOf_1 0 rfl rfl)
theorem dX3_sortOf_25 : decode cX3_sortOf 25 = .ok (.bipush 115, 2) := dk_16 115 (dk_at dksX3_sortOf_1 2 rfl rfl)
theorem dX3_sortOf_27 : decode cX3_sortOf 27 = .ok (.invokestatic 174, 3) := dk_184 0 174 (dk_at dksX3_sortOf_1 4 rfl rfl)
theorem dX3_sortOf_30 : decode cX3_sortOf 30 = .ok (.invokevirtual 220, 3) := dk_182 0 220 (dk_at dksX3_sortOf_1 7 rfl rfl)
theorem dX3_sortOf_33 : decode cX3_sortOf 33 = .ok (.ifCond .eq 5, 3) := dk_153 0 5 (dk_at dksX3_sortOf_1 10 rfl rfl)
theorem dX3_sortOf_36 : decode cX3_sortOf 36 = .ok (.iconst 2, 1) := dk_5 (dk_at dksX3_sortOf_1 13 rfl rfl)
theorem dX3_sortOf_37 : decode cX3_sortOf 37 = .ok (.ireturn, 1) := dk_172 (dk_at dksX3_sortOf_1 14 rfl rfl)
theorem dX3_sortOf_38 : decode cX3_sortOf 38 = .ok (.aload_n 0, 1) := dk_42 (dk_at dksX3_sortOf_1 15 rfl rfl)
theorem dX3_sortOf_39 : decode cX3_sortOf 39 = .ok (.bipush 119, 2) := dk_16 119 (dk_at dksX3_sortOf_1 16 rfl rfl)
theorem dX3_sortOf_41 : decode cX3_sortOf 41 = .ok (.bipush 97, 2) := dk_16 97 (dk_at dksX3_sortOf_1 18 rfl rfl)
theorem dX3_sortOf_43 : decode cX3_sortOf 43 = .ok (.bipush 108, 2) := dk_16 108 (dk_at dksX3_sortOf_1 20 rfl rfl)
theorem dX3_sortOf_45 : decode cX3_sortOf 45 = .ok (.bipush 107, 2) := dk_16 107 (dk_at dksX3_sortOf_1 22 rfl rfl)
theorem dX3_sortOf_47 : decode cX3_sortOf 47 = .ok (.invokestatic 174, 3) := dk_184 0 174 (dk_at dksX3_sortOf_2 0 rfl rfl)
theorem dX3_sortOf_50 : decode cX3_sortOf 50 = .ok (.invokevirtual 220, 3) := dk_182 0 220 (dk_at dksX3_sortOf_2 3 rfl rfl)
theorem dX3_sortOf_53 : decode cX3_sortOf 53 = .ok (.ifCond .eq 5, 3) := dk_153 0 5 (dk_at dksX3_sortOf_2 6 rfl rfl)
theorem dX3_sortOf_56 : decode cX3_sortOf 56 = .ok (.iconst 3, 1) := dk_6 (dk_at dksX3_sortOf_2 9 rfl rfl)
theorem dX3_sortOf_57 : decode cX3_sortOf 57 = .ok (.ireturn, 1) := dk_172 (dk_at dksX3_sortOf_2 10 rfl rfl)
theorem dX3_sortOf_58 : decode cX3_sortOf 58 = .ok (.aload_n 0, 1) := dk_42 (dk_at dksX3_sortOf_2 11 rfl rfl)
theorem dX3_sortOf_59 : decode cX3_sortOf 59 = .ok (.ldc2_w 235, 3) := dk_20 0 235 (dk_at dksX3_sortOf_2 12 rfl rfl)
theorem dX3_sortOf_62 : decode cX3_sortOf 62 = .ok (.invokevirtual 220, 3) := dk_182 0 220 (dk_at dksX3_sortOf_2 15 rfl rfl)
theorem dX3_sortOf_65 : decode cX3_sortOf 65 = .ok (.ifCond .eq 5, 3) := dk_153 0 5 (dk_at dksX3_sortOf_2 18 rfl rfl)
theorem dX3_sortOf_68 : decode cX3_sortOf 68 = .ok (.iconst 4, 1) := dk_7 (dk_at dksX3_sortOf_2 21 rfl rfl)
theorem dX3_sortOf_69 : decode cX3_sortOf 69 = .ok (.ireturn, 1) := dk_172 (dk_at dksX3_sortOf_2 22 rfl rfl)
theorem dX3_sortOf_70 : decode cX3_sortOf 70 = .ok (.aload_n 0, 1) := dk_42 (dk_at dksX3_sortOf_2 23 rfl rfl)
theorem dX3_sortOf_71 : decode cX3_sortOf 71 = .ok (.bipush 99, 2) := dk_16 99 (dk_at dksX3_sortOf_3 0 rfl rfl)
theorem dX3_sortOf_73 : decode cX3_sortOf 73 = .ok (.bipush 111, 2) := dk_16 111 (dk_at dksX3_sortOf_3 2 rfl rfl)
theorem dX3_sortOf_75 : decode cX3_sortOf 75 = .ok (.bipush 115, 2) := dk_16 115 (dk_at dksX3_sortOf_3 4 rfl rfl)
theorem dX3_sortOf_77 : decode cX3_sortOf 77 = .ok (.bipush 116, 2) := dk_16 116 (dk_at dksX3_sortOf_3 6 rfl rfl)
theorem dX3_sortOf_79 : decode cX3_sortOf 79 = .ok (.invokestatic 174, 3) := dk_184 0 174 (dk_at dksX3_sortOf_3 8 rfl rfl)
theorem dX3_sortOf_82 : decode cX3_sortOf 82 = .ok (.invokevirtual 220, 3) := dk_182 0 220 (dk_at dksX3_sortOf_3 11 rfl rfl)
theorem dX3_sortOf_85 : decode cX3_sortOf 85 = .ok (.ifCond .eq 7, 3) := dk_153 0 7 (dk_at dksX3_sortOf_3 14 rfl rfl)
theorem dX3_sortOf_88 : decode cX3_sortOf 88 = .ok (.iconst 5, 1) := dk_8 (dk_at dksX3_sortOf_3 17 rfl rfl)
theorem dX3_sortOf_89 : decode cX3_sortOf 89 = .ok (.goto 25, 3) := dk_167 0 25 (dk_at dksX3_sortOf_3 18 rfl rfl)
theorem dX3_sortOf_92 : decode cX3_sortOf 92 = .ok (.aload_n 0, 1) := dk_42 (dk_at dksX3_sortOf_3 21 rfl rfl)
theorem dX3_sortOf_93 : decode cX3_sortOf 93 = .ok (.bipush 105, 2) := dk_16 105 (dk_at dksX3_sortOf_3 22 rfl rfl)
theorem dX3_sortOf_95 : decode cX3_sortOf 95 = .ok (.bipush 99, 2) := dk_16 99 (dk_at dksX3_sortOf_4 0 rfl rfl)
theorem dX3_sortOf_97 : decode cX3_sortOf 97 = .ok (.bipush 101, 2) := dk_16 101 (dk_at dksX3_sortOf_4 2 rfl rfl)
theorem dX3_sortOf_99 : decode cX3_sortOf 99 = .ok (.invokestatic 146, 3) := dk_184 0 146 (dk_at dksX3_sortOf_4 4 rfl rfl)
theorem dX3_sortOf_102 : decode cX3_sortOf 102 = .ok (.invokevirtual 220, 3) := dk_182 0 220 (dk_at dksX3_sortOf_4 7 rfl rfl)
theorem dX3_sortOf_105 : decode cX3_sortOf 105 = .ok (.ifCond .eq 8, 3) := dk_153 0 8 (dk_at dksX3_sortOf_4 10 rfl rfl)
theorem dX3_sortOf_108 : decode cX3_sortOf 108 = .ok (.bipush 6, 2) := dk_16 6 (dk_at dksX3_sortOf_4 13 rfl rfl)
theorem dX3_sortOf_110 : decode cX3_sortOf 110 = .ok (.goto 4, 3) := dk_167 0 4 (dk_at dksX3_sortOf_4 15 rfl rfl)
theorem dX3_sortOf_113 : decode cX3_sortOf 113 = .ok (.iconst 0, 1) := dk_3 (dk_at dksX3_sortOf_4 18 rfl rfl)
theorem dX3_sortOf_114 : decode cX3_sortOf 114 = .ok (.ireturn, 1) := dk_172 (dk_at dksX3_sortOf_4 19 rfl rfl)
abbrev cX3_w3 : ByteArray := prog_17_method_26_code
def yX3_w3 : MethodName := ⟨RX3, "w3", "(III)J"⟩
def dkwX3_w3_0 : List UInt8 := [26, 133, 16, 8, 121, 27, 133, 129, 16, 8, 121, 28, 133, 129, 173]
abbrev dktX3_w3_0 : List UInt8 := dkwX3_w3_0 ++ []
theorem dksX3_w3_0 : cX3_w3.data.toList.drop 0 = dktX3_w3_0 := by decide +kernel
theorem dX3_w3_0 : decode cX3_w3 0 = .ok (.iload_n 0, 1) := dk_26 (dk_at dksX3_w3_0 0 rfl rfl)
theorem dX3_w3_1 : decode cX3_w3 1 = .ok (.i2l, 1) := dk_133 (dk_at dksX3_w3_0 1 rfl rfl)
theorem dX3_w3_2 : decode cX3_w3 2 = .ok (.bipush 8, 2) := dk_16 8 (dk_at dksX3_w3_0 2 rfl rfl)
theorem dX3_w3_4 : decode cX3_w3 4 = .ok (.lshl, 1) := dk_121 (dk_at dksX3_w3_0 4 rfl rfl)
theorem dX3_w3_5 : decode cX3_w3 5 = .ok (.iload_n 1, 1) := dk_27 (dk_at dksX3_w3_0 5 rfl rfl)
theorem dX3_w3_6 : decode cX3_w3 6 = .ok (.i2l, 1) := dk_133 (dk_at dksX3_w3_0 6 rfl rfl)
theorem dX3_w3_7 : decode cX3_w3 7 = .ok (.lor, 1) := dk_129 (dk_at dksX3_w3_0 7 rfl rfl)
theorem dX3_w3_8 : decode cX3_w3 8 = .ok (.bipush 8, 2) := dk_16 8 (dk_at dksX3_w3_0 8 rfl rfl)
theorem dX3_w3_10 : decode cX3_w3 10 = .ok (.lshl, 1) := dk_121 (dk_at dksX3_w3_0 10 rfl rfl)
theorem dX3_w3_11 : decode cX3_w3 11 = .ok (.iload_n 2, 1) := dk_28 (dk_at dksX3_w3_0 11 rfl rfl)
theorem dX3_w3_12 : decode cX3_w3 12 = .ok (.i2l, 1) := dk_133 (dk_at dksX3_w3_0 12 rfl rfl)
theorem dX3_w3_13 : decode cX3_w3 13 = .ok (.lor, 1) := dk_129 (dk_at dksX3_w3_0 13 rfl rfl)
theorem dX3_w3_14 : decode cX3_w3 14 = .ok (.lreturn, 1) := dk_173 (dk_at dksX3_w3_0 14 rfl rfl)
abbrev cX3_isWord : ByteArray := prog_17_method_30_code
def yX3_isWord : MethodName := ⟨RX3, "isWord", "(J)Z"⟩
def dkwX3_isWord_0 : List UInt8 := [42, 180, 0, 129, 5, 160, 0, 16, 42, 180, 0, 142, 31, 148, 154, 0, 7, 4, 167, 0, 4, 3, 172]
abbrev dktX3_isWord_0 : List UInt8 := dkwX3_isWord_0 ++ []
theorem dksX3_isWord_0 : cX3_isWord.data.toList.drop 0 = dktX3_isWord_0 := by decide +kernel
theorem dX3_isWord_0 : decode cX3_isWord 0 = .ok (.aload_n 0, 1) := dk_42 (dk_at dksX3_isWord_0 0 rfl rfl)
theorem dX3_isWord_1 : decode cX3_isWord 1 = .ok (.getfield 129, 3) := dk_180 0 129 (dk_at dksX3_isWord_0 1 rfl rfl)
theorem dX3_isWord_4 : decode cX3_isWord 4 = .ok (.iconst 2, 1) := dk_5 (dk_at dksX3_isWord_0 4 rfl rfl)
theorem dX3_isWord_5 : decode cX3_isWord 5 = .ok (.if_icmp .ne 16, 3) := dk_160 0 16 (dk_at dksX3_isWord_0 5 rfl rfl)
theorem dX3_isWord_8 : decode cX3_isWord 8 = .ok (.aload_n 0, 1) := dk_42 (dk_at dksX3_isWord_0 8 rfl rfl)
theorem dX3_isWord_9 : decode cX3_isWord 9 = .ok (.getfield 142, 3) := dk_180 0 142 (dk_at dksX3_isWord_0 9 rfl rfl)
theorem dX3_isWord_12 : decode cX3_isWord 12 = .ok (.lload_n 1, 1) := dk_31 (dk_at dksX3_isWord_0 12 rfl rfl)
theorem dX3_isWord_13 : decode cX3_isWord 13 = .ok (.lcmp, 1) := dk_148 (dk_at dksX3_isWord_0 13 rfl rfl)
theorem dX3_isWord_14 : decode cX3_isWord 14 = .ok (.ifCond .ne 7, 3) := dk_154 0 7 (dk_at dksX3_isWord_0 14 rfl rfl)
theorem dX3_isWord_17 : decode cX3_isWord 17 = .ok (.iconst 1, 1) := dk_4 (dk_at dksX3_isWord_0 17 rfl rfl)
theorem dX3_isWord_18 : decode cX3_isWord 18 = .ok (.goto 4, 3) := dk_167 0 4 (dk_at dksX3_isWord_0 18 rfl rfl)
theorem dX3_isWord_21 : decode cX3_isWord 21 = .ok (.iconst 0, 1) := dk_3 (dk_at dksX3_isWord_0 21 rfl rfl)
theorem dX3_isWord_22 : decode cX3_isWord 22 = .ok (.ireturn, 1) := dk_172 (dk_at dksX3_isWord_0 22 rfl rfl)
abbrev cX3_w4 : ByteArray := prog_17_method_28_code
def yX3_w4 : MethodName := ⟨RX3, "w4", "(IIII)J"⟩
def dkwX3_w4_0 : List UInt8 := [26, 27, 28, 184, 0, 146, 16, 8, 121, 29, 133, 129, 173]
abbrev dktX3_w4_0 : List UInt8 := dkwX3_w4_0 ++ []
theorem dksX3_w4_0 : cX3_w4.data.toList.drop 0 = dktX3_w4_0 := by decide +kernel
theorem dX3_w4_0 : decode cX3_w4 0 = .ok (.iload_n 0, 1) := dk_26 (dk_at dksX3_w4_0 0 rfl rfl)
theorem dX3_w4_1 : decode cX3_w4 1 = .ok (.iload_n 1, 1) := dk_27 (dk_at dksX3_w4_0 1 rfl rfl)
theorem dX3_w4_2 : decode cX3_w4 2 = .ok (.iload_n 2, 1) := dk_28 (dk_at dksX3_w4_0 2 rfl rfl)
theorem dX3_w4_3 : decode cX3_w4 3 = .ok (.invokestatic 146, 3) := dk_184 0 146 (dk_at dksX3_w4_0 3 rfl rfl)
theorem dX3_w4_6 : decode cX3_w4 6 = .ok (.bipush 8, 2) := dk_16 8 (dk_at dksX3_w4_0 6 rfl rfl)
theorem dX3_w4_8 : decode cX3_w4 8 = .ok (.lshl, 1) := dk_121 (dk_at dksX3_w4_0 8 rfl rfl)
theorem dX3_w4_9 : decode cX3_w4 9 = .ok (.iload_n 3, 1) := dk_29 (dk_at dksX3_w4_0 9 rfl rfl)
theorem dX3_w4_10 : decode cX3_w4 10 = .ok (.i2l, 1) := dk_133 (dk_at dksX3_w4_0 10 rfl rfl)
theorem dX3_w4_11 : decode cX3_w4 11 = .ok (.lor, 1) := dk_129 (dk_at dksX3_w4_0 11 rfl rfl)
theorem dX3_w4_12 : decode cX3_w4 12 = .ok (.lreturn, 1) := dk_173 (dk_at dksX3_w4_0 12 rfl rfl)
abbrev cX3_goesBy : ByteArray := prog_17_method_46_code
def yX3_goesBy : MethodName := ⟨RX3, "goesBy", "(I)I"⟩
def dkwX3_goesBy_2 : List UInt8 := [184, 0, 174, 182, 0, 220, 154, 0, 5, 4, 172, 42, 182, 0, 189, 3, 172]
abbrev dktX3_goesBy_2 : List UInt8 := dkwX3_goesBy_2 ++ []
def dkwX3_goesBy_1 : List UInt8 := [180, 0, 16, 27, 4, 96, 42, 180, 0, 135, 79, 42, 182, 0, 189, 42, 16, 119, 16, 104, 16, 101, 16, 110]
abbrev dktX3_goesBy_1 : List UInt8 := dkwX3_goesBy_1 ++ dktX3_goesBy_2
def dkwX3_goesBy_0 : List UInt8 := [42, 180, 0, 129, 4, 159, 0, 5, 4, 172, 42, 180, 0, 135, 16, 7, 164, 0, 5, 5, 172, 42]
abbrev dktX3_goesBy_0 : List UInt8 := dkwX3_goesBy_0 ++ dktX3_goesBy_1
theorem dksX3_goesBy_0 : cX3_goesBy.data.toList.drop 0 = dktX3_goesBy_0 := by decide +kernel
theorem dksX3_goesBy_1 : cX3_goesBy.data.toList.drop 22 = dktX3_goesBy_1 := dk_seg dksX3_goesBy_0 22 rfl rfl
theorem dksX3_goesBy_2 : cX3_goesBy.data.toList.drop 46 = dktX3_goesBy_2 := dk_seg dksX3_goesBy_1 24 rfl rfl
theorem dX3_goesBy_0 : decode cX3_goesBy 0 = .ok (.aload_n 0, 1) := dk_42 (dk_at dksX3_goesBy_0 0 rfl rfl)
theorem dX3_goesBy_1 : decode cX3_goesBy 1 = .ok (.getfield 129, 3) := dk_180 0 129 (dk_at dksX3_goesBy_0 1 rfl rfl)
theorem dX3_goesBy_4 : decode cX3_goesBy 4 = .ok (.iconst 1, 1) := dk_4 (dk_at dksX3_goesBy_0 4 rfl rfl)
theorem dX3_goesBy_5 : decode cX3_goesBy 5 = .ok (.if_icmp .eq 5, 3) := dk_159 0 5 (dk_at dksX3_goesBy_0 5 rfl rfl)
theorem dX3_goesBy_8 : decode cX3_goesBy 8 = .ok (.iconst 1, 1) := dk_4 (dk_at dksX3_goesBy_0 8 rfl rfl)
theorem dX3_goesBy_9 : decode cX3_goesBy 9 = .ok (.ireturn, 1) := dk_172 (dk_at dksX3_goesBy_0 9 rfl rfl)
theorem dX3_goesBy_10 : decode cX3_goesBy 10 = .ok (.aload_n 0, 1) := dk_42 (dk_at dksX3_goesBy_0 10 rfl rfl)
theorem dX3_goesBy_11 : decode cX3_goesBy 11 = .ok (.getfield 135, 3) := dk_180 0 135 (dk_at dksX3_goesBy_0 11 rfl rfl)
theorem dX3_goesBy_14 : decode cX3_goesBy 14 = .ok (.bipush 7, 2) := dk_16 7 (dk_at dksX3_goesBy_0 14 rfl rfl)
theorem dX3_goesBy_16 : decode cX3_goesBy 16 = .ok (.if_icmp .le 5, 3) := dk_164 0 5 (dk_at dksX3_goesBy_0 16 rfl rfl)
theorem dX3_goesBy_19 : decode cX3_goesBy 19 = .ok (.iconst 2, 1) := dk_5 (dk_at dksX3_goesBy_0 19 rfl rfl)
theorem dX3_goesBy_20 : decode cX3_goesBy 20 = .ok (.ireturn, 1) := dk_172 (dk_at dksX3_goesBy_0 20 rfl rfl)
theorem dX3_goesBy_21 : decode cX3_goesBy 21 = .ok (.aload_n 0, 1) := dk_42 (dk_at dksX3_goesBy_0 21 rfl rfl)
theorem dX3_goesBy_22 : decode cX3_goesBy 22 = .ok (.getfield 16, 3) := dk_180 0 16 (dk_at dksX3_goesBy_1 0 rfl rfl)
theorem dX3_goesBy_25 : decode cX3_goesBy 25 = .ok (.iload_n 1, 1) := dk_27 (dk_at dksX3_goesBy_1 3 rfl rfl)
theorem dX3_goesBy_26 : decode cX3_goesBy 26 = .ok (.iconst 1, 1) := dk_4 (dk_at dksX3_goesBy_1 4 rfl rfl)
theorem dX3_goesBy_27 : decode cX3_goesBy 27 = .ok (.iadd, 1) := dk_96 (dk_at dksX3_goesBy_1 5 rfl rfl)
theorem dX3_goesBy_28 : decode cX3_goesBy 28 = .ok (.aload_n 0, 1) := dk_42 (dk_at dksX3_goesBy_1 6 rfl rfl)
theorem dX3_goesBy_29 : decode cX3_goesBy 29 = .ok (.getfield 135, 3) := dk_180 0 135 (dk_at dksX3_goesBy_1 7 rfl rfl)
theorem dX3_goesBy_32 : decode cX3_goesBy 32 = .ok (.iastore, 1) := dk_79 (dk_at dksX3_goesBy_1 10 rfl rfl)
theorem dX3_goesBy_33 : decode cX3_goesBy 33 = .ok (.aload_n 0, 1) := dk_42 (dk_at dksX3_goesBy_1 11 rfl rfl)
theorem dX3_goesBy_34 : decode cX3_goesBy 34 = .ok (.invokevirtual 189, 3) := dk_182 0 189 (dk_at dksX3_goesBy_1 12 rfl rfl)
theorem dX3_goesBy_37 : decode cX3_goesBy 37 = .ok (.aload_n 0, 1) := dk_42 (dk_at dksX3_goesBy_1 15 rfl rfl)
theorem dX3_goesBy_38 : decode cX3_goesBy 38 = .ok (.bipush 119, 2) := dk_16 119 (dk_at dksX3_goesBy_1 16 rfl rfl)
theorem dX3_goesBy_40 : decode cX3_goesBy 40 = .ok (.bipush 104, 2) := dk_16 104 (dk_at dksX3_goesBy_1 18 rfl rfl)
theorem dX3_goesBy_42 : decode cX3_goesBy 42 = .ok (.bipush 101, 2) := dk_16 101 (dk_at dksX3_goesBy_1 20 rfl rfl)
theorem dX3_goesBy_44 : decode cX3_goesBy 44 = .ok (.bipush 110, 2) := dk_16 110 (dk_at dksX3_goesBy_1 22 rfl rfl)
theorem dX3_goesBy_46 : decode cX3_goesBy 46 = .ok (.invokestatic 174, 3) := dk_184 0 174 (dk_at dksX3_goesBy_2 0 rfl rfl)
theorem dX3_goesBy_49 : decode cX3_goesBy 49 = .ok (.invokevirtual 220, 3) := dk_182 0 220 (dk_at dksX3_goesBy_2 3 rfl rfl)
theorem dX3_goesBy_52 : decode cX3_goesBy 52 = .ok (.ifCond .ne 5, 3) := dk_154 0 5 (dk_at dksX3_goesBy_2 6 rfl rfl)
theorem dX3_goesBy_55 : decode cX3_goesBy 55 = .ok (.iconst 1, 1) := dk_4 (dk_at dksX3_goesBy_2 9 rfl rfl)
theorem dX3_goesBy_56 : decode cX3_goesBy 56 = .ok (.ireturn, 1) := dk_172 (dk_at dksX3_goesBy_2 10 rfl rfl)
theorem dX3_goesBy_57 : decode cX3_goesBy 57 = .ok (.aload_n 0, 1) := dk_42 (dk_at dksX3_goesBy_2 11 rfl rfl)
theorem dX3_goesBy_58 : decode cX3_goesBy 58 = .ok (.invokevirtual 189, 3) := dk_182 0 189 (dk_at dksX3_goesBy_2 12 rfl rfl)
theorem dX3_goesBy_61 : decode cX3_goesBy 61 = .ok (.iconst 0, 1) := dk_3 (dk_at dksX3_goesBy_2 15 rfl rfl)
theorem dX3_goesBy_62 : decode cX3_goesBy 62 = .ok (.ireturn, 1) := dk_172 (dk_at dksX3_goesBy_2 16 rfl rfl)
abbrev cX3_summed : ByteArray := prog_17_method_41_code
def yX3_summed : MethodName := ⟨RX3, "summed", "()I"⟩
def dkwX3_summed_2 : List UInt8 := [172, 167, 255, 217, 42, 6, 182, 0, 208, 42, 180, 0, 160, 158, 0, 7, 4, 167, 0, 4, 3, 172]
abbrev dktX3_summed_2 : List UInt8 := dkwX3_summed_2 ++ []
def dkwX3_summed_1 : List UInt8 := [42, 180, 0, 163, 153, 0, 10, 42, 182, 0, 214, 167, 0, 7, 42, 182, 0, 217, 60, 27, 153, 0, 5, 27]
abbrev dktX3_summed_1 : List UInt8 := dkwX3_summed_1 ++ dktX3_summed_2
def dkwX3_summed_0 : List UInt8 := [42, 3, 181, 0, 160, 42, 3, 181, 0, 163, 42, 180, 0, 163, 153, 0, 10, 42, 182, 0, 211, 153, 0, 31]
abbrev dktX3_summed_0 : List UInt8 := dkwX3_summed_0 ++ dktX3_summed_1
theorem dksX3_summed_0 : cX3_summed.data.toList.drop 0 = dktX3_summed_0 := by decide +kernel
theorem dksX3_summed_1 : cX3_summed.data.toList.drop 24 = dktX3_summed_1 := dk_seg dksX3_summed_0 24 rfl rfl
theorem dksX3_summed_2 : cX3_summed.data.toList.drop 48 = dktX3_summed_2 := dk_seg dksX3_summed_1 24 rfl rfl
theorem dX3_summed_0 : decode cX3_summed 0 = .ok (.aload_n 0, 1) := dk_42 (dk_at dksX3_summed_0 0 rfl rfl)
theorem dX3_summed_1 : decode cX3_summed 1 = .ok (.iconst 0, 1) := dk_3 (dk_at dksX3_summed_0 1 rfl rfl)
theorem dX3_summed_2 : decode cX3_summed 2 = .ok (.putfield 160, 3) := dk_181 0 160 (dk_at dksX3_summed_0 2 rfl rfl)
theorem dX3_summed_5 : decode cX3_summed 5 = .ok (.aload_n 0, 1) := dk_42 (dk_at dksX3_summed_0 5 rfl rfl)
theorem dX3_summed_6 : decode cX3_summed 6 = .ok (.iconst 0, 1) := dk_3 (dk_at dksX3_summed_0 6 rfl rfl)
theorem dX3_summed_7 : decode cX3_summed 7 = .ok (.putfield 163, 3) := dk_181 0 163 (dk_at dksX3_summed_0 7 rfl rfl)
theorem dX3_summed_10 : decode cX3_summed 10 = .ok (.aload_n 0, 1) := dk_42 (dk_at dksX3_summed_0 10 rfl rfl)
theorem dX3_summed_11 : decode cX3_summed 11 = .ok (.getfield 163, 3) := dk_180 0 163 (dk_at dksX3_summed_0 11 rfl rfl)
theorem dX3_summed_14 : decode cX3_summed 14 = .ok (.ifCond .eq 10, 3) := dk_153 0 10 (dk_at dksX3_summed_0 14 rfl rfl)
theorem dX3_summed_17 : decode cX3_summed 17 = .ok (.aload_n 0, 1) := dk_42 (dk_at dksX3_summed_0 17 rfl rfl)
theorem dX3_summed_18 : decode cX3_summed 18 = .ok (.invokevirtual 211, 3) := dk_182 0 211 (dk_at dksX3_summed_0 18 rfl rfl)
theorem dX3_summed_21 : decode cX3_summed 21 = .ok (.ifCond .eq 31, 3) := dk_153 0 31 (dk_at dksX3_summed_0 21 rfl rfl)
theorem dX3_summed_24 : decode cX3_summed 24 = .ok (.aload_n 0, 1) := dk_42 (dk_at dksX3_summed_1 0 rfl rfl)
theorem dX3_summed_25 : decode cX3_summed 25 = .ok (.getfield 163, 3) := dk_180 0 163 (dk_at dksX3_summed_1 1 rfl rfl)
theorem dX3_summed_28 : decode cX3_summed 28 = .ok (.ifCond .eq 10, 3) := dk_153 0 10 (dk_at dksX3_summed_1 4 rfl rfl)
theorem dX3_summed_31 : decode cX3_summed 31 = .ok (.aload_n 0, 1) := dk_42 (dk_at dksX3_summed_1 7 rfl rfl)
theorem dX3_summed_32 : decode cX3_summed 32 = .ok (.invokevirtual 214, 3) := dk_182 0 214 (dk_at dksX3_summed_1 8 rfl rfl)
theorem dX3_summed_35 : decode cX3_summed 35 = .ok (.goto 7, 3) := dk_167 0 7 (dk_at dksX3_summed_1 11 rfl rfl)
theorem dX3_summed_38 : decode cX3_summed 38 = .ok (.aload_n 0, 1) := dk_42 (dk_at dksX3_summed_1 14 rfl rfl)
theorem dX3_summed_39 : decode cX3_summed 39 = .ok (.invokevirtual 217, 3) := dk_182 0 217 (dk_at dksX3_summed_1 15 rfl rfl)
theorem dX3_summed_42 : decode cX3_summed 42 = .ok (.istore_n 1, 1) := dk_60 (dk_at dksX3_summed_1 18 rfl rfl)
theorem dX3_summed_43 : decode cX3_summed 43 = .ok (.iload_n 1, 1) := dk_27 (dk_at dksX3_summed_1 19 rfl rfl)
theorem dX3_summed_44 : decode cX3_summed 44 = .ok (.ifCond .eq 5, 3) := dk_153 0 5 (dk_at dksX3_summed_1 20 rfl rfl)
theorem dX3_summed_47 : decode cX3_summed 47 = .ok (.iload_n 1, 1) := dk_27 (dk_at dksX3_summed_1 23 rfl rfl)
theorem dX3_summed_48 : decode cX3_summed 48 = .ok (.ireturn, 1) := dk_172 (dk_at dksX3_summed_2 0 rfl rfl)
theorem dX3_summed_49 : decode cX3_summed 49 = .ok (.goto (-39), 3) := dk_167 255 217 (dk_at dksX3_summed_2 1 rfl rfl)
theorem dX3_summed_52 : decode cX3_summed 52 = .ok (.aload_n 0, 1) := dk_42 (dk_at dksX3_summed_2 4 rfl rfl)
theorem dX3_summed_53 : decode cX3_summed 53 = .ok (.iconst 3, 1) := dk_6 (dk_at dksX3_summed_2 5 rfl rfl)
theorem dX3_summed_54 : decode cX3_summed 54 = .ok (.invokevirtual 208, 3) := dk_182 0 208 (dk_at dksX3_summed_2 6 rfl rfl)
theorem dX3_summed_57 : decode cX3_summed 57 = .ok (.aload_n 0, 1) := dk_42 (dk_at dksX3_summed_2 9 rfl rfl)
theorem dX3_summed_58 : decode cX3_summed 58 = .ok (.getfield 160, 3) := dk_180 0 160 (dk_at dksX3_summed_2 10 rfl rfl)
theorem dX3_summed_61 : decode cX3_summed 61 = .ok (.ifCond .le 7, 3) := dk_158 0 7 (dk_at dksX3_summed_2 13 rfl rfl)
theorem dX3_summed_64 : decode cX3_summed 64 = .ok (.iconst 1, 1) := dk_4 (dk_at dksX3_summed_2 16 rfl rfl)
theorem dX3_summed_65 : decode cX3_summed 65 = .ok (.goto 4, 3) := dk_167 0 4 (dk_at dksX3_summed_2 17 rfl rfl)
theorem dX3_summed_68 : decode cX3_summed 68 = .ok (.iconst 0, 1) := dk_3 (dk_at dksX3_summed_2 20 rfl rfl)
theorem dX3_summed_69 : decode cX3_summed 69 = .ok (.ireturn, 1) := dk_172 (dk_at dksX3_summed_2 21 rfl rfl)
abbrev cX3_goesOn : ByteArray := prog_17_method_39_code
def yX3_goesOn : MethodName := ⟨RX3, "goesOn", "()Z"⟩
def dkwX3_goesOn_2 : List UInt8 := [182, 0, 204, 153, 0, 7, 4, 167, 0, 4, 3, 172]
abbrev dktX3_goesOn_2 : List UInt8 := dkwX3_goesOn_2 ++ []
def dkwX3_goesOn_1 : List UInt8 := [159, 0, 28, 42, 180, 0, 129, 16, 47, 159, 0, 19, 42, 180, 0, 129, 16, 41, 160, 0, 14, 42]
abbrev dktX3_goesOn_1 : List UInt8 := dkwX3_goesOn_1 ++ dktX3_goesOn_2
def dkwX3_goesOn_0 : List UInt8 := [42, 180, 0, 129, 16, 43, 159, 0, 46, 42, 180, 0, 129, 16, 45, 159, 0, 37, 42, 180, 0, 129, 16, 42]
abbrev dktX3_goesOn_0 : List UInt8 := dkwX3_goesOn_0 ++ dktX3_goesOn_1
theorem dksX3_goesOn_0 : cX3_goesOn.data.toList.drop 0 = dktX3_goesOn_0 := by decide +kernel
theorem dksX3_goesOn_1 : cX3_goesOn.data.toList.drop 24 = dktX3_goesOn_1 := dk_seg dksX3_goesOn_0 24 rfl rfl
theorem dksX3_goesOn_2 : cX3_goesOn.data.toList.drop 46 = dktX3_goesOn_2 := dk_seg dksX3_goesOn_1 22 rfl rfl
theorem dX3_goesOn_0 : decode cX3_goesOn 0 = .ok (.aload_n 0, 1) := dk_42 (dk_at dksX3_goesOn_0 0 rfl rfl)
theorem dX3_goesOn_1 : decode cX3_goesOn 1 = .ok (.getfield 129, 3) := dk_180 0 129 (dk_at dksX3_goesOn_0 1 rfl rfl)
theorem dX3_goesOn_4 : decode cX3_goesOn 4 = .ok (.bipush 43, 2) := dk_16 43 (dk_at dksX3_goesOn_0 4 rfl rfl)
theorem dX3_goesOn_6 : decode cX3_goesOn 6 = .ok (.if_icmp .eq 46, 3) := dk_159 0 46 (dk_at dksX3_goesOn_0 6 rfl rfl)
theorem dX3_goesOn_9 : decode cX3_goesOn 9 = .ok (.aload_n 0, 1) := dk_42 (dk_at dksX3_goesOn_0 9 rfl rfl)
theorem dX3_goesOn_10 : decode cX3_goesOn 10 = .ok (.getfield 129, 3) := dk_180 0 129 (dk_at dksX3_goesOn_0 10 rfl rfl)
theorem dX3_goesOn_13 : decode cX3_goesOn 13 = .ok (.bipush 45, 2) := dk_16 45 (dk_at dksX3_goesOn_0 13 rfl rfl)
theorem dX3_goesOn_15 : decode cX3_goesOn 15 = .ok (.if_icmp .eq 37, 3) := dk_159 0 37 (dk_at dksX3_goesOn_0 15 rfl rfl)
theorem dX3_goesOn_18 : decode cX3_goesOn 18 = .ok (.aload_n 0, 1) := dk_42 (dk_at dksX3_goesOn_0 18 rfl rfl)
theorem dX3_goesOn_19 : decode cX3_goesOn 19 = .ok (.getfield 129, 3) := dk_180 0 129 (dk_at dksX3_goesOn_0 19 rfl rfl)
theorem dX3_goesOn_22 : decode cX3_goesOn 22 = .ok (.bipush 42, 2) := dk_16 42 (dk_at dksX3_goesOn_0 22 rfl rfl)
theorem dX3_goesOn_24 : decode cX3_goesOn 24 = .ok (.if_icmp .eq 28, 3) := dk_159 0 28 (dk_at dksX3_goesOn_1 0 rfl rfl)
theorem dX3_goesOn_27 : decode cX3_goesOn 27 = .ok (.aload_n 0, 1) := dk_42 (dk_at dksX3_goesOn_1 3 rfl rfl)
theorem dX3_goesOn_28 : decode cX3_goesOn 28 = .ok (.getfield 129, 3) := dk_180 0 129 (dk_at dksX3_goesOn_1 4 rfl rfl)
theorem dX3_goesOn_31 : decode cX3_goesOn 31 = .ok (.bipush 47, 2) := dk_16 47 (dk_at dksX3_goesOn_1 7 rfl rfl)
theorem dX3_goesOn_33 : decode cX3_goesOn 33 = .ok (.if_icmp .eq 19, 3) := dk_159 0 19 (dk_at dksX3_goesOn_1 9 rfl rfl)
theorem dX3_goesOn_36 : decode cX3_goesOn 36 = .ok (.aload_n 0, 1) := dk_42 (dk_at dksX3_goesOn_1 12 rfl rfl)
theorem dX3_goesOn_37 : decode cX3_goesOn 37 = .ok (.getfield 129, 3) := dk_180 0 129 (dk_at dksX3_goesOn_1 13 rfl rfl)
theorem dX3_goesOn_40 : decode cX3_goesOn 40 = .ok (.bipush 41, 2) := dk_16 41 (dk_at dksX3_goesOn_1 16 rfl rfl)
theorem dX3_goesOn_42 : decode cX3_goesOn 42 = .ok (.if_icmp .ne 14, 3) := dk_160 0 14 (dk_at dksX3_goesOn_1 18 rfl rfl)
theorem dX3_goesOn_45 : decode cX3_goesOn 45 = .ok (.aload_n 0, 1) := dk_42 (dk_at dksX3_goesOn_1 21 rfl rfl)
theorem dX3_goesOn_46 : decode cX3_goesOn 46 = .ok (.invokevirtual 204, 3) := dk_182 0 204 (dk_at dksX3_goesOn_2 0 rfl rfl)
theorem dX3_goesOn_49 : decode cX3_goesOn 49 = .ok (.ifCond .eq 7, 3) := dk_153 0 7 (dk_at dksX3_goesOn_2 3 rfl rfl)
theorem dX3_goesOn_52 : decode cX3_goesOn 52 = .ok (.iconst 1, 1) := dk_4 (dk_at dksX3_goesOn_2 6 rfl rfl)
theorem dX3_goesOn_53 : decode cX3_goesOn 53 = .ok (.goto 4, 3) := dk_167 0 4 (dk_at dksX3_goesOn_2 7 rfl rfl)
theorem dX3_goesOn_56 : decode cX3_goesOn 56 = .ok (.iconst 0, 1) := dk_3 (dk_at dksX3_goesOn_2 10 rfl rfl)
theorem dX3_goesOn_57 : decode cX3_goesOn 57 = .ok (.ireturn, 1) := dk_172 (dk_at dksX3_goesOn_2 11 rfl rfl)
abbrev cX3_hasParen : ByteArray := prog_17_method_38_code
def yX3_hasParen : MethodName := ⟨RX3, "hasParen", "()Z"⟩
def dkwX3_hasParen_1 : List UInt8 := [132, 1, 1, 167, 255, 232, 3, 172]
abbrev dktX3_hasParen_1 : List UInt8 := dkwX3_hasParen_1 ++ []
def dkwX3_hasParen_0 : List UInt8 := [3, 60, 27, 42, 180, 0, 160, 162, 0, 22, 42, 180, 0, 29, 27, 46, 16, 40, 160, 0, 5, 4, 172]
abbrev dktX3_hasParen_0 : List UInt8 := dkwX3_hasParen_0 ++ dktX3_hasParen_1
theorem dksX3_hasParen_0 : cX3_hasParen.data.toList.drop 0 = dktX3_hasParen_0 := by decide +kernel
theorem dksX3_hasParen_1 : cX3_hasParen.data.toList.drop 23 = dktX3_hasParen_1 := dk_seg dksX3_hasParen_0 23 rfl rfl
theorem dX3_hasParen_0 : decode cX3_hasParen 0 = .ok (.iconst 0, 1) := dk_3 (dk_at dksX3_hasParen_0 0 rfl rfl)
theorem dX3_hasParen_1 : decode cX3_hasParen 1 = .ok (.istore_n 1, 1) := dk_60 (dk_at dksX3_hasParen_0 1 rfl rfl)
theorem dX3_hasParen_2 : decode cX3_hasParen 2 = .ok (.iload_n 1, 1) := dk_27 (dk_at dksX3_hasParen_0 2 rfl rfl)
theorem dX3_hasParen_3 : decode cX3_hasParen 3 = .ok (.aload_n 0, 1) := dk_42 (dk_at dksX3_hasParen_0 3 rfl rfl)
theorem dX3_hasParen_4 : decode cX3_hasParen 4 = .ok (.getfield 160, 3) := dk_180 0 160 (dk_at dksX3_hasParen_0 4 rfl rfl)
theorem dX3_hasParen_7 : decode cX3_hasParen 7 = .ok (.if_icmp .ge 22, 3) := dk_162 0 22 (dk_at dksX3_hasParen_0 7 rfl rfl)
theorem dX3_hasParen_10 : decode cX3_hasParen 10 = .ok (.aload_n 0, 1) := dk_42 (dk_at dksX3_hasParen_0 10 rfl rfl)
theorem dX3_hasParen_11 : decode cX3_hasParen 11 = .ok (.getfield 29, 3) := dk_180 0 29 (dk_at dksX3_hasParen_0 11 rfl rfl)
theorem dX3_hasParen_14 : decode cX3_hasParen 14 = .ok (.iload_n 1, 1) := dk_27 (dk_at dksX3_hasParen_0 14 rfl rfl)
theorem dX3_hasParen_15 : decode cX3_hasParen 15 = .ok (.iaload, 1) := dk_46 (dk_at dksX3_hasParen_0 15 rfl rfl)
theorem dX3_hasParen_16 : decode cX3_hasParen 16 = .ok (.bipush 40, 2) := dk_16 40 (dk_at dksX3_hasParen_0 16 rfl rfl)
theorem dX3_hasParen_18 : decode cX3_hasParen 18 = .ok (.if_icmp .ne 5, 3) := dk_160 0 5 (dk_at dksX3_hasParen_0 18 rfl rfl)
theorem dX3_hasParen_21 : decode cX3_hasParen 21 = .ok (.iconst 1, 1) := dk_4 (dk_at dksX3_hasParen_0 21 rfl rfl)
theorem dX3_hasParen_22 : decode cX3_hasParen 22 = .ok (.ireturn, 1) := dk_172 (dk_at dksX3_hasParen_0 22 rfl rfl)
theorem dX3_hasParen_23 : decode cX3_hasParen 23 = .ok (.iinc 1 1, 3) := dk_132 1 1 (dk_at dksX3_hasParen_1 0 rfl rfl)
theorem dX3_hasParen_26 : decode cX3_hasParen 26 = .ok (.goto (-24), 3) := dk_167 255 232 (dk_at dksX3_hasParen_1 3 rfl rfl)
theorem dX3_hasParen_29 : decode cX3_hasParen 29 = .ok (.iconst 0, 1) := dk_3 (dk_at dksX3_hasParen_1 6 rfl rfl)
theorem dX3_hasParen_30 : decode cX3_hasParen 30 = .ok (.ireturn, 1) := dk_172 (dk_at dksX3_hasParen_1 7 rfl rfl)
abbrev cX3_behindOne : ByteArray := prog_17_method_40_code
def yX3_behindOne : MethodName := ⟨RX3, "behindOne", "()I"⟩
def dkwX3_behindOne_5 : List UInt8 := [182, 0, 189, 3, 172]
abbrev dktX3_behindOne_5 : List UInt8 := dkwX3_behindOne_5 ++ []
def dkwX3_behindOne_4 : List UInt8 := [180, 0, 160, 4, 100, 181, 0, 160, 42, 89, 180, 0, 167, 4, 100, 181, 0, 167, 42, 182, 0, 192, 42]
abbrev dktX3_behindOne_4 : List UInt8 := dkwX3_behindOne_4 ++ dktX3_behindOne_5
def dkwX3_behindOne_3 : List UInt8 := [167, 0, 5, 16, 6, 182, 0, 202, 42, 3, 181, 0, 163, 167, 0, 32, 42, 6, 182, 0, 208, 42, 89]
abbrev dktX3_behindOne_3 : List UInt8 := dkwX3_behindOne_3 ++ dktX3_behindOne_4
def dkwX3_behindOne_2 : List UInt8 := [159, 0, 9, 27, 16, 47, 160, 0, 32, 42, 8, 182, 0, 208, 42, 27, 16, 42, 160, 0, 7, 8]
abbrev dktX3_behindOne_2 : List UInt8 := dkwX3_behindOne_2 ++ dktX3_behindOne_3
def dkwX3_behindOne_1 : List UInt8 := [16, 43, 160, 0, 7, 6, 167, 0, 4, 7, 182, 0, 202, 42, 3, 181, 0, 163, 167, 0, 73, 27, 16, 42]
abbrev dktX3_behindOne_1 : List UInt8 := dkwX3_behindOne_1 ++ dktX3_behindOne_2
def dkwX3_behindOne_0 : List UInt8 := [42, 180, 0, 129, 60, 27, 16, 43, 159, 0, 9, 27, 16, 45, 160, 0, 31, 42, 6, 182, 0, 208, 42, 27]
abbrev dktX3_behindOne_0 : List UInt8 := dkwX3_behindOne_0 ++ dktX3_behindOne_1
theorem dksX3_behindOne_0 : cX3_behindOne.data.toList.drop 0 = dktX3_behindOne_0 := by decide +kernel
theorem dksX3_behindOne_1 : cX3_behindOne.data.toList.drop 24 = dktX3_behindOne_1 := dk_seg dksX3_behindOne_0 24 rfl rfl
theorem dksX3_behindOne_2 : cX3_behindOne.data.toList.drop 48 = dktX3_behindOne_2 := dk_seg dksX3_behindOne_1 24 rfl rfl
theorem dksX3_behindOne_3 : cX3_behindOne.data.toList.drop 70 = dktX3_behindOne_3 := dk_seg dksX3_behindOne_2 22 rfl rfl
theorem dksX3_behindOne_4 : cX3_behindOne.data.toList.drop 93 = dktX3_behindOne_4 := dk_seg dksX3_behindOne_3 23 rfl rfl
theorem dksX3_behindOne_5 : cX3_behindOne.data.toList.drop 116 = dktX3_behindOne_5 := dk_seg dksX3_behindOne_4 23 rfl rfl
theorem dX3_behindOne_0 : decode cX3_behindOne 0 = .ok (.aload_n 0, 1) := dk_42 (dk_at dksX3_behindOne_0 0 rfl rfl)
theorem dX3_behindOne_1 : decode cX3_behindOne 1 = .ok (.getfield 129, 3) := dk_180 0 129 (dk_at dksX3_behindOne_0 1 rfl rfl)
theorem dX3_behindOne_4 : decode cX3_behindOne 4 = .ok (.istore_n 1, 1) := dk_60 (dk_at dksX3_behindOne_0 4 rfl rfl)
theorem dX3_behindOne_5 : decode cX3_behindOne 5 = .ok (.iload_n 1, 1) := dk_27 (dk_at dksX3_behindOne_0 5 rfl rfl)
theorem dX3_behindOne_6 : decode cX3_behindOne 6 = .ok (.bipush 43, 2) := dk_16 43 (dk_at dksX3_behindOne_0 6 rfl rfl)
theorem dX3_behindOne_8 : decode cX3_behindOne 8 = .ok (.if_icmp .eq 9, 3) := dk_159 0 9 (dk_at dksX3_behindOne_0 8 rfl rfl)
theorem dX3_behindOne_11 : decode cX3_behindOne 11 = .ok (.iload_n 1, 1) := dk_27 (dk_at dksX3_behindOne_0 11 rfl rfl)
theorem dX3_behindOne_12 : decode cX3_behindOne 12 = .ok (.bipush 45, 2) := dk_16 45 (dk_at dksX3_behindOne_0 12 rfl rfl)
theorem dX3_behindOne_14 : decode cX3_behindOne 14 = .ok (.if_icmp .ne 31, 3) := dk_160 0 31 (dk_at dksX3_behindOne_0 14 rfl rfl)
theorem dX3_behindOne_17 : decode cX3_behindOne 17 = .ok (.aload_n 0, 1) := dk_42 (dk_at dksX3_behindOne_0 17 rfl rfl)
theorem dX3_behindOne_18 : decode cX3_behindOne 18 = .ok (.iconst 3, 1) := dk_6 (dk_at dksX3_behindOne_0 18 rfl rfl)
theorem dX3_behindOne_19 : decode cX3_behindOne 19 = .ok (.invokevirtual 208, 3) := dk_182 0 208 (dk_at dksX3_behindOne_0 19 rfl rfl)
theorem dX3_behindOne_22 : decode cX3_behindOne 22 = .ok (.aload_n 0, 1) := dk_42 (dk_at dksX3_behindOne_0 22 rfl rfl)
theorem dX3_behindOne_23 : decode cX3_behindOne 23 = .ok (.iload_n 1, 1) := dk_27 (dk_at dksX3_behindOne_0 23 rfl rfl)
theorem dX3_behindOne_24 : decode cX3_behindOne 24 = .ok (.bipush 43, 2) := dk_16 43 (dk_at dksX3_behindOne_1 0 rfl rfl)
theorem dX3_behindOne_26 : decode cX3_behindOne 26 = .ok (.if_icmp .ne 7, 3) := dk_160 0 7 (dk_at dksX3_behindOne_1 2 rfl rfl)
theorem dX3_behindOne_29 : decode cX3_behindOne 29 = .ok (.iconst 3, 1) := dk_6 (dk_at dksX3_behindOne_1 5 rfl rfl)
theorem dX3_behindOne_30 : decode cX3_behindOne 30 = .ok (.goto 4, 3) := dk_167 0 4 (dk_at dksX3_behindOne_1 6 rfl rfl)
theorem dX3_behindOne_33 : decode cX3_behindOne 33 = .ok (.iconst 4, 1) := dk_7 (dk_at dksX3_behindOne_1 9 rfl rfl)
theorem dX3_behindOne_34 : decode cX3_behindOne 34 = .ok (.invokevirtual 202, 3) := dk_182 0 202 (dk_at dksX3_behindOne_1 10 rfl rfl)
theorem dX3_behindOne_37 : decode cX3_behindOne 37 = .ok (.aload_n 0, 1) := dk_42 (dk_at dksX3_behindOne_1 13 rfl rfl)
theorem dX3_behindOne_38 : decode cX3_behindOne 38 = .ok (.iconst 0, 1) := dk_3 (dk_at dksX3_behindOne_1 14 rfl rfl)
theorem dX3_behindOne_39 : decode cX3_behindOne 39 = .ok (.putfield 163, 3) := dk_181 0 163 (dk_at dksX3_behindOne_1 15 rfl rfl)
theorem dX3_behindOne_42 : decode cX3_behindOne 42 = .ok (.goto 73, 3) := dk_167 0 73 (dk_at dksX3_behindOne_1 18 rfl rfl)
theorem dX3_behindOne_45 : decode cX3_behindOne 45 = .ok (.iload_n 1, 1) := dk_27 (dk_at dksX3_behindOne_1 21 rfl rfl)
theorem dX3_behindOne_46 : decode cX3_behindOne 46 = .ok (.bipush 42, 2) := dk_16 42 (dk_at dksX3_behindOne_1 22 rfl rfl)
theorem dX3_behindOne_48 : decode cX3_behindOne 48 = .ok (.if_icmp .eq 9, 3) := dk_159 0 9 (dk_at dksX3_behindOne_2 0 rfl rfl)
theorem dX3_behindOne_51 : decode cX3_behindOne 51 = .ok (.iload_n 1, 1) := dk_27 (dk_at dksX3_behindOne_2 3 rfl rfl)
theorem dX3_behindOne_52 : decode cX3_behindOne 52 = .ok (.bipush 47, 2) := dk_16 47 (dk_at dksX3_behindOne_2 4 rfl rfl)
theorem dX3_behindOne_54 : decode cX3_behindOne 54 = .ok (.if_icmp .ne 32, 3) := dk_160 0 32 (dk_at dksX3_behindOne_2 6 rfl rfl)
theorem dX3_behindOne_57 : decode cX3_behindOne 57 = .ok (.aload_n 0, 1) := dk_42 (dk_at dksX3_behindOne_2 9 rfl rfl)
theorem dX3_behindOne_58 : decode cX3_behindOne 58 = .ok (.iconst 5, 1) := dk_8 (dk_at dksX3_behindOne_2 10 rfl rfl)
theorem dX3_behindOne_59 : decode cX3_behindOne 59 = .ok (.invokevirtual 208, 3) := dk_182 0 208 (dk_at dksX3_behindOne_2 11 rfl rfl)
theorem dX3_behindOne_62 : decode cX3_behindOne 62 = .ok (.aload_n 0, 1) := dk_42 (dk_at dksX3_behindOne_2 14 rfl rfl)
theorem dX3_behindOne_63 : decode cX3_behindOne 63 = .ok (.iload_n 1, 1) := dk_27 (dk_at dksX3_behindOne_2 15 rfl rfl)
theorem dX3_behindOne_64 : decode cX3_behindOne 64 = .ok (.bipush 42, 2) := dk_16 42 (dk_at dksX3_behindOne_2 16 rfl rfl)
theorem dX3_behindOne_66 : decode cX3_behindOne 66 = .ok (.if_icmp .ne 7, 3) := dk_160 0 7 (dk_at dksX3_behindOne_2 18 rfl rfl)
theorem dX3_behindOne_69 : decode cX3_behindOne 69 = .ok (.iconst 5, 1) := dk_8 (dk_at dksX3_behindOne_2 21 rfl rfl)
theorem dX3_behindOne_70 : decode cX3_behindOne 70 = .ok (.goto 5, 3) := dk_167 0 5 (dk_at dksX3_behindOne_3 0 rfl rfl)
theorem dX3_behindOne_73 : decode cX3_behindOne 73 = .ok (.bipush 6, 2) := dk_16 6 (dk_at dksX3_behindOne_3 3 rfl rfl)
theorem dX3_behindOne_75 : decode cX3_behindOne 75 = .ok (.invokevirtual 202, 3) := dk_182 0 202 (dk_at dksX3_behindOne_3 5 rfl rfl)
theorem dX3_behindOne_78 : decode cX3_behindOne 78 = .ok (.aload_n 0, 1) := dk_42 (dk_at dksX3_behindOne_3 8 rfl rfl)
theorem dX3_behindOne_79 : decode cX3_behindOne 79 = .ok (.iconst 0, 1) := dk_3 (dk_at dksX3_behindOne_3 9 rfl rfl)
theorem dX3_behindOne_80 : decode cX3_behindOne 80 = .ok (.putfield 163, 3) := dk_181 0 163 (dk_at dksX3_behindOne_3 10 rfl rfl)
theorem dX3_behindOne_83 : decode cX3_behindOne 83 = .ok (.goto 32, 3) := dk_167 0 32 (dk_at dksX3_behindOne_3 13 rfl rfl)
theorem dX3_behindOne_86 : decode cX3_behindOne 86 = .ok (.aload_n 0, 1) := dk_42 (dk_at dksX3_behindOne_3 16 rfl rfl)
theorem dX3_behindOne_87 : decode cX3_behindOne 87 = .ok (.iconst 3, 1) := dk_6 (dk_at dksX3_behindOne_3 17 rfl rfl)
theorem dX3_behindOne_88 : decode cX3_behindOne 88 = .ok (.invokevirtual 208, 3) := dk_182 0 208 (dk_at dksX3_behindOne_3 18 rfl rfl)
theorem dX3_behindOne_91 : decode cX3_behindOne 91 = .ok (.aload_n 0, 1) := dk_42 (dk_at dksX3_behindOne_3 21 rfl rfl)
theorem dX3_behindOne_92 : decode cX3_behindOne 92 = .ok (.dup, 1) := dk_89 (dk_at dksX3_behindOne_3 22 rfl rfl)
theorem dX3_behindOne_93 : decode cX3_behindOne 93 = .ok (.getfield 160, 3) := dk_180 0 160 (dk_at dksX3_behindOne_4 0 rfl rfl)
theorem dX3_behindOne_96 : decode cX3_behindOne 96 = .ok (.iconst 1, 1) := dk_4 (dk_at dksX3_behindOne_4 3 rfl rfl)
theorem dX3_behindOne_97 : decode cX3_behindOne 97 = .ok (.isub, 1) := dk_100 (dk_at dksX3_behindOne_4 4 rfl rfl)
theorem dX3_behindOne_98 : decode cX3_behindOne 98 = .ok (.putfield 160, 3) := dk_181 0 160 (dk_at dksX3_behindOne_4 5 rfl rfl)
theorem dX3_behindOne_101 : decode cX3_behindOne 101 = .ok (.aload_n 0, 1) := dk_42 (dk_at dksX3_behindOne_4 8 rfl rfl)
theorem dX3_behindOne_102 : decode cX3_behindOne 102 = .ok (.dup, 1) := dk_89 (dk_at dksX3_behindOne_4 9 rfl rfl)
theorem dX3_behindOne_103 : decode cX3_behindOne 103 = .ok (.getfield 167, 3) := dk_180 0 167 (dk_at dksX3_behindOne_4 10 rfl rfl)
theorem dX3_behindOne_106 : decode cX3_behindOne 106 = .ok (.iconst 1, 1) := dk_4 (dk_at dksX3_behindOne_4 13 rfl rfl)
theorem dX3_behindOne_107 : decode cX3_behindOne 107 = .ok (.isub, 1) := dk_100 (dk_at dksX3_behindOne_4 14 rfl rfl)
theorem dX3_behindOne_108 : decode cX3_behindOne 108 = .ok (.putfield 167, 3) := dk_181 0 167 (dk_at dksX3_behindOne_4 15 rfl rfl)
theorem dX3_behindOne_111 : decode cX3_behindOne 111 = .ok (.aload_n 0, 1) := dk_42 (dk_at dksX3_behindOne_4 18 rfl rfl)
theorem dX3_behindOne_112 : decode cX3_behindOne 112 = .ok (.invokevirtual 192, 3) := dk_182 0 192 (dk_at dksX3_behindOne_4 19 rfl rfl)
theorem dX3_behindOne_115 : decode cX3_behindOne 115 = .ok (.aload_n 0, 1) := dk_42 (dk_at dksX3_behindOne_4 22 rfl rfl)
theorem dX3_behindOne_116 : decode cX3_behindOne 116 = .ok (.invokevirtual 189, 3) := dk_182 0 189 (dk_at dksX3_behindOne_5 0 rfl rfl)
theorem dX3_behindOne_119 : decode cX3_behindOne 119 = .ok (.iconst 0, 1) := dk_3 (dk_at dksX3_behindOne_5 3 rfl rfl)
theorem dX3_behindOne_120 : decode cX3_behindOne 120 = .ok (.ireturn, 1) := dk_172 (dk_at dksX3_behindOne_5 4 rfl rfl)
abbrev cX3_settle : ByteArray := prog_17_method_34_code
def yX3_settle : MethodName := ⟨RX3, "settle", "(I)V"⟩
def dkwX3_settle_2 : List UInt8 := [42, 42, 180, 0, 29, 42, 180, 0, 160, 46, 3, 182, 0, 170, 167, 255, 194, 177]
abbrev dktX3_settle_2 : List UInt8 := dkwX3_settle_2 ++ []
def dkwX3_settle_1 : List UInt8 := [180, 0, 29, 42, 180, 0, 160, 4, 100, 46, 27, 161, 0, 30, 42, 89, 180, 0, 160, 4, 100, 181, 0, 160]
abbrev dktX3_settle_1 : List UInt8 := dkwX3_settle_1 ++ dktX3_settle_2
def dkwX3_settle_0 : List UInt8 := [42, 180, 0, 160, 158, 0, 61, 42, 180, 0, 29, 42, 180, 0, 160, 4, 100, 46, 16, 40, 162, 0, 45, 42]
abbrev dktX3_settle_0 : List UInt8 := dkwX3_settle_0 ++ dktX3_settle_1
theorem dksX3_settle_0 : cX3_settle.data.toList.drop 0 = dktX3_settle_0 := by decide +kernel
theorem dksX3_settle_1 : cX3_settle.data.toList.drop 24 = dktX3_settle_1 := dk_seg dksX3_settle_0 24 rfl rfl
theorem dksX3_settle_2 : cX3_settle.data.toList.drop 48 = dktX3_settle_2 := dk_seg dksX3_settle_1 24 rfl rfl
theorem dX3_settle_0 : decode cX3_settle 0 = .ok (.aload_n 0, 1) := dk_42 (dk_at dksX3_settle_0 0 rfl rfl)
theorem dX3_settle_1 : decode cX3_settle 1 = .ok (.getfield 160, 3) := dk_180 0 160 (dk_at dksX3_settle_0 1 rfl rfl)
theorem dX3_settle_4 : decode cX3_settle 4 = .ok (.ifCond .le 61, 3) := dk_158 0 61 (dk_at dksX3_settle_0 4 rfl rfl)
theorem dX3_settle_7 : decode cX3_settle 7 = .ok (.aload_n 0, 1) := dk_42 (dk_at dksX3_settle_0 7 rfl rfl)
theorem dX3_settle_8 : decode cX3_settle 8 = .ok (.getfield 29, 3) := dk_180 0 29 (dk_at dksX3_settle_0 8 rfl rfl)
theorem dX3_settle_11 : decode cX3_settle 11 = .ok (.aload_n 0, 1) := dk_42 (dk_at dksX3_settle_0 11 rfl rfl)
theorem dX3_settle_12 : decode cX3_settle 12 = .ok (.getfield 160, 3) := dk_180 0 160 (dk_at dksX3_settle_0 12 rfl rfl)
theorem dX3_settle_15 : decode cX3_settle 15 = .ok (.iconst 1, 1) := dk_4 (dk_at dksX3_settle_0 15 rfl rfl)
theorem dX3_settle_16 : decode cX3_settle 16 = .ok (.isub, 1) := dk_100 (dk_at dksX3_settle_0 16 rfl rfl)
theorem dX3_settle_17 : decode cX3_settle 17 = .ok (.iaload, 1) := dk_46 (dk_at dksX3_settle_0 17 rfl rfl)
theorem dX3_settle_18 : decode cX3_settle 18 = .ok (.bipush 40, 2) := dk_16 40 (dk_at dksX3_settle_0 18 rfl rfl)
theorem dX3_settle_20 : decode cX3_settle 20 = .ok (.if_icmp .ge 45, 3) := dk_162 0 45 (dk_at dksX3_settle_0 20 rfl rfl)
theorem dX3_settle_23 : decode cX3_settle 23 = .ok (.aload_n 0, 1) := dk_42 (dk_at dksX3_settle_0 23 rfl rfl)
theorem dX3_settle_24 : decode cX3_settle 24 = .ok (.getfield 29, 3) := dk_180 0 29 (dk_at dksX3_settle_1 0 rfl rfl)
theorem dX3_settle_27 : decode cX3_settle 27 = .ok (.aload_n 0, 1) := dk_42 (dk_at dksX3_settle_1 3 rfl rfl)
theorem dX3_settle_28 : decode cX3_settle 28 = .ok (.getfield 160, 3) := dk_180 0 160 (dk_at dksX3_settle_1 4 rfl rfl)
theorem dX3_settle_31 : decode cX3_settle 31 = .ok (.iconst 1, 1) := dk_4 (dk_at dksX3_settle_1 7 rfl rfl)
theorem dX3_settle_32 : decode cX3_settle 32 = .ok (.isub, 1) := dk_100 (dk_at dksX3_settle_1 8 rfl rfl)
theorem dX3_settle_33 : decode cX3_settle 33 = .ok (.iaload, 1) := dk_46 (dk_at dksX3_settle_1 9 rfl rfl)
theorem dX3_settle_34 : decode cX3_settle 34 = .ok (.iload_n 1, 1) := dk_27 (dk_at dksX3_settle_1 10 rfl rfl)
theorem dX3_settle_35 : decode cX3_settle 35 = .ok (.if_icmp .lt 30, 3) := dk_161 0 30 (dk_at dksX3_settle_1 11 rfl rfl)
theorem dX3_settle_38 : decode cX3_settle 38 = .ok (.aload_n 0, 1) := dk_42 (dk_at dksX3_settle_1 14 rfl rfl)
theorem dX3_settle_39 : decode cX3_settle 39 = .ok (.dup, 1) := dk_89 (dk_at dksX3_settle_1 15 rfl rfl)
theorem dX3_settle_40 : decode cX3_settle 40 = .ok (.getfield 160, 3) := dk_180 0 160 (dk_at dksX3_settle_1 16 rfl rfl)
theorem dX3_settle_43 : decode cX3_settle 43 = .ok (.iconst 1, 1) := dk_4 (dk_at dksX3_settle_1 19 rfl rfl)
theorem dX3_settle_44 : decode cX3_settle 44 = .ok (.isub, 1) := dk_100 (dk_at dksX3_settle_1 20 rfl rfl)
theorem dX3_settle_45 : decode cX3_settle 45 = .ok (.putfield 160, 3) := dk_181 0 160 (dk_at dksX3_settle_1 21 rfl rfl)
theorem dX3_settle_48 : decode cX3_settle 48 = .ok (.aload_n 0, 1) := dk_42 (dk_at dksX3_settle_2 0 rfl rfl)
theorem dX3_settle_49 : decode cX3_settle 49 = .ok (.aload_n 0, 1) := dk_42 (dk_at dksX3_settle_2 1 rfl rfl)
theorem dX3_settle_50 : decode cX3_settle 50 = .ok (.getfield 29, 3) := dk_180 0 29 (dk_at dksX3_settle_2 2 rfl rfl)
theorem dX3_settle_53 : decode cX3_settle 53 = .ok (.aload_n 0, 1) := dk_42 (dk_at dksX3_settle_2 5 rfl rfl)
theorem dX3_settle_54 : decode cX3_settle 54 = .ok (.getfield 160, 3) := dk_180 0 160 (dk_at dksX3_settle_2 6 rfl rfl)
theorem dX3_settle_57 : decode cX3_settle 57 = .ok (.iaload, 1) := dk_46 (dk_at dksX3_settle_2 9 rfl rfl)
theorem dX3_settle_58 : decode cX3_settle 58 = .ok (.iconst 0, 1) := dk_3 (dk_at dksX3_settle_2 10 rfl rfl)
theorem dX3_settle_59 : decode cX3_settle 59 = .ok (.invokevirtual 170, 3) := dk_182 0 170 (dk_at dksX3_settle_2 11 rfl rfl)
theorem dX3_settle_62 : decode cX3_settle 62 = .ok (.goto (-62), 3) := dk_167 255 194 (dk_at dksX3_settle_2 14 rfl rfl)
theorem dX3_settle_65 : decode cX3_settle 65 = .ok (.return_, 1) := dk_177 (dk_at dksX3_settle_2 17 rfl rfl)
abbrev cX3_emit : ByteArray := prog_17_method_31_code
def yX3_emit : MethodName := ⟨RX3, "emit", "(II)V"⟩
def dkwX3_emit_2 : List UInt8 := [96, 181, 0, 157, 177]
abbrev dktX3_emit_2 : List UInt8 := dkwX3_emit_2 ++ []
def dkwX3_emit_1 : List UInt8 := [42, 180, 0, 154, 16, 60, 96, 5, 42, 180, 0, 157, 104, 96, 4, 96, 28, 79, 42, 89, 180, 0, 157, 4]
abbrev dktX3_emit_1 : List UInt8 := dkwX3_emit_1 ++ dktX3_emit_2
def dkwX3_emit_0 : List UInt8 := [42, 180, 0, 16, 42, 180, 0, 154, 16, 60, 96, 5, 42, 180, 0, 157, 104, 96, 27, 79, 42, 180, 0, 16]
abbrev dktX3_emit_0 : List UInt8 := dkwX3_emit_0 ++ dktX3_emit_1
theorem dksX3_emit_0 : cX3_emit.data.toList.drop 0 = dktX3_emit_0 := by decide +kernel
theorem dksX3_emit_1 : cX3_emit.data.toList.drop 24 = dktX3_emit_1 := dk_seg dksX3_emit_0 24 rfl rfl
theorem dksX3_emit_2 : cX3_emit.data.toList.drop 48 = dktX3_emit_2 := dk_seg dksX3_emit_1 24 rfl rfl
theorem dX3_emit_0 : decode cX3_emit 0 = .ok (.aload_n 0, 1) := dk_42 (dk_at dksX3_emit_0 0 rfl rfl)
theorem dX3_emit_1 : decode cX3_emit 1 = .ok (.getfield 16, 3) := dk_180 0 16 (dk_at dksX3_emit_0 1 rfl rfl)
theorem dX3_emit_4 : decode cX3_emit 4 = .ok (.aload_n 0, 1) := dk_42 (dk_at dksX3_emit_0 4 rfl rfl)
theorem dX3_emit_5 : decode cX3_emit 5 = .ok (.getfield 154, 3) := dk_180 0 154 (dk_at dksX3_emit_0 5 rfl rfl)
theorem dX3_emit_8 : decode cX3_emit 8 = .ok (.bipush 60, 2) := dk_16 60 (dk_at dksX3_emit_0 8 rfl rfl)
theorem dX3_emit_10 : decode cX3_emit 10 = .ok (.iadd, 1) := dk_96 (dk_at dksX3_emit_0 10 rfl rfl)
theorem dX3_emit_11 : decode cX3_emit 11 = .ok (.iconst 2, 1) := dk_5 (dk_at dksX3_emit_0 11 rfl rfl)
theorem dX3_emit_12 : decode cX3_emit 12 = .ok (.aload_n 0, 1) := dk_42 (dk_at dksX3_emit_0 12 rfl rfl)
theorem dX3_emit_13 : decode cX3_emit 13 = .ok (.getfield 157, 3) := dk_180 0 157 (dk_at dksX3_emit_0 13 rfl rfl)
theorem dX3_emit_16 : decode cX3_emit 16 = .ok (.imul, 1) := dk_104 (dk_at dksX3_emit_0 16 rfl rfl)
theorem dX3_emit_17 : decode cX3_emit 17 = .ok (.iadd, 1) := dk_96 (dk_at dksX3_emit_0 17 rfl rfl)
theorem dX3_emit_18 : decode cX3_emit 18 = .ok (.iload_n 1, 1) := dk_27 (dk_at dksX3_emit_0 18 rfl rfl)
theorem dX3_emit_19 : decode cX3_emit 19 = .ok (.iastore, 1) := dk_79 (dk_at dksX3_emit_0 19 rfl rfl)
theorem dX3_emit_20 : decode cX3_emit 20 = .ok (.aload_n 0, 1) := dk_42 (dk_at dksX3_emit_0 20 rfl rfl)
theorem dX3_emit_21 : decode cX3_emit 21 = .ok (.getfield 16, 3) := dk_180 0 16 (dk_at dksX3_emit_0 21 rfl rfl)
theorem dX3_emit_24 : decode cX3_emit 24 = .ok (.aload_n 0, 1) := dk_42 (dk_at dksX3_emit_1 0 rfl rfl)
theorem dX3_emit_25 : decode cX3_emit 25 = .ok (.getfield 154, 3) := dk_180 0 154 (dk_at dksX3_emit_1 1 rfl rfl)
theorem dX3_emit_28 : decode cX3_emit 28 = .ok (.bipush 60, 2) := dk_16 60 (dk_at dksX3_emit_1 4 rfl rfl)
theorem dX3_emit_30 : decode cX3_emit 30 = .ok (.iadd, 1) := dk_96 (dk_at dksX3_emit_1 6 rfl rfl)
theorem dX3_emit_31 : decode cX3_emit 31 = .ok (.iconst 2, 1) := dk_5 (dk_at dksX3_emit_1 7 rfl rfl)
theorem dX3_emit_32 : decode cX3_emit 32 = .ok (.aload_n 0, 1) := dk_42 (dk_at dksX3_emit_1 8 rfl rfl)
theorem dX3_emit_33 : decode cX3_emit 33 = .ok (.getfield 157, 3) := dk_180 0 157 (dk_at dksX3_emit_1 9 rfl rfl)
theorem dX3_emit_36 : decode cX3_emit 36 = .ok (.imul, 1) := dk_104 (dk_at dksX3_emit_1 12 rfl rfl)
theorem dX3_emit_37 : decode cX3_emit 37 = .ok (.iadd, 1) := dk_96 (dk_at dksX3_emit_1 13 rfl rfl)
theorem dX3_emit_38 : decode cX3_emit 38 = .ok (.iconst 1, 1) := dk_4 (dk_at dksX3_emit_1 14 rfl rfl)
theorem dX3_emit_39 : decode cX3_emit 39 = .ok (.iadd, 1) := dk_96 (dk_at dksX3_emit_1 15 rfl rfl)
theorem dX3_emit_40 : decode cX3_emit 40 = .ok (.iload_n 2, 1) := dk_28 (dk_at dksX3_emit_1 16 rfl rfl)
theorem dX3_emit_41 : decode cX3_emit 41 = .ok (.iastore, 1) := dk_79 (dk_at dksX3_emit_1 17 rfl rfl)
theorem dX3_emit_42 : decode cX3_emit 42 = .ok (.aload_n 0, 1) := dk_42 (dk_at dksX3_emit_1 18 rfl rfl)
theorem dX3_emit_43 : decode cX3_emit 43 = .ok (.dup, 1) := dk_89 (dk_at dksX3_emit_1 19 rfl rfl)
theorem dX3_emit_44 : decode cX3_emit 44 = .ok (.getfield 157, 3) := dk_180 0 157 (dk_at dksX3_emit_1 20 rfl rfl)
theorem dX3_emit_47 : decode cX3_emit 47 = .ok (.iconst 1, 1) := dk_4 (dk_at dksX3_emit_1 23 rfl rfl)
theorem dX3_emit_48 : decode cX3_emit 48 = .ok (.iadd, 1) := dk_96 (dk_at dksX3_emit_2 0 rfl rfl)
theorem dX3_emit_49 : decode cX3_emit 49 = .ok (.putfield 157, 3) := dk_181 0 157 (dk_at dksX3_emit_2 1 rfl rfl)
theorem dX3_emit_52 : decode cX3_emit 52 = .ok (.return_, 1) := dk_177 (dk_at dksX3_emit_2 4 rfl rfl)
abbrev cX3_push : ByteArray := prog_17_method_32_code
def yX3_push : MethodName := ⟨RX3, "push", "(I)V"⟩
def dkwX3_push_0 : List UInt8 := [42, 180, 0, 29, 42, 180, 0, 160, 27, 79, 42, 89, 180, 0, 160, 4, 96, 181, 0, 160, 177]
abbrev dktX3_push_0 : List UInt8 := dkwX3_push_0 ++ []
theorem dksX3_push_0 : cX3_push.data.toList.drop 0 = dktX3_push_0 := by decide +kernel
theorem dX3_push_0 : decode cX3_push 0 = .ok (.aload_n 0, 1) := dk_42 (dk_at dksX3_push_0 0 rfl rfl)
theorem dX3_push_1 : decode cX3_push 1 = .ok (.getfield 29, 3) := dk_180 0 29 (dk_at dksX3_push_0 1 rfl rfl)
theorem dX3_push_4 : decode cX3_push 4 = .ok (.aload_n 0, 1) := dk_42 (dk_at dksX3_push_0 4 rfl rfl)
theorem dX3_push_5 : decode cX3_push 5 = .ok (.getfield 160, 3) := dk_180 0 160 (dk_at dksX3_push_0 5 rfl rfl)
theorem dX3_push_8 : decode cX3_push 8 = .ok (.iload_n 1, 1) := dk_27 (dk_at dksX3_push_0 8 rfl rfl)
theorem dX3_push_9 : decode cX3_push 9 = .ok (.iastore, 1) := dk_79 (dk_at dksX3_push_0 9 rfl rfl)
theorem dX3_push_10 : decode cX3_push 10 = .ok (.aload_n 0, 1) := dk_42 (dk_at dksX3_push_0 10 rfl rfl)
theorem dX3_push_11 : decode cX3_push 11 = .ok (.dup, 1) := dk_89 (dk_at dksX3_push_0 11 rfl rfl)
theorem dX3_push_12 : decode cX3_push 12 = .ok (.getfield 160, 3) := dk_180 0 160 (dk_at dksX3_push_0 12 rfl rfl)
theorem dX3_push_15 : decode cX3_push 15 = .ok (.iconst 1, 1) := dk_4 (dk_at dksX3_push_0 15 rfl rfl)
theorem dX3_push_16 : decode cX3_push 16 = .ok (.iadd, 1) := dk_96 (dk_at dksX3_push_0 16 rfl rfl)
theorem dX3_push_17 : decode cX3_push 17 = .ok (.putfield 160, 3) := dk_181 0 160 (dk_at dksX3_push_0 17 rfl rfl)
theorem dX3_push_20 : decode cX3_push 20 = .ok (.return_, 1) := dk_177 (dk_at dksX3_push_0 20 rfl rfl)
abbrev cX3_whole : ByteArray := prog_17_method_33_code
def yX3_whole : MethodName := ⟨RX3, "whole", "()V"⟩
def dkwX3_whole_2 : List UInt8 := [5, 3, 182, 0, 170, 167, 255, 208, 177]
abbrev dktX3_whole_2 : List UInt8 := dkwX3_whole_2 ++ []
def dkwX3_whole_1 : List UInt8 := [160, 0, 32, 42, 89, 180, 0, 160, 4, 100, 181, 0, 160, 42, 89, 180, 0, 167, 4, 100, 181, 0, 167, 42]
abbrev dktX3_whole_1 : List UInt8 := dkwX3_whole_1 ++ dktX3_whole_2
def dkwX3_whole_0 : List UInt8 := [42, 4, 181, 0, 163, 42, 180, 0, 160, 158, 0, 47, 42, 180, 0, 29, 42, 180, 0, 160, 4, 100, 46, 5]
abbrev dktX3_whole_0 : List UInt8 := dkwX3_whole_0 ++ dktX3_whole_1
theorem dksX3_whole_0 : cX3_whole.data.toList.drop 0 = dktX3_whole_0 := by decide +kernel
theorem dksX3_whole_1 : cX3_whole.data.toList.drop 24 = dktX3_whole_1 := dk_seg dksX3_whole_0 24 rfl rfl
theorem dksX3_whole_2 : cX3_whole.data.toList.drop 48 = dktX3_whole_2 := dk_seg dksX3_whole_1 24 rfl rfl
theorem dX3_whole_0 : decode cX3_whole 0 = .ok (.aload_n 0, 1) := dk_42 (dk_at dksX3_whole_0 0 rfl rfl)
theorem dX3_whole_1 : decode cX3_whole 1 = .ok (.iconst 1, 1) := dk_4 (dk_at dksX3_whole_0 1 rfl rfl)
theorem dX3_whole_2 : decode cX3_whole 2 = .ok (.putfield 163, 3) := dk_181 0 163 (dk_at dksX3_whole_0 2 rfl rfl)
theorem dX3_whole_5 : decode cX3_whole 5 = .ok (.aload_n 0, 1) := dk_42 (dk_at dksX3_whole_0 5 rfl rfl)
theorem dX3_whole_6 : decode cX3_whole 6 = .ok (.getfield 160, 3) := dk_180 0 160 (dk_at dksX3_whole_0 6 rfl rfl)
theorem dX3_whole_9 : decode cX3_whole 9 = .ok (.ifCond .le 47, 3) := dk_158 0 47 (dk_at dksX3_whole_0 9 rfl rfl)
theorem dX3_whole_12 : decode cX3_whole 12 = .ok (.aload_n 0, 1) := dk_42 (dk_at dksX3_whole_0 12 rfl rfl)
theorem dX3_whole_13 : decode cX3_whole 13 = .ok (.getfield 29, 3) := dk_180 0 29 (dk_at dksX3_whole_0 13 rfl rfl)
theorem dX3_whole_16 : decode cX3_whole 16 = .ok (.aload_n 0, 1) := dk_42 (dk_at dksX3_whole_0 16 rfl rfl)
theorem dX3_whole_17 : decode cX3_whole 17 = .ok (.getfield 160, 3) := dk_180 0 160 (dk_at dksX3_whole_0 17 rfl rfl)
theorem dX3_whole_20 : decode cX3_whole 20 = .ok (.iconst 1, 1) := dk_4 (dk_at dksX3_whole_0 20 rfl rfl)
theorem dX3_whole_21 : decode cX3_whole 21 = .ok (.isub, 1) := dk_100 (dk_at dksX3_whole_0 21 rfl rfl)
theorem dX3_whole_22 : decode cX3_whole 22 = .ok (.iaload, 1) := dk_46 (dk_at dksX3_whole_0 22 rfl rfl)
theorem dX3_whole_23 : decode cX3_whole 23 = .ok (.iconst 2, 1) := dk_5 (dk_at dksX3_whole_0 23 rfl rfl)
theorem dX3_whole_24 : decode cX3_whole 24 = .ok (.if_icmp .ne 32, 3) := dk_160 0 32 (dk_at dksX3_whole_1 0 rfl rfl)
theorem dX3_whole_27 : decode cX3_whole 27 = .ok (.aload_n 0, 1) := dk_42 (dk_at dksX3_whole_1 3 rfl rfl)
theorem dX3_whole_28 : decode cX3_whole 28 = .ok (.dup, 1) := dk_89 (dk_at dksX3_whole_1 4 rfl rfl)
theorem dX3_whole_29 : decode cX3_whole 29 = .ok (.getfield 160, 3) := dk_180 0 160 (dk_at dksX3_whole_1 5 rfl rfl)
theorem dX3_whole_32 : decode cX3_whole 32 = .ok (.iconst 1, 1) := dk_4 (dk_at dksX3_whole_1 8 rfl rfl)
theorem dX3_whole_33 : decode cX3_whole 33 = .ok (.isub, 1) := dk_100 (dk_at dksX3_whole_1 9 rfl rfl)
theorem dX3_whole_34 : decode cX3_whole 34 = .ok (.putfield 160, 3) := dk_181 0 160 (dk_at dksX3_whole_1 10 rfl rfl)
theorem dX3_whole_37 : decode cX3_whole 37 = .ok (.aload_n 0, 1) := dk_42 (dk_at dksX3_whole_1 13 rfl rfl)
theorem dX3_whole_38 : decode cX3_whole 38 = .ok (.dup, 1) := dk_89 (dk_at dksX3_whole_1 14 rfl rfl)
theorem dX3_whole_39 : decode cX3_whole 39 = .ok (.getfield 167, 3) := dk_180 0 167 (dk_at dksX3_whole_1 15 rfl rfl)
theorem dX3_whole_42 : decode cX3_whole 42 = .ok (.iconst 1, 1) := dk_4 (dk_at dksX3_whole_1 18 rfl rfl)
theorem dX3_whole_43 : decode cX3_whole 43 = .ok (.isub, 1) := dk_100 (dk_at dksX3_whole_1 19 rfl rfl)
theorem dX3_whole_44 : decode cX3_whole 44 = .ok (.putfield 167, 3) := dk_181 0 167 (dk_at dksX3_whole_1 20 rfl rfl)
theorem dX3_whole_47 : decode cX3_whole 47 = .ok (.aload_n 0, 1) := dk_42 (dk_at dksX3_whole_1 23 rfl rfl)
theorem dX3_whole_48 : decode cX3_whole 48 = .ok (.iconst 2, 1) := dk_5 (dk_at dksX3_whole_2 0 rfl rfl)
theorem dX3_whole_49 : decode cX3_whole 49 = .ok (.iconst 0, 1) := dk_3 (dk_at dksX3_whole_2 1 rfl rfl)
theorem dX3_whole_50 : decode cX3_whole 50 = .ok (.invokevirtual 170, 3) := dk_182 0 170 (dk_at dksX3_whole_2 2 rfl rfl)
theorem dX3_whole_53 : decode cX3_whole 53 = .ok (.goto (-48), 3) := dk_167 255 208 (dk_at dksX3_whole_2 5 rfl rfl)
theorem dX3_whole_56 : decode cX3_whole 56 = .ok (.return_, 1) := dk_177 (dk_at dksX3_whole_2 8 rfl rfl)
abbrev cX3_beginOne : ByteArray := prog_17_method_37_code
def yX3_beginOne : MethodName := ⟨RX3, "beginOne", "()I"⟩
def dkwX3_beginOne_6 : List UInt8 := [182, 0, 189, 3, 172]
abbrev dktX3_beginOne_6 : List UInt8 := dkwX3_beginOne_6 ++ []
def dkwX3_beginOne_5 : List UInt8 := [16, 8, 160, 0, 5, 6, 172, 42, 89, 180, 0, 167, 4, 96, 181, 0, 167, 42, 27, 182, 0, 202, 42]
abbrev dktX3_beginOne_5 : List UInt8 := dkwX3_beginOne_5 ++ dktX3_beginOne_6
def dkwX3_beginOne_4 : List UInt8 := [180, 0, 129, 16, 45, 160, 0, 7, 5, 167, 0, 4, 3, 60, 27, 154, 0, 5, 4, 172, 42, 180, 0, 167]
abbrev dktX3_beginOne_4 : List UInt8 := dkwX3_beginOne_4 ++ dktX3_beginOne_5
def dkwX3_beginOne_3 : List UInt8 := [182, 0, 189, 42, 182, 0, 192, 3, 172, 42, 180, 0, 129, 16, 40, 160, 0, 8, 16, 40, 167, 0, 17, 42]
abbrev dktX3_beginOne_3 : List UInt8 := dkwX3_beginOne_3 ++ dktX3_beginOne_4
def dkwX3_beginOne_2 : List UInt8 := [42, 182, 0, 195, 182, 0, 199, 153, 0, 5, 8, 172, 42, 4, 42, 182, 0, 195, 182, 0, 170, 42]
abbrev dktX3_beginOne_2 : List UInt8 := dkwX3_beginOne_2 ++ dktX3_beginOne_3
def dkwX3_beginOne_1 : List UInt8 := [180, 0, 135, 182, 0, 170, 42, 182, 0, 189, 42, 182, 0, 192, 3, 172, 42, 182, 0, 195, 155, 0, 35, 42]
abbrev dktX3_beginOne_1 : List UInt8 := dkwX3_beginOne_1 ++ dktX3_beginOne_2
def dkwX3_beginOne_0 : List UInt8 := [42, 180, 0, 129, 4, 160, 0, 34, 42, 180, 0, 135, 17, 3, 231, 164, 0, 5, 5, 172, 42, 3, 42]
abbrev dktX3_beginOne_0 : List UInt8 := dkwX3_beginOne_0 ++ dktX3_beginOne_1
theorem dksX3_beginOne_0 : cX3_beginOne.data.toList.drop 0 = dktX3_beginOne_0 := by decide +kernel
theorem dksX3_beginOne_1 : cX3_beginOne.data.toList.drop 23 = dktX3_beginOne_1 := dk_seg dksX3_beginOne_0 23 rfl rfl
theorem dksX3_beginOne_2 : cX3_beginOne.data.toList.drop 47 = dktX3_beginOne_2 := dk_seg dksX3_beginOne_1 24 rfl rfl
theorem dksX3_beginOne_3 : cX3_beginOne.data.toList.drop 69 = dktX3_beginOne_3 := dk_seg dksX3_beginOne_2 22 rfl rfl
theorem dksX3_beginOne_4 : cX3_beginOne.data.toList.drop 93 = dktX3_beginOne_4 := dk_seg dksX3_beginOne_3 24 rfl rfl
theorem dksX3_beginOne_5 : cX3_beginOne.data.toList.drop 117 = dktX3_beginOne_5 := dk_seg dksX3_beginOne_4 24 rfl rfl
theorem dksX3_beginOne_6 : cX3_beginOne.data.toList.drop 140 = dktX3_beginOne_6 := dk_seg dksX3_beginOne_5 23 rfl rfl
theorem dX3_beginOne_0 : decode cX3_beginOne 0 = .ok (.aload_n 0, 1) := dk_42 (dk_at dksX3_beginOne_0 0 rfl rfl)
theorem dX3_beginOne_1 : decode cX3_beginOne 1 = .ok (.getfield 129, 3) := dk_180 0 129 (dk_at dksX3_beginOne_0 1 rfl rfl)
theorem dX3_beginOne_4 : decode cX3_beginOne 4 = .ok (.iconst 1, 1) := dk_4 (dk_at dksX3_beginOne_0 4 rfl rfl)
theorem dX3_beginOne_5 : decode cX3_beginOne 5 = .ok (.if_icmp .ne 34, 3) := dk_160 0 34 (dk_at dksX3_beginOne_0 5 rfl rfl)
theorem dX3_beginOne_8 : decode cX3_beginOne 8 = .ok (.aload_n 0, 1) := dk_42 (dk_at dksX3_beginOne_0 8 rfl rfl)
theorem dX3_beginOne_9 : decode cX3_beginOne 9 = .ok (.getfield 135, 3) := dk_180 0 135 (dk_at dksX3_beginOne_0 9 rfl rfl)
theorem dX3_beginOne_12 : decode cX3_beginOne 12 = .ok (.sipush 999, 3) := dk_17 3 231 (dk_at dksX3_beginOne_0 12 rfl rfl)
theorem dX3_beginOne_15 : decode cX3_beginOne 15 = .ok (.if_icmp .le 5, 3) := dk_164 0 5 (dk_at dksX3_beginOne_0 15 rfl rfl)
theorem dX3_beginOne_18 : decode cX3_beginOne 18 = .ok (.iconst 2, 1) := dk_5 (dk_at dksX3_beginOne_0 18 rfl rfl)
theorem dX3_beginOne_19 : decode cX3_beginOne 19 = .ok (.ireturn, 1) := dk_172 (dk_at dksX3_beginOne_0 19 rfl rfl)
theorem dX3_beginOne_20 : decode cX3_beginOne 20 = .ok (.aload_n 0, 1) := dk_42 (dk_at dksX3_beginOne_0 20 rfl rfl)
theorem dX3_beginOne_21 : decode cX3_beginOne 21 = .ok (.iconst 0, 1) := dk_3 (dk_at dksX3_beginOne_0 21 rfl rfl)
theorem dX3_beginOne_22 : decode cX3_beginOne 22 = .ok (.aload_n 0, 1) := dk_42 (dk_at dksX3_beginOne_0 22 rfl rfl)
theorem dX3_beginOne_23 : decode cX3_beginOne 23 = .ok (.getfield 135, 3) := dk_180 0 135 (dk_at dksX3_beginOne_1 0 rfl rfl)
theorem dX3_beginOne_26 : decode cX3_beginOne 26 = .ok (.invokevirtual 170, 3) := dk_182 0 170 (dk_at dksX3_beginOne_1 3 rfl rfl)
theorem dX3_beginOne_29 : decode cX3_beginOne 29 = .ok (.aload_n 0, 1) := dk_42 (dk_at dksX3_beginOne_1 6 rfl rfl)
theorem dX3_beginOne_30 : decode cX3_beginOne 30 = .ok (.invokevirtual 189, 3) := dk_182 0 189 (dk_at dksX3_beginOne_1 7 rfl rfl)
theorem dX3_beginOne_33 : decode cX3_beginOne 33 = .ok (.aload_n 0, 1) := dk_42 (dk_at dksX3_beginOne_1 10 rfl rfl)
theorem dX3_beginOne_34 : decode cX3_beginOne 34 = .ok (.invokevirtual 192, 3) := dk_182 0 192 (dk_at dksX3_beginOne_1 11 rfl rfl)
theorem dX3_beginOne_37 : decode cX3_beginOne 37 = .ok (.iconst 0, 1) := dk_3 (dk_at dksX3_beginOne_1 14 rfl rfl)
theorem dX3_beginOne_38 : decode cX3_beginOne 38 = .ok (.ireturn, 1) := dk_172 (dk_at dksX3_beginOne_1 15 rfl rfl)
theorem dX3_beginOne_39 : decode cX3_beginOne 39 = .ok (.aload_n 0, 1) := dk_42 (dk_at dksX3_beginOne_1 16 rfl rfl)
theorem dX3_beginOne_40 : decode cX3_beginOne 40 = .ok (.invokevirtual 195, 3) := dk_182 0 195 (dk_at dksX3_beginOne_1 17 rfl rfl)
theorem dX3_beginOne_43 : decode cX3_beginOne 43 = .ok (.ifCond .lt 35, 3) := dk_155 0 35 (dk_at dksX3_beginOne_1 20 rfl rfl)
theorem dX3_beginOne_46 : decode cX3_beginOne 46 = .ok (.aload_n 0, 1) := dk_42 (dk_at dksX3_beginOne_1 23 rfl rfl)
theorem dX3_beginOne_47 : decode cX3_beginOne 47 = .ok (.aload_n 0, 1) := dk_42 (dk_at dksX3_beginOne_2 0 rfl rfl)
theorem dX3_beginOne_48 : decode cX3_beginOne 48 = .ok (.invokevirtual 195, 3) := dk_182 0 195 (dk_at dksX3_beginOne_2 1 rfl rfl)
theorem dX3_beginOne_51 : decode cX3_beginOne 51 = .ok (.invokevirtual 199, 3) := dk_182 0 199 (dk_at dksX3_beginOne_2 4 rfl rfl)
theorem dX3_beginOne_54 : decode cX3_beginOne 54 = .ok (.ifCond .eq 5, 3) := dk_153 0 5 (dk_at dksX3_beginOne_2 7 rfl rfl)
theorem dX3_beginOne_57 : decode cX3_beginOne 57 = .ok (.iconst 5, 1) := dk_8 (dk_at dksX3_beginOne_2 10 rfl rfl)
theorem dX3_beginOne_58 : decode cX3_beginOne 58 = .ok (.ireturn, 1) := dk_172 (dk_at dksX3_beginOne_2 11 rfl rfl)
theorem dX3_beginOne_59 : decode cX3_beginOne 59 = .ok (.aload_n 0, 1) := dk_42 (dk_at dksX3_beginOne_2 12 rfl rfl)
theorem dX3_beginOne_60 : decode cX3_beginOne 60 = .ok (.iconst 1, 1) := dk_4 (dk_at dksX3_beginOne_2 13 rfl rfl)
theorem dX3_beginOne_61 : decode cX3_beginOne 61 = .ok (.aload_n 0, 1) := dk_42 (dk_at dksX3_beginOne_2 14 rfl rfl)
theorem dX3_beginOne_62 : decode cX3_beginOne 62 = .ok (.invokevirtual 195, 3) := dk_182 0 195 (dk_at dksX3_beginOne_2 15 rfl rfl)
theorem dX3_beginOne_65 : decode cX3_beginOne 65 = .ok (.invokevirtual 170, 3) := dk_182 0 170 (dk_at dksX3_beginOne_2 18 rfl rfl)
theorem dX3_beginOne_68 : decode cX3_beginOne 68 = .ok (.aload_n 0, 1) := dk_42 (dk_at dksX3_beginOne_2 21 rfl rfl)
theorem dX3_beginOne_69 : decode cX3_beginOne 69 = .ok (.invokevirtual 189, 3) := dk_182 0 189 (dk_at dksX3_beginOne_3 0 rfl rfl)
theorem dX3_beginOne_72 : decode cX3_beginOne 72 = .ok (.aload_n 0, 1) := dk_42 (dk_at dksX3_beginOne_3 3 rfl rfl)
theorem dX3_beginOne_73 : decode cX3_beginOne 73 = .ok (.invokevirtual 192, 3) := dk_182 0 192 (dk_at dksX3_beginOne_3 4 rfl rfl)
theorem dX3_beginOne_76 : decode cX3_beginOne 76 = .ok (.iconst 0, 1) := dk_3 (dk_at dksX3_beginOne_3 7 rfl rfl)
theorem dX3_beginOne_77 : decode cX3_beginOne 77 = .ok (.ireturn, 1) := dk_172 (dk_at dksX3_beginOne_3 8 rfl rfl)
theorem dX3_beginOne_78 : decode cX3_beginOne 78 = .ok (.aload_n 0, 1) := dk_42 (dk_at dksX3_beginOne_3 9 rfl rfl)
theorem dX3_beginOne_79 : decode cX3_beginOne 79 = .ok (.getfield 129, 3) := dk_180 0 129 (dk_at dksX3_beginOne_3 10 rfl rfl)
theorem dX3_beginOne_82 : decode cX3_beginOne 82 = .ok (.bipush 40, 2) := dk_16 40 (dk_at dksX3_beginOne_3 13 rfl rfl)
theorem dX3_beginOne_84 : decode cX3_beginOne 84 = .ok (.if_icmp .ne 8, 3) := dk_160 0 8 (dk_at dksX3_beginOne_3 15 rfl rfl)
theorem dX3_beginOne_87 : decode cX3_beginOne 87 = .ok (.bipush 40, 2) := dk_16 40 (dk_at dksX3_beginOne_3 18 rfl rfl)
theorem dX3_beginOne_89 : decode cX3_beginOne 89 = .ok (.goto 17, 3) := dk_167 0 17 (dk_at dksX3_beginOne_3 20 rfl rfl)
theorem dX3_beginOne_92 : decode cX3_beginOne 92 = .ok (.aload_n 0, 1) := dk_42 (dk_at dksX3_beginOne_3 23 rfl rfl)
theorem dX3_beginOne_93 : decode cX3_beginOne 93 = .ok (.getfield 129, 3) := dk_180 0 129 (dk_at dksX3_beginOne_4 0 rfl rfl)
theorem dX3_beginOne_96 : decode cX3_beginOne 96 = .ok (.bipush 45, 2) := dk_16 45 (dk_at dksX3_beginOne_4 3 rfl rfl)
theorem dX3_beginOne_98 : decode cX3_beginOne 98 = .ok (.if_icmp .ne 7, 3) := dk_160 0 7 (dk_at dksX3_beginOne_4 5 rfl rfl)
theorem dX3_beginOne_101 : decode cX3_beginOne 101 = .ok (.iconst 2, 1) := dk_5 (dk_at dksX3_beginOne_4 8 rfl rfl)
theorem dX3_beginOne_102 : decode cX3_beginOne 102 = .ok (.goto 4, 3) := dk_167 0 4 (dk_at dksX3_beginOne_4 9 rfl rfl)
theorem dX3_beginOne_105 : decode cX3_beginOne 105 = .ok (.iconst 0, 1) := dk_3 (dk_at dksX3_beginOne_4 12 rfl rfl)
theorem dX3_beginOne_106 : decode cX3_beginOne 106 = .ok (.istore_n 1, 1) := dk_60 (dk_at dksX3_beginOne_4 13 rfl rfl)
theorem dX3_beginOne_107 : decode cX3_beginOne 107 = .ok (.iload_n 1, 1) := dk_27 (dk_at dksX3_beginOne_4 14 rfl rfl)
theorem dX3_beginOne_108 : decode cX3_beginOne 108 = .ok (.ifCond .ne 5, 3) := dk_154 0 5 (dk_at dksX3_beginOne_4 15 rfl rfl)
theorem dX3_beginOne_111 : decode cX3_beginOne 111 = .ok (.iconst 1, 1) := dk_4 (dk_at dksX3_beginOne_4 18 rfl rfl)
theorem dX3_beginOne_112 : decode cX3_beginOne 112 = .ok (.ireturn, 1) := dk_172 (dk_at dksX3_beginOne_4 19 rfl rfl)
theorem dX3_beginOne_113 : decode cX3_beginOne 113 = .ok (.aload_n 0, 1) := dk_42 (dk_at dksX3_beginOne_4 20 rfl rfl)
theorem dX3_beginOne_114 : decode cX3_beginOne 114 = .ok (.getfield 167, 3) := dk_180 0 167 (dk_at dksX3_beginOne_4 21 rfl rfl)
theorem dX3_beginOne_117 : decode cX3_beginOne 117 = .ok (.bipush 8, 2) := dk_16 8 (dk_at dksX3_beginOne_5 0 rfl rfl)
theorem dX3_beginOne_119 : decode cX3_beginOne 119 = .ok (.if_icmp .ne 5, 3) := dk_160 0 5 (dk_at dksX3_beginOne_5 2 rfl rfl)
theorem dX3_beginOne_122 : decode cX3_beginOne 122 = .ok (.iconst 3, 1) := dk_6 (dk_at dksX3_beginOne_5 5 rfl rfl)
theorem dX3_beginOne_123 : decode cX3_beginOne 123 = .ok (.ireturn, 1) := dk_172 (dk_at dksX3_beginOne_5 6 rfl rfl)
theorem dX3_beginOne_124 : decode cX3_beginOne 124 = .ok (.aload_n 0, 1) := dk_42 (dk_at dksX3_beginOne_5 7 rfl rfl)
theorem dX3_beginOne_125 : decode cX3_beginOne 125 = .ok (.dup, 1) := dk_89 (dk_at dksX3_beginOne_5 8 rfl rfl)
theorem dX3_beginOne_126 : decode cX3_beginOne 126 = .ok (.getfield 167, 3) := dk_180 0 167 (dk_at dksX3_beginOne_5 9 rfl rfl)
theorem dX3_beginOne_129 : decode cX3_beginOne 129 = .ok (.iconst 1, 1) := dk_4 (dk_at dksX3_beginOne_5 12 rfl rfl)
theorem dX3_beginOne_130 : decode cX3_beginOne 130 = .ok (.iadd, 1) := dk_96 (dk_at dksX3_beginOne_5 13 rfl rfl)
theorem dX3_beginOne_131 : decode cX3_beginOne 131 = .ok (.putfield 167, 3) := dk_181 0 167 (dk_at dksX3_beginOne_5 14 rfl rfl)
theorem dX3_beginOne_134 : decode cX3_beginOne 134 = .ok (.aload_n 0, 1) := dk_42 (dk_at dksX3_beginOne_5 17 rfl rfl)
theorem dX3_beginOne_135 : decode cX3_beginOne 135 = .ok (.iload_n 1, 1) := dk_27 (dk_at dksX3_beginOne_5 18 rfl rfl)
theorem dX3_beginOne_136 : decode cX3_beginOne 136 = .ok (.invokevirtual 202, 3) := dk_182 0 202 (dk_at dksX3_beginOne_5 19 rfl rfl)
theorem dX3_beginOne_139 : decode cX3_beginOne 139 = .ok (.aload_n 0, 1) := dk_42 (dk_at dksX3_beginOne_5 22 rfl rfl)
theorem dX3_beginOne_140 : decode cX3_beginOne 140 = .ok (.invokevirtual 189, 3) := dk_182 0 189 (dk_at dksX3_beginOne_6 0 rfl rfl)
theorem dX3_beginOne_143 : decode cX3_beginOne 143 = .ok (.iconst 0, 1) := dk_3 (dk_at dksX3_beginOne_6 3 rfl rfl)
theorem dX3_beginOne_144 : decode cX3_beginOne 144 = .ok (.ireturn, 1) := dk_172 (dk_at dksX3_beginOne_6 4 rfl rfl)
abbrev cX3_nameOf : ByteArray := prog_17_method_35_code
def yX3_nameOf : MethodName := ⟨RX3, "nameOf", "()I"⟩
def dkwX3_nameOf_10 : List UInt8 := [184, 0, 182, 148, 154, 0, 8, 16, 10, 167, 0, 4, 2, 172]
abbrev dktX3_nameOf_10 : List UInt8 := dkwX3_nameOf_10 ++ []
def dkwX3_nameOf_9 : List UInt8 := [154, 0, 8, 16, 9, 167, 0, 32, 42, 180, 0, 142, 16, 98, 16, 97, 16, 110, 16, 107, 16, 101, 16, 100]
abbrev dktX3_nameOf_9 : List UInt8 := dkwX3_nameOf_9 ++ dktX3_nameOf_10
def dkwX3_nameOf_8 : List UInt8 := [154, 0, 6, 16, 8, 172, 42, 180, 0, 142, 16, 99, 16, 111, 16, 97, 16, 108, 184, 0, 174, 148]
abbrev dktX3_nameOf_8 : List UInt8 := dkwX3_nameOf_8 ++ dktX3_nameOf_9
def dkwX3_nameOf_7 : List UInt8 := [154, 0, 6, 16, 7, 172, 42, 180, 0, 142, 16, 119, 16, 97, 16, 116, 16, 99, 16, 104, 184, 0, 150, 148]
abbrev dktX3_nameOf_7 : List UInt8 := dkwX3_nameOf_7 ++ dktX3_nameOf_8
def dkwX3_nameOf_6 : List UInt8 := [154, 0, 6, 16, 6, 172, 42, 180, 0, 142, 16, 119, 16, 105, 16, 110, 16, 100, 184, 0, 174, 148]
abbrev dktX3_nameOf_6 : List UInt8 := dkwX3_nameOf_6 ++ dktX3_nameOf_7
def dkwX3_nameOf_5 : List UInt8 := [7, 172, 42, 180, 0, 142, 20, 0, 178, 148, 154, 0, 5, 8, 172, 42, 180, 0, 142, 20, 0, 180, 148]
abbrev dktX3_nameOf_5 : List UInt8 := dkwX3_nameOf_5 ++ dktX3_nameOf_6
def dkwX3_nameOf_4 : List UInt8 := [154, 0, 5, 6, 172, 42, 180, 0, 142, 16, 119, 16, 101, 16, 115, 16, 116, 184, 0, 174, 148, 154, 0, 5]
abbrev dktX3_nameOf_4 : List UInt8 := dkwX3_nameOf_4 ++ dktX3_nameOf_5
def dkwX3_nameOf_3 : List UInt8 := [148, 154, 0, 5, 5, 172, 42, 180, 0, 142, 16, 115, 16, 111, 16, 117, 16, 116, 16, 104, 184, 0, 150, 148]
abbrev dktX3_nameOf_3 : List UInt8 := dkwX3_nameOf_3 ++ dktX3_nameOf_4
def dkwX3_nameOf_2 : List UInt8 := [184, 0, 150, 148, 154, 0, 5, 4, 172, 42, 180, 0, 142, 16, 101, 16, 97, 16, 115, 16, 116, 184, 0, 174]
abbrev dktX3_nameOf_2 : List UInt8 := dkwX3_nameOf_2 ++ dktX3_nameOf_3
def dkwX3_nameOf_1 : List UInt8 := [184, 0, 150, 148, 154, 0, 5, 3, 172, 42, 180, 0, 142, 16, 110, 16, 111, 16, 114, 16, 116, 16, 104]
abbrev dktX3_nameOf_1 : List UInt8 := dkwX3_nameOf_1 ++ dktX3_nameOf_2
def dkwX3_nameOf_0 : List UInt8 := [42, 180, 0, 129, 5, 159, 0, 5, 2, 172, 42, 180, 0, 142, 16, 116, 16, 104, 16, 105, 16, 99, 16, 107]
abbrev dktX3_nameOf_0 : List UInt8 := dkwX3_nameOf_0 ++ dktX3_nameOf_1
theorem dksX3_nameOf_0 : cX3_nameOf.data.toList.drop 0 = dktX3_nameOf_0 := by decide +kernel
theorem dksX3_nameOf_1 : cX3_nameOf.data.toList.drop 24 = dktX3_nameOf_1 := dk_seg dksX3_nameOf_0 24 rfl rfl
theorem dksX3_nameOf_2 : cX3_nameOf.data.toList.drop 47 = dktX3_nameOf_2 := dk_seg dksX3_nameOf_1 23 rfl rfl
theorem dksX3_nameOf_3 : cX3_nameOf.data.toList.drop 71 = dktX3_nameOf_3 := dk_seg dksX3_nameOf_2 24 rfl rfl
theorem dksX3_nameOf_4 : cX3_nameOf.data.toList.drop 95 = dktX3_nameOf_4 := dk_seg dksX3_nameOf_3 24 rfl rfl
theorem dksX3_nameOf_5 : cX3_nameOf.data.toList.drop 119 = dktX3_nameOf_5 := dk_seg dksX3_nameOf_4 24 rfl rfl
theorem dksX3_nameOf_6 : cX3_nameOf.data.toList.drop 142 = dktX3_nameOf_6 := dk_seg dksX3_nameOf_5 23 rfl rfl
theorem dksX3_nameOf_7 : cX3_nameOf.data.toList.drop 164 = dktX3_nameOf_7 := dk_seg dksX3_nameOf_6 22 rfl rfl
theorem dksX3_nameOf_8 : cX3_nameOf.data.toList.drop 188 = dktX3_nameOf_8 := dk_seg dksX3_nameOf_7 24 rfl rfl
theorem dksX3_nameOf_9 : cX3_nameOf.data.toList.drop 210 = dktX3_nameOf_9 := dk_seg dksX3_nameOf_8 22 rfl rfl
theorem dksX3_nameOf_10 : cX3_nameOf.data.toList.drop 234 = dktX3_nameOf_10 := dk_seg dksX3_nameOf_9 24 rfl rfl
theorem dX3_nameOf_0 : decode cX3_nameOf 0 = .ok (.aload_n 0, 1) := dk_42 (dk_at dksX3_nameOf_0 0 rfl rfl)
theorem dX3_nameOf_1 : decode cX3_nameOf 1 = .ok (.getfield 129, 3) := dk_180 0 129 (dk_at dksX3_nameOf_0 1 rfl rfl)
theorem dX3_nameOf_4 : decode cX3_nameOf 4 = .ok (.iconst 2, 1) := dk_5 (dk_at dksX3_nameOf_0 4 rfl rfl)
theorem dX3_nameOf_5 : decode cX3_nameOf 5 = .ok (.if_icmp .eq 5, 3) := dk_159 0 5 (dk_at dksX3_nameOf_0 5 rfl rfl)
theorem dX3_nameOf_8 : decode cX3_nameOf 8 = .ok (.iconst (-1), 1) := dk_2 (dk_at dksX3_nameOf_0 8 rfl rfl)
theorem dX3_nameOf_9 : decode cX3_nameOf 9 = .ok (.ireturn, 1) := dk_172 (dk_at dksX3_nameOf_0 9 rfl rfl)
theorem dX3_nameOf_10 : decode cX3_nameOf 10 = .ok (.aload_n 0, 1) := dk_42 (dk_at dksX3_nameOf_0 10 rfl rfl)
theorem dX3_nameOf_11 : decode cX3_nameOf 11 = .ok (.getfield 142, 3) := dk_180 0 142 (dk_at dksX3_nameOf_0 11 rfl rfl)
theorem dX3_nameOf_14 : decode cX3_nameOf 14 = .ok (.bipush 116, 2) := dk_16 116 (dk_at dksX3_nameOf_0 14 rfl rfl)
theorem dX3_nameOf_16 : decode cX3_nameOf 16 = .ok (.bipush 104, 2) := dk_16 104 (dk_at dksX3_nameOf_0 16 rfl rfl)
theorem dX3_nameOf_18 : decode cX3_nameOf 18 = .ok (.bipush 105, 2) := dk_16 105 (dk_at dksX3_nameOf_0 18 rfl rfl)
theorem dX3_nameOf_20 : decode cX3_nameOf 20 = .ok (.bipush 99, 2) := dk_16 99 (dk_at dksX3_nameOf_0 20 rfl rfl)
theorem dX3_nameOf_22 : decode cX3_nameOf 22 = .ok (.bipush 107, 2) := dk_16 107 (dk_at dksX3_nameOf_0 22 rfl rfl)
theorem dX3_nameOf_24 : decode cX3_nameOf 24 = .ok (.invokestatic 150, 3) := dk_184 0 150 (dk_at dksX3_nameOf_1 0 rfl rfl)
theorem dX3_nameOf_27 : decode cX3_nameOf 27 = .ok (.lcmp, 1) := dk_148 (dk_at dksX3_nameOf_1 3 rfl rfl)
theorem dX3_nameOf_28 : decode cX3_nameOf 28 = .ok (.ifCond .ne 5, 3) := dk_154 0 5 (dk_at dksX3_nameOf_1 4 rfl rfl)
theorem dX3_nameOf_31 : decode cX3_nameOf 31 = .ok (.iconst 0, 1) := dk_3 (dk_at dksX3_nameOf_1 7 rfl rfl)
theorem dX3_nameOf_32 : decode cX3_nameOf 32 = .ok (.ireturn, 1) := dk_172 (dk_at dksX3_nameOf_1 8 rfl rfl)
theorem dX3_nameOf_33 : decode cX3_nameOf 33 = .ok (.aload_n 0, 1) := dk_42 (dk_at dksX3_nameOf_1 9 rfl rfl)
theorem dX3_nameOf_34 : decode cX3_nameOf 34 = .ok (.getfield 142, 3) := dk_180 0 142 (dk_at dksX3_nameOf_1 10 rfl rfl)
theorem dX3_nameOf_37 : decode cX3_nameOf 37 = .ok (.bipush 110, 2) := dk_16 110 (dk_at dksX3_nameOf_1 13 rfl rfl)
theorem dX3_nameOf_39 : decode cX3_nameOf 39 = .ok (.bipush 111, 2) := dk_16 111 (dk_at dksX3_nameOf_1 15 rfl rfl)
theorem dX3_nameOf_41 : decode cX3_nameOf 41 = .ok (.bipush 114, 2) := dk_16 114 (dk_at dksX3_nameOf_1 17 rfl rfl)
theorem dX3_nameOf_43 : decode cX3_nameOf 43 = .ok (.bipush 116, 2) := dk_16 116 (dk_at dksX3_nameOf_1 19 rfl rfl)
theorem dX3_nameOf_45 : decode cX3_nameOf 45 = .ok (.bipush 104, 2) := dk_16 104 (dk_at dksX3_nameOf_1 21 rfl rfl)
theorem dX3_nameOf_47 : decode cX3_nameOf 47 = .ok (.invokestatic 150, 3) := dk_184 0 150 (dk_at dksX3_nameOf_2 0 rfl rfl)
theorem dX3_nameOf_50 : decode cX3_nameOf 50 = .ok (.lcmp, 1) := dk_148 (dk_at dksX3_nameOf_2 3 rfl rfl)
theorem dX3_nameOf_51 : decode cX3_nameOf 51 = .ok (.ifCond .ne 5, 3) := dk_154 0 5 (dk_at dksX3_nameOf_2 4 rfl rfl)
theorem dX3_nameOf_54 : decode cX3_nameOf 54 = .ok (.iconst 1, 1) := dk_4 (dk_at dksX3_nameOf_2 7 rfl rfl)
theorem dX3_nameOf_55 : decode cX3_nameOf 55 = .ok (.ireturn, 1) := dk_172 (dk_at dksX3_nameOf_2 8 rfl rfl)
theorem dX3_nameOf_56 : decode cX3_nameOf 56 = .ok (.aload_n 0, 1) := dk_42 (dk_at dksX3_nameOf_2 9 rfl rfl)
theorem dX3_nameOf_57 : decode cX3_nameOf 57 = .ok (.getfield 142, 3) := dk_180 0 142 (dk_at dksX3_nameOf_2 10 rfl rfl)
theorem dX3_nameOf_60 : decode cX3_nameOf 60 = .ok (.bipush 101, 2) := dk_16 101 (dk_at dksX3_nameOf_2 13 rfl rfl)
theorem dX3_nameOf_62 : decode cX3_nameOf 62 = .ok (.bipush 97, 2) := dk_16 97 (dk_at dksX3_nameOf_2 15 rfl rfl)
theorem dX3_nameOf_64 : decode cX3_nameOf 64 = .ok (.bipush 115, 2) := dk_16 115 (dk_at dksX3_nameOf_2 17 rfl rfl)
theorem dX3_nameOf_66 : decode cX3_nameOf 66 = .ok (.bipush 116, 2) := dk_16 116 (dk_at dksX3_nameOf_2 19 rfl rfl)
theorem dX3_nameOf_68 : decode cX3_nameOf 68 = .ok (.invokestatic 174, 3) := dk_184 0 174 (dk_at dksX3_nameOf_2 21 rfl rfl)
theorem dX3_nameOf_71 : decode cX3_nameOf 71 = .ok (.lcmp, 1) := dk_148 (dk_at dksX3_nameOf_3 0 rfl rfl)
theorem dX3_nameOf_72 : decode cX3_nameOf 72 = .ok (.ifCond .ne 5, 3) := dk_154 0 5 (dk_at dksX3_nameOf_3 1 rfl rfl)
theorem dX3_nameOf_75 : decode cX3_nameOf 75 = .ok (.iconst 2, 1) := dk_5 (dk_at dksX3_nameOf_3 4 rfl rfl)
theorem dX3_nameOf_76 : decode cX3_nameOf 76 = .ok (.ireturn, 1) := dk_172 (dk_at dksX3_nameOf_3 5 rfl rfl)
theorem dX3_nameOf_77 : decode cX3_nameOf 77 = .ok (.aload_n 0, 1) := dk_42 (dk_at dksX3_nameOf_3 6 rfl rfl)
theorem dX3_nameOf_78 : decode cX3_nameOf 78 = .ok (.getfield 142, 3) := dk_180 0 142 (dk_at dksX3_nameOf_3 7 rfl rfl)
theorem dX3_nameOf_81 : decode cX3_nameOf 81 = .ok (.bipush 115, 2) := dk_16 115 (dk_at dksX3_nameOf_3 10 rfl rfl)
theorem dX3_nameOf_83 : decode cX3_nameOf 83 = .ok (.bipush 111, 2) := dk_16 111 (dk_at dksX3_nameOf_3 12 rfl rfl)
theorem dX3_nameOf_85 : decode cX3_nameOf 85 = .ok (.bipush 117, 2) := dk_16 117 (dk_at dksX3_nameOf_3 14 rfl rfl)
theorem dX3_nameOf_87 : decode cX3_nameOf 87 = .ok (.bipush 116, 2) := dk_16 116 (dk_at dksX3_nameOf_3 16 rfl rfl)
theorem dX3_nameOf_89 : decode cX3_nameOf 89 = .ok (.bipush 104, 2) := dk_16 104 (dk_at dksX3_nameOf_3 18 rfl rfl)
theorem dX3_nameOf_91 : decode cX3_nameOf 91 = .ok (.invokestatic 150, 3) := dk_184 0 150 (dk_at dksX3_nameOf_3 20 rfl rfl)
theorem dX3_nameOf_94 : decode cX3_nameOf 94 = .ok (.lcmp, 1) := dk_148 (dk_at dksX3_nameOf_3 23 rfl rfl)
theorem dX3_nameOf_95 : decode cX3_nameOf 95 = .ok (.ifCond .ne 5, 3) := dk_154 0 5 (dk_at dksX3_nameOf_4 0 rfl rfl)
theorem dX3_nameOf_98 : decode cX3_nameOf 98 = .ok (.iconst 3, 1) := dk_6 (dk_at dksX3_nameOf_4 3 rfl rfl)
theorem dX3_nameOf_99 : decode cX3_nameOf 99 = .ok (.ireturn, 1) := dk_172 (dk_at dksX3_nameOf_4 4 rfl rfl)
theorem dX3_nameOf_100 : decode cX3_nameOf 100 = .ok (.aload_n 0, 1) := dk_42 (dk_at dksX3_nameOf_4 5 rfl rfl)
theorem dX3_nameOf_101 : decode cX3_nameOf 101 = .ok (.getfield 142, 3) := dk_180 0 142 (dk_at dksX3_nameOf_4 6 rfl rfl)
theorem dX3_nameOf_104 : decode cX3_nameOf 104 = .ok (.bipush 119, 2) := dk_16 119 (dk_at dksX3_nameOf_4 9 rfl rfl)
theorem dX3_nameOf_106 : decode cX3_nameOf 106 = .ok (.bipush 101, 2) := dk_16 101 (dk_at dksX3_nameOf_4 11 rfl rfl)
theorem dX3_nameOf_108 : decode cX3_nameOf 108 = .ok (.bipush 115, 2) := dk_16 115 (dk_at dksX3_nameOf_4 13 rfl rfl)
theorem dX3_nameOf_110 : decode cX3_nameOf 110 = .ok (.bipush 116, 2) := dk_16 116 (dk_at dksX3_nameOf_4 15 rfl rfl)
theorem dX3_nameOf_112 : decode cX3_nameOf 112 = .ok (.invokestatic 174, 3) := dk_184 0 174 (dk_at dksX3_nameOf_4 17 rfl rfl)
theorem dX3_nameOf_115 : decode cX3_nameOf 115 = .ok (.lcmp, 1) := dk_148 (dk_at dksX3_nameOf_4 20 rfl rfl)
theorem dX3_nameOf_116 : decode cX3_nameOf 116 = .ok (.ifCond .ne 5, 3) := dk_154 0 5 (dk_at dksX3_nameOf_4 21 rfl rfl)
theorem dX3_nameOf_119 : decode cX3_nameOf 119 = .ok (.iconst 4, 1) := dk_7 (dk_at dksX3_nameOf_5 0 rfl rfl)
theorem dX3_nameOf_120 : decode cX3_nameOf 120 = .ok (.ireturn, 1) := dk_172 (dk_at dksX3_nameOf_5 1 rfl rfl)
theorem dX3_nameOf_121 : decode cX3_nameOf 121 = .ok (.aload_n 0, 1) := dk_42 (dk_at dksX3_nameOf_5 2 rfl rfl)
theorem dX3_nameOf_122 : decode cX3_nameOf 122 = .ok (.getfield 142, 3) := dk_180 0 142 (dk_at dksX3_nameOf_5 3 rfl rfl)
theorem dX3_nameOf_125 : decode cX3_nameOf 125 = .ok (.ldc2_w 178, 3) := dk_20 0 178 (dk_at dksX3_nameOf_5 6 rfl rfl)
theorem dX3_nameOf_128 : decode cX3_nameOf 128 = .ok (.lcmp, 1) := dk_148 (dk_at dksX3_nameOf_5 9 rfl rfl)
theorem dX3_nameOf_129 : decode cX3_nameOf 129 = .ok (.ifCond .ne 5, 3) := dk_154 0 5 (dk_at dksX3_nameOf_5 10 rfl rfl)
theorem dX3_nameOf_132 : decode cX3_nameOf 132 = .ok (.iconst 5, 1) := dk_8 (dk_at dksX3_nameOf_5 13 rfl rfl)
theorem dX3_nameOf_133 : decode cX3_nameOf 133 = .ok (.ireturn, 1) := dk_172 (dk_at dksX3_nameOf_5 14 rfl rfl)
theorem dX3_nameOf_134 : decode cX3_nameOf 134 = .ok (.aload_n 0, 1) := dk_42 (dk_at dksX3_nameOf_5 15 rfl rfl)
theorem dX3_nameOf_135 : decode cX3_nameOf 135 = .ok (.getfield 142, 3) := dk_180 0 142 (dk_at dksX3_nameOf_5 16 rfl rfl)
theorem dX3_nameOf_138 : decode cX3_nameOf 138 = .ok (.ldc2_w 180, 3) := dk_20 0 180 (dk_at dksX3_nameOf_5 19 rfl rfl)
theorem dX3_nameOf_141 : decode cX3_nameOf 141 = .ok (.lcmp, 1) := dk_148 (dk_at dksX3_nameOf_5 22 rfl rfl)
theorem dX3_nameOf_142 : decode cX3_nameOf 142 = .ok (.ifCond .ne 6, 3) := dk_154 0 6 (dk_at dksX3_nameOf_6 0 rfl rfl)
theorem dX3_nameOf_145 : decode cX3_nameOf 145 = .ok (.bipush 6, 2) := dk_16 6 (dk_at dksX3_nameOf_6 3 rfl rfl)
theorem dX3_nameOf_147 : decode cX3_nameOf 147 = .ok (.ireturn, 1) := dk_172 (dk_at dksX3_nameOf_6 5 rfl rfl)
theorem dX3_nameOf_148 : decode cX3_nameOf 148 = .ok (.aload_n 0, 1) := dk_42 (dk_at dksX3_nameOf_6 6 rfl rfl)
theorem dX3_nameOf_149 : decode cX3_nameOf 149 = .ok (.getfield 142, 3) := dk_180 0 142 (dk_at dksX3_nameOf_6 7 rfl rfl)
theorem dX3_nameOf_152 : decode cX3_nameOf 152 = .ok (.bipush 119, 2) := dk_16 119 (dk_at dksX3_nameOf_6 10 rfl rfl)
theorem dX3_nameOf_154 : decode cX3_nameOf 154 = .ok (.bipush 105, 2) := dk_16 105 (dk_at dksX3_nameOf_6 12 rfl rfl)
theorem dX3_nameOf_156 : decode cX3_nameOf 156 = .ok (.bipush 110, 2) := dk_16 110 (dk_at dksX3_nameOf_6 14 rfl rfl)
theorem dX3_nameOf_158 : decode cX3_nameOf 158 = .ok (.bipush 100, 2) := dk_16 100 (dk_at dksX3_nameOf_6 16 rfl rfl)
theorem dX3_nameOf_160 : decode cX3_nameOf 160 = .ok (.invokestatic 174, 3) := dk_184 0 174 (dk_at dksX3_nameOf_6 18 rfl rfl)
theorem dX3_nameOf_163 : decode cX3_nameOf 163 = .ok (.lcmp, 1) := dk_148 (dk_at dksX3_nameOf_6 21 rfl rfl)
theorem dX3_nameOf_164 : decode cX3_nameOf 164 = .ok (.ifCond .ne 6, 3) := dk_154 0 6 (dk_at dksX3_nameOf_7 0 rfl rfl)
theorem dX3_nameOf_167 : decode cX3_nameOf 167 = .ok (.bipush 7, 2) := dk_16 7 (dk_at dksX3_nameOf_7 3 rfl rfl)
theorem dX3_nameOf_169 : decode cX3_nameOf 169 = .ok (.ireturn, 1) := dk_172 (dk_at dksX3_nameOf_7 5 rfl rfl)
theorem dX3_nameOf_170 : decode cX3_nameOf 170 = .ok (.aload_n 0, 1) := dk_42 (dk_at dksX3_nameOf_7 6 rfl rfl)
theorem dX3_nameOf_171 : decode cX3_nameOf 171 = .ok (.getfield 142, 3) := dk_180 0 142 (dk_at dksX3_nameOf_7 7 rfl rfl)
theorem dX3_nameOf_174 : decode cX3_nameOf 174 = .ok (.bipush 119, 2) := dk_16 119 (dk_at dksX3_nameOf_7 10 rfl rfl)
theorem dX3_nameOf_176 : decode cX3_nameOf 176 = .ok (.bipush 97, 2) := dk_16 97 (dk_at dksX3_nameOf_7 12 rfl rfl)
theorem dX3_nameOf_178 : decode cX3_nameOf 178 = .ok (.bipush 116, 2) := dk_16 116 (dk_at dksX3_nameOf_7 14 rfl rfl)
theorem dX3_nameOf_180 : decode cX3_nameOf 180 = .ok (.bipush 99, 2) := dk_16 99 (dk_at dksX3_nameOf_7 16 rfl rfl)
theorem dX3_nameOf_182 : decode cX3_nameOf 182 = .ok (.bipush 104, 2) := dk_16 104 (dk_at dksX3_nameOf_7 18 rfl rfl)
theorem dX3_nameOf_184 : decode cX3_nameOf 184 = .ok (.invokestatic 150, 3) := dk_184 0 150 (dk_at dksX3_nameOf_7 20 rfl rfl)
theorem dX3_nameOf_187 : decode cX3_nameOf 187 = .ok (.lcmp, 1) := dk_148 (dk_at dksX3_nameOf_7 23 rfl rfl)
theorem dX3_nameOf_188 : decode cX3_nameOf 188 = .ok (.ifCond .ne 6, 3) := dk_154 0 6 (dk_at dksX3_nameOf_8 0 rfl rfl)
theorem dX3_nameOf_191 : decode cX3_nameOf 191 = .ok (.bipush 8, 2) := dk_16 8 (dk_at dksX3_nameOf_8 3 rfl rfl)
theorem dX3_nameOf_193 : decode cX3_nameOf 193 = .ok (.ireturn, 1) := dk_172 (dk_at dksX3_nameOf_8 5 rfl rfl)
theorem dX3_nameOf_194 : decode cX3_nameOf 194 = .ok (.aload_n 0, 1) := dk_42 (dk_at dksX3_nameOf_8 6 rfl rfl)
theorem dX3_nameOf_195 : decode cX3_nameOf 195 = .ok (.getfield 142, 3) := dk_180 0 142 (dk_at dksX3_nameOf_8 7 rfl rfl)
theorem dX3_nameOf_198 : decode cX3_nameOf 198 = .ok (.bipush 99, 2) := dk_16 99 (dk_at dksX3_nameOf_8 10 rfl rfl)
theorem dX3_nameOf_200 : decode cX3_nameOf 200 = .ok (.bipush 111, 2) := dk_16 111 (dk_at dksX3_nameOf_8 12 rfl rfl)
theorem dX3_nameOf_202 : decode cX3_nameOf 202 = .ok (.bipush 97, 2) := dk_16 97 (dk_at dksX3_nameOf_8 14 rfl rfl)
theorem dX3_nameOf_204 : decode cX3_nameOf 204 = .ok (.bipush 108, 2) := dk_16 108 (dk_at dksX3_nameOf_8 16 rfl rfl)
theorem dX3_nameOf_206 : decode cX3_nameOf 206 = .ok (.invokestatic 174, 3) := dk_184 0 174 (dk_at dksX3_nameOf_8 18 rfl rfl)
theorem dX3_nameOf_209 : decode cX3_nameOf 209 = .ok (.lcmp, 1) := dk_148 (dk_at dksX3_nameOf_8 21 rfl rfl)
theorem dX3_nameOf_210 : decode cX3_nameOf 210 = .ok (.ifCond .ne 8, 3) := dk_154 0 8 (dk_at dksX3_nameOf_9 0 rfl rfl)
theorem dX3_nameOf_213 : decode cX3_nameOf 213 = .ok (.bipush 9, 2) := dk_16 9 (dk_at dksX3_nameOf_9 3 rfl rfl)
theorem dX3_nameOf_215 : decode cX3_nameOf 215 = .ok (.goto 32, 3) := dk_167 0 32 (dk_at dksX3_nameOf_9 5 rfl rfl)
theorem dX3_nameOf_218 : decode cX3_nameOf 218 = .ok (.aload_n 0, 1) := dk_42 (dk_at dksX3_nameOf_9 8 rfl rfl)
theorem dX3_nameOf_219 : decode cX3_nameOf 219 = .ok (.getfield 142, 3) := dk_180 0 142 (dk_at dksX3_nameOf_9 9 rfl rfl)
theorem dX3_nameOf_222 : decode cX3_nameOf 222 = .ok (.bipush 98, 2) := dk_16 98 (dk_at dksX3_nameOf_9 12 rfl rfl)
theorem dX3_nameOf_224 : decode cX3_nameOf 224 = .ok (.bipush 97, 2) := dk_16 97 (dk_at dksX3_nameOf_9 14 rfl rfl)
theorem dX3_nameOf_226 : decode cX3_nameOf 226 = .ok (.bipush 110, 2) := dk_16 110 (dk_at dksX3_nameOf_9 16 rfl rfl)
theorem dX3_nameOf_228 : decode cX3_nameOf 228 = .ok (.bipush 107, 2) := dk_16 107 (dk_at dksX3_nameOf_9 18 rfl rfl)
theorem dX3_nameOf_230 : decode cX3_nameOf 230 = .ok (.bipush 101, 2) := dk_16 101 (dk_at dksX3_nameOf_9 20 rfl rfl)
theorem dX3_nameOf_232 : decode cX3_nameOf 232 = .ok (.bipush 100, 2) := dk_16 100 (dk_at dksX3_nameOf_9 22 rfl rfl)
theorem dX3_nameOf_234 : decode cX3_nameOf 234 = .ok (.invokestatic 182, 3) := dk_184 0 182 (dk_at dksX3_nameOf_10 0 rfl rfl)
theorem dX3_nameOf_237 : decode cX3_nameOf 237 = .ok (.lcmp, 1) := dk_148 (dk_at dksX3_nameOf_10 3 rfl rfl)
theorem dX3_nameOf_238 : decode cX3_nameOf 238 = .ok (.ifCond .ne 8, 3) := dk_154 0 8 (dk_at dksX3_nameOf_10 4 rfl rfl)
theorem dX3_nameOf_241 : decode cX3_nameOf 241 = .ok (.bipush 10, 2) := dk_16 10 (dk_at dksX3_nameOf_10 7 rfl rfl)
theorem dX3_nameOf_243 : decode cX3_nameOf 243 = .ok (.goto 4, 3) := dk_167 0 4 (dk_at dksX3_nameOf_10 9 rfl rfl)
theorem dX3_nameOf_246 : decode cX3_nameOf 246 = .ok (.iconst (-1), 1) := dk_2 (dk_at dksX3_nameOf_10 12 rfl rfl)
theorem dX3_nameOf_247 : decode cX3_nameOf 247 = .ok (.ireturn, 1) := dk_172 (dk_at dksX3_nameOf_10 13 rfl rfl)
abbrev cX3_w5 : ByteArray := prog_17_method_27_code
def yX3_w5 : MethodName := ⟨RX3, "w5", "(IIIII)J"⟩
def dkwX3_w5_0 : List UInt8 := [26, 27, 28, 184, 0, 146, 16, 8, 121, 29, 133, 129, 16, 8, 121, 21, 4, 133, 129, 173]
abbrev dktX3_w5_0 : List UInt8 := dkwX3_w5_0 ++ []
theorem dksX3_w5_0 : cX3_w5.data.toList.drop 0 = dktX3_w5_0 := by decide +kernel
theorem dX3_w5_0 : decode cX3_w5 0 = .ok (.iload_n 0, 1) := dk_26 (dk_at dksX3_w5_0 0 rfl rfl)
theorem dX3_w5_1 : decode cX3_w5 1 = .ok (.iload_n 1, 1) := dk_27 (dk_at dksX3_w5_0 1 rfl rfl)
theorem dX3_w5_2 : decode cX3_w5 2 = .ok (.iload_n 2, 1) := dk_28 (dk_at dksX3_w5_0 2 rfl rfl)
theorem dX3_w5_3 : decode cX3_w5 3 = .ok (.invokestatic 146, 3) := dk_184 0 146 (dk_at dksX3_w5_0 3 rfl rfl)
theorem dX3_w5_6 : decode cX3_w5 6 = .ok (.bipush 8, 2) := dk_16 8 (dk_at dksX3_w5_0 6 rfl rfl)
theorem dX3_w5_8 : decode cX3_w5 8 = .ok (.lshl, 1) := dk_121 (dk_at dksX3_w5_0 8 rfl rfl)
theorem dX3_w5_9 : decode cX3_w5 9 = .ok (.iload_n 3, 1) := dk_29 (dk_at dksX3_w5_0 9 rfl rfl)
theorem dX3_w5_10 : decode cX3_w5 10 = .ok (.i2l, 1) := dk_133 (dk_at dksX3_w5_0 10 rfl rfl)
theorem dX3_w5_11 : decode cX3_w5 11 = .ok (.lor, 1) := dk_129 (dk_at dksX3_w5_0 11 rfl rfl)
theorem dX3_w5_12 : decode cX3_w5 12 = .ok (.bipush 8, 2) := dk_16 8 (dk_at dksX3_w5_0 12 rfl rfl)
theorem dX3_w5_14 : decode cX3_w5 14 = .ok (.lshl, 1) := dk_121 (dk_at dksX3_w5_0 14 rfl rfl)
theorem dX3_w5_15 : decode cX3_w5 15 = .ok (.iload 4, 2) := dk_21 4 (dk_at dksX3_w5_0 15 rfl rfl)
theorem dX3_w5_17 : decode cX3_w5 17 = .ok (.i2l, 1) := dk_133 (dk_at dksX3_w5_0 17 rfl rfl)
theorem dX3_w5_18 : decode cX3_w5 18 = .ok (.lor, 1) := dk_129 (dk_at dksX3_w5_0 18 rfl rfl)
theorem dX3_w5_19 : decode cX3_w5 19 = .ok (.lreturn, 1) := dk_173 (dk_at dksX3_w5_0 19 rfl rfl)
abbrev cX3_w6 : ByteArray := prog_17_method_29_code
def yX3_w6 : MethodName := ⟨RX3, "w6", "(IIIIII)J"⟩
def dkwX3_w6_0 : List UInt8 := [26, 27, 28, 29, 21, 4, 184, 0, 150, 16, 8, 121, 21, 5, 133, 129, 173]
abbrev dktX3_w6_0 : List UInt8 := dkwX3_w6_0 ++ []
theorem dksX3_w6_0 : cX3_w6.data.toList.drop 0 = dktX3_w6_0 := by decide +kernel
theorem dX3_w6_0 : decode cX3_w6 0 = .ok (.iload_n 0, 1) := dk_26 (dk_at dksX3_w6_0 0 rfl rfl)
theorem dX3_w6_1 : decode cX3_w6 1 = .ok (.iload_n 1, 1) := dk_27 (dk_at dksX3_w6_0 1 rfl rfl)
theorem dX3_w6_2 : decode cX3_w6 2 = .ok (.iload_n 2, 1) := dk_28 (dk_at dksX3_w6_0 2 rfl rfl)
theorem dX3_w6_3 : decode cX3_w6 3 = .ok (.iload_n 3, 1) := dk_29 (dk_at dksX3_w6_0 3 rfl rfl)
theorem dX3_w6_4 : decode cX3_w6 4 = .ok (.iload 4, 2) := dk_21 4 (dk_at dksX3_w6_0 4 rfl rfl)
theorem dX3_w6_6 : decode cX3_w6 6 = .ok (.invokestatic 150, 3) := dk_184 0 150 (dk_at dksX3_w6_0 6 rfl rfl)
theorem dX3_w6_9 : decode cX3_w6 9 = .ok (.bipush 8, 2) := dk_16 8 (dk_at dksX3_w6_0 9 rfl rfl)
theorem dX3_w6_11 : decode cX3_w6 11 = .ok (.lshl, 1) := dk_121 (dk_at dksX3_w6_0 11 rfl rfl)
theorem dX3_w6_12 : decode cX3_w6 12 = .ok (.iload 5, 2) := dk_21 5 (dk_at dksX3_w6_0 12 rfl rfl)
theorem dX3_w6_14 : decode cX3_w6 14 = .ok (.i2l, 1) := dk_133 (dk_at dksX3_w6_0 14 rfl rfl)
theorem dX3_w6_15 : decode cX3_w6 15 = .ok (.lor, 1) := dk_129 (dk_at dksX3_w6_0 15 rfl rfl)
theorem dX3_w6_16 : decode cX3_w6 16 = .ok (.lreturn, 1) := dk_173 (dk_at dksX3_w6_0 16 rfl rfl)
abbrev cX3_isBarred : ByteArray := prog_17_method_36_code
def yX3_isBarred : MethodName := ⟨RX3, "isBarred", "(I)Z"⟩
def dkwX3_isBarred_0 : List UInt8 := [27, 16, 8, 164, 0, 15, 42, 180, 0, 186, 7, 159, 0, 7, 4, 167, 0, 4, 3, 172]
abbrev dktX3_isBarred_0 : List UInt8 := dkwX3_isBarred_0 ++ []
theorem dksX3_isBarred_0 : cX3_isBarred.data.toList.drop 0 = dktX3_isBarred_0 := by decide +kernel
theorem dX3_isBarred_0 : decode cX3_isBarred 0 = .ok (.iload_n 1, 1) := dk_27 (dk_at dksX3_isBarred_0 0 rfl rfl)
theorem dX3_isBarred_1 : decode cX3_isBarred 1 = .ok (.bipush 8, 2) := dk_16 8 (dk_at dksX3_isBarred_0 1 rfl rfl)
theorem dX3_isBarred_3 : decode cX3_isBarred 3 = .ok (.if_icmp .le 15, 3) := dk_164 0 15 (dk_at dksX3_isBarred_0 3 rfl rfl)
theorem dX3_isBarred_6 : decode cX3_isBarred 6 = .ok (.aload_n 0, 1) := dk_42 (dk_at dksX3_isBarred_0 6 rfl rfl)
theorem dX3_isBarred_7 : decode cX3_isBarred 7 = .ok (.getfield 186, 3) := dk_180 0 186 (dk_at dksX3_isBarred_0 7 rfl rfl)
theorem dX3_isBarred_10 : decode cX3_isBarred 10 = .ok (.iconst 4, 1) := dk_7 (dk_at dksX3_isBarred_0 10 rfl rfl)
theorem dX3_isBarred_11 : decode cX3_isBarred 11 = .ok (.if_icmp .eq 7, 3) := dk_159 0 7 (dk_at dksX3_isBarred_0 11 rfl rfl)
theorem dX3_isBarred_14 : decode cX3_isBarred 14 = .ok (.iconst 1, 1) := dk_4 (dk_at dksX3_isBarred_0 14 rfl rfl)
theorem dX3_isBarred_15 : decode cX3_isBarred 15 = .ok (.goto 4, 3) := dk_167 0 4 (dk_at dksX3_isBarred_0 15 rfl rfl)
theorem dX3_isBarred_18 : decode cX3_isBarred 18 = .ok (.iconst 0, 1) := dk_3 (dk_at dksX3_isBarred_0 18 rfl rfl)
theorem dX3_isBarred_19 : decode cX3_isBarred 19 = .ok (.ireturn, 1) := dk_172 (dk_at dksX3_isBarred_0 19 rfl rfl)
abbrev cX3_either : ByteArray := prog_17_method_44_code
def yX3_either : MethodName := ⟨RX3, "either", "()I"⟩
def dkwX3_either_5 : List UInt8 := [167, 255, 146, 3, 172]
abbrev dktX3_either_5 : List UInt8 := dkwX3_either_5 ++ []
def dkwX3_either_4 : List UInt8 := [154, 0, 8, 21, 5, 153, 0, 7, 4, 167, 0, 4, 3, 62, 29, 153, 0, 7, 42, 182, 0, 189]
abbrev dktX3_either_4 : List UInt8 := dkwX3_either_4 ++ dktX3_either_5
def dkwX3_either_3 : List UInt8 := [3, 54, 5, 27, 154, 0, 17, 28, 153, 0, 10, 42, 16, 22, 3, 182, 0, 170, 21, 5, 61, 27]
abbrev dktX3_either_3 : List UInt8 := dkwX3_either_3 ++ dktX3_either_4
def dkwX3_either_2 : List UInt8 := [60, 42, 180, 0, 129, 5, 160, 0, 18, 42, 180, 0, 142, 20, 0, 233, 148, 154, 0, 7, 4, 167, 0, 4]
abbrev dktX3_either_2 : List UInt8 := dkwX3_either_2 ++ dktX3_either_3
def dkwX3_either_1 : List UInt8 := [27, 153, 0, 10, 42, 16, 21, 3, 182, 0, 170, 42, 16, 97, 16, 110, 16, 100, 184, 0, 146, 182, 0, 220]
abbrev dktX3_either_1 : List UInt8 := dkwX3_either_1 ++ dktX3_either_2
def dkwX3_either_0 : List UInt8 := [3, 60, 3, 61, 4, 62, 29, 153, 0, 112, 42, 182, 0, 230, 54, 4, 21, 4, 153, 0, 6, 21, 4, 172]
abbrev dktX3_either_0 : List UInt8 := dkwX3_either_0 ++ dktX3_either_1
theorem dksX3_either_0 : cX3_either.data.toList.drop 0 = dktX3_either_0 := by decide +kernel
theorem dksX3_either_1 : cX3_either.data.toList.drop 24 = dktX3_either_1 := dk_seg dksX3_either_0 24 rfl rfl
theorem dksX3_either_2 : cX3_either.data.toList.drop 48 = dktX3_either_2 := dk_seg dksX3_either_1 24 rfl rfl
theorem dksX3_either_3 : cX3_either.data.toList.drop 72 = dktX3_either_3 := dk_seg dksX3_either_2 24 rfl rfl
theorem dksX3_either_4 : cX3_either.data.toList.drop 94 = dktX3_either_4 := dk_seg dksX3_either_3 22 rfl rfl
theorem dksX3_either_5 : cX3_either.data.toList.drop 116 = dktX3_either_5 := dk_seg dksX3_either_4 22 rfl rfl
theorem dX3_either_0 : decode cX3_either 0 = .ok (.iconst 0, 1) := dk_3 (dk_at dksX3_either_0 0 rfl rfl)
theorem dX3_either_1 : decode cX3_either 1 = .ok (.istore_n 1, 1) := dk_60 (dk_at dksX3_either_0 1 rfl rfl)
theorem dX3_either_2 : decode cX3_either 2 = .ok (.iconst 0, 1) := dk_3 (dk_at dksX3_either_0 2 rfl rfl)
theorem dX3_either_3 : decode cX3_either 3 = .ok (.istore_n 2, 1) := dk_61 (dk_at dksX3_either_0 3 rfl rfl)
theorem dX3_either_4 : decode cX3_either 4 = .ok (.iconst 1, 1) := dk_4 (dk_at dksX3_either_0 4 rfl rfl)
theorem dX3_either_5 : decode cX3_either 5 = .ok (.istore_n 3, 1) := dk_62 (dk_at dksX3_either_0 5 rfl rfl)
theorem dX3_either_6 : decode cX3_either 6 = .ok (.iload_n 3, 1) := dk_29 (dk_at dksX3_either_0 6 rfl rfl)
theorem dX3_either_7 : decode cX3_either 7 = .ok (.ifCond .eq 112, 3) := dk_153 0 112 (dk_at dksX3_either_0 7 rfl rfl)
theorem dX3_either_10 : decode cX3_either 10 = .ok (.aload_n 0, 1) := dk_42 (dk_at dksX3_either_0 10 rfl rfl)
theorem dX3_either_11 : decode cX3_either 11 = .ok (.invokevirtual 230, 3) := dk_182 0 230 (dk_at dksX3_either_0 11 rfl rfl)
theorem dX3_either_14 : decode cX3_either 14 = .ok (.istore 4, 2) := dk_54 4 (dk_at dksX3_either_0 14 rfl rfl)
theorem dX3_either_16 : decode cX3_either 16 = .ok (.iload 4, 2) := dk_21 4 (dk_at dksX3_either_0 16 rfl rfl)
theorem dX3_either_18 : decode cX3_either 18 = .ok (.ifCond .eq 6, 3) := dk_153 0 6 (dk_at dksX3_either_0 18 rfl rfl)
theorem dX3_either_21 : decode cX3_either 21 = .ok (.iload 4, 2) := dk_21 4 (dk_at dksX3_either_0 21 rfl rfl)
theorem dX3_either_23 : decode cX3_either 23 = .ok (.ireturn, 1) := dk_172 (dk_at dksX3_either_0 23 rfl rfl)
theorem dX3_either_24 : decode cX3_either 24 = .ok (.iload_n 1, 1) := dk_27 (dk_at dksX3_either_1 0 rfl rfl)
theorem dX3_either_25 : decode cX3_either 25 = .ok (.ifCond .eq 10, 3) := dk_153 0 10 (dk_at dksX3_either_1 1 rfl rfl)
theorem dX3_either_28 : decode cX3_either 28 = .ok (.aload_n 0, 1) := dk_42 (dk_at dksX3_either_1 4 rfl rfl)
theorem dX3_either_29 : decode cX3_either 29 = .ok (.bipush 21, 2) := dk_16 21 (dk_at dksX3_either_1 5 rfl rfl)
theorem dX3_either_31 : decode cX3_either 31 = .ok (.iconst 0, 1) := dk_3 (dk_at dksX3_either_1 7 rfl rfl)
theorem dX3_either_32 : decode cX3_either 32 = .ok (.invokevirtual 170, 3) := dk_182 0 170 (dk_at dksX3_either_1 8 rfl rfl)
theorem dX3_either_35 : decode cX3_either 35 = .ok (.aload_n 0, 1) := dk_42 (dk_at dksX3_either_1 11 rfl rfl)
theorem dX3_either_36 : decode cX3_either 36 = .ok (.bipush 97, 2) := dk_16 97 (dk_at dksX3_either_1 12 rfl rfl)
theorem dX3_either_38 : decode cX3_either 38 = .ok (.bipush 110, 2) := dk_16 110 (dk_at dksX3_either_1 14 rfl rfl)
theorem dX3_either_40 : decode cX3_either 40 = .ok (.bipush 100, 2) := dk_16 100 (dk_at dksX3_either_1 16 rfl rfl)
theorem dX3_either_42 : decode cX3_either 42 = .ok (.invokestatic 146, 3) := dk_184 0 146 (dk_at dksX3_either_1 18 rfl rfl)
theorem dX3_either_45 : decode cX3_either 45 = .ok (.invokevirtual 220, 3) := dk_182 0 220 (dk_at dksX3_either_1 21 rfl rfl)
theorem dX3_either_48 : decode cX3_either 48 = .ok (.istore_n 1, 1) := dk_60 (dk_at dksX3_either_2 0 rfl rfl)
theorem dX3_either_49 : decode cX3_either 49 = .ok (.aload_n 0, 1) := dk_42 (dk_at dksX3_either_2 1 rfl rfl)
theorem dX3_either_50 : decode cX3_either 50 = .ok (.getfield 129, 3) := dk_180 0 129 (dk_at dksX3_either_2 2 rfl rfl)
theorem dX3_either_53 : decode cX3_either 53 = .ok (.iconst 2, 1) := dk_5 (dk_at dksX3_either_2 5 rfl rfl)
theorem dX3_either_54 : decode cX3_either 54 = .ok (.if_icmp .ne 18, 3) := dk_160 0 18 (dk_at dksX3_either_2 6 rfl rfl)
theorem dX3_either_57 : decode cX3_either 57 = .ok (.aload_n 0, 1) := dk_42 (dk_at dksX3_either_2 9 rfl rfl)
theorem dX3_either_58 : decode cX3_either 58 = .ok (.getfield 142, 3) := dk_180 0 142 (dk_at dksX3_either_2 10 rfl rfl)
theorem dX3_either_61 : decode cX3_either 61 = .ok (.ldc2_w 233, 3) := dk_20 0 233 (dk_at dksX3_either_2 13 rfl rfl)
theorem dX3_either_64 : decode cX3_either 64 = .ok (.lcmp, 1) := dk_148 (dk_at dksX3_either_2 16 rfl rfl)
theorem dX3_either_65 : decode cX3_either 65 = .ok (.ifCond .ne 7, 3) := dk_154 0 7 (dk_at dksX3_either_2 17 rfl rfl)
theorem dX3_either_68 : decode cX3_either 68 = .ok (.iconst 1, 1) := dk_4 (dk_at dksX3_either_2 20 rfl rfl)
theorem dX3_either_69 : decode cX3_either 69 = .ok (.goto 4, 3) := dk_167 0 4 (dk_at dksX3_either_2 21 rfl rfl)
theorem dX3_either_72 : decode cX3_either 72 = .ok (.iconst 0, 1) := dk_3 (dk_at dksX3_either_3 0 rfl rfl)
theorem dX3_either_73 : decode cX3_either 73 = .ok (.istore 5, 2) := dk_54 5 (dk_at dksX3_either_3 1 rfl rfl)
theorem dX3_either_75 : decode cX3_either 75 = .ok (.iload_n 1, 1) := dk_27 (dk_at dksX3_either_3 3 rfl rfl)
theorem dX3_either_76 : decode cX3_either 76 = .ok (.ifCond .ne 17, 3) := dk_154 0 17 (dk_at dksX3_either_3 4 rfl rfl)
theorem dX3_either_79 : decode cX3_either 79 = .ok (.iload_n 2, 1) := dk_28 (dk_at dksX3_either_3 7 rfl rfl)
theorem dX3_either_80 : decode cX3_either 80 = .ok (.ifCond .eq 10, 3) := dk_153 0 10 (dk_at dksX3_either_3 8 rfl rfl)
theorem dX3_either_83 : decode cX3_either 83 = .ok (.aload_n 0, 1) := dk_42 (dk_at dksX3_either_3 11 rfl rfl)
theorem dX3_either_84 : decode cX3_either 84 = .ok (.bipush 22, 2) := dk_16 22 (dk_at dksX3_either_3 12 rfl rfl)
theorem dX3_either_86 : decode cX3_either 86 = .ok (.iconst 0, 1) := dk_3 (dk_at dksX3_either_3 14 rfl rfl)
theorem dX3_either_87 : decode cX3_either 87 = .ok (.invokevirtual 170, 3) := dk_182 0 170 (dk_at dksX3_either_3 15 rfl rfl)
theorem dX3_either_90 : decode cX3_either 90 = .ok (.iload 5, 2) := dk_21 5 (dk_at dksX3_either_3 18 rfl rfl)
theorem dX3_either_92 : decode cX3_either 92 = .ok (.istore_n 2, 1) := dk_61 (dk_at dksX3_either_3 20 rfl rfl)
theorem dX3_either_93 : decode cX3_either 93 = .ok (.iload_n 1, 1) := dk_27 (dk_at dksX3_either_3 21 rfl rfl)
theorem dX3_either_94 : decode cX3_either 94 = .ok (.ifCond .ne 8, 3) := dk_154 0 8 (dk_at dksX3_either_4 0 rfl rfl)
theorem dX3_either_97 : decode cX3_either 97 = .ok (.iload 5, 2) := dk_21 5 (dk_at dksX3_either_4 3 rfl rfl)
theorem dX3_either_99 : decode cX3_either 99 = .ok (.ifCond .eq 7, 3) := dk_153 0 7 (dk_at dksX3_either_4 5 rfl rfl)
theorem dX3_either_102 : decode cX3_either 102 = .ok (.iconst 1, 1) := dk_4 (dk_at dksX3_either_4 8 rfl rfl)
theorem dX3_either_103 : decode cX3_either 103 = .ok (.goto 4, 3) := dk_167 0 4 (dk_at dksX3_either_4 9 rfl rfl)
theorem dX3_either_106 : decode cX3_either 106 = .ok (.iconst 0, 1) := dk_3 (dk_at dksX3_either_4 12 rfl rfl)
theorem dX3_either_107 : decode cX3_either 107 = .ok (.istore_n 3, 1) := dk_62 (dk_at dksX3_either_4 13 rfl rfl)
theorem dX3_either_108 : decode cX3_either 108 = .ok (.iload_n 3, 1) := dk_29 (dk_at dksX3_either_4 14 rfl rfl)
theorem dX3_either_109 : decode cX3_either 109 = .ok (.ifCond .eq 7, 3) := dk_153 0 7 (dk_at dksX3_either_4 15 rfl rfl)
theorem dX3_either_112 : decode cX3_either 112 = .ok (.aload_n 0, 1) := dk_42 (dk_at dksX3_either_4 18 rfl rfl)
theorem dX3_either_113 : decode cX3_either 113 = .ok (.invokevirtual 189, 3) := dk_182 0 189 (dk_at dksX3_either_4 19 rfl rfl)
theorem dX3_either_116 : decode cX3_either 116 = .ok (.goto (-110), 3) := dk_167 255 146 (dk_at dksX3_either_5 0 rfl rfl)
theorem dX3_either_119 : decode cX3_either 119 = .ok (.iconst 0, 1) := dk_3 (dk_at dksX3_either_5 3 rfl rfl)
theorem dX3_either_120 : decode cX3_either 120 = .ok (.ireturn, 1) := dk_172 (dk_at dksX3_either_5 4 rfl rfl)
abbrev cX3_asks : ByteArray := prog_17_method_43_code
def yX3_asks : MethodName := ⟨RX3, "asks", "()I"⟩
def dkwX3_asks_5 : List UInt8 := [132, 4, 1, 167, 255, 240, 3, 172]
abbrev dktX3_asks_5 : List UInt8 := dkwX3_asks_5 ++ []
def dkwX3_asks_4 : List UInt8 := [180, 0, 167, 27, 100, 181, 0, 167, 3, 54, 4, 21, 4, 27, 162, 0, 16, 42, 16, 20, 3, 182, 0, 170]
abbrev dktX3_asks_4 : List UInt8 := dkwX3_asks_4 ++ dktX3_asks_5
def dkwX3_asks_3 : List UInt8 := [172, 42, 182, 0, 189, 42, 182, 0, 224, 61, 28, 153, 0, 5, 28, 172, 42, 29, 3, 182, 0, 170, 42, 89]
abbrev dktX3_asks_3 : List UInt8 := dkwX3_asks_3 ++ dktX3_asks_4
def dkwX3_asks_2 : List UInt8 := [167, 255, 212, 42, 182, 0, 224, 61, 28, 153, 0, 5, 28, 172, 42, 182, 0, 227, 62, 29, 156, 0, 5, 4]
abbrev dktX3_asks_2 : List UInt8 := dkwX3_asks_2 ++ dktX3_asks_3
def dkwX3_asks_1 : List UInt8 := [160, 0, 5, 6, 172, 42, 89, 180, 0, 167, 4, 96, 181, 0, 167, 132, 1, 1, 42, 182, 0, 189]
abbrev dktX3_asks_1 : List UInt8 := dkwX3_asks_1 ++ dktX3_asks_2
def dkwX3_asks_0 : List UInt8 := [3, 60, 42, 16, 110, 16, 111, 16, 116, 184, 0, 146, 182, 0, 220, 153, 0, 34, 42, 180, 0, 167, 16, 8]
abbrev dktX3_asks_0 : List UInt8 := dkwX3_asks_0 ++ dktX3_asks_1
theorem dksX3_asks_0 : cX3_asks.data.toList.drop 0 = dktX3_asks_0 := by decide +kernel
theorem dksX3_asks_1 : cX3_asks.data.toList.drop 24 = dktX3_asks_1 := dk_seg dksX3_asks_0 24 rfl rfl
theorem dksX3_asks_2 : cX3_asks.data.toList.drop 46 = dktX3_asks_2 := dk_seg dksX3_asks_1 22 rfl rfl
theorem dksX3_asks_3 : cX3_asks.data.toList.drop 70 = dktX3_asks_3 := dk_seg dksX3_asks_2 24 rfl rfl
theorem dksX3_asks_4 : cX3_asks.data.toList.drop 94 = dktX3_asks_4 := dk_seg dksX3_asks_3 24 rfl rfl
theorem dksX3_asks_5 : cX3_asks.data.toList.drop 118 = dktX3_asks_5 := dk_seg dksX3_asks_4 24 rfl rfl
theorem dX3_asks_0 : decode cX3_asks 0 = .ok (.iconst 0, 1) := dk_3 (dk_at dksX3_asks_0 0 rfl rfl)
theorem dX3_asks_1 : decode cX3_asks 1 = .ok (.istore_n 1, 1) := dk_60 (dk_at dksX3_asks_0 1 rfl rfl)
theorem dX3_asks_2 : decode cX3_asks 2 = .ok (.aload_n 0, 1) := dk_42 (dk_at dksX3_asks_0 2 rfl rfl)
theorem dX3_asks_3 : decode cX3_asks 3 = .ok (.bipush 110, 2) := dk_16 110 (dk_at dksX3_asks_0 3 rfl rfl)
theorem dX3_asks_5 : decode cX3_asks 5 = .ok (.bipush 111, 2) := dk_16 111 (dk_at dksX3_asks_0 5 rfl rfl)
theorem dX3_asks_7 : decode cX3_asks 7 = .ok (.bipush 116, 2) := dk_16 116 (dk_at dksX3_asks_0 7 rfl rfl)
theorem dX3_asks_9 : decode cX3_asks 9 = .ok (.invokestatic 146, 3) := dk_184 0 146 (dk_at dksX3_asks_0 9 rfl rfl)
theorem dX3_asks_12 : decode cX3_asks 12 = .ok (.invokevirtual 220, 3) := dk_182 0 220 (dk_at dksX3_asks_0 12 rfl rfl)
theorem dX3_asks_15 : decode cX3_asks 15 = .ok (.ifCond .eq 34, 3) := dk_153 0 34 (dk_at dksX3_asks_0 15 rfl rfl)
theorem dX3_asks_18 : decode cX3_asks 18 = .ok (.aload_n 0, 1) := dk_42 (dk_at dksX3_asks_0 18 rfl rfl)
theorem dX3_asks_19 : decode cX3_asks 19 = .ok (.getfield 167, 3) := dk_180 0 167 (dk_at dksX3_asks_0 19 rfl rfl)
theorem dX3_asks_22 : decode cX3_asks 22 = .ok (.bipush 8, 2) := dk_16 8 (dk_at dksX3_asks_0 22 rfl rfl)
theorem dX3_asks_24 : decode cX3_asks 24 = .ok (.if_icmp .ne 5, 3) := dk_160 0 5 (dk_at dksX3_asks_1 0 rfl rfl)
theorem dX3_asks_27 : decode cX3_asks 27 = .ok (.iconst 3, 1) := dk_6 (dk_at dksX3_asks_1 3 rfl rfl)
theorem dX3_asks_28 : decode cX3_asks 28 = .ok (.ireturn, 1) := dk_172 (dk_at dksX3_asks_1 4 rfl rfl)
theorem dX3_asks_29 : decode cX3_asks 29 = .ok (.aload_n 0, 1) := dk_42 (dk_at dksX3_asks_1 5 rfl rfl)
theorem dX3_asks_30 : decode cX3_asks 30 = .ok (.dup, 1) := dk_89 (dk_at dksX3_asks_1 6 rfl rfl)
theorem dX3_asks_31 : decode cX3_asks 31 = .ok (.getfield 167, 3) := dk_180 0 167 (dk_at dksX3_asks_1 7 rfl rfl)
theorem dX3_asks_34 : decode cX3_asks 34 = .ok (.iconst 1, 1) := dk_4 (dk_at dksX3_asks_1 10 rfl rfl)
theorem dX3_asks_35 : decode cX3_asks 35 = .ok (.iadd, 1) := dk_96 (dk_at dksX3_asks_1 11 rfl rfl)
theorem dX3_asks_36 : decode cX3_asks 36 = .ok (.putfield 167, 3) := dk_181 0 167 (dk_at dksX3_asks_1 12 rfl rfl)
theorem dX3_asks_39 : decode cX3_asks 39 = .ok (.iinc 1 1, 3) := dk_132 1 1 (dk_at dksX3_asks_1 15 rfl rfl)
theorem dX3_asks_42 : decode cX3_asks 42 = .ok (.aload_n 0, 1) := dk_42 (dk_at dksX3_asks_1 18 rfl rfl)
theorem dX3_asks_43 : decode cX3_asks 43 = .ok (.invokevirtual 189, 3) := dk_182 0 189 (dk_at dksX3_asks_1 19 rfl rfl)
theorem dX3_asks_46 : decode cX3_asks 46 = .ok (.goto (-44), 3) := dk_167 255 212 (dk_at dksX3_asks_2 0 rfl rfl)
theorem dX3_asks_49 : decode cX3_asks 49 = .ok (.aload_n 0, 1) := dk_42 (dk_at dksX3_asks_2 3 rfl rfl)
theorem dX3_asks_50 : decode cX3_asks 50 = .ok (.invokevirtual 224, 3) := dk_182 0 224 (dk_at dksX3_asks_2 4 rfl rfl)
theorem dX3_asks_53 : decode cX3_asks 53 = .ok (.istore_n 2, 1) := dk_61 (dk_at dksX3_asks_2 7 rfl rfl)
theorem dX3_asks_54 : decode cX3_asks 54 = .ok (.iload_n 2, 1) := dk_28 (dk_at dksX3_asks_2 8 rfl rfl)
theorem dX3_asks_55 : decode cX3_asks 55 = .ok (.ifCond .eq 5, 3) := dk_153 0 5 (dk_at dksX3_asks_2 9 rfl rfl)
theorem dX3_asks_58 : decode cX3_asks 58 = .ok (.iload_n 2, 1) := dk_28 (dk_at dksX3_asks_2 12 rfl rfl)
theorem dX3_asks_59 : decode cX3_asks 59 = .ok (.ireturn, 1) := dk_172 (dk_at dksX3_asks_2 13 rfl rfl)
theorem dX3_asks_60 : decode cX3_asks 60 = .ok (.aload_n 0, 1) := dk_42 (dk_at dksX3_asks_2 14 rfl rfl)
theorem dX3_asks_61 : decode cX3_asks 61 = .ok (.invokevirtual 227, 3) := dk_182 0 227 (dk_at dksX3_asks_2 15 rfl rfl)
theorem dX3_asks_64 : decode cX3_asks 64 = .ok (.istore_n 3, 1) := dk_62 (dk_at dksX3_asks_2 18 rfl rfl)
theorem dX3_asks_65 : decode cX3_asks 65 = .ok (.iload_n 3, 1) := dk_29 (dk_at dksX3_asks_2 19 rfl rfl)
theorem dX3_asks_66 : decode cX3_asks 66 = .ok (.ifCond .ge 5, 3) := dk_156 0 5 (dk_at dksX3_asks_2 20 rfl rfl)
theorem dX3_asks_69 : decode cX3_asks 69 = .ok (.iconst 1, 1) := dk_4 (dk_at dksX3_asks_2 23 rfl rfl)
theorem dX3_asks_70 : decode cX3_asks 70 = .ok (.ireturn, 1) := dk_172 (dk_at dksX3_asks_3 0 rfl rfl)
theorem dX3_asks_71 : decode cX3_asks 71 = .ok (.aload_n 0, 1) := dk_42 (dk_at dksX3_asks_3 1 rfl rfl)
theorem dX3_asks_72 : decode cX3_asks 72 = .ok (.invokevirtual 189, 3) := dk_182 0 189 (dk_at dksX3_asks_3 2 rfl rfl)
theorem dX3_asks_75 : decode cX3_asks 75 = .ok (.aload_n 0, 1) := dk_42 (dk_at dksX3_asks_3 5 rfl rfl)
theorem dX3_asks_76 : decode cX3_asks 76 = .ok (.invokevirtual 224, 3) := dk_182 0 224 (dk_at dksX3_asks_3 6 rfl rfl)
theorem dX3_asks_79 : decode cX3_asks 79 = .ok (.istore_n 2, 1) := dk_61 (dk_at dksX3_asks_3 9 rfl rfl)
theorem dX3_asks_80 : decode cX3_asks 80 = .ok (.iload_n 2, 1) := dk_28 (dk_at dksX3_asks_3 10 rfl rfl)
theorem dX3_asks_81 : decode cX3_asks 81 = .ok (.ifCond .eq 5, 3) := dk_153 0 5 (dk_at dksX3_asks_3 11 rfl rfl)
theorem dX3_asks_84 : decode cX3_asks 84 = .ok (.iload_n 2, 1) := dk_28 (dk_at dksX3_asks_3 14 rfl rfl)
theorem dX3_asks_85 : decode cX3_asks 85 = .ok (.ireturn, 1) := dk_172 (dk_at dksX3_asks_3 15 rfl rfl)
theorem dX3_asks_86 : decode cX3_asks 86 = .ok (.aload_n 0, 1) := dk_42 (dk_at dksX3_asks_3 16 rfl rfl)
theorem dX3_asks_87 : decode cX3_asks 87 = .ok (.iload_n 3, 1) := dk_29 (dk_at dksX3_asks_3 17 rfl rfl)
theorem dX3_asks_88 : decode cX3_asks 88 = .ok (.iconst 0, 1) := dk_3 (dk_at dksX3_asks_3 18 rfl rfl)
theorem dX3_asks_89 : decode cX3_asks 89 = .ok (.invokevirtual 170, 3) := dk_182 0 170 (dk_at dksX3_asks_3 19 rfl rfl)
theorem dX3_asks_92 : decode cX3_asks 92 = .ok (.aload_n 0, 1) := dk_42 (dk_at dksX3_asks_3 22 rfl rfl)
theorem dX3_asks_93 : decode cX3_asks 93 = .ok (.dup, 1) := dk_89 (dk_at dksX3_asks_3 23 rfl rfl)
theorem dX3_asks_94 : decode cX3_asks 94 = .ok (.getfield 167, 3) := dk_180 0 167 (dk_at dksX3_asks_4 0 rfl rfl)
theorem dX3_asks_97 : decode cX3_asks 97 = .ok (.iload_n 1, 1) := dk_27 (dk_at dksX3_asks_4 3 rfl rfl)
theorem dX3_asks_98 : decode cX3_asks 98 = .ok (.isub, 1) := dk_100 (dk_at dksX3_asks_4 4 rfl rfl)
theorem dX3_asks_99 : decode cX3_asks 99 = .ok (.putfield 167, 3) := dk_181 0 167 (dk_at dksX3_asks_4 5 rfl rfl)
theorem dX3_asks_102 : decode cX3_asks 102 = .ok (.iconst 0, 1) := dk_3 (dk_at dksX3_asks_4 8 rfl rfl)
theorem dX3_asks_103 : decode cX3_asks 103 = .ok (.istore 4, 2) := dk_54 4 (dk_at dksX3_asks_4 9 rfl rfl)
theorem dX3_asks_105 : decode cX3_asks 105 = .ok (.iload 4, 2) := dk_21 4 (dk_at dksX3_asks_4 11 rfl rfl)
theorem dX3_asks_107 : decode cX3_asks 107 = .ok (.iload_n 1, 1) := dk_27 (dk_at dksX3_asks_4 13 rfl rfl)
theorem dX3_asks_108 : decode cX3_asks 108 = .ok (.if_icmp .ge 16, 3) := dk_162 0 16 (dk_at dksX3_asks_4 14 rfl rfl)
theorem dX3_asks_111 : decode cX3_asks 111 = .ok (.aload_n 0, 1) := dk_42 (dk_at dksX3_asks_4 17 rfl rfl)
theorem dX3_asks_112 : decode cX3_asks 112 = .ok (.bipush 20, 2) := dk_16 20 (dk_at dksX3_asks_4 18 rfl rfl)
theorem dX3_asks_114 : decode cX3_asks 114 = .ok (.iconst 0, 1) := dk_3 (dk_at dksX3_asks_4 20 rfl rfl)
theorem dX3_asks_115 : decode cX3_asks 115 = .ok (.invokevirtual 170, 3) := dk_182 0 170 (dk_at dksX3_asks_4 21 rfl rfl)
theorem dX3_asks_118 : decode cX3_asks 118 = .ok (.iinc 4 1, 3) := dk_132 4 1 (dk_at dksX3_asks_5 0 rfl rfl)
theorem dX3_asks_121 : decode cX3_asks 121 = .ok (.goto (-16), 3) := dk_167 255 240 (dk_at dksX3_asks_5 3 rfl rfl)
theorem dX3_asks_124 : decode cX3_asks 124 = .ok (.iconst 0, 1) := dk_3 (dk_at dksX3_asks_5 6 rfl rfl)
theorem dX3_asks_125 : decode cX3_asks 125 = .ok (.ireturn, 1) := dk_172 (dk_at dksX3_asks_5 7 rfl rfl)
abbrev cX3_compareOf : ByteArray := prog_17_method_42_code
def yX3_compareOf : MethodName := ⟨RX3, "compareOf", "()I"⟩
def dkwX3_compareOf_3 : List UInt8 := [180, 0, 129, 16, 35, 160, 0, 8, 16, 15, 167, 0, 4, 2, 172]
abbrev dktX3_compareOf_3 : List UInt8 := dkwX3_compareOf_3 ++ []
def dkwX3_compareOf_2 : List UInt8 := [160, 0, 8, 16, 13, 167, 0, 32, 42, 180, 0, 129, 16, 61, 160, 0, 8, 16, 14, 167, 0, 18, 42]
abbrev dktX3_compareOf_2 : List UInt8 := dkwX3_compareOf_2 ++ dktX3_compareOf_3
def dkwX3_compareOf_1 : List UInt8 := [167, 0, 59, 42, 180, 0, 129, 16, 62, 160, 0, 8, 16, 12, 167, 0, 45, 42, 180, 0, 129, 8]
abbrev dktX3_compareOf_1 : List UInt8 := dkwX3_compareOf_1 ++ dktX3_compareOf_2
def dkwX3_compareOf_0 : List UInt8 := [42, 180, 0, 129, 16, 60, 160, 0, 8, 16, 10, 167, 0, 72, 42, 180, 0, 129, 7, 160, 0, 8, 16, 11]
abbrev dktX3_compareOf_0 : List UInt8 := dkwX3_compareOf_0 ++ dktX3_compareOf_1
theorem dksX3_compareOf_0 : cX3_compareOf.data.toList.drop 0 = dktX3_compareOf_0 := by decide +kernel
theorem dksX3_compareOf_1 : cX3_compareOf.data.toList.drop 24 = dktX3_compareOf_1 := dk_seg dksX3_compareOf_0 24 rfl rfl
theorem dksX3_compareOf_2 : cX3_compareOf.data.toList.drop 46 = dktX3_compareOf_2 := dk_seg dksX3_compareOf_1 22 rfl rfl
theorem dksX3_compareOf_3 : cX3_compareOf.data.toList.drop 69 = dktX3_compareOf_3 := dk_seg dksX3_compareOf_2 23 rfl rfl
theorem dX3_compareOf_0 : decode cX3_compareOf 0 = .ok (.aload_n 0, 1) := dk_42 (dk_at dksX3_compareOf_0 0 rfl rfl)
theorem dX3_compareOf_1 : decode cX3_compareOf 1 = .ok (.getfield 129, 3) := dk_180 0 129 (dk_at dksX3_compareOf_0 1 rfl rfl)
theorem dX3_compareOf_4 : decode cX3_compareOf 4 = .ok (.bipush 60, 2) := dk_16 60 (dk_at dksX3_compareOf_0 4 rfl rfl)
theorem dX3_compareOf_6 : decode cX3_compareOf 6 = .ok (.if_icmp .ne 8, 3) := dk_160 0 8 (dk_at dksX3_compareOf_0 6 rfl rfl)
theorem dX3_compareOf_9 : decode cX3_compareOf 9 = .ok (.bipush 10, 2) := dk_16 10 (dk_at dksX3_compareOf_0 9 rfl rfl)
theorem dX3_compareOf_11 : decode cX3_compareOf 11 = .ok (.goto 72, 3) := dk_167 0 72 (dk_at dksX3_compareOf_0 11 rfl rfl)
theorem dX3_compareOf_14 : decode cX3_compareOf 14 = .ok (.aload_n 0, 1) := dk_42 (dk_at dksX3_compareOf_0 14 rfl rfl)
theorem dX3_compareOf_15 : decode cX3_compareOf 15 = .ok (.getfield 129, 3) := dk_180 0 129 (dk_at dksX3_compareOf_0 15 rfl rfl)
theorem dX3_compareOf_18 : decode cX3_compareOf 18 = .ok (.iconst 4, 1) := dk_7 (dk_at dksX3_compareOf_0 18 rfl rfl)
theorem dX3_compareOf_19 : decode cX3_compareOf 19 = .ok (.if_icmp .ne 8, 3) := dk_160 0 8 (dk_at dksX3_compareOf_0 19 rfl rfl)
theorem dX3_compareOf_22 : decode cX3_compareOf 22 = .ok (.bipush 11, 2) := dk_16 11 (dk_at dksX3_compareOf_0 22 rfl rfl)
theorem dX3_compareOf_24 : decode cX3_compareOf 24 = .ok (.goto 59, 3) := dk_167 0 59 (dk_at dksX3_compareOf_1 0 rfl rfl)
theorem dX3_compareOf_27 : decode cX3_compareOf 27 = .ok (.aload_n 0, 1) := dk_42 (dk_at dksX3_compareOf_1 3 rfl rfl)
theorem dX3_compareOf_28 : decode cX3_compareOf 28 = .ok (.getfield 129, 3) := dk_180 0 129 (dk_at dksX3_compareOf_1 4 rfl rfl)
theorem dX3_compareOf_31 : decode cX3_compareOf 31 = .ok (.bipush 62, 2) := dk_16 62 (dk_at dksX3_compareOf_1 7 rfl rfl)
theorem dX3_compareOf_33 : decode cX3_compareOf 33 = .ok (.if_icmp .ne 8, 3) := dk_160 0 8 (dk_at dksX3_compareOf_1 9 rfl rfl)
theorem dX3_compareOf_36 : decode cX3_compareOf 36 = .ok (.bipush 12, 2) := dk_16 12 (dk_at dksX3_compareOf_1 12 rfl rfl)
theorem dX3_compareOf_38 : decode cX3_compareOf 38 = .ok (.goto 45, 3) := dk_167 0 45 (dk_at dksX3_compareOf_1 14 rfl rfl)
theorem dX3_compareOf_41 : decode cX3_compareOf 41 = .ok (.aload_n 0, 1) := dk_42 (dk_at dksX3_compareOf_1 17 rfl rfl)
theorem dX3_compareOf_42 : decode cX3_compareOf 42 = .ok (.getfield 129, 3) := dk_180 0 129 (dk_at dksX3_compareOf_1 18 rfl rfl)
theorem dX3_compareOf_45 : decode cX3_compareOf 45 = .ok (.iconst 5, 1) := dk_8 (dk_at dksX3_compareOf_1 21 rfl rfl)
theorem dX3_compareOf_46 : decode cX3_compareOf 46 = .ok (.if_icmp .ne 8, 3) := dk_160 0 8 (dk_at dksX3_compareOf_2 0 rfl rfl)
theorem dX3_compareOf_49 : decode cX3_compareOf 49 = .ok (.bipush 13, 2) := dk_16 13 (dk_at dksX3_compareOf_2 3 rfl rfl)
theorem dX3_compareOf_51 : decode cX3_compareOf 51 = .ok (.goto 32, 3) := dk_167 0 32 (dk_at dksX3_compareOf_2 5 rfl rfl)
theorem dX3_compareOf_54 : decode cX3_compareOf 54 = .ok (.aload_n 0, 1) := dk_42 (dk_at dksX3_compareOf_2 8 rfl rfl)
theorem dX3_compareOf_55 : decode cX3_compareOf 55 = .ok (.getfield 129, 3) := dk_180 0 129 (dk_at dksX3_compareOf_2 9 rfl rfl)
theorem dX3_compareOf_58 : decode cX3_compareOf 58 = .ok (.bipush 61, 2) := dk_16 61 (dk_at dksX3_compareOf_2 12 rfl rfl)
theorem dX3_compareOf_60 : decode cX3_compareOf 60 = .ok (.if_icmp .ne 8, 3) := dk_160 0 8 (dk_at dksX3_compareOf_2 14 rfl rfl)
theorem dX3_compareOf_63 : decode cX3_compareOf 63 = .ok (.bipush 14, 2) := dk_16 14 (dk_at dksX3_compareOf_2 17 rfl rfl)
theorem dX3_compareOf_65 : decode cX3_compareOf 65 = .ok (.goto 18, 3) := dk_167 0 18 (dk_at dksX3_compareOf_2 19 rfl rfl)
theorem dX3_compareOf_68 : decode cX3_compareOf 68 = .ok (.aload_n 0, 1) := dk_42 (dk_at dksX3_compareOf_2 22 rfl rfl)
theorem dX3_compareOf_69 : decode cX3_compareOf 69 = .ok (.getfield 129, 3) := dk_180 0 129 (dk_at dksX3_compareOf_3 0 rfl rfl)
theorem dX3_compareOf_72 : decode cX3_compareOf 72 = .ok (.bipush 35, 2) := dk_16 35 (dk_at dksX3_compareOf_3 3 rfl rfl)
theorem dX3_compareOf_74 : decode cX3_compareOf 74 = .ok (.if_icmp .ne 8, 3) := dk_160 0 8 (dk_at dksX3_compareOf_3 5 rfl rfl)
theorem dX3_compareOf_77 : decode cX3_compareOf 77 = .ok (.bipush 15, 2) := dk_16 15 (dk_at dksX3_compareOf_3 8 rfl rfl)
theorem dX3_compareOf_79 : decode cX3_compareOf 79 = .ok (.goto 4, 3) := dk_167 0 4 (dk_at dksX3_compareOf_3 10 rfl rfl)
theorem dX3_compareOf_82 : decode cX3_compareOf 82 = .ok (.iconst (-1), 1) := dk_2 (dk_at dksX3_compareOf_3 13 rfl rfl)
theorem dX3_compareOf_83 : decode cX3_compareOf 83 = .ok (.ireturn, 1) := dk_172 (dk_at dksX3_compareOf_3 14 rfl rfl)
abbrev cX3_fault : ByteArray := prog_17_method_50_code
def yX3_fault : MethodName := ⟨RX3, "fault", "(I)I"⟩
def dkwX3_fault_1 : List UInt8 := [172]
abbrev dktX3_fault_1 : List UInt8 := dkwX3_fault_1 ++ []
def dkwX3_fault_0 : List UInt8 := [27, 154, 0, 10, 42, 180, 0, 22, 167, 0, 16, 27, 4, 160, 0, 10, 42, 180, 0, 26, 167, 0, 4, 2]
abbrev dktX3_fault_0 : List UInt8 := dkwX3_fault_0 ++ dktX3_fault_1
theorem dksX3_fault_0 : cX3_fault.data.toList.drop 0 = dktX3_fault_0 := by decide +kernel
theorem dksX3_fault_1 : cX3_fault.data.toList.drop 24 = dktX3_fault_1 := dk_seg dksX3_fault_0 24 rfl rfl
theorem dX3_fault_0 : decode cX3_fault 0 = .ok (.iload_n 1, 1) := dk_27 (dk_at dksX3_fault_0 0 rfl rfl)
theorem dX3_fault_1 : decode cX3_fault 1 = .ok (.ifCond .ne 10, 3) := dk_154 0 10 (dk_at dksX3_fault_0 1 rfl rfl)
theorem dX3_fault_4 : decode cX3_fault 4 = .ok (.aload_n 0, 1) := dk_42 (dk_at dksX3_fault_0 4 rfl rfl)
theorem dX3_fault_5 : decode cX3_fault 5 = .ok (.getfield 22, 3) := dk_180 0 22 (dk_at dksX3_fault_0 5 rfl rfl)
theorem dX3_fault_8 : decode cX3_fault 8 = .ok (.goto 16, 3) := dk_167 0 16 (dk_at dksX3_fault_0 8 rfl rfl)
theorem dX3_fault_11 : decode cX3_fault 11 = .ok (.iload_n 1, 1) := dk_27 (dk_at dksX3_fault_0 11 rfl rfl)
theorem dX3_fault_12 : decode cX3_fault 12 = .ok (.iconst 1, 1) := dk_4 (dk_at dksX3_fault_0 12 rfl rfl)
theorem dX3_fault_13 : decode cX3_fault 13 = .ok (.if_icmp .ne 10, 3) := dk_160 0 10 (dk_at dksX3_fault_0 13 rfl rfl)
theorem dX3_fault_16 : decode cX3_fault 16 = .ok (.aload_n 0, 1) := dk_42 (dk_at dksX3_fault_0 16 rfl rfl)
theorem dX3_fault_17 : decode cX3_fault 17 = .ok (.getfield 26, 3) := dk_180 0 26 (dk_at dksX3_fault_0 17 rfl rfl)
theorem dX3_fault_20 : decode cX3_fault 20 = .ok (.goto 4, 3) := dk_167 0 4 (dk_at dksX3_fault_0 20 rfl rfl)
theorem dX3_fault_23 : decode cX3_fault 23 = .ok (.iconst (-1), 1) := dk_2 (dk_at dksX3_fault_0 23 rfl rfl)
theorem dX3_fault_24 : decode cX3_fault 24 = .ok (.ireturn, 1) := dk_172 (dk_at dksX3_fault_1 0 rfl rfl)
abbrev cX3_by : ByteArray := prog_17_method_51_code
def yX3_by : MethodName := ⟨RX3, "by", "(I)Z"⟩
def dkwX3_by_1 : List UInt8 := [79, 4, 172]
abbrev dktX3_by_1 : List UInt8 := dkwX3_by_1 ++ []
def dkwX3_by_0 : List UInt8 := [27, 2, 42, 180, 0, 7, 5, 46, 4, 100, 184, 0, 90, 154, 0, 5, 3, 172, 42, 180, 0, 7, 6, 27]
abbrev dktX3_by_0 : List UInt8 := dkwX3_by_0 ++ dktX3_by_1
theorem dksX3_by_0 : cX3_by.data.toList.drop 0 = dktX3_by_0 := by decide +kernel
theorem dksX3_by_1 : cX3_by.data.toList.drop 24 = dktX3_by_1 := dk_seg dksX3_by_0 24 rfl rfl
theorem dX3_by_0 : decode cX3_by 0 = .ok (.iload_n 1, 1) := dk_27 (dk_at dksX3_by_0 0 rfl rfl)
theorem dX3_by_1 : decode cX3_by 1 = .ok (.iconst (-1), 1) := dk_2 (dk_at dksX3_by_0 1 rfl rfl)
theorem dX3_by_2 : decode cX3_by 2 = .ok (.aload_n 0, 1) := dk_42 (dk_at dksX3_by_0 2 rfl rfl)
theorem dX3_by_3 : decode cX3_by 3 = .ok (.getfield 7, 3) := dk_180 0 7 (dk_at dksX3_by_0 3 rfl rfl)
theorem dX3_by_6 : decode cX3_by 6 = .ok (.iconst 2, 1) := dk_5 (dk_at dksX3_by_0 6 rfl rfl)
theorem dX3_by_7 : decode cX3_by 7 = .ok (.iaload, 1) := dk_46 (dk_at dksX3_by_0 7 rfl rfl)
theorem dX3_by_8 : decode cX3_by 8 = .ok (.iconst 1, 1) := dk_4 (dk_at dksX3_by_0 8 rfl rfl)
theorem dX3_by_9 : decode cX3_by 9 = .ok (.isub, 1) := dk_100 (dk_at dksX3_by_0 9 rfl rfl)
theorem dX3_by_10 : decode cX3_by 10 = .ok (.invokestatic 90, 3) := dk_184 0 90 (dk_at dksX3_by_0 10 rfl rfl)
theorem dX3_by_13 : decode cX3_by 13 = .ok (.ifCond .ne 5, 3) := dk_154 0 5 (dk_at dksX3_by_0 13 rfl rfl)
theorem dX3_by_16 : decode cX3_by 16 = .ok (.iconst 0, 1) := dk_3 (dk_at dksX3_by_0 16 rfl rfl)
theorem dX3_by_17 : decode cX3_by 17 = .ok (.ireturn, 1) := dk_172 (dk_at dksX3_by_0 17 rfl rfl)
theorem dX3_by_18 : decode cX3_by 18 = .ok (.aload_n 0, 1) := dk_42 (dk_at dksX3_by_0 18 rfl rfl)
theorem dX3_by_19 : decode cX3_by 19 = .ok (.getfield 7, 3) := dk_180 0 7 (dk_at dksX3_by_0 19 rfl rfl)
theorem dX3_by_22 : decode cX3_by 22 = .ok (.iconst 3, 1) := dk_6 (dk_at dksX3_by_0 22 rfl rfl)
theorem dX3_by_23 : decode cX3_by 23 = .ok (.iload_n 1, 1) := dk_27 (dk_at dksX3_by_0 23 rfl rfl)
theorem dX3_by_24 : decode cX3_by 24 = .ok (.iastore, 1) := dk_79 (dk_at dksX3_by_1 0 rfl rfl)
theorem dX3_by_25 : decode cX3_by 25 = .ok (.iconst 1, 1) := dk_4 (dk_at dksX3_by_1 1 rfl rfl)
theorem dX3_by_26 : decode cX3_by 26 = .ok (.ireturn, 1) := dk_172 (dk_at dksX3_by_1 2 rfl rfl)
abbrev cX3_can : ByteArray := prog_17_method_74_code
def yX3_can : MethodName := ⟨RX3, "can", "(II)Z"⟩
def dkwX3_can_2 : List UInt8 := [172]
abbrev dktX3_can_2 : List UInt8 := dkwX3_can_2 ++ []
def dkwX3_can_1 : List UInt8 := [42, 17, 1, 248, 182, 1, 60, 42, 27, 17, 1, 248, 28, 182, 1, 63, 155, 0, 7, 4, 167, 0, 4, 3]
abbrev dktX3_can_1 : List UInt8 := dkwX3_can_1 ++ dktX3_can_2
def dkwX3_can_0 : List UInt8 := [27, 184, 0, 105, 153, 0, 18, 28, 184, 1, 54, 153, 0, 11, 42, 27, 182, 1, 57, 154, 0, 5, 3, 172]
abbrev dktX3_can_0 : List UInt8 := dkwX3_can_0 ++ dktX3_can_1
theorem dksX3_can_0 : cX3_can.data.toList.drop 0 = dktX3_can_0 := by decide +kernel
theorem dksX3_can_1 : cX3_can.data.toList.drop 24 = dktX3_can_1 := dk_seg dksX3_can_0 24 rfl rfl
theorem dksX3_can_2 : cX3_can.data.toList.drop 48 = dktX3_can_2 := dk_seg dksX3_can_1 24 rfl rfl
theorem dX3_can_0 : decode cX3_can 0 = .ok (.iload_n 1, 1) := dk_27 (dk_at dksX3_can_0 0 rfl rfl)
theorem dX3_can_1 : decode cX3_can 1 = .ok (.invokestatic 105, 3) := dk_184 0 105 (dk_at dksX3_can_0 1 rfl rfl)
theorem dX3_can_4 : decode cX3_can 4 = .ok (.ifCond .eq 18, 3) := dk_153 0 18 (dk_at dksX3_can_0 4 rfl rfl)
theorem dX3_can_7 : decode cX3_can 7 = .ok (.iload_n 2, 1) := dk_28 (dk_at dksX3_can_0 7 rfl rfl)
theorem dX3_can_8 : decode cX3_can 8 = .ok (.invokestatic 310, 3) := dk_184 1 54 (dk_at dksX3_can_0 8 rfl rfl)
theorem dX3_can_11 : decode cX3_can 11 = .ok (.ifCond .eq 11, 3) := dk_153 0 11 (dk_at dksX3_can_0 11 rfl rfl)
theorem dX3_can_14 : decode cX3_can 14 = .ok (.aload_n 0, 1) := dk_42 (dk_at dksX3_can_0 14 rfl rfl)
theorem dX3_can_15 : decode cX3_can 15 = .ok (.iload_n 1, 1) := dk_27 (dk_at dksX3_can_0 15 rfl rfl)
theorem dX3_can_16 : decode cX3_can 16 = .ok (.invokevirtual 313, 3) := dk_182 1 57 (dk_at dksX3_can_0 16 rfl rfl)
theorem dX3_can_19 : decode cX3_can 19 = .ok (.ifCond .ne 5, 3) := dk_154 0 5 (dk_at dksX3_can_0 19 rfl rfl)
theorem dX3_can_22 : decode cX3_can 22 = .ok (.iconst 0, 1) := dk_3 (dk_at dksX3_can_0 22 rfl rfl)
theorem dX3_can_23 : decode cX3_can 23 = .ok (.ireturn, 1) := dk_172 (dk_at dksX3_can_0 23 rfl rfl)
theorem dX3_can_24 : decode cX3_can 24 = .ok (.aload_n 0, 1) := dk_42 (dk_at dksX3_can_1 0 rfl rfl)
theorem dX3_can_25 : decode cX3_can 25 = .ok (.sipush 504, 3) := dk_17 1 248 (dk_at dksX3_can_1 1 rfl rfl)
theorem dX3_can_28 : decode cX3_can 28 = .ok (.invokevirtual 316, 3) := dk_182 1 60 (dk_at dksX3_can_1 4 rfl rfl)
theorem dX3_can_31 : decode cX3_can 31 = .ok (.aload_n 0, 1) := dk_42 (dk_at dksX3_can_1 7 rfl rfl)
theorem dX3_can_32 : decode cX3_can 32 = .ok (.iload_n 1, 1) := dk_27 (dk_at dksX3_can_1 8 rfl rfl)
theorem dX3_can_33 : decode cX3_can 33 = .ok (.sipush 504, 3) := dk_17 1 248 (dk_at dksX3_can_1 9 rfl rfl)
theorem dX3_can_36 : decode cX3_can 36 = .ok (.iload_n 2, 1) := dk_28 (dk_at dksX3_can_1 12 rfl rfl)
theorem dX3_can_37 : decode cX3_can 37 = .ok (.invokevirtual 319, 3) := dk_182 1 63 (dk_at dksX3_can_1 13 rfl rfl)
theorem dX3_can_40 : decode cX3_can 40 = .ok (.ifCond .lt 7, 3) := dk_155 0 7 (dk_at dksX3_can_1 16 rfl rfl)
theorem dX3_can_43 : decode cX3_can 43 = .ok (.iconst 1, 1) := dk_4 (dk_at dksX3_can_1 19 rfl rfl)
theorem dX3_can_44 : decode cX3_can 44 = .ok (.goto 4, 3) := dk_167 0 4 (dk_at dksX3_can_1 20 rfl rfl)
theorem dX3_can_47 : decode cX3_can 47 = .ok (.iconst 0, 1) := dk_3 (dk_at dksX3_can_1 23 rfl rfl)
theorem dX3_can_48 : decode cX3_can 48 = .ok (.ireturn, 1) := dk_172 (dk_at dksX3_can_2 0 rfl rfl)
abbrev cX3_isOrder : ByteArray := prog_17_method_69_code
def yX3_isOrder : MethodName := ⟨RX3, "isOrder", "(I)Z"⟩
def dkwX3_isOrder_0 : List UInt8 := [26, 3, 16, 7, 184, 0, 90, 172]
abbrev dktX3_isOrder_0 : List UInt8 := dkwX3_isOrder_0 ++ []
theorem dksX3_isOrder_0 : cX3_isOrder.data.toList.drop 0 = dktX3_isOrder_0 := by decide +kernel
theorem dX3_isOrder_0 : decode cX3_isOrder 0 = .ok (.iload_n 0, 1) := dk_26 (dk_at dksX3_isOrder_0 0 rfl rfl)
theorem dX3_isOrder_1 : decode cX3_isOrder 1 = .ok (.iconst 0, 1) := dk_3 (dk_at dksX3_isOrder_0 1 rfl rfl)
theorem dX3_isOrder_2 : decode cX3_isOrder 2 = .ok (.bipush 7, 2) := dk_16 7 (dk_at dksX3_isOrder_0 2 rfl rfl)
theorem dX3_isOrder_4 : decode cX3_isOrder 4 = .ok (.invokestatic 90, 3) := dk_184 0 90 (dk_at dksX3_isOrder_0 4 rfl rfl)
theorem dX3_isOrder_7 : decode cX3_isOrder 7 = .ok (.ireturn, 1) := dk_172 (dk_at dksX3_isOrder_0 7 rfl rfl)
abbrev cX3_isFree : ByteArray := prog_17_method_72_code
def yX3_isFree : MethodName := ⟨RX3, "isFree", "(I)Z"⟩
def dkwX3_isFree_1 : List UInt8 := [154, 0, 7, 4, 167, 0, 4, 3, 172]
abbrev dktX3_isFree_1 : List UInt8 := dkwX3_isFree_1 ++ []
def dkwX3_isFree_0 : List UInt8 := [42, 180, 0, 7, 27, 7, 184, 0, 108, 46, 4, 160, 0, 20, 42, 180, 0, 7, 27, 6, 184, 0, 108, 46]
abbrev dktX3_isFree_0 : List UInt8 := dkwX3_isFree_0 ++ dktX3_isFree_1
theorem dksX3_isFree_0 : cX3_isFree.data.toList.drop 0 = dktX3_isFree_0 := by decide +kernel
theorem dksX3_isFree_1 : cX3_isFree.data.toList.drop 24 = dktX3_isFree_1 := dk_seg dksX3_isFree_0 24 rfl rfl
theorem dX3_isFree_0 : decode cX3_isFree 0 = .ok (.aload_n 0, 1) := dk_42 (dk_at dksX3_isFree_0 0 rfl rfl)
theorem dX3_isFree_1 : decode cX3_isFree 1 = .ok (.getfield 7, 3) := dk_180 0 7 (dk_at dksX3_isFree_0 1 rfl rfl)
theorem dX3_isFree_4 : decode cX3_isFree 4 = .ok (.iload_n 1, 1) := dk_27 (dk_at dksX3_isFree_0 4 rfl rfl)
theorem dX3_isFree_5 : decode cX3_isFree 5 = .ok (.iconst 4, 1) := dk_7 (dk_at dksX3_isFree_0 5 rfl rfl)
theorem dX3_isFree_6 : decode cX3_isFree 6 = .ok (.invokestatic 108, 3) := dk_184 0 108 (dk_at dksX3_isFree_0 6 rfl rfl)
theorem dX3_isFree_9 : decode cX3_isFree 9 = .ok (.iaload, 1) := dk_46 (dk_at dksX3_isFree_0 9 rfl rfl)
theorem dX3_isFree_10 : decode cX3_isFree 10 = .ok (.iconst 1, 1) := dk_4 (dk_at dksX3_isFree_0 10 rfl rfl)
theorem dX3_isFree_11 : decode cX3_isFree 11 = .ok (.if_icmp .ne 20, 3) := dk_160 0 20 (dk_at dksX3_isFree_0 11 rfl rfl)
theorem dX3_isFree_14 : decode cX3_isFree 14 = .ok (.aload_n 0, 1) := dk_42 (dk_at dksX3_isFree_0 14 rfl rfl)
theorem dX3_isFree_15 : decode cX3_isFree 15 = .ok (.getfield 7, 3) := dk_180 0 7 (dk_at dksX3_isFree_0 15 rfl rfl)
theorem dX3_isFree_18 : decode cX3_isFree 18 = .ok (.iload_n 1, 1) := dk_27 (dk_at dksX3_isFree_0 18 rfl rfl)
theorem dX3_isFree_19 : decode cX3_isFree 19 = .ok (.iconst 3, 1) := dk_6 (dk_at dksX3_isFree_0 19 rfl rfl)
theorem dX3_isFree_20 : decode cX3_isFree 20 = .ok (.invokestatic 108, 3) := dk_184 0 108 (dk_at dksX3_isFree_0 20 rfl rfl)
theorem dX3_isFree_23 : decode cX3_isFree 23 = .ok (.iaload, 1) := dk_46 (dk_at dksX3_isFree_0 23 rfl rfl)
theorem dX3_isFree_24 : decode cX3_isFree 24 = .ok (.ifCond .ne 7, 3) := dk_154 0 7 (dk_at dksX3_isFree_1 0 rfl rfl)
theorem dX3_isFree_27 : decode cX3_isFree 27 = .ok (.iconst 1, 1) := dk_4 (dk_at dksX3_isFree_1 3 rfl rfl)
theorem dX3_isFree_28 : decode cX3_isFree 28 = .ok (.goto 4, 3) := dk_167 0 4 (dk_at dksX3_isFree_1 4 rfl rfl)
theorem dX3_isFree_31 : decode cX3_isFree 31 = .ok (.iconst 0, 1) := dk_3 (dk_at dksX3_isFree_1 7 rfl rfl)
theorem dX3_isFree_32 : decode cX3_isFree 32 = .ok (.ireturn, 1) := dk_172 (dk_at dksX3_isFree_1 8 rfl rfl)
abbrev cX3_layNow : ByteArray := prog_17_method_68_code
def yX3_layNow : MethodName := ⟨RX3, "layNow", "(I)V"⟩
def dkwX3_layNow_1 : List UInt8 := [96, 46, 79, 132, 2, 1, 167, 255, 228, 177]
abbrev dktX3_layNow_1 : List UInt8 := dkwX3_layNow_1 ++ []
def dkwX3_layNow_0 : List UInt8 := [3, 61, 28, 42, 180, 0, 83, 162, 0, 26, 42, 180, 0, 43, 27, 28, 96, 42, 180, 0, 7, 16, 30, 28]
abbrev dktX3_layNow_0 : List UInt8 := dkwX3_layNow_0 ++ dktX3_layNow_1
theorem dksX3_layNow_0 : cX3_layNow.data.toList.drop 0 = dktX3_layNow_0 := by decide +kernel
theorem dksX3_layNow_1 : cX3_layNow.data.toList.drop 24 = dktX3_layNow_1 := dk_seg dksX3_layNow_0 24 rfl rfl
theorem dX3_layNow_0 : decode cX3_layNow 0 = .ok (.iconst 0, 1) := dk_3 (dk_at dksX3_layNow_0 0 rfl rfl)
theorem dX3_layNow_1 : decode cX3_layNow 1 = .ok (.istore_n 2, 1) := dk_61 (dk_at dksX3_layNow_0 1 rfl rfl)
theorem dX3_layNow_2 : decode cX3_layNow 2 = .ok (.iload_n 2, 1) := dk_28 (dk_at dksX3_layNow_0 2 rfl rfl)
theorem dX3_layNow_3 : decode cX3_layNow 3 = .ok (.aload_n 0, 1) := dk_42 (dk_at dksX3_layNow_0 3 rfl rfl)
theorem dX3_layNow_4 : decode cX3_layNow 4 = .ok (.getfield 83, 3) := dk_180 0 83 (dk_at dksX3_layNow_0 4 rfl rfl)
theorem dX3_layNow_7 : decode cX3_layNow 7 = .ok (.if_icmp .ge 26, 3) := dk_162 0 26 (dk_at dksX3_layNow_0 7 rfl rfl)
theorem dX3_layNow_10 : decode cX3_layNow 10 = .ok (.aload_n 0, 1) := dk_42 (dk_at dksX3_layNow_0 10 rfl rfl)
theorem dX3_layNow_11 : decode cX3_layNow 11 = .ok (.getfield 43, 3) := dk_180 0 43 (dk_at dksX3_layNow_0 11 rfl rfl)
theorem dX3_layNow_14 : decode cX3_layNow 14 = .ok (.iload_n 1, 1) := dk_27 (dk_at dksX3_layNow_0 14 rfl rfl)
theorem dX3_layNow_15 : decode cX3_layNow 15 = .ok (.iload_n 2, 1) := dk_28 (dk_at dksX3_layNow_0 15 rfl rfl)
theorem dX3_layNow_16 : decode cX3_layNow 16 = .ok (.iadd, 1) := dk_96 (dk_at dksX3_layNow_0 16 rfl rfl)
theorem dX3_layNow_17 : decode cX3_layNow 17 = .ok (.aload_n 0, 1) := dk_42 (dk_at dksX3_layNow_0 17 rfl rfl)
theorem dX3_layNow_18 : decode cX3_layNow 18 = .ok (.getfield 7, 3) := dk_180 0 7 (dk_at dksX3_layNow_0 18 rfl rfl)
theorem dX3_layNow_21 : decode cX3_layNow 21 = .ok (.bipush 30, 2) := dk_16 30 (dk_at dksX3_layNow_0 21 rfl rfl)
theorem dX3_layNow_23 : decode cX3_layNow 23 = .ok (.iload_n 2, 1) := dk_28 (dk_at dksX3_layNow_0 23 rfl rfl)
theorem dX3_layNow_24 : decode cX3_layNow 24 = .ok (.iadd, 1) := dk_96 (dk_at dksX3_layNow_1 0 rfl rfl)
theorem dX3_layNow_25 : decode cX3_layNow 25 = .ok (.iaload, 1) := dk_46 (dk_at dksX3_layNow_1 1 rfl rfl)
theorem dX3_layNow_26 : decode cX3_layNow 26 = .ok (.iastore, 1) := dk_79 (dk_at dksX3_layNow_1 2 rfl rfl)
theorem dX3_layNow_27 : decode cX3_layNow 27 = .ok (.iinc 2 1, 3) := dk_132 2 1 (dk_at dksX3_layNow_1 3 rfl rfl)
theorem dX3_layNow_30 : decode cX3_layNow 30 = .ok (.goto (-28), 3) := dk_167 255 228 (dk_at dksX3_layNow_1 6 rfl rfl)
theorem dX3_layNow_33 : decode cX3_layNow 33 = .ok (.return_, 1) := dk_177 (dk_at dksX3_layNow_1 9 rfl rfl)
abbrev cX3_costOf : ByteArray := prog_17_method_73_code
def yX3_costOf : MethodName := ⟨RX3, "costOf", "(III)I"⟩
def dkwX3_costOf_2 : List UInt8 := [182, 1, 50, 172]
abbrev dktX3_costOf_2 : List UInt8 := dkwX3_costOf_2 ++ []
def dkwX3_costOf_1 : List UInt8 := [180, 0, 7, 27, 5, 184, 0, 108, 46, 29, 42, 180, 0, 7, 4, 46, 42, 180, 0, 7, 3, 46]
abbrev dktX3_costOf_1 : List UInt8 := dkwX3_costOf_1 ++ dktX3_costOf_2
def dkwX3_costOf_0 : List UInt8 := [42, 28, 42, 180, 0, 7, 27, 3, 184, 0, 108, 46, 42, 180, 0, 7, 27, 4, 184, 0, 108, 46, 42]
abbrev dktX3_costOf_0 : List UInt8 := dkwX3_costOf_0 ++ dktX3_costOf_1
theorem dksX3_costOf_0 : cX3_costOf.data.toList.drop 0 = dktX3_costOf_0 := by decide +kernel
theorem dksX3_costOf_1 : cX3_costOf.data.toList.drop 23 = dktX3_costOf_1 := dk_seg dksX3_costOf_0 23 rfl rfl
theorem dksX3_costOf_2 : cX3_costOf.data.toList.drop 45 = dktX3_costOf_2 := dk_seg dksX3_costOf_1 22 rfl rfl
theorem dX3_costOf_0 : decode cX3_costOf 0 = .ok (.aload_n 0, 1) := dk_42 (dk_at dksX3_costOf_0 0 rfl rfl)
theorem dX3_costOf_1 : decode cX3_costOf 1 = .ok (.iload_n 2, 1) := dk_28 (dk_at dksX3_costOf_0 1 rfl rfl)
theorem dX3_costOf_2 : decode cX3_costOf 2 = .ok (.aload_n 0, 1) := dk_42 (dk_at dksX3_costOf_0 2 rfl rfl)
theorem dX3_costOf_3 : decode cX3_costOf 3 = .ok (.getfield 7, 3) := dk_180 0 7 (dk_at dksX3_costOf_0 3 rfl rfl)
theorem dX3_costOf_6 : decode cX3_costOf 6 = .ok (.iload_n 1, 1) := dk_27 (dk_at dksX3_costOf_0 6 rfl rfl)
theorem dX3_costOf_7 : decode cX3_costOf 7 = .ok (.iconst 0, 1) := dk_3 (dk_at dksX3_costOf_0 7 rfl rfl)
theorem dX3_costOf_8 : decode cX3_costOf 8 = .ok (.invokestatic 108, 3) := dk_184 0 108 (dk_at dksX3_costOf_0 8 rfl rfl)
theorem dX3_costOf_11 : decode cX3_costOf 11 = .ok (.iaload, 1) := dk_46 (dk_at dksX3_costOf_0 11 rfl rfl)
theorem dX3_costOf_12 : decode cX3_costOf 12 = .ok (.aload_n 0, 1) := dk_42 (dk_at dksX3_costOf_0 12 rfl rfl)
theorem dX3_costOf_13 : decode cX3_costOf 13 = .ok (.getfield 7, 3) := dk_180 0 7 (dk_at dksX3_costOf_0 13 rfl rfl)
theorem dX3_costOf_16 : decode cX3_costOf 16 = .ok (.iload_n 1, 1) := dk_27 (dk_at dksX3_costOf_0 16 rfl rfl)
theorem dX3_costOf_17 : decode cX3_costOf 17 = .ok (.iconst 1, 1) := dk_4 (dk_at dksX3_costOf_0 17 rfl rfl)
theorem dX3_costOf_18 : decode cX3_costOf 18 = .ok (.invokestatic 108, 3) := dk_184 0 108 (dk_at dksX3_costOf_0 18 rfl rfl)
theorem dX3_costOf_21 : decode cX3_costOf 21 = .ok (.iaload, 1) := dk_46 (dk_at dksX3_costOf_0 21 rfl rfl)
theorem dX3_costOf_22 : decode cX3_costOf 22 = .ok (.aload_n 0, 1) := dk_42 (dk_at dksX3_costOf_0 22 rfl rfl)
theorem dX3_costOf_23 : decode cX3_costOf 23 = .ok (.getfield 7, 3) := dk_180 0 7 (dk_at dksX3_costOf_1 0 rfl rfl)
theorem dX3_costOf_26 : decode cX3_costOf 26 = .ok (.iload_n 1, 1) := dk_27 (dk_at dksX3_costOf_1 3 rfl rfl)
theorem dX3_costOf_27 : decode cX3_costOf 27 = .ok (.iconst 2, 1) := dk_5 (dk_at dksX3_costOf_1 4 rfl rfl)
theorem dX3_costOf_28 : decode cX3_costOf 28 = .ok (.invokestatic 108, 3) := dk_184 0 108 (dk_at dksX3_costOf_1 5 rfl rfl)
theorem dX3_costOf_31 : decode cX3_costOf 31 = .ok (.iaload, 1) := dk_46 (dk_at dksX3_costOf_1 8 rfl rfl)
theorem dX3_costOf_32 : decode cX3_costOf 32 = .ok (.iload_n 3, 1) := dk_29 (dk_at dksX3_costOf_1 9 rfl rfl)
theorem dX3_costOf_33 : decode cX3_costOf 33 = .ok (.aload_n 0, 1) := dk_42 (dk_at dksX3_costOf_1 10 rfl rfl)
theorem dX3_costOf_34 : decode cX3_costOf 34 = .ok (.getfield 7, 3) := dk_180 0 7 (dk_at dksX3_costOf_1 11 rfl rfl)
theorem dX3_costOf_37 : decode cX3_costOf 37 = .ok (.iconst 1, 1) := dk_4 (dk_at dksX3_costOf_1 14 rfl rfl)
theorem dX3_costOf_38 : decode cX3_costOf 38 = .ok (.iaload, 1) := dk_46 (dk_at dksX3_costOf_1 15 rfl rfl)
theorem dX3_costOf_39 : decode cX3_costOf 39 = .ok (.aload_n 0, 1) := dk_42 (dk_at dksX3_costOf_1 16 rfl rfl)
theorem dX3_costOf_40 : decode cX3_costOf 40 = .ok (.getfield 7, 3) := dk_180 0 7 (dk_at dksX3_costOf_1 17 rfl rfl)
theorem dX3_costOf_43 : decode cX3_costOf 43 = .ok (.iconst 0, 1) := dk_3 (dk_at dksX3_costOf_1 20 rfl rfl)
theorem dX3_costOf_44 : decode cX3_costOf 44 = .ok (.iaload, 1) := dk_46 (dk_at dksX3_costOf_1 21 rfl rfl)
theorem dX3_costOf_45 : decode cX3_costOf 45 = .ok (.invokevirtual 306, 3) := dk_182 1 50 (dk_at dksX3_costOf_2 0 rfl rfl)
theorem dX3_costOf_48 : decode cX3_costOf 48 = .ok (.ireturn, 1) := dk_172 (dk_at dksX3_costOf_2 3 rfl rfl)
abbrev cX3_orderCost : ByteArray := prog_17_method_70_code
def yX3_orderCost : MethodName := ⟨RX3, "orderCost", "(IIIIIII)I"⟩
def dkwX3_orderCost_4 : List UInt8 := [180, 0, 7, 16, 10, 46, 54, 8, 21, 8, 29, 163, 0, 8, 21, 8, 167, 0, 4, 2, 172]
abbrev dktX3_orderCost_4 : List UInt8 := dkwX3_orderCost_4 ++ []
def dkwX3_orderCost_3 : List UInt8 := [182, 1, 46, 167, 0, 26, 21, 5, 7, 160, 0, 13, 42, 180, 0, 7, 16, 9, 46, 167, 0, 10, 42]
abbrev dktX3_orderCost_3 : List UInt8 := dkwX3_orderCost_3 ++ dktX3_orderCost_4
def dkwX3_orderCost_2 : List UInt8 := [160, 0, 5, 2, 172, 21, 5, 7, 162, 0, 22, 42, 27, 42, 28, 21, 5, 182, 1, 15, 21, 6, 21, 7]
abbrev dktX3_orderCost_2 : List UInt8 := dkwX3_orderCost_2 ++ dktX3_orderCost_3
def dkwX3_orderCost_1 : List UInt8 := [180, 0, 7, 16, 11, 46, 161, 0, 13, 42, 180, 0, 7, 16, 11, 46, 167, 0, 4, 2, 172, 21, 4, 4]
abbrev dktX3_orderCost_1 : List UInt8 := dkwX3_orderCost_1 ++ dktX3_orderCost_2
def dkwX3_orderCost_0 : List UInt8 := [21, 5, 16, 6, 160, 0, 5, 3, 172, 21, 5, 16, 7, 160, 0, 32, 21, 4, 4, 160, 0, 24, 29, 42]
abbrev dktX3_orderCost_0 : List UInt8 := dkwX3_orderCost_0 ++ dktX3_orderCost_1
theorem dksX3_orderCost_0 : cX3_orderCost.data.toList.drop 0 = dktX3_orderCost_0 := by decide +kernel
theorem dksX3_orderCost_1 : cX3_orderCost.data.toList.drop 24 = dktX3_orderCost_1 := dk_seg dksX3_orderCost_0 24 rfl rfl
theorem dksX3_orderCost_2 : cX3_orderCost.data.toList.drop 48 = dktX3_orderCost_2 := dk_seg dksX3_orderCost_1 24 rfl rfl
theorem dksX3_orderCost_3 : cX3_orderCost.data.toList.drop 72 = dktX3_orderCost_3 := dk_seg dksX3_orderCost_2 24 rfl rfl
theorem dksX3_orderCost_4 : cX3_orderCost.data.toList.drop 95 = dktX3_orderCost_4 := dk_seg dksX3_orderCost_3 23 rfl rfl
theorem dX3_orderCost_0 : decode cX3_orderCost 0 = .ok (.iload 5, 2) := dk_21 5 (dk_at dksX3_orderCost_0 0 rfl rfl)
theorem dX3_orderCost_2 : decode cX3_orderCost 2 = .ok (.bipush 6, 2) := dk_16 6 (dk_at dksX3_orderCost_0 2 rfl rfl)
theorem dX3_orderCost_4 : decode cX3_orderCost 4 = .ok (.if_icmp .ne 5, 3) := dk_160 0 5 (dk_at dksX3_orderCost_0 4 rfl rfl)
theorem dX3_orderCost_7 : decode cX3_orderCost 7 = .ok (.iconst 0, 1) := dk_3 (dk_at dksX3_orderCost_0 7 rfl rfl)
theorem dX3_orderCost_8 : decode cX3_orderCost 8 = .ok (.ireturn, 1) := dk_172 (dk_at dksX3_orderCost_0 8 rfl rfl)
theorem dX3_orderCost_9 : decode cX3_orderCost 9 = .ok (.iload 5, 2) := dk_21 5 (dk_at dksX3_orderCost_0 9 rfl rfl)
theorem dX3_orderCost_11 : decode cX3_orderCost 11 = .ok (.bipush 7, 2) := dk_16 7 (dk_at dksX3_orderCost_0 11 rfl rfl)
theorem dX3_orderCost_13 : decode cX3_orderCost 13 = .ok (.if_icmp .ne 32, 3) := dk_160 0 32 (dk_at dksX3_orderCost_0 13 rfl rfl)
theorem dX3_orderCost_16 : decode cX3_orderCost 16 = .ok (.iload 4, 2) := dk_21 4 (dk_at dksX3_orderCost_0 16 rfl rfl)
theorem dX3_orderCost_18 : decode cX3_orderCost 18 = .ok (.iconst 1, 1) := dk_4 (dk_at dksX3_orderCost_0 18 rfl rfl)
theorem dX3_orderCost_19 : decode cX3_orderCost 19 = .ok (.if_icmp .ne 24, 3) := dk_160 0 24 (dk_at dksX3_orderCost_0 19 rfl rfl)
theorem dX3_orderCost_22 : decode cX3_orderCost 22 = .ok (.iload_n 3, 1) := dk_29 (dk_at dksX3_orderCost_0 22 rfl rfl)
theorem dX3_orderCost_23 : decode cX3_orderCost 23 = .ok (.aload_n 0, 1) := dk_42 (dk_at dksX3_orderCost_0 23 rfl rfl)
theorem dX3_orderCost_24 : decode cX3_orderCost 24 = .ok (.getfield 7, 3) := dk_180 0 7 (dk_at dksX3_orderCost_1 0 rfl rfl)
theorem dX3_orderCost_27 : decode cX3_orderCost 27 = .ok (.bipush 11, 2) := dk_16 11 (dk_at dksX3_orderCost_1 3 rfl rfl)
theorem dX3_orderCost_29 : decode cX3_orderCost 29 = .ok (.iaload, 1) := dk_46 (dk_at dksX3_orderCost_1 5 rfl rfl)
theorem dX3_orderCost_30 : decode cX3_orderCost 30 = .ok (.if_icmp .lt 13, 3) := dk_161 0 13 (dk_at dksX3_orderCost_1 6 rfl rfl)
theorem dX3_orderCost_33 : decode cX3_orderCost 33 = .ok (.aload_n 0, 1) := dk_42 (dk_at dksX3_orderCost_1 9 rfl rfl)
theorem dX3_orderCost_34 : decode cX3_orderCost 34 = .ok (.getfield 7, 3) := dk_180 0 7 (dk_at dksX3_orderCost_1 10 rfl rfl)
theorem dX3_orderCost_37 : decode cX3_orderCost 37 = .ok (.bipush 11, 2) := dk_16 11 (dk_at dksX3_orderCost_1 13 rfl rfl)
theorem dX3_orderCost_39 : decode cX3_orderCost 39 = .ok (.iaload, 1) := dk_46 (dk_at dksX3_orderCost_1 15 rfl rfl)
theorem dX3_orderCost_40 : decode cX3_orderCost 40 = .ok (.goto 4, 3) := dk_167 0 4 (dk_at dksX3_orderCost_1 16 rfl rfl)
theorem dX3_orderCost_43 : decode cX3_orderCost 43 = .ok (.iconst (-1), 1) := dk_2 (dk_at dksX3_orderCost_1 19 rfl rfl)
theorem dX3_orderCost_44 : decode cX3_orderCost 44 = .ok (.ireturn, 1) := dk_172 (dk_at dksX3_orderCost_1 20 rfl rfl)
theorem dX3_orderCost_45 : decode cX3_orderCost 45 = .ok (.iload 4, 2) := dk_21 4 (dk_at dksX3_orderCost_1 21 rfl rfl)
theorem dX3_orderCost_47 : decode cX3_orderCost 47 = .ok (.iconst 1, 1) := dk_4 (dk_at dksX3_orderCost_1 23 rfl rfl)
theorem dX3_orderCost_48 : decode cX3_orderCost 48 = .ok (.if_icmp .ne 5, 3) := dk_160 0 5 (dk_at dksX3_orderCost_2 0 rfl rfl)
theorem dX3_orderCost_51 : decode cX3_orderCost 51 = .ok (.iconst (-1), 1) := dk_2 (dk_at dksX3_orderCost_2 3 rfl rfl)
theorem dX3_orderCost_52 : decode cX3_orderCost 52 = .ok (.ireturn, 1) := dk_172 (dk_at dksX3_orderCost_2 4 rfl rfl)
theorem dX3_orderCost_53 : decode cX3_orderCost 53 = .ok (.iload 5, 2) := dk_21 5 (dk_at dksX3_orderCost_2 5 rfl rfl)
theorem dX3_orderCost_55 : decode cX3_orderCost 55 = .ok (.iconst 4, 1) := dk_7 (dk_at dksX3_orderCost_2 7 rfl rfl)
theorem dX3_orderCost_56 : decode cX3_orderCost 56 = .ok (.if_icmp .ge 22, 3) := dk_162 0 22 (dk_at dksX3_orderCost_2 8 rfl rfl)
theorem dX3_orderCost_59 : decode cX3_orderCost 59 = .ok (.aload_n 0, 1) := dk_42 (dk_at dksX3_orderCost_2 11 rfl rfl)
theorem dX3_orderCost_60 : decode cX3_orderCost 60 = .ok (.iload_n 1, 1) := dk_27 (dk_at dksX3_orderCost_2 12 rfl rfl)
theorem dX3_orderCost_61 : decode cX3_orderCost 61 = .ok (.aload_n 0, 1) := dk_42 (dk_at dksX3_orderCost_2 13 rfl rfl)
theorem dX3_orderCost_62 : decode cX3_orderCost 62 = .ok (.iload_n 2, 1) := dk_28 (dk_at dksX3_orderCost_2 14 rfl rfl)
theorem dX3_orderCost_63 : decode cX3_orderCost 63 = .ok (.iload 5, 2) := dk_21 5 (dk_at dksX3_orderCost_2 15 rfl rfl)
theorem dX3_orderCost_65 : decode cX3_orderCost 65 = .ok (.invokevirtual 271, 3) := dk_182 1 15 (dk_at dksX3_orderCost_2 17 rfl rfl)
theorem dX3_orderCost_68 : decode cX3_orderCost 68 = .ok (.iload 6, 2) := dk_21 6 (dk_at dksX3_orderCost_2 20 rfl rfl)
theorem dX3_orderCost_70 : decode cX3_orderCost 70 = .ok (.iload 7, 2) := dk_21 7 (dk_at dksX3_orderCost_2 22 rfl rfl)
theorem dX3_orderCost_72 : decode cX3_orderCost 72 = .ok (.invokevirtual 302, 3) := dk_182 1 46 (dk_at dksX3_orderCost_3 0 rfl rfl)
theorem dX3_orderCost_75 : decode cX3_orderCost 75 = .ok (.goto 26, 3) := dk_167 0 26 (dk_at dksX3_orderCost_3 3 rfl rfl)
theorem dX3_orderCost_78 : decode cX3_orderCost 78 = .ok (.iload 5, 2) := dk_21 5 (dk_at dksX3_orderCost_3 6 rfl rfl)
theorem dX3_orderCost_80 : decode cX3_orderCost 80 = .ok (.iconst 4, 1) := dk_7 (dk_at dksX3_orderCost_3 8 rfl rfl)
theorem dX3_orderCost_81 : decode cX3_orderCost 81 = .ok (.if_icmp .ne 13, 3) := dk_160 0 13 (dk_at dksX3_orderCost_3 9 rfl rfl)
theorem dX3_orderCost_84 : decode cX3_orderCost 84 = .ok (.aload_n 0, 1) := dk_42 (dk_at dksX3_orderCost_3 12 rfl rfl)
theorem dX3_orderCost_85 : decode cX3_orderCost 85 = .ok (.getfield 7, 3) := dk_180 0 7 (dk_at dksX3_orderCost_3 13 rfl rfl)
theorem dX3_orderCost_88 : decode cX3_orderCost 88 = .ok (.bipush 9, 2) := dk_16 9 (dk_at dksX3_orderCost_3 16 rfl rfl)
theorem dX3_orderCost_90 : decode cX3_orderCost 90 = .ok (.iaload, 1) := dk_46 (dk_at dksX3_orderCost_3 18 rfl rfl)
theorem dX3_orderCost_91 : decode cX3_orderCost 91 = .ok (.goto 10, 3) := dk_167 0 10 (dk_at dksX3_orderCost_3 19 rfl rfl)
theorem dX3_orderCost_94 : decode cX3_orderCost 94 = .ok (.aload_n 0, 1) := dk_42 (dk_at dksX3_orderCost_3 22 rfl rfl)
theorem dX3_orderCost_95 : decode cX3_orderCost 95 = .ok (.getfield 7, 3) := dk_180 0 7 (dk_at dksX3_orderCost_4 0 rfl rfl)
theorem dX3_orderCost_98 : decode cX3_orderCost 98 = .ok (.bipush 10, 2) := dk_16 10 (dk_at dksX3_orderCost_4 3 rfl rfl)
theorem dX3_orderCost_100 : decode cX3_orderCost 100 = .ok (.iaload, 1) := dk_46 (dk_at dksX3_orderCost_4 5 rfl rfl)
theorem dX3_orderCost_101 : decode cX3_orderCost 101 = .ok (.istore 8, 2) := dk_54 8 (dk_at dksX3_orderCost_4 6 rfl rfl)
theorem dX3_orderCost_103 : decode cX3_orderCost 103 = .ok (.iload 8, 2) := dk_21 8 (dk_at dksX3_orderCost_4 8 rfl rfl)
theorem dX3_orderCost_105 : decode cX3_orderCost 105 = .ok (.iload_n 3, 1) := dk_29 (dk_at dksX3_orderCost_4 10 rfl rfl)
theorem dX3_orderCost_106 : decode cX3_orderCost 106 = .ok (.if_icmp .gt 8, 3) := dk_163 0 8 (dk_at dksX3_orderCost_4 11 rfl rfl)
theorem dX3_orderCost_109 : decode cX3_orderCost 109 = .ok (.iload 8, 2) := dk_21 8 (dk_at dksX3_orderCost_4 14 rfl rfl)
theorem dX3_orderCost_111 : decode cX3_orderCost 111 = .ok (.goto 4, 3) := dk_167 0 4 (dk_at dksX3_orderCost_4 16 rfl rfl)
theorem dX3_orderCost_114 : decode cX3_orderCost 114 = .ok (.iconst (-1), 1) := dk_2 (dk_at dksX3_orderCost_4 19 rfl rfl)
theorem dX3_orderCost_115 : decode cX3_orderCost 115 = .ok (.ireturn, 1) := dk_172 (dk_at dksX3_orderCost_4 20 rfl rfl)
abbrev cX3_pushed : ByteArray := prog_17_method_7_code
def yX3_pushed : MethodName := ⟨RX3, "pushed", "(II)I"⟩
def dkwX3_pushed_1 : List UInt8 := [160, 0, 7, 4, 167, 0, 12, 28, 154, 0, 7, 2, 167, 0, 4, 3, 182, 0, 94, 172]
abbrev dktX3_pushed_1 : List UInt8 := dkwX3_pushed_1 ++ []
def dkwX3_pushed_0 : List UInt8 := [42, 27, 28, 4, 160, 0, 7, 4, 167, 0, 13, 28, 6, 160, 0, 7, 2, 167, 0, 4, 3, 28, 5]
abbrev dktX3_pushed_0 : List UInt8 := dkwX3_pushed_0 ++ dktX3_pushed_1
theorem dksX3_pushed_0 : cX3_pushed.data.toList.drop 0 = dktX3_pushed_0 := by decide +kernel
theorem dksX3_pushed_1 : cX3_pushed.data.toList.drop 23 = dktX3_pushed_1 := dk_seg dksX3_pushed_0 23 rfl rfl
theorem dX3_pushed_0 : decode cX3_pushed 0 = .ok (.aload_n 0, 1) := dk_42 (dk_at dksX3_pushed_0 0 rfl rfl)
theorem dX3_pushed_1 : decode cX3_pushed 1 = .ok (.iload_n 1, 1) := dk_27 (dk_at dksX3_pushed_0 1 rfl rfl)
theorem dX3_pushed_2 : decode cX3_pushed 2 = .ok (.iload_n 2, 1) := dk_28 (dk_at dksX3_pushed_0 2 rfl rfl)
theorem dX3_pushed_3 : decode cX3_pushed 3 = .ok (.iconst 1, 1) := dk_4 (dk_at dksX3_pushed_0 3 rfl rfl)
theorem dX3_pushed_4 : decode cX3_pushed 4 = .ok (.if_icmp .ne 7, 3) := dk_160 0 7 (dk_at dksX3_pushed_0 4 rfl rfl)
theorem dX3_pushed_7 : decode cX3_pushed 7 = .ok (.iconst 1, 1) := dk_4 (dk_at dksX3_pushed_0 7 rfl rfl)
theorem dX3_pushed_8 : decode cX3_pushed 8 = .ok (.goto 13, 3) := dk_167 0 13 (dk_at dksX3_pushed_0 8 rfl rfl)
theorem dX3_pushed_11 : decode cX3_pushed 11 = .ok (.iload_n 2, 1) := dk_28 (dk_at dksX3_pushed_0 11 rfl rfl)
theorem dX3_pushed_12 : decode cX3_pushed 12 = .ok (.iconst 3, 1) := dk_6 (dk_at dksX3_pushed_0 12 rfl rfl)
theorem dX3_pushed_13 : decode cX3_pushed 13 = .ok (.if_icmp .ne 7, 3) := dk_160 0 7 (dk_at dksX3_pushed_0 13 rfl rfl)
theorem dX3_pushed_16 : decode cX3_pushed 16 = .ok (.iconst (-1), 1) := dk_2 (dk_at dksX3_pushed_0 16 rfl rfl)
theorem dX3_pushed_17 : decode cX3_pushed 17 = .ok (.goto 4, 3) := dk_167 0 4 (dk_at dksX3_pushed_0 17 rfl rfl)
theorem dX3_pushed_20 : decode cX3_pushed 20 = .ok (.iconst 0, 1) := dk_3 (dk_at dksX3_pushed_0 20 rfl rfl)
theorem dX3_pushed_21 : decode cX3_pushed 21 = .ok (.iload_n 2, 1) := dk_28 (dk_at dksX3_pushed_0 21 rfl rfl)
theorem dX3_pushed_22 : decode cX3_pushed 22 = .ok (.iconst 2, 1) := dk_5 (dk_at dksX3_pushed_0 22 rfl rfl)
theorem dX3_pushed_23 : decode cX3_pushed 23 = .ok (.if_icmp .ne 7, 3) := dk_160 0 7 (dk_at dksX3_pushed_1 0 rfl rfl)
theorem dX3_pushed_26 : decode cX3_pushed 26 = .ok (.iconst 1, 1) := dk_4 (dk_at dksX3_pushed_1 3 rfl rfl)
theorem dX3_pushed_27 : decode cX3_pushed 27 = .ok (.goto 12, 3) := dk_167 0 12 (dk_at dksX3_pushed_1 4 rfl rfl)
theorem dX3_pushed_30 : decode cX3_pushed 30 = .ok (.iload_n 2, 1) := dk_28 (dk_at dksX3_pushed_1 7 rfl rfl)
theorem dX3_pushed_31 : decode cX3_pushed 31 = .ok (.ifCond .ne 7, 3) := dk_154 0 7 (dk_at dksX3_pushed_1 8 rfl rfl)
theorem dX3_pushed_34 : decode cX3_pushed 34 = .ok (.iconst (-1), 1) := dk_2 (dk_at dksX3_pushed_1 11 rfl rfl)
theorem dX3_pushed_35 : decode cX3_pushed 35 = .ok (.goto 4, 3) := dk_167 0 4 (dk_at dksX3_pushed_1 12 rfl rfl)
theorem dX3_pushed_38 : decode cX3_pushed 38 = .ok (.iconst 0, 1) := dk_3 (dk_at dksX3_pushed_1 15 rfl rfl)
theorem dX3_pushed_39 : decode cX3_pushed 39 = .ok (.invokevirtual 94, 3) := dk_182 0 94 (dk_at dksX3_pushed_1 16 rfl rfl)
theorem dX3_pushed_42 : decode cX3_pushed 42 = .ok (.ireturn, 1) := dk_172 (dk_at dksX3_pushed_1 19 rfl rfl)
abbrev cX3_besideBy : ByteArray := prog_17_method_6_code
def yX3_besideBy : MethodName := ⟨RX3, "besideBy", "(III)I"⟩
def dkwX3_besideBy_2 : List UInt8 := [153, 0, 16, 21, 4, 42, 180, 0, 77, 21, 5, 104, 96, 167, 0, 4, 2, 172]
abbrev dktX3_besideBy_2 : List UInt8 := dkwX3_besideBy_2 ++ []
def dkwX3_besideBy_1 : List UInt8 := [180, 0, 77, 4, 100, 184, 0, 90, 153, 0, 31, 21, 5, 3, 42, 180, 0, 80, 4, 100, 184, 0, 90]
abbrev dktX3_besideBy_1 : List UInt8 := dkwX3_besideBy_1 ++ dktX3_besideBy_2
def dkwX3_besideBy_0 : List UInt8 := [27, 42, 180, 0, 77, 112, 28, 96, 54, 4, 27, 42, 180, 0, 77, 108, 29, 96, 54, 5, 21, 4, 3, 42]
abbrev dktX3_besideBy_0 : List UInt8 := dkwX3_besideBy_0 ++ dktX3_besideBy_1
theorem dksX3_besideBy_0 : cX3_besideBy.data.toList.drop 0 = dktX3_besideBy_0 := by decide +kernel
theorem dksX3_besideBy_1 : cX3_besideBy.data.toList.drop 24 = dktX3_besideBy_1 := dk_seg dksX3_besideBy_0 24 rfl rfl
theorem dksX3_besideBy_2 : cX3_besideBy.data.toList.drop 47 = dktX3_besideBy_2 := dk_seg dksX3_besideBy_1 23 rfl rfl
theorem dX3_besideBy_0 : decode cX3_besideBy 0 = .ok (.iload_n 1, 1) := dk_27 (dk_at dksX3_besideBy_0 0 rfl rfl)
theorem dX3_besideBy_1 : decode cX3_besideBy 1 = .ok (.aload_n 0, 1) := dk_42 (dk_at dksX3_besideBy_0 1 rfl rfl)
theorem dX3_besideBy_2 : decode cX3_besideBy 2 = .ok (.getfield 77, 3) := dk_180 0 77 (dk_at dksX3_besideBy_0 2 rfl rfl)
theorem dX3_besideBy_5 : decode cX3_besideBy 5 = .ok (.irem, 1) := dk_112 (dk_at dksX3_besideBy_0 5 rfl rfl)
theorem dX3_besideBy_6 : decode cX3_besideBy 6 = .ok (.iload_n 2, 1) := dk_28 (dk_at dksX3_besideBy_0 6 rfl rfl)
theorem dX3_besideBy_7 : decode cX3_besideBy 7 = .ok (.iadd, 1) := dk_96 (dk_at dksX3_besideBy_0 7 rfl rfl)
theorem dX3_besideBy_8 : decode cX3_besideBy 8 = .ok (.istore 4, 2) := dk_54 4 (dk_at dksX3_besideBy_0 8 rfl rfl)
theorem dX3_besideBy_10 : decode cX3_besideBy 10 = .ok (.iload_n 1, 1) := dk_27 (dk_at dksX3_besideBy_0 10 rfl rfl)
theorem dX3_besideBy_11 : decode cX3_besideBy 11 = .ok (.aload_n 0, 1) := dk_42 (dk_at dksX3_besideBy_0 11 rfl rfl)
theorem dX3_besideBy_12 : decode cX3_besideBy 12 = .ok (.getfield 77, 3) := dk_180 0 77 (dk_at dksX3_besideBy_0 12 rfl rfl)
theorem dX3_besideBy_15 : decode cX3_besideBy 15 = .ok (.idiv, 1) := dk_108 (dk_at dksX3_besideBy_0 15 rfl rfl)
theorem dX3_besideBy_16 : decode cX3_besideBy 16 = .ok (.iload_n 3, 1) := dk_29 (dk_at dksX3_besideBy_0 16 rfl rfl)
theorem dX3_besideBy_17 : decode cX3_besideBy 17 = .ok (.iadd, 1) := dk_96 (dk_at dksX3_besideBy_0 17 rfl rfl)
theorem dX3_besideBy_18 : decode cX3_besideBy 18 = .ok (.istore 5, 2) := dk_54 5 (dk_at dksX3_besideBy_0 18 rfl rfl)
theorem dX3_besideBy_20 : decode cX3_besideBy 20 = .ok (.iload 4, 2) := dk_21 4 (dk_at dksX3_besideBy_0 20 rfl rfl)
theorem dX3_besideBy_22 : decode cX3_besideBy 22 = .ok (.iconst 0, 1) := dk_3 (dk_at dksX3_besideBy_0 22 rfl rfl)
theorem dX3_besideBy_23 : decode cX3_besideBy 23 = .ok (.aload_n 0, 1) := dk_42 (dk_at dksX3_besideBy_0 23 rfl rfl)
theorem dX3_besideBy_24 : decode cX3_besideBy 24 = .ok (.getfield 77, 3) := dk_180 0 77 (dk_at dksX3_besideBy_1 0 rfl rfl)
theorem dX3_besideBy_27 : decode cX3_besideBy 27 = .ok (.iconst 1, 1) := dk_4 (dk_at dksX3_besideBy_1 3 rfl rfl)
theorem dX3_besideBy_28 : decode cX3_besideBy 28 = .ok (.isub, 1) := dk_100 (dk_at dksX3_besideBy_1 4 rfl rfl)
theorem dX3_besideBy_29 : decode cX3_besideBy 29 = .ok (.invokestatic 90, 3) := dk_184 0 90 (dk_at dksX3_besideBy_1 5 rfl rfl)
theorem dX3_besideBy_32 : decode cX3_besideBy 32 = .ok (.ifCond .eq 31, 3) := dk_153 0 31 (dk_at dksX3_besideBy_1 8 rfl rfl)
theorem dX3_besideBy_35 : decode cX3_besideBy 35 = .ok (.iload 5, 2) := dk_21 5 (dk_at dksX3_besideBy_1 11 rfl rfl)
theorem dX3_besideBy_37 : decode cX3_besideBy 37 = .ok (.iconst 0, 1) := dk_3 (dk_at dksX3_besideBy_1 13 rfl rfl)
theorem dX3_besideBy_38 : decode cX3_besideBy 38 = .ok (.aload_n 0, 1) := dk_42 (dk_at dksX3_besideBy_1 14 rfl rfl)
theorem dX3_besideBy_39 : decode cX3_besideBy 39 = .ok (.getfield 80, 3) := dk_180 0 80 (dk_at dksX3_besideBy_1 15 rfl rfl)
theorem dX3_besideBy_42 : decode cX3_besideBy 42 = .ok (.iconst 1, 1) := dk_4 (dk_at dksX3_besideBy_1 18 rfl rfl)
theorem dX3_besideBy_43 : decode cX3_besideBy 43 = .ok (.isub, 1) := dk_100 (dk_at dksX3_besideBy_1 19 rfl rfl)
theorem dX3_besideBy_44 : decode cX3_besideBy 44 = .ok (.invokestatic 90, 3) := dk_184 0 90 (dk_at dksX3_besideBy_1 20 rfl rfl)
theorem dX3_besideBy_47 : decode cX3_besideBy 47 = .ok (.ifCond .eq 16, 3) := dk_153 0 16 (dk_at dksX3_besideBy_2 0 rfl rfl)
theorem dX3_besideBy_50 : decode cX3_besideBy 50 = .ok (.iload 4, 2) := dk_21 4 (dk_at dksX3_besideBy_2 3 rfl rfl)
theorem dX3_besideBy_52 : decode cX3_besideBy 52 = .ok (.aload_n 0, 1) := dk_42 (dk_at dksX3_besideBy_2 5 rfl rfl)
theorem dX3_besideBy_53 : decode cX3_besideBy 53 = .ok (.getfield 77, 3) := dk_180 0 77 (dk_at dksX3_besideBy_2 6 rfl rfl)
theorem dX3_besideBy_56 : decode cX3_besideBy 56 = .ok (.iload 5, 2) := dk_21 5 (dk_at dksX3_besideBy_2 9 rfl rfl)
theorem dX3_besideBy_58 : decode cX3_besideBy 58 = .ok (.imul, 1) := dk_104 (dk_at dksX3_besideBy_2 11 rfl rfl)
theorem dX3_besideBy_59 : decode cX3_besideBy 59 = .ok (.iadd, 1) := dk_96 (dk_at dksX3_besideBy_2 12 rfl rfl)
theorem dX3_besideBy_60 : decode cX3_besideBy 60 = .ok (.goto 4, 3) := dk_167 0 4 (dk_at dksX3_besideBy_2 13 rfl rfl)
theorem dX3_besideBy_63 : decode cX3_besideBy 63 = .ok (.iconst (-1), 1) := dk_2 (dk_at dksX3_besideBy_2 16 rfl rfl)
theorem dX3_besideBy_64 : decode cX3_besideBy 64 = .ok (.ireturn, 1) := dk_172 (dk_at dksX3_besideBy_2 17 rfl rfl)
abbrev cX3_pushCost : ByteArray := prog_17_method_62_code
def yX3_pushCost : MethodName := ⟨RX3, "pushCost", "(IIII)I"⟩
def dkwX3_pushCost_2 : List UInt8 := [27, 28, 96, 46, 16, 10, 108, 96, 182, 1, 40, 167, 0, 4, 2, 172]
abbrev dktX3_pushCost_2 : List UInt8 := dkwX3_pushCost_2 ++ []
def dkwX3_pushCost_1 : List UInt8 := [46, 16, 30, 163, 0, 7, 4, 167, 0, 4, 3, 182, 1, 36, 153, 0, 24, 42, 8, 4, 42, 180, 0, 43]
abbrev dktX3_pushCost_1 : List UInt8 := dkwX3_pushCost_1 ++ dktX3_pushCost_2
def dkwX3_pushCost_0 : List UInt8 := [28, 156, 0, 5, 2, 172, 42, 27, 28, 29, 21, 4, 182, 1, 32, 42, 4, 42, 180, 0, 43, 27, 28, 96]
abbrev dktX3_pushCost_0 : List UInt8 := dkwX3_pushCost_0 ++ dktX3_pushCost_1
theorem dksX3_pushCost_0 : cX3_pushCost.data.toList.drop 0 = dktX3_pushCost_0 := by decide +kernel
theorem dksX3_pushCost_1 : cX3_pushCost.data.toList.drop 24 = dktX3_pushCost_1 := dk_seg dksX3_pushCost_0 24 rfl rfl
theorem dksX3_pushCost_2 : cX3_pushCost.data.toList.drop 48 = dktX3_pushCost_2 := dk_seg dksX3_pushCost_1 24 rfl rfl
theorem dX3_pushCost_0 : decode cX3_pushCost 0 = .ok (.iload_n 2, 1) := dk_28 (dk_at dksX3_pushCost_0 0 rfl rfl)
theorem dX3_pushCost_1 : decode cX3_pushCost 1 = .ok (.ifCond .ge 5, 3) := dk_156 0 5 (dk_at dksX3_pushCost_0 1 rfl rfl)
theorem dX3_pushCost_4 : decode cX3_pushCost 4 = .ok (.iconst (-1), 1) := dk_2 (dk_at dksX3_pushCost_0 4 rfl rfl)
theorem dX3_pushCost_5 : decode cX3_pushCost 5 = .ok (.ireturn, 1) := dk_172 (dk_at dksX3_pushCost_0 5 rfl rfl)
theorem dX3_pushCost_6 : decode cX3_pushCost 6 = .ok (.aload_n 0, 1) := dk_42 (dk_at dksX3_pushCost_0 6 rfl rfl)
theorem dX3_pushCost_7 : decode cX3_pushCost 7 = .ok (.iload_n 1, 1) := dk_27 (dk_at dksX3_pushCost_0 7 rfl rfl)
theorem dX3_pushCost_8 : decode cX3_pushCost 8 = .ok (.iload_n 2, 1) := dk_28 (dk_at dksX3_pushCost_0 8 rfl rfl)
theorem dX3_pushCost_9 : decode cX3_pushCost 9 = .ok (.iload_n 3, 1) := dk_29 (dk_at dksX3_pushCost_0 9 rfl rfl)
theorem dX3_pushCost_10 : decode cX3_pushCost 10 = .ok (.iload 4, 2) := dk_21 4 (dk_at dksX3_pushCost_0 10 rfl rfl)
theorem dX3_pushCost_12 : decode cX3_pushCost 12 = .ok (.invokevirtual 288, 3) := dk_182 1 32 (dk_at dksX3_pushCost_0 12 rfl rfl)
theorem dX3_pushCost_15 : decode cX3_pushCost 15 = .ok (.aload_n 0, 1) := dk_42 (dk_at dksX3_pushCost_0 15 rfl rfl)
theorem dX3_pushCost_16 : decode cX3_pushCost 16 = .ok (.iconst 1, 1) := dk_4 (dk_at dksX3_pushCost_0 16 rfl rfl)
theorem dX3_pushCost_17 : decode cX3_pushCost 17 = .ok (.aload_n 0, 1) := dk_42 (dk_at dksX3_pushCost_0 17 rfl rfl)
theorem dX3_pushCost_18 : decode cX3_pushCost 18 = .ok (.getfield 43, 3) := dk_180 0 43 (dk_at dksX3_pushCost_0 18 rfl rfl)
theorem dX3_pushCost_21 : decode cX3_pushCost 21 = .ok (.iload_n 1, 1) := dk_27 (dk_at dksX3_pushCost_0 21 rfl rfl)
theorem dX3_pushCost_22 : decode cX3_pushCost 22 = .ok (.iload_n 2, 1) := dk_28 (dk_at dksX3_pushCost_0 22 rfl rfl)
theorem dX3_pushCost_23 : decode cX3_pushCost 23 = .ok (.iadd, 1) := dk_96 (dk_at dksX3_pushCost_0 23 rfl rfl)
theorem dX3_pushCost_24 : decode cX3_pushCost 24 = .ok (.iaload, 1) := dk_46 (dk_at dksX3_pushCost_1 0 rfl rfl)
theorem dX3_pushCost_25 : decode cX3_pushCost 25 = .ok (.bipush 30, 2) := dk_16 30 (dk_at dksX3_pushCost_1 1 rfl rfl)
theorem dX3_pushCost_27 : decode cX3_pushCost 27 = .ok (.if_icmp .gt 7, 3) := dk_163 0 7 (dk_at dksX3_pushCost_1 3 rfl rfl)
theorem dX3_pushCost_30 : decode cX3_pushCost 30 = .ok (.iconst 1, 1) := dk_4 (dk_at dksX3_pushCost_1 6 rfl rfl)
theorem dX3_pushCost_31 : decode cX3_pushCost 31 = .ok (.goto 4, 3) := dk_167 0 4 (dk_at dksX3_pushCost_1 7 rfl rfl)
theorem dX3_pushCost_34 : decode cX3_pushCost 34 = .ok (.iconst 0, 1) := dk_3 (dk_at dksX3_pushCost_1 10 rfl rfl)
theorem dX3_pushCost_35 : decode cX3_pushCost 35 = .ok (.invokevirtual 292, 3) := dk_182 1 36 (dk_at dksX3_pushCost_1 11 rfl rfl)
theorem dX3_pushCost_38 : decode cX3_pushCost 38 = .ok (.ifCond .eq 24, 3) := dk_153 0 24 (dk_at dksX3_pushCost_1 14 rfl rfl)
theorem dX3_pushCost_41 : decode cX3_pushCost 41 = .ok (.aload_n 0, 1) := dk_42 (dk_at dksX3_pushCost_1 17 rfl rfl)
theorem dX3_pushCost_42 : decode cX3_pushCost 42 = .ok (.iconst 5, 1) := dk_8 (dk_at dksX3_pushCost_1 18 rfl rfl)
theorem dX3_pushCost_43 : decode cX3_pushCost 43 = .ok (.iconst 1, 1) := dk_4 (dk_at dksX3_pushCost_1 19 rfl rfl)
theorem dX3_pushCost_44 : decode cX3_pushCost 44 = .ok (.aload_n 0, 1) := dk_42 (dk_at dksX3_pushCost_1 20 rfl rfl)
theorem dX3_pushCost_45 : decode cX3_pushCost 45 = .ok (.getfield 43, 3) := dk_180 0 43 (dk_at dksX3_pushCost_1 21 rfl rfl)
theorem dX3_pushCost_48 : decode cX3_pushCost 48 = .ok (.iload_n 1, 1) := dk_27 (dk_at dksX3_pushCost_2 0 rfl rfl)
theorem dX3_pushCost_49 : decode cX3_pushCost 49 = .ok (.iload_n 2, 1) := dk_28 (dk_at dksX3_pushCost_2 1 rfl rfl)
theorem dX3_pushCost_50 : decode cX3_pushCost 50 = .ok (.iadd, 1) := dk_96 (dk_at dksX3_pushCost_2 2 rfl rfl)
theorem dX3_pushCost_51 : decode cX3_pushCost 51 = .ok (.iaload, 1) := dk_46 (dk_at dksX3_pushCost_2 3 rfl rfl)
theorem dX3_pushCost_52 : decode cX3_pushCost 52 = .ok (.bipush 10, 2) := dk_16 10 (dk_at dksX3_pushCost_2 4 rfl rfl)
theorem dX3_pushCost_54 : decode cX3_pushCost 54 = .ok (.idiv, 1) := dk_108 (dk_at dksX3_pushCost_2 6 rfl rfl)
theorem dX3_pushCost_55 : decode cX3_pushCost 55 = .ok (.iadd, 1) := dk_96 (dk_at dksX3_pushCost_2 7 rfl rfl)
theorem dX3_pushCost_56 : decode cX3_pushCost 56 = .ok (.invokevirtual 296, 3) := dk_182 1 40 (dk_at dksX3_pushCost_2 8 rfl rfl)
theorem dX3_pushCost_59 : decode cX3_pushCost 59 = .ok (.goto 4, 3) := dk_167 0 4 (dk_at dksX3_pushCost_2 11 rfl rfl)
theorem dX3_pushCost_62 : decode cX3_pushCost 62 = .ok (.iconst (-1), 1) := dk_2 (dk_at dksX3_pushCost_2 14 rfl rfl)
theorem dX3_pushCost_63 : decode cX3_pushCost 63 = .ok (.ireturn, 1) := dk_172 (dk_at dksX3_pushCost_2 15 rfl rfl)
abbrev cX3_nameCell : ByteArray := prog_17_method_59_code
def yX3_nameCell : MethodName := ⟨RX3, "nameCell", "(IIII)V"⟩
def dkwX3_nameCell_4 : List UInt8 := [180, 0, 32, 16, 9, 3, 79, 42, 180, 0, 32, 16, 10, 3, 79, 177]
abbrev dktX3_nameCell_4 : List UInt8 := dkwX3_nameCell_4 ++ []
def dkwX3_nameCell_3 : List UInt8 := [180, 0, 77, 108, 79, 42, 180, 0, 32, 16, 7, 29, 79, 42, 180, 0, 32, 16, 8, 21, 4, 79, 42]
abbrev dktX3_nameCell_3 : List UInt8 := dkwX3_nameCell_3 ++ dktX3_nameCell_4
def dkwX3_nameCell_2 : List UInt8 := [167, 255, 226, 42, 180, 0, 32, 8, 28, 42, 180, 0, 77, 112, 79, 42, 180, 0, 32, 16, 6, 28, 42]
abbrev dktX3_nameCell_2 : List UInt8 := dkwX3_nameCell_2 ++ dktX3_nameCell_3
def dkwX3_nameCell_1 : List UInt8 := [180, 0, 32, 4, 21, 5, 96, 42, 27, 42, 28, 21, 5, 182, 1, 15, 182, 1, 18, 79, 132, 5, 1]
abbrev dktX3_nameCell_1 : List UInt8 := dkwX3_nameCell_1 ++ dktX3_nameCell_2
def dkwX3_nameCell_0 : List UInt8 := [42, 180, 0, 32, 3, 42, 180, 0, 43, 27, 28, 96, 46, 79, 3, 54, 5, 21, 5, 7, 162, 0, 30, 42]
abbrev dktX3_nameCell_0 : List UInt8 := dkwX3_nameCell_0 ++ dktX3_nameCell_1
theorem dksX3_nameCell_0 : cX3_nameCell.data.toList.drop 0 = dktX3_nameCell_0 := by decide +kernel
theorem dksX3_nameCell_1 : cX3_nameCell.data.toList.drop 24 = dktX3_nameCell_1 := dk_seg dksX3_nameCell_0 24 rfl rfl
theorem dksX3_nameCell_2 : cX3_nameCell.data.toList.drop 47 = dktX3_nameCell_2 := dk_seg dksX3_nameCell_1 23 rfl rfl
theorem dksX3_nameCell_3 : cX3_nameCell.data.toList.drop 70 = dktX3_nameCell_3 := dk_seg dksX3_nameCell_2 23 rfl rfl
theorem dksX3_nameCell_4 : cX3_nameCell.data.toList.drop 93 = dktX3_nameCell_4 := dk_seg dksX3_nameCell_3 23 rfl rfl
theorem dX3_nameCell_0 : decode cX3_nameCell 0 = .ok (.aload_n 0, 1) := dk_42 (dk_at dksX3_nameCell_0 0 rfl rfl)
theorem dX3_nameCell_1 : decode cX3_nameCell 1 = .ok (.getfield 32, 3) := dk_180 0 32 (dk_at dksX3_nameCell_0 1 rfl rfl)
theorem dX3_nameCell_4 : decode cX3_nameCell 4 = .ok (.iconst 0, 1) := dk_3 (dk_at dksX3_nameCell_0 4 rfl rfl)
theorem dX3_nameCell_5 : decode cX3_nameCell 5 = .ok (.aload_n 0, 1) := dk_42 (dk_at dksX3_nameCell_0 5 rfl rfl)
theorem dX3_nameCell_6 : decode cX3_nameCell 6 = .ok (.getfield 43, 3) := dk_180 0 43 (dk_at dksX3_nameCell_0 6 rfl rfl)
theorem dX3_nameCell_9 : decode cX3_nameCell 9 = .ok (.iload_n 1, 1) := dk_27 (dk_at dksX3_nameCell_0 9 rfl rfl)
theorem dX3_nameCell_10 : decode cX3_nameCell 10 = .ok (.iload_n 2, 1) := dk_28 (dk_at dksX3_nameCell_0 10 rfl rfl)
theorem dX3_nameCell_11 : decode cX3_nameCell 11 = .ok (.iadd, 1) := dk_96 (dk_at dksX3_nameCell_0 11 rfl rfl)
theorem dX3_nameCell_12 : decode cX3_nameCell 12 = .ok (.iaload, 1) := dk_46 (dk_at dksX3_nameCell_0 12 rfl rfl)
theorem dX3_nameCell_13 : decode cX3_nameCell 13 = .ok (.iastore, 1) := dk_79 (dk_at dksX3_nameCell_0 13 rfl rfl)
theorem dX3_nameCell_14 : decode cX3_nameCell 14 = .ok (.iconst 0, 1) := dk_3 (dk_at dksX3_nameCell_0 14 rfl rfl)
theorem dX3_nameCell_15 : decode cX3_nameCell 15 = .ok (.istore 5, 2) := dk_54 5 (dk_at dksX3_nameCell_0 15 rfl rfl)
theorem dX3_nameCell_17 : decode cX3_nameCell 17 = .ok (.iload 5, 2) := dk_21 5 (dk_at dksX3_nameCell_0 17 rfl rfl)
theorem dX3_nameCell_19 : decode cX3_nameCell 19 = .ok (.iconst 4, 1) := dk_7 (dk_at dksX3_nameCell_0 19 rfl rfl)
theorem dX3_nameCell_20 : decode cX3_nameCell 20 = .ok (.if_icmp .ge 30, 3) := dk_162 0 30 (dk_at dksX3_nameCell_0 20 rfl rfl)
theorem dX3_nameCell_23 : decode cX3_nameCell 23 = .ok (.aload_n 0, 1) := dk_42 (dk_at dksX3_nameCell_0 23 rfl rfl)
theorem dX3_nameCell_24 : decode cX3_nameCell 24 = .ok (.getfield 32, 3) := dk_180 0 32 (dk_at dksX3_nameCell_1 0 rfl rfl)
theorem dX3_nameCell_27 : decode cX3_nameCell 27 = .ok (.iconst 1, 1) := dk_4 (dk_at dksX3_nameCell_1 3 rfl rfl)
theorem dX3_nameCell_28 : decode cX3_nameCell 28 = .ok (.iload 5, 2) := dk_21 5 (dk_at dksX3_nameCell_1 4 rfl rfl)
theorem dX3_nameCell_30 : decode cX3_nameCell 30 = .ok (.iadd, 1) := dk_96 (dk_at dksX3_nameCell_1 6 rfl rfl)
theorem dX3_nameCell_31 : decode cX3_nameCell 31 = .ok (.aload_n 0, 1) := dk_42 (dk_at dksX3_nameCell_1 7 rfl rfl)
theorem dX3_nameCell_32 : decode cX3_nameCell 32 = .ok (.iload_n 1, 1) := dk_27 (dk_at dksX3_nameCell_1 8 rfl rfl)
theorem dX3_nameCell_33 : decode cX3_nameCell 33 = .ok (.aload_n 0, 1) := dk_42 (dk_at dksX3_nameCell_1 9 rfl rfl)
theorem dX3_nameCell_34 : decode cX3_nameCell 34 = .ok (.iload_n 2, 1) := dk_28 (dk_at dksX3_nameCell_1 10 rfl rfl)
theorem dX3_nameCell_35 : decode cX3_nameCell 35 = .ok (.iload 5, 2) := dk_21 5 (dk_at dksX3_nameCell_1 11 rfl rfl)
theorem dX3_nameCell_37 : decode cX3_nameCell 37 = .ok (.invokevirtual 271, 3) := dk_182 1 15 (dk_at dksX3_nameCell_1 13 rfl rfl)
theorem dX3_nameCell_40 : decode cX3_nameCell 40 = .ok (.invokevirtual 274, 3) := dk_182 1 18 (dk_at dksX3_nameCell_1 16 rfl rfl)
theorem dX3_nameCell_43 : decode cX3_nameCell 43 = .ok (.iastore, 1) := dk_79 (dk_at dksX3_nameCell_1 19 rfl rfl)
theorem dX3_nameCell_44 : decode cX3_nameCell 44 = .ok (.iinc 5 1, 3) := dk_132 5 1 (dk_at dksX3_nameCell_1 20 rfl rfl)
theorem dX3_nameCell_47 : decode cX3_nameCell 47 = .ok (.goto (-30), 3) := dk_167 255 226 (dk_at dksX3_nameCell_2 0 rfl rfl)
theorem dX3_nameCell_50 : decode cX3_nameCell 50 = .ok (.aload_n 0, 1) := dk_42 (dk_at dksX3_nameCell_2 3 rfl rfl)
theorem dX3_nameCell_51 : decode cX3_nameCell 51 = .ok (.getfield 32, 3) := dk_180 0 32 (dk_at dksX3_nameCell_2 4 rfl rfl)
theorem dX3_nameCell_54 : decode cX3_nameCell 54 = .ok (.iconst 5, 1) := dk_8 (dk_at dksX3_nameCell_2 7 rfl rfl)
theorem dX3_nameCell_55 : decode cX3_nameCell 55 = .ok (.iload_n 2, 1) := dk_28 (dk_at dksX3_nameCell_2 8 rfl rfl)
theorem dX3_nameCell_56 : decode cX3_nameCell 56 = .ok (.aload_n 0, 1) := dk_42 (dk_at dksX3_nameCell_2 9 rfl rfl)
theorem dX3_nameCell_57 : decode cX3_nameCell 57 = .ok (.getfield 77, 3) := dk_180 0 77 (dk_at dksX3_nameCell_2 10 rfl rfl)
theorem dX3_nameCell_60 : decode cX3_nameCell 60 = .ok (.irem, 1) := dk_112 (dk_at dksX3_nameCell_2 13 rfl rfl)
theorem dX3_nameCell_61 : decode cX3_nameCell 61 = .ok (.iastore, 1) := dk_79 (dk_at dksX3_nameCell_2 14 rfl rfl)
theorem dX3_nameCell_62 : decode cX3_nameCell 62 = .ok (.aload_n 0, 1) := dk_42 (dk_at dksX3_nameCell_2 15 rfl rfl)
theorem dX3_nameCell_63 : decode cX3_nameCell 63 = .ok (.getfield 32, 3) := dk_180 0 32 (dk_at dksX3_nameCell_2 16 rfl rfl)
theorem dX3_nameCell_66 : decode cX3_nameCell 66 = .ok (.bipush 6, 2) := dk_16 6 (dk_at dksX3_nameCell_2 19 rfl rfl)
theorem dX3_nameCell_68 : decode cX3_nameCell 68 = .ok (.iload_n 2, 1) := dk_28 (dk_at dksX3_nameCell_2 21 rfl rfl)
theorem dX3_nameCell_69 : decode cX3_nameCell 69 = .ok (.aload_n 0, 1) := dk_42 (dk_at dksX3_nameCell_2 22 rfl rfl)
theorem dX3_nameCell_70 : decode cX3_nameCell 70 = .ok (.getfield 77, 3) := dk_180 0 77 (dk_at dksX3_nameCell_3 0 rfl rfl)
theorem dX3_nameCell_73 : decode cX3_nameCell 73 = .ok (.idiv, 1) := dk_108 (dk_at dksX3_nameCell_3 3 rfl rfl)
theorem dX3_nameCell_74 : decode cX3_nameCell 74 = .ok (.iastore, 1) := dk_79 (dk_at dksX3_nameCell_3 4 rfl rfl)
theorem dX3_nameCell_75 : decode cX3_nameCell 75 = .ok (.aload_n 0, 1) := dk_42 (dk_at dksX3_nameCell_3 5 rfl rfl)
theorem dX3_nameCell_76 : decode cX3_nameCell 76 = .ok (.getfield 32, 3) := dk_180 0 32 (dk_at dksX3_nameCell_3 6 rfl rfl)
theorem dX3_nameCell_79 : decode cX3_nameCell 79 = .ok (.bipush 7, 2) := dk_16 7 (dk_at dksX3_nameCell_3 9 rfl rfl)
theorem dX3_nameCell_81 : decode cX3_nameCell 81 = .ok (.iload_n 3, 1) := dk_29 (dk_at dksX3_nameCell_3 11 rfl rfl)
theorem dX3_nameCell_82 : decode cX3_nameCell 82 = .ok (.iastore, 1) := dk_79 (dk_at dksX3_nameCell_3 12 rfl rfl)
theorem dX3_nameCell_83 : decode cX3_nameCell 83 = .ok (.aload_n 0, 1) := dk_42 (dk_at dksX3_nameCell_3 13 rfl rfl)
theorem dX3_nameCell_84 : decode cX3_nameCell 84 = .ok (.getfield 32, 3) := dk_180 0 32 (dk_at dksX3_nameCell_3 14 rfl rfl)
theorem dX3_nameCell_87 : decode cX3_nameCell 87 = .ok (.bipush 8, 2) := dk_16 8 (dk_at dksX3_nameCell_3 17 rfl rfl)
theorem dX3_nameCell_89 : decode cX3_nameCell 89 = .ok (.iload 4, 2) := dk_21 4 (dk_at dksX3_nameCell_3 19 rfl rfl)
theorem dX3_nameCell_91 : decode cX3_nameCell 91 = .ok (.iastore, 1) := dk_79 (dk_at dksX3_nameCell_3 21 rfl rfl)
theorem dX3_nameCell_92 : decode cX3_nameCell 92 = .ok (.aload_n 0, 1) := dk_42 (dk_at dksX3_nameCell_3 22 rfl rfl)
theorem dX3_nameCell_93 : decode cX3_nameCell 93 = .ok (.getfield 32, 3) := dk_180 0 32 (dk_at dksX3_nameCell_4 0 rfl rfl)
theorem dX3_nameCell_96 : decode cX3_nameCell 96 = .ok (.bipush 9, 2) := dk_16 9 (dk_at dksX3_nameCell_4 3 rfl rfl)
theorem dX3_nameCell_98 : decode cX3_nameCell 98 = .ok (.iconst 0, 1) := dk_3 (dk_at dksX3_nameCell_4 5 rfl rfl)
theorem dX3_nameCell_99 : decode cX3_nameCell 99 = .ok (.iastore, 1) := dk_79 (dk_at dksX3_nameCell_4 6 rfl rfl)
theorem dX3_nameCell_100 : decode cX3_nameCell 100 = .ok (.aload_n 0, 1) := dk_42 (dk_at dksX3_nameCell_4 7 rfl rfl)
theorem dX3_nameCell_101 : decode cX3_nameCell 101 = .ok (.getfield 32, 3) := dk_180 0 32 (dk_at dksX3_nameCell_4 8 rfl rfl)
theorem dX3_nameCell_104 : decode cX3_nameCell 104 = .ok (.bipush 10, 2) := dk_16 10 (dk_at dksX3_nameCell_4 11 rfl rfl)
theorem dX3_nameCell_106 : decode cX3_nameCell 106 = .ok (.iconst 0, 1) := dk_3 (dk_at dksX3_nameCell_4 13 rfl rfl)
theorem dX3_nameCell_107 : decode cX3_nameCell 107 = .ok (.iastore, 1) := dk_79 (dk_at dksX3_nameCell_4 14 rfl rfl)
theorem dX3_nameCell_108 : decode cX3_nameCell 108 = .ok (.return_, 1) := dk_177 (dk_at dksX3_nameCell_4 15 rfl rfl)
abbrev cX3_iceOf : ByteArray := prog_17_method_58_code
def yX3_iceOf : MethodName := ⟨RX3, "iceOf", "(II)I"⟩
def dkwX3_iceOf_0 : List UInt8 := [28, 156, 0, 13, 42, 180, 0, 7, 16, 8, 46, 167, 0, 11, 42, 180, 0, 43, 27, 28, 96, 46, 172]
abbrev dktX3_iceOf_0 : List UInt8 := dkwX3_iceOf_0 ++ []
theorem dksX3_iceOf_0 : cX3_iceOf.data.toList.drop 0 = dktX3_iceOf_0 := by decide +kernel
theorem dX3_iceOf_0 : decode cX3_iceOf 0 = .ok (.iload_n 2, 1) := dk_28 (dk_at dksX3_iceOf_0 0 rfl rfl)
theorem dX3_iceOf_1 : decode cX3_iceOf 1 = .ok (.ifCond .ge 13, 3) := dk_156 0 13 (dk_at dksX3_iceOf_0 1 rfl rfl)
theorem dX3_iceOf_4 : decode cX3_iceOf 4 = .ok (.aload_n 0, 1) := dk_42 (dk_at dksX3_iceOf_0 4 rfl rfl)
theorem dX3_iceOf_5 : decode cX3_iceOf 5 = .ok (.getfield 7, 3) := dk_180 0 7 (dk_at dksX3_iceOf_0 5 rfl rfl)
theorem dX3_iceOf_8 : decode cX3_iceOf 8 = .ok (.bipush 8, 2) := dk_16 8 (dk_at dksX3_iceOf_0 8 rfl rfl)
theorem dX3_iceOf_10 : decode cX3_iceOf 10 = .ok (.iaload, 1) := dk_46 (dk_at dksX3_iceOf_0 10 rfl rfl)
theorem dX3_iceOf_11 : decode cX3_iceOf 11 = .ok (.goto 11, 3) := dk_167 0 11 (dk_at dksX3_iceOf_0 11 rfl rfl)
theorem dX3_iceOf_14 : decode cX3_iceOf 14 = .ok (.aload_n 0, 1) := dk_42 (dk_at dksX3_iceOf_0 14 rfl rfl)
theorem dX3_iceOf_15 : decode cX3_iceOf 15 = .ok (.getfield 43, 3) := dk_180 0 43 (dk_at dksX3_iceOf_0 15 rfl rfl)
theorem dX3_iceOf_18 : decode cX3_iceOf 18 = .ok (.iload_n 1, 1) := dk_27 (dk_at dksX3_iceOf_0 18 rfl rfl)
theorem dX3_iceOf_19 : decode cX3_iceOf 19 = .ok (.iload_n 2, 1) := dk_28 (dk_at dksX3_iceOf_0 19 rfl rfl)
theorem dX3_iceOf_20 : decode cX3_iceOf 20 = .ok (.iadd, 1) := dk_96 (dk_at dksX3_iceOf_0 20 rfl rfl)
theorem dX3_iceOf_21 : decode cX3_iceOf 21 = .ok (.iaload, 1) := dk_46 (dk_at dksX3_iceOf_0 21 rfl rfl)
theorem dX3_iceOf_22 : decode cX3_iceOf 22 = .ok (.ireturn, 1) := dk_172 (dk_at dksX3_iceOf_0 22 rfl rfl)
abbrev cX3_isAny : ByteArray := prog_17_method_60_code
def yX3_isAny : MethodName := ⟨RX3, "isAny", "(IZ)Z"⟩
def dkwX3_isAny_3 : List UInt8 := [29, 153, 0, 11, 28, 153, 0, 7, 4, 167, 0, 4, 3, 172]
abbrev dktX3_isAny_3 : List UInt8 := dkwX3_isAny_3 ++ []
def dkwX3_isAny_2 : List UInt8 := [6, 46, 21, 4, 182, 1, 27, 42, 180, 0, 39, 3, 51, 153, 0, 5, 4, 172, 132, 4, 1, 167, 255, 194]
abbrev dktX3_isAny_2 : List UInt8 := dkwX3_isAny_2 ++ dktX3_isAny_3
def dkwX3_isAny_1 : List UInt8 := [180, 0, 7, 6, 46, 21, 4, 182, 1, 24, 27, 159, 0, 6, 167, 0, 28, 3, 62, 42, 42, 180, 0, 7]
abbrev dktX3_isAny_1 : List UInt8 := dkwX3_isAny_1 ++ dktX3_isAny_2
def dkwX3_isAny_0 : List UInt8 := [4, 62, 3, 54, 4, 21, 4, 42, 42, 180, 0, 7, 6, 46, 182, 1, 21, 162, 0, 53, 42, 42]
abbrev dktX3_isAny_0 : List UInt8 := dkwX3_isAny_0 ++ dktX3_isAny_1
theorem dksX3_isAny_0 : cX3_isAny.data.toList.drop 0 = dktX3_isAny_0 := by decide +kernel
theorem dksX3_isAny_1 : cX3_isAny.data.toList.drop 22 = dktX3_isAny_1 := dk_seg dksX3_isAny_0 22 rfl rfl
theorem dksX3_isAny_2 : cX3_isAny.data.toList.drop 46 = dktX3_isAny_2 := dk_seg dksX3_isAny_1 24 rfl rfl
theorem dksX3_isAny_3 : cX3_isAny.data.toList.drop 70 = dktX3_isAny_3 := dk_seg dksX3_isAny_2 24 rfl rfl
theorem dX3_isAny_0 : decode cX3_isAny 0 = .ok (.iconst 1, 1) := dk_4 (dk_at dksX3_isAny_0 0 rfl rfl)
theorem dX3_isAny_1 : decode cX3_isAny 1 = .ok (.istore_n 3, 1) := dk_62 (dk_at dksX3_isAny_0 1 rfl rfl)
theorem dX3_isAny_2 : decode cX3_isAny 2 = .ok (.iconst 0, 1) := dk_3 (dk_at dksX3_isAny_0 2 rfl rfl)
theorem dX3_isAny_3 : decode cX3_isAny 3 = .ok (.istore 4, 2) := dk_54 4 (dk_at dksX3_isAny_0 3 rfl rfl)
theorem dX3_isAny_5 : decode cX3_isAny 5 = .ok (.iload 4, 2) := dk_21 4 (dk_at dksX3_isAny_0 5 rfl rfl)
theorem dX3_isAny_7 : decode cX3_isAny 7 = .ok (.aload_n 0, 1) := dk_42 (dk_at dksX3_isAny_0 7 rfl rfl)
theorem dX3_isAny_8 : decode cX3_isAny 8 = .ok (.aload_n 0, 1) := dk_42 (dk_at dksX3_isAny_0 8 rfl rfl)
theorem dX3_isAny_9 : decode cX3_isAny 9 = .ok (.getfield 7, 3) := dk_180 0 7 (dk_at dksX3_isAny_0 9 rfl rfl)
theorem dX3_isAny_12 : decode cX3_isAny 12 = .ok (.iconst 3, 1) := dk_6 (dk_at dksX3_isAny_0 12 rfl rfl)
theorem dX3_isAny_13 : decode cX3_isAny 13 = .ok (.iaload, 1) := dk_46 (dk_at dksX3_isAny_0 13 rfl rfl)
theorem dX3_isAny_14 : decode cX3_isAny 14 = .ok (.invokevirtual 277, 3) := dk_182 1 21 (dk_at dksX3_isAny_0 14 rfl rfl)
theorem dX3_isAny_17 : decode cX3_isAny 17 = .ok (.if_icmp .ge 53, 3) := dk_162 0 53 (dk_at dksX3_isAny_0 17 rfl rfl)
theorem dX3_isAny_20 : decode cX3_isAny 20 = .ok (.aload_n 0, 1) := dk_42 (dk_at dksX3_isAny_0 20 rfl rfl)
theorem dX3_isAny_21 : decode cX3_isAny 21 = .ok (.aload_n 0, 1) := dk_42 (dk_at dksX3_isAny_0 21 rfl rfl)
theorem dX3_isAny_22 : decode cX3_isAny 22 = .ok (.getfield 7, 3) := dk_180 0 7 (dk_at dksX3_isAny_1 0 rfl rfl)
theorem dX3_isAny_25 : decode cX3_isAny 25 = .ok (.iconst 3, 1) := dk_6 (dk_at dksX3_isAny_1 3 rfl rfl)
theorem dX3_isAny_26 : decode cX3_isAny 26 = .ok (.iaload, 1) := dk_46 (dk_at dksX3_isAny_1 4 rfl rfl)
theorem dX3_isAny_27 : decode cX3_isAny 27 = .ok (.iload 4, 2) := dk_21 4 (dk_at dksX3_isAny_1 5 rfl rfl)
theorem dX3_isAny_29 : decode cX3_isAny 29 = .ok (.invokevirtual 280, 3) := dk_182 1 24 (dk_at dksX3_isAny_1 7 rfl rfl)
theorem dX3_isAny_32 : decode cX3_isAny 32 = .ok (.iload_n 1, 1) := dk_27 (dk_at dksX3_isAny_1 10 rfl rfl)
theorem dX3_isAny_33 : decode cX3_isAny 33 = .ok (.if_icmp .eq 6, 3) := dk_159 0 6 (dk_at dksX3_isAny_1 11 rfl rfl)
theorem dX3_isAny_36 : decode cX3_isAny 36 = .ok (.goto 28, 3) := dk_167 0 28 (dk_at dksX3_isAny_1 14 rfl rfl)
theorem dX3_isAny_39 : decode cX3_isAny 39 = .ok (.iconst 0, 1) := dk_3 (dk_at dksX3_isAny_1 17 rfl rfl)
theorem dX3_isAny_40 : decode cX3_isAny 40 = .ok (.istore_n 3, 1) := dk_62 (dk_at dksX3_isAny_1 18 rfl rfl)
theorem dX3_isAny_41 : decode cX3_isAny 41 = .ok (.aload_n 0, 1) := dk_42 (dk_at dksX3_isAny_1 19 rfl rfl)
theorem dX3_isAny_42 : decode cX3_isAny 42 = .ok (.aload_n 0, 1) := dk_42 (dk_at dksX3_isAny_1 20 rfl rfl)
theorem dX3_isAny_43 : decode cX3_isAny 43 = .ok (.getfield 7, 3) := dk_180 0 7 (dk_at dksX3_isAny_1 21 rfl rfl)
theorem dX3_isAny_46 : decode cX3_isAny 46 = .ok (.iconst 3, 1) := dk_6 (dk_at dksX3_isAny_2 0 rfl rfl)
theorem dX3_isAny_47 : decode cX3_isAny 47 = .ok (.iaload, 1) := dk_46 (dk_at dksX3_isAny_2 1 rfl rfl)
theorem dX3_isAny_48 : decode cX3_isAny 48 = .ok (.iload 4, 2) := dk_21 4 (dk_at dksX3_isAny_2 2 rfl rfl)
theorem dX3_isAny_50 : decode cX3_isAny 50 = .ok (.invokevirtual 283, 3) := dk_182 1 27 (dk_at dksX3_isAny_2 4 rfl rfl)
theorem dX3_isAny_53 : decode cX3_isAny 53 = .ok (.aload_n 0, 1) := dk_42 (dk_at dksX3_isAny_2 7 rfl rfl)
theorem dX3_isAny_54 : decode cX3_isAny 54 = .ok (.getfield 39, 3) := dk_180 0 39 (dk_at dksX3_isAny_2 8 rfl rfl)
theorem dX3_isAny_57 : decode cX3_isAny 57 = .ok (.iconst 0, 1) := dk_3 (dk_at dksX3_isAny_2 11 rfl rfl)
theorem dX3_isAny_58 : decode cX3_isAny 58 = .ok (.baload, 1) := dk_51 (dk_at dksX3_isAny_2 12 rfl rfl)
theorem dX3_isAny_59 : decode cX3_isAny 59 = .ok (.ifCond .eq 5, 3) := dk_153 0 5 (dk_at dksX3_isAny_2 13 rfl rfl)
theorem dX3_isAny_62 : decode cX3_isAny 62 = .ok (.iconst 1, 1) := dk_4 (dk_at dksX3_isAny_2 16 rfl rfl)
theorem dX3_isAny_63 : decode cX3_isAny 63 = .ok (.ireturn, 1) := dk_172 (dk_at dksX3_isAny_2 17 rfl rfl)
theorem dX3_isAny_64 : decode cX3_isAny 64 = .ok (.iinc 4 1, 3) := dk_132 4 1 (dk_at dksX3_isAny_2 18 rfl rfl)
theorem dX3_isAny_67 : decode cX3_isAny 67 = .ok (.goto (-62), 3) := dk_167 255 194 (dk_at dksX3_isAny_2 21 rfl rfl)
theorem dX3_isAny_70 : decode cX3_isAny 70 = .ok (.iload_n 3, 1) := dk_29 (dk_at dksX3_isAny_3 0 rfl rfl)
theorem dX3_isAny_71 : decode cX3_isAny 71 = .ok (.ifCond .eq 11, 3) := dk_153 0 11 (dk_at dksX3_isAny_3 1 rfl rfl)
theorem dX3_isAny_74 : decode cX3_isAny 74 = .ok (.iload_n 2, 1) := dk_28 (dk_at dksX3_isAny_3 4 rfl rfl)
theorem dX3_isAny_75 : decode cX3_isAny 75 = .ok (.ifCond .eq 7, 3) := dk_153 0 7 (dk_at dksX3_isAny_3 5 rfl rfl)
theorem dX3_isAny_78 : decode cX3_isAny 78 = .ok (.iconst 1, 1) := dk_4 (dk_at dksX3_isAny_3 8 rfl rfl)
theorem dX3_isAny_79 : decode cX3_isAny 79 = .ok (.goto 4, 3) := dk_167 0 4 (dk_at dksX3_isAny_3 9 rfl rfl)
theorem dX3_isAny_82 : decode cX3_isAny 82 = .ok (.iconst 0, 1) := dk_3 (dk_at dksX3_isAny_3 12 rfl rfl)
theorem dX3_isAny_83 : decode cX3_isAny 83 = .ok (.ireturn, 1) := dk_172 (dk_at dksX3_isAny_3 13 rfl rfl)
abbrev cX3_clauses : ByteArray := prog_17_method_57_code
def yX3_clauses : MethodName := ⟨RX3, "clauses", "(I)I"⟩
def dkwX3_clauses_0 : List UInt8 := [27, 156, 0, 7, 3, 167, 0, 13, 42, 180, 0, 16, 17, 3, 32, 27, 104, 46, 172]
abbrev dktX3_clauses_0 : List UInt8 := dkwX3_clauses_0 ++ []
theorem dksX3_clauses_0 : cX3_clauses.data.toList.drop 0 = dktX3_clauses_0 := by decide +kernel
theorem dX3_clauses_0 : decode cX3_clauses 0 = .ok (.iload_n 1, 1) := dk_27 (dk_at dksX3_clauses_0 0 rfl rfl)
theorem dX3_clauses_1 : decode cX3_clauses 1 = .ok (.ifCond .ge 7, 3) := dk_156 0 7 (dk_at dksX3_clauses_0 1 rfl rfl)
theorem dX3_clauses_4 : decode cX3_clauses 4 = .ok (.iconst 0, 1) := dk_3 (dk_at dksX3_clauses_0 4 rfl rfl)
theorem dX3_clauses_5 : decode cX3_clauses 5 = .ok (.goto 13, 3) := dk_167 0 13 (dk_at dksX3_clauses_0 5 rfl rfl)
theorem dX3_clauses_8 : decode cX3_clauses 8 = .ok (.aload_n 0, 1) := dk_42 (dk_at dksX3_clauses_0 8 rfl rfl)
theorem dX3_clauses_9 : decode cX3_clauses 9 = .ok (.getfield 16, 3) := dk_180 0 16 (dk_at dksX3_clauses_0 9 rfl rfl)
theorem dX3_clauses_12 : decode cX3_clauses 12 = .ok (.sipush 800, 3) := dk_17 3 32 (dk_at dksX3_clauses_0 12 rfl rfl)
theorem dX3_clauses_15 : decode cX3_clauses 15 = .ok (.iload_n 1, 1) := dk_27 (dk_at dksX3_clauses_0 15 rfl rfl)
theorem dX3_clauses_16 : decode cX3_clauses 16 = .ok (.imul, 1) := dk_104 (dk_at dksX3_clauses_0 16 rfl rfl)
theorem dX3_clauses_17 : decode cX3_clauses 17 = .ok (.iaload, 1) := dk_46 (dk_at dksX3_clauses_0 17 rfl rfl)
theorem dX3_clauses_18 : decode cX3_clauses 18 = .ok (.ireturn, 1) := dk_172 (dk_at dksX3_clauses_0 18 rfl rfl)
abbrev cX3_sortAt : ByteArray := prog_17_method_56_code
def yX3_sortAt : MethodName := ⟨RX3, "sortAt", "(II)I"⟩
def dkwX3_sortAt_0 : List UInt8 := [42, 180, 0, 16, 17, 3, 32, 27, 104, 4, 96, 7, 28, 104, 96, 46, 172]
abbrev dktX3_sortAt_0 : List UInt8 := dkwX3_sortAt_0 ++ []
theorem dksX3_sortAt_0 : cX3_sortAt.data.toList.drop 0 = dktX3_sortAt_0 := by decide +kernel
theorem dX3_sortAt_0 : decode cX3_sortAt 0 = .ok (.aload_n 0, 1) := dk_42 (dk_at dksX3_sortAt_0 0 rfl rfl)
theorem dX3_sortAt_1 : decode cX3_sortAt 1 = .ok (.getfield 16, 3) := dk_180 0 16 (dk_at dksX3_sortAt_0 1 rfl rfl)
theorem dX3_sortAt_4 : decode cX3_sortAt 4 = .ok (.sipush 800, 3) := dk_17 3 32 (dk_at dksX3_sortAt_0 4 rfl rfl)
theorem dX3_sortAt_7 : decode cX3_sortAt 7 = .ok (.iload_n 1, 1) := dk_27 (dk_at dksX3_sortAt_0 7 rfl rfl)
theorem dX3_sortAt_8 : decode cX3_sortAt 8 = .ok (.imul, 1) := dk_104 (dk_at dksX3_sortAt_0 8 rfl rfl)
theorem dX3_sortAt_9 : decode cX3_sortAt 9 = .ok (.iconst 1, 1) := dk_4 (dk_at dksX3_sortAt_0 9 rfl rfl)
theorem dX3_sortAt_10 : decode cX3_sortAt 10 = .ok (.iadd, 1) := dk_96 (dk_at dksX3_sortAt_0 10 rfl rfl)
theorem dX3_sortAt_11 : decode cX3_sortAt 11 = .ok (.iconst 4, 1) := dk_7 (dk_at dksX3_sortAt_0 11 rfl rfl)
theorem dX3_sortAt_12 : decode cX3_sortAt 12 = .ok (.iload_n 2, 1) := dk_28 (dk_at dksX3_sortAt_0 12 rfl rfl)
theorem dX3_sortAt_13 : decode cX3_sortAt 13 = .ok (.imul, 1) := dk_104 (dk_at dksX3_sortAt_0 13 rfl rfl)
theorem dX3_sortAt_14 : decode cX3_sortAt 14 = .ok (.iadd, 1) := dk_96 (dk_at dksX3_sortAt_0 14 rfl rfl)
theorem dX3_sortAt_15 : decode cX3_sortAt 15 = .ok (.iaload, 1) := dk_46 (dk_at dksX3_sortAt_0 15 rfl rfl)
theorem dX3_sortAt_16 : decode cX3_sortAt 16 = .ok (.ireturn, 1) := dk_172 (dk_at dksX3_sortAt_0 16 rfl rfl)
abbrev cX3_work : ByteArray := prog_17_method_55_code
def yX3_work : MethodName := ⟨RX3, "work", "(II)V"⟩
def dkwX3_work_14 : List UInt8 := [180, 0, 39, 21, 6, 51, 153, 0, 7, 4, 167, 0, 4, 3, 84, 132, 7, 1, 167, 254, 201, 177]
abbrev dktX3_work_14 : List UInt8 := dkwX3_work_14 ++ []
def dkwX3_work_13 : List UInt8 := [153, 0, 7, 4, 167, 0, 34, 3, 167, 0, 30, 42, 180, 0, 39, 21, 6, 4, 100, 51, 154, 0, 13, 42]
abbrev dktX3_work_13 : List UInt8 := dkwX3_work_13 ++ dktX3_work_14
def dkwX3_work_12 : List UInt8 := [160, 0, 33, 42, 180, 0, 39, 21, 6, 4, 100, 51, 153, 0, 17, 42, 180, 0, 39, 21, 6, 51]
abbrev dktX3_work_12 : List UInt8 := dkwX3_work_12 ++ dktX3_work_13
def dkwX3_work_11 : List UInt8 := [167, 0, 4, 3, 84, 167, 0, 79, 132, 6, 255, 42, 180, 0, 39, 21, 6, 4, 100, 21, 8, 16, 21]
abbrev dktX3_work_11 : List UInt8 := dkwX3_work_11 ++ dktX3_work_12
def dkwX3_work_10 : List UInt8 := [160, 0, 32, 42, 180, 0, 39, 21, 6, 4, 100, 42, 180, 0, 39, 21, 6, 4, 100, 51, 154, 0, 7, 4]
abbrev dktX3_work_10 : List UInt8 := dkwX3_work_10 ++ dktX3_work_11
def dkwX3_work_9 : List UInt8 := [47, 42, 180, 0, 35, 21, 5, 4, 96, 47, 184, 1, 11, 84, 132, 6, 1, 167, 0, 115, 21, 8, 16, 20]
abbrev dktX3_work_9 : List UInt8 := dkwX3_work_9 ++ dktX3_work_10
def dkwX3_work_8 : List UInt8 := [21, 8, 16, 20, 162, 0, 40, 132, 5, 254, 42, 180, 0, 39, 21, 6, 21, 8, 42, 180, 0, 35, 21, 5]
abbrev dktX3_work_8 : List UInt8 := dkwX3_work_8 ++ dktX3_work_9
def dkwX3_work_7 : List UInt8 := [42, 180, 0, 35, 21, 5, 4, 100, 47, 42, 180, 0, 35, 21, 5, 47, 184, 1, 7, 80, 167, 0, 159]
abbrev dktX3_work_7 : List UInt8 := dkwX3_work_7 ++ dktX3_work_8
def dkwX3_work_6 : List UInt8 := [80, 167, 0, 202, 21, 8, 16, 10, 162, 0, 39, 132, 5, 255, 42, 180, 0, 35, 21, 5, 4, 100, 21, 8]
abbrev dktX3_work_6 : List UInt8 := dkwX3_work_6 ++ dktX3_work_7
def dkwX3_work_5 : List UInt8 := [21, 8, 5, 160, 0, 25, 42, 180, 0, 35, 21, 5, 4, 100, 42, 180, 0, 35, 21, 5, 4, 100, 47, 117]
abbrev dktX3_work_5 : List UInt8 := dkwX3_work_5 ++ dktX3_work_6
def dkwX3_work_4 : List UInt8 := [154, 0, 9, 21, 9, 133, 167, 0, 11, 42, 180, 0, 32, 21, 9, 46, 133, 80, 132, 5, 1, 167, 0, 230]
abbrev dktX3_work_4 : List UInt8 := dkwX3_work_4 ++ dktX3_work_5
def dkwX3_work_3 : List UInt8 := [5, 21, 7, 104, 96, 4, 96, 46, 54, 9, 21, 8, 4, 163, 0, 35, 42, 180, 0, 35, 21, 5, 21, 8]
abbrev dktX3_work_3 : List UInt8 := dkwX3_work_3 ++ dktX3_work_4
def dkwX3_work_2 : List UInt8 := [46, 162, 1, 48, 42, 180, 0, 16, 21, 4, 5, 21, 7, 104, 96, 46, 54, 8, 42, 180, 0, 16, 21, 4]
abbrev dktX3_work_2 : List UInt8 := dkwX3_work_2 ++ dktX3_work_3
def dkwX3_work_1 : List UInt8 := [54, 5, 3, 54, 6, 42, 180, 0, 16, 29, 5, 96, 46, 54, 7, 21, 7, 42, 180, 0, 16, 29, 6, 96]
abbrev dktX3_work_1 : List UInt8 := dkwX3_work_1 ++ dktX3_work_2
def dkwX3_work_0 : List UInt8 := [17, 3, 32, 27, 104, 4, 96, 7, 28, 104, 96, 62, 17, 3, 32, 27, 104, 16, 60, 96, 54, 4, 3]
abbrev dktX3_work_0 : List UInt8 := dkwX3_work_0 ++ dktX3_work_1
theorem dksX3_work_0 : cX3_work.data.toList.drop 0 = dktX3_work_0 := by decide +kernel
theorem dksX3_work_1 : cX3_work.data.toList.drop 23 = dktX3_work_1 := dk_seg dksX3_work_0 23 rfl rfl
theorem dksX3_work_2 : cX3_work.data.toList.drop 47 = dktX3_work_2 := dk_seg dksX3_work_1 24 rfl rfl
theorem dksX3_work_3 : cX3_work.data.toList.drop 71 = dktX3_work_3 := dk_seg dksX3_work_2 24 rfl rfl
theorem dksX3_work_4 : cX3_work.data.toList.drop 95 = dktX3_work_4 := dk_seg dksX3_work_3 24 rfl rfl
theorem dksX3_work_5 : cX3_work.data.toList.drop 119 = dktX3_work_5 := dk_seg dksX3_work_4 24 rfl rfl
theorem dksX3_work_6 : cX3_work.data.toList.drop 143 = dktX3_work_6 := dk_seg dksX3_work_5 24 rfl rfl
theorem dksX3_work_7 : cX3_work.data.toList.drop 167 = dktX3_work_7 := dk_seg dksX3_work_6 24 rfl rfl
theorem dksX3_work_8 : cX3_work.data.toList.drop 190 = dktX3_work_8 := dk_seg dksX3_work_7 23 rfl rfl
theorem dksX3_work_9 : cX3_work.data.toList.drop 214 = dktX3_work_9 := dk_seg dksX3_work_8 24 rfl rfl
theorem dksX3_work_10 : cX3_work.data.toList.drop 238 = dktX3_work_10 := dk_seg dksX3_work_9 24 rfl rfl
theorem dksX3_work_11 : cX3_work.data.toList.drop 262 = dktX3_work_11 := dk_seg dksX3_work_10 24 rfl rfl
theorem dksX3_work_12 : cX3_work.data.toList.drop 285 = dktX3_work_12 := dk_seg dksX3_work_11 23 rfl rfl
theorem dksX3_work_13 : cX3_work.data.toList.drop 307 = dktX3_work_13 := dk_seg dksX3_work_12 22 rfl rfl
theorem dksX3_work_14 : cX3_work.data.toList.drop 331 = dktX3_work_14 := dk_seg dksX3_work_13 24 rfl rfl
theorem dX3_work_0 : decode cX3_work 0 = .ok (.sipush 800, 3) := dk_17 3 32 (dk_at dksX3_work_0 0 rfl rfl)
theorem dX3_work_3 : decode cX3_work 3 = .ok (.iload_n 1, 1) := dk_27 (dk_at dksX3_work_0 3 rfl rfl)
theorem dX3_work_4 : decode cX3_work 4 = .ok (.imul, 1) := dk_104 (dk_at dksX3_work_0 4 rfl rfl)
theorem dX3_work_5 : decode cX3_work 5 = .ok (.iconst 1, 1) := dk_4 (dk_at dksX3_work_0 5 rfl rfl)
theorem dX3_work_6 : decode cX3_work 6 = .ok (.iadd, 1) := dk_96 (dk_at dksX3_work_0 6 rfl rfl)
theorem dX3_work_7 : decode cX3_work 7 = .ok (.iconst 4, 1) := dk_7 (dk_at dksX3_work_0 7 rfl rfl)
theorem dX3_work_8 : decode cX3_work 8 = .ok (.iload_n 2, 1) := dk_28 (dk_at dksX3_work_0 8 rfl rfl)
theorem dX3_work_9 : decode cX3_work 9 = .ok (.imul, 1) := dk_104 (dk_at dksX3_work_0 9 rfl rfl)
theorem dX3_work_10 : decode cX3_work 10 = .ok (.iadd, 1) := dk_96 (dk_at dksX3_work_0 10 rfl rfl)
theorem dX3_work_11 : decode cX3_work 11 = .ok (.istore_n 3, 1) := dk_62 (dk_at dksX3_work_0 11 rfl rfl)
theorem dX3_work_12 : decode cX3_work 12 = .ok (.sipush 800, 3) := dk_17 3 32 (dk_at dksX3_work_0 12 rfl rfl)
theorem dX3_work_15 : decode cX3_work 15 = .ok (.iload_n 1, 1) := dk_27 (dk_at dksX3_work_0 15 rfl rfl)
theorem dX3_work_16 : decode cX3_work 16 = .ok (.imul, 1) := dk_104 (dk_at dksX3_work_0 16 rfl rfl)
theorem dX3_work_17 : decode cX3_work 17 = .ok (.bipush 60, 2) := dk_16 60 (dk_at dksX3_work_0 17 rfl rfl)
theorem dX3_work_19 : decode cX3_work 19 = .ok (.iadd, 1) := dk_96 (dk_at dksX3_work_0 19 rfl rfl)
theorem dX3_work_20 : decode cX3_work 20 = .ok (.istore 4, 2) := dk_54 4 (dk_at dksX3_work_0 20 rfl rfl)
theorem dX3_work_22 : decode cX3_work 22 = .ok (.iconst 0, 1) := dk_3 (dk_at dksX3_work_0 22 rfl rfl)
theorem dX3_work_23 : decode cX3_work 23 = .ok (.istore 5, 2) := dk_54 5 (dk_at dksX3_work_1 0 rfl rfl)
theorem dX3_work_25 : decode cX3_work 25 = .ok (.iconst 0, 1) := dk_3 (dk_at dksX3_work_1 2 rfl rfl)
theorem dX3_work_26 : decode cX3_work 26 = .ok (.istore 6, 2) := dk_54 6 (dk_at dksX3_work_1 3 rfl rfl)
theorem dX3_work_28 : decode cX3_work 28 = .ok (.aload_n 0, 1) := dk_42 (dk_at dksX3_work_1 5 rfl rfl)
theorem dX3_work_29 : decode cX3_work 29 = .ok (.getfield 16, 3) := dk_180 0 16 (dk_at dksX3_work_1 6 rfl rfl)
theorem dX3_work_32 : decode cX3_work 32 = .ok (.iload_n 3, 1) := dk_29 (dk_at dksX3_work_1 9 rfl rfl)
theorem dX3_work_33 : decode cX3_work 33 = .ok (.iconst 2, 1) := dk_5 (dk_at dksX3_work_1 10 rfl rfl)
theorem dX3_work_34 : decode cX3_work 34 = .ok (.iadd, 1) := dk_96 (dk_at dksX3_work_1 11 rfl rfl)
theorem dX3_work_35 : decode cX3_work 35 = .ok (.iaload, 1) := dk_46 (dk_at dksX3_work_1 12 rfl rfl)
theorem dX3_work_36 : decode cX3_work 36 = .ok (.istore 7, 2) := dk_54 7 (dk_at dksX3_work_1 13 rfl rfl)
theorem dX3_work_38 : decode cX3_work 38 = .ok (.iload 7, 2) := dk_21 7 (dk_at dksX3_work_1 15 rfl rfl)
theorem dX3_work_40 : decode cX3_work 40 = .ok (.aload_n 0, 1) := dk_42 (dk_at dksX3_work_1 17 rfl rfl)
theorem dX3_work_41 : decode cX3_work 41 = .ok (.getfield 16, 3) := dk_180 0 16 (dk_at dksX3_work_1 18 rfl rfl)
theorem dX3_work_44 : decode cX3_work 44 = .ok (.iload_n 3, 1) := dk_29 (dk_at dksX3_work_1 21 rfl rfl)
theorem dX3_work_45 : decode cX3_work 45 = .ok (.iconst 3, 1) := dk_6 (dk_at dksX3_work_1 22 rfl rfl)
theorem dX3_work_46 : decode cX3_work 46 = .ok (.iadd, 1) := dk_96 (dk_at dksX3_work_1 23 rfl rfl)
theorem dX3_work_47 : decode cX3_work 47 = .ok (.iaload, 1) := dk_46 (dk_at dksX3_work_2 0 rfl rfl)
theorem dX3_work_48 : decode cX3_work 48 = .ok (.if_icmp .ge 304, 3) := dk_162 1 48 (dk_at dksX3_work_2 1 rfl rfl)
theorem dX3_work_51 : decode cX3_work 51 = .ok (.aload_n 0, 1) := dk_42 (dk_at dksX3_work_2 4 rfl rfl)
theorem dX3_work_52 : decode cX3_work 52 = .ok (.getfield 16, 3) := dk_180 0 16 (dk_at dksX3_work_2 5 rfl rfl)
theorem dX3_work_55 : decode cX3_work 55 = .ok (.iload 4, 2) := dk_21 4 (dk_at dksX3_work_2 8 rfl rfl)
theorem dX3_work_57 : decode cX3_work 57 = .ok (.iconst 2, 1) := dk_5 (dk_at dksX3_work_2 10 rfl rfl)
theorem dX3_work_58 : decode cX3_work 58 = .ok (.iload 7, 2) := dk_21 7 (dk_at dksX3_work_2 11 rfl rfl)
theorem dX3_work_60 : decode cX3_work 60 = .ok (.imul, 1) := dk_104 (dk_at dksX3_work_2 13 rfl rfl)
theorem dX3_work_61 : decode cX3_work 61 = .ok (.iadd, 1) := dk_96 (dk_at dksX3_work_2 14 rfl rfl)
theorem dX3_work_62 : decode cX3_work 62 = .ok (.iaload, 1) := dk_46 (dk_at dksX3_work_2 15 rfl rfl)
theorem dX3_work_63 : decode cX3_work 63 = .ok (.istore 8, 2) := dk_54 8 (dk_at dksX3_work_2 16 rfl rfl)
theorem dX3_work_65 : decode cX3_work 65 = .ok (.aload_n 0, 1) := dk_42 (dk_at dksX3_work_2 18 rfl rfl)
theorem dX3_work_66 : decode cX3_work 66 = .ok (.getfield 16, 3) := dk_180 0 16 (dk_at dksX3_work_2 19 rfl rfl)
theorem dX3_work_69 : decode cX3_work 69 = .ok (.iload 4, 2) := dk_21 4 (dk_at dksX3_work_2 22 rfl rfl)
theorem dX3_work_71 : decode cX3_work 71 = .ok (.iconst 2, 1) := dk_5 (dk_at dksX3_work_3 0 rfl rfl)
theorem dX3_work_72 : decode cX3_work 72 = .ok (.iload 7, 2) := dk_21 7 (dk_at dksX3_work_3 1 rfl rfl)
theorem dX3_work_74 : decode cX3_work 74 = .ok (.imul, 1) := dk_104 (dk_at dksX3_work_3 3 rfl rfl)
theorem dX3_work_75 : decode cX3_work 75 = .ok (.iadd, 1) := dk_96 (dk_at dksX3_work_3 4 rfl rfl)
theorem dX3_work_76 : decode cX3_work 76 = .ok (.iconst 1, 1) := dk_4 (dk_at dksX3_work_3 5 rfl rfl)
theorem dX3_work_77 : decode cX3_work 77 = .ok (.iadd, 1) := dk_96 (dk_at dksX3_work_3 6 rfl rfl)
theorem dX3_work_78 : decode cX3_work 78 = .ok (.iaload, 1) := dk_46 (dk_at dksX3_work_3 7 rfl rfl)
theorem dX3_work_79 : decode cX3_work 79 = .ok (.istore 9, 2) := dk_54 9 (dk_at dksX3_work_3 8 rfl rfl)
theorem dX3_work_81 : decode cX3_work 81 = .ok (.iload 8, 2) := dk_21 8 (dk_at dksX3_work_3 10 rfl rfl)
theorem dX3_work_83 : decode cX3_work 83 = .ok (.iconst 1, 1) := dk_4 (dk_at dksX3_work_3 12 rfl rfl)
theorem dX3_work_84 : decode cX3_work 84 = .ok (.if_icmp .gt 35, 3) := dk_163 0 35 (dk_at dksX3_work_3 13 rfl rfl)
theorem dX3_work_87 : decode cX3_work 87 = .ok (.aload_n 0, 1) := dk_42 (dk_at dksX3_work_3 16 rfl rfl)
theorem dX3_work_88 : decode cX3_work 88 = .ok (.getfield 35, 3) := dk_180 0 35 (dk_at dksX3_work_3 17 rfl rfl)
theorem dX3_work_91 : decode cX3_work 91 = .ok (.iload 5, 2) := dk_21 5 (dk_at dksX3_work_3 20 rfl rfl)
theorem dX3_work_93 : decode cX3_work 93 = .ok (.iload 8, 2) := dk_21 8 (dk_at dksX3_work_3 22 rfl rfl)
theorem dX3_work_95 : decode cX3_work 95 = .ok (.ifCond .ne 9, 3) := dk_154 0 9 (dk_at dksX3_work_4 0 rfl rfl)
theorem dX3_work_98 : decode cX3_work 98 = .ok (.iload 9, 2) := dk_21 9 (dk_at dksX3_work_4 3 rfl rfl)
theorem dX3_work_100 : decode cX3_work 100 = .ok (.i2l, 1) := dk_133 (dk_at dksX3_work_4 5 rfl rfl)
theorem dX3_work_101 : decode cX3_work 101 = .ok (.goto 11, 3) := dk_167 0 11 (dk_at dksX3_work_4 6 rfl rfl)
theorem dX3_work_104 : decode cX3_work 104 = .ok (.aload_n 0, 1) := dk_42 (dk_at dksX3_work_4 9 rfl rfl)
theorem dX3_work_105 : decode cX3_work 105 = .ok (.getfield 32, 3) := dk_180 0 32 (dk_at dksX3_work_4 10 rfl rfl)
theorem dX3_work_108 : decode cX3_work 108 = .ok (.iload 9, 2) := dk_21 9 (dk_at dksX3_work_4 13 rfl rfl)
theorem dX3_work_110 : decode cX3_work 110 = .ok (.iaload, 1) := dk_46 (dk_at dksX3_work_4 15 rfl rfl)
theorem dX3_work_111 : decode cX3_work 111 = .ok (.i2l, 1) := dk_133 (dk_at dksX3_work_4 16 rfl rfl)
theorem dX3_work_112 : decode cX3_work 112 = .ok (.lastore, 1) := dk_80 (dk_at dksX3_work_4 17 rfl rfl)
theorem dX3_work_113 : decode cX3_work 113 = .ok (.iinc 5 1, 3) := dk_132 5 1 (dk_at dksX3_work_4 18 rfl rfl)
theorem dX3_work_116 : decode cX3_work 116 = .ok (.goto 230, 3) := dk_167 0 230 (dk_at dksX3_work_4 21 rfl rfl)
theorem dX3_work_119 : decode cX3_work 119 = .ok (.iload 8, 2) := dk_21 8 (dk_at dksX3_work_5 0 rfl rfl)
theorem dX3_work_121 : decode cX3_work 121 = .ok (.iconst 2, 1) := dk_5 (dk_at dksX3_work_5 2 rfl rfl)
theorem dX3_work_122 : decode cX3_work 122 = .ok (.if_icmp .ne 25, 3) := dk_160 0 25 (dk_at dksX3_work_5 3 rfl rfl)
theorem dX3_work_125 : decode cX3_work 125 = .ok (.aload_n 0, 1) := dk_42 (dk_at dksX3_work_5 6 rfl rfl)
theorem dX3_work_126 : decode cX3_work 126 = .ok (.getfield 35, 3) := dk_180 0 35 (dk_at dksX3_work_5 7 rfl rfl)
theorem dX3_work_129 : decode cX3_work 129 = .ok (.iload 5, 2) := dk_21 5 (dk_at dksX3_work_5 10 rfl rfl)
theorem dX3_work_131 : decode cX3_work 131 = .ok (.iconst 1, 1) := dk_4 (dk_at dksX3_work_5 12 rfl rfl)
theorem dX3_work_132 : decode cX3_work 132 = .ok (.isub, 1) := dk_100 (dk_at dksX3_work_5 13 rfl rfl)
theorem dX3_work_133 : decode cX3_work 133 = .ok (.aload_n 0, 1) := dk_42 (dk_at dksX3_work_5 14 rfl rfl)
theorem dX3_work_134 : decode cX3_work 134 = .ok (.getfield 35, 3) := dk_180 0 35 (dk_at dksX3_work_5 15 rfl rfl)
theorem dX3_work_137 : decode cX3_work 137 = .ok (.iload 5, 2) := dk_21 5 (dk_at dksX3_work_5 18 rfl rfl)
theorem dX3_work_139 : decode cX3_work 139 = .ok (.iconst 1, 1) := dk_4 (dk_at dksX3_work_5 20 rfl rfl)
theorem dX3_work_140 : decode cX3_work 140 = .ok (.isub, 1) := dk_100 (dk_at dksX3_work_5 21 rfl rfl)
theorem dX3_work_141 : decode cX3_work 141 = .ok (.laload, 1) := dk_47 (dk_at dksX3_work_5 22 rfl rfl)
theorem dX3_work_142 : decode cX3_work 142 = .ok (.lneg, 1) := dk_117 (dk_at dksX3_work_5 23 rfl rfl)
theorem dX3_work_143 : decode cX3_work 143 = .ok (.lastore, 1) := dk_80 (dk_at dksX3_work_6 0 rfl rfl)
theorem dX3_work_144 : decode cX3_work 144 = .ok (.goto 202, 3) := dk_167 0 202 (dk_at dksX3_work_6 1 rfl rfl)
theorem dX3_work_147 : decode cX3_work 147 = .ok (.iload 8, 2) := dk_21 8 (dk_at dksX3_work_6 4 rfl rfl)
theorem dX3_work_149 : decode cX3_work 149 = .ok (.bipush 10, 2) := dk_16 10 (dk_at dksX3_work_6 6 rfl rfl)
theorem dX3_work_151 : decode cX3_work 151 = .ok (.if_icmp .ge 39, 3) := dk_162 0 39 (dk_at dksX3_work_6 8 rfl rfl)
theorem dX3_work_154 : decode cX3_work 154 = .ok (.iinc 5 (-1), 3) := dk_132 5 255 (dk_at dksX3_work_6 11 rfl rfl)
theorem dX3_work_157 : decode cX3_work 157 = .ok (.aload_n 0, 1) := dk_42 (dk_at dksX3_work_6 14 rfl rfl)
theorem dX3_work_158 : decode cX3_work 158 = .ok (.getfield 35, 3) := dk_180 0 35 (dk_at dksX3_work_6 15 rfl rfl)
theorem dX3_work_161 : decode cX3_work 161 = .ok (.iload 5, 2) := dk_21 5 (dk_at dksX3_work_6 18 rfl rfl)
theorem dX3_work_163 : decode cX3_work 163 = .ok (.iconst 1, 1) := dk_4 (dk_at dksX3_work_6 20 rfl rfl)
theorem dX3_work_164 : decode cX3_work 164 = .ok (.isub, 1) := dk_100 (dk_at dksX3_work_6 21 rfl rfl)
theorem dX3_work_165 : decode cX3_work 165 = .ok (.iload 8, 2) := dk_21 8 (dk_at dksX3_work_6 22 rfl rfl)
theorem dX3_work_167 : decode cX3_work 167 = .ok (.aload_n 0, 1) := dk_42 (dk_at dksX3_work_7 0 rfl rfl)
theorem dX3_work_168 : decode cX3_work 168 = .ok (.getfield 35, 3) := dk_180 0 35 (dk_at dksX3_work_7 1 rfl rfl)
theorem dX3_work_171 : decode cX3_work 171 = .ok (.iload 5, 2) := dk_21 5 (dk_at dksX3_work_7 4 rfl rfl)
theorem dX3_work_173 : decode cX3_work 173 = .ok (.iconst 1, 1) := dk_4 (dk_at dksX3_work_7 6 rfl rfl)
theorem dX3_work_174 : decode cX3_work 174 = .ok (.isub, 1) := dk_100 (dk_at dksX3_work_7 7 rfl rfl)
theorem dX3_work_175 : decode cX3_work 175 = .ok (.laload, 1) := dk_47 (dk_at dksX3_work_7 8 rfl rfl)
theorem dX3_work_176 : decode cX3_work 176 = .ok (.aload_n 0, 1) := dk_42 (dk_at dksX3_work_7 9 rfl rfl)
theorem dX3_work_177 : decode cX3_work 177 = .ok (.getfield 35, 3) := dk_180 0 35 (dk_at dksX3_work_7 10 rfl rfl)
theorem dX3_work_180 : decode cX3_work 180 = .ok (.iload 5, 2) := dk_21 5 (dk_at dksX3_work_7 13 rfl rfl)
theorem dX3_work_182 : decode cX3_work 182 = .ok (.laload, 1) := dk_47 (dk_at dksX3_work_7 15 rfl rfl)
theorem dX3_work_183 : decode cX3_work 183 = .ok (.invokestatic 263, 3) := dk_184 1 7 (dk_at dksX3_work_7 16 rfl rfl)
theorem dX3_work_186 : decode cX3_work 186 = .ok (.lastore, 1) := dk_80 (dk_at dksX3_work_7 19 rfl rfl)
theorem dX3_work_187 : decode cX3_work 187 = .ok (.goto 159, 3) := dk_167 0 159 (dk_at dksX3_work_7 20 rfl rfl)
theorem dX3_work_190 : decode cX3_work 190 = .ok (.iload 8, 2) := dk_21 8 (dk_at dksX3_work_8 0 rfl rfl)
theorem dX3_work_192 : decode cX3_work 192 = .ok (.bipush 20, 2) := dk_16 20 (dk_at dksX3_work_8 2 rfl rfl)
theorem dX3_work_194 : decode cX3_work 194 = .ok (.if_icmp .ge 40, 3) := dk_162 0 40 (dk_at dksX3_work_8 4 rfl rfl)
theorem dX3_work_197 : decode cX3_work 197 = .ok (.iinc 5 (-2), 3) := dk_132 5 254 (dk_at dksX3_work_8 7 rfl rfl)
theorem dX3_work_200 : decode cX3_work 200 = .ok (.aload_n 0, 1) := dk_42 (dk_at dksX3_work_8 10 rfl rfl)
theorem dX3_work_201 : decode cX3_work 201 = .ok (.getfield 39, 3) := dk_180 0 39 (dk_at dksX3_work_8 11 rfl rfl)
theorem dX3_work_204 : decode cX3_work 204 = .ok (.iload 6, 2) := dk_21 6 (dk_at dksX3_work_8 14 rfl rfl)
theorem dX3_work_206 : decode cX3_work 206 = .ok (.iload 8, 2) := dk_21 8 (dk_at dksX3_work_8 16 rfl rfl)
theorem dX3_work_208 : decode cX3_work 208 = .ok (.aload_n 0, 1) := dk_42 (dk_at dksX3_work_8 18 rfl rfl)
theorem dX3_work_209 : decode cX3_work 209 = .ok (.getfield 35, 3) := dk_180 0 35 (dk_at dksX3_work_8 19 rfl rfl)
theorem dX3_work_212 : decode cX3_work 212 = .ok (.iload 5, 2) := dk_21 5 (dk_at dksX3_work_8 22 rfl rfl)
theorem dX3_work_214 : decode cX3_work 214 = .ok (.laload, 1) := dk_47 (dk_at dksX3_work_9 0 rfl rfl)
theorem dX3_work_215 : decode cX3_work 215 = .ok (.aload_n 0, 1) := dk_42 (dk_at dksX3_work_9 1 rfl rfl)
theorem dX3_work_216 : decode cX3_work 216 = .ok (.getfield 35, 3) := dk_180 0 35 (dk_at dksX3_work_9 2 rfl rfl)
theorem dX3_work_219 : decode cX3_work 219 = .ok (.iload 5, 2) := dk_21 5 (dk_at dksX3_work_9 5 rfl rfl)
theorem dX3_work_221 : decode cX3_work 221 = .ok (.iconst 1, 1) := dk_4 (dk_at dksX3_work_9 7 rfl rfl)
theorem dX3_work_222 : decode cX3_work 222 = .ok (.iadd, 1) := dk_96 (dk_at dksX3_work_9 8 rfl rfl)
theorem dX3_work_223 : decode cX3_work 223 = .ok (.laload, 1) := dk_47 (dk_at dksX3_work_9 9 rfl rfl)
theorem dX3_work_224 : decode cX3_work 224 = .ok (.invokestatic 267, 3) := dk_184 1 11 (dk_at dksX3_work_9 10 rfl rfl)
theorem dX3_work_227 : decode cX3_work 227 = .ok (.bastore, 1) := dk_84 (dk_at dksX3_work_9 13 rfl rfl)
theorem dX3_work_228 : decode cX3_work 228 = .ok (.iinc 6 1, 3) := dk_132 6 1 (dk_at dksX3_work_9 14 rfl rfl)
theorem dX3_work_231 : decode cX3_work 231 = .ok (.goto 115, 3) := dk_167 0 115 (dk_at dksX3_work_9 17 rfl rfl)
theorem dX3_work_234 : decode cX3_work 234 = .ok (.iload 8, 2) := dk_21 8 (dk_at dksX3_work_9 20 rfl rfl)
theorem dX3_work_236 : decode cX3_work 236 = .ok (.bipush 20, 2) := dk_16 20 (dk_at dksX3_work_9 22 rfl rfl)
theorem dX3_work_238 : decode cX3_work 238 = .ok (.if_icmp .ne 32, 3) := dk_160 0 32 (dk_at dksX3_work_10 0 rfl rfl)
theorem dX3_work_241 : decode cX3_work 241 = .ok (.aload_n 0, 1) := dk_42 (dk_at dksX3_work_10 3 rfl rfl)
theorem dX3_work_242 : decode cX3_work 242 = .ok (.getfield 39, 3) := dk_180 0 39 (dk_at dksX3_work_10 4 rfl rfl)
theorem dX3_work_245 : decode cX3_work 245 = .ok (.iload 6, 2) := dk_21 6 (dk_at dksX3_work_10 7 rfl rfl)
theorem dX3_work_247 : decode cX3_work 247 = .ok (.iconst 1, 1) := dk_4 (dk_at dksX3_work_10 9 rfl rfl)
theorem dX3_work_248 : decode cX3_work 248 = .ok (.isub, 1) := dk_100 (dk_at dksX3_work_10 10 rfl rfl)
theorem dX3_work_249 : decode cX3_work 249 = .ok (.aload_n 0, 1) := dk_42 (dk_at dksX3_work_10 11 rfl rfl)
theorem dX3_work_250 : decode cX3_work 250 = .ok (.getfield 39, 3) := dk_180 0 39 (dk_at dksX3_work_10 12 rfl rfl)
theorem dX3_work_253 : decode cX3_work 253 = .ok (.iload 6, 2) := dk_21 6 (dk_at dksX3_work_10 15 rfl rfl)
theorem dX3_work_255 : decode cX3_work 255 = .ok (.iconst 1, 1) := dk_4 (dk_at dksX3_work_10 17 rfl rfl)
theorem dX3_work_256 : decode cX3_work 256 = .ok (.isub, 1) := dk_100 (dk_at dksX3_work_10 18 rfl rfl)
theorem dX3_work_257 : decode cX3_work 257 = .ok (.baload, 1) := dk_51 (dk_at dksX3_work_10 19 rfl rfl)
theorem dX3_work_258 : decode cX3_work 258 = .ok (.ifCond .ne 7, 3) := dk_154 0 7 (dk_at dksX3_work_10 20 rfl rfl)
theorem dX3_work_261 : decode cX3_work 261 = .ok (.iconst 1, 1) := dk_4 (dk_at dksX3_work_10 23 rfl rfl)
theorem dX3_work_262 : decode cX3_work 262 = .ok (.goto 4, 3) := dk_167 0 4 (dk_at dksX3_work_11 0 rfl rfl)
theorem dX3_work_265 : decode cX3_work 265 = .ok (.iconst 0, 1) := dk_3 (dk_at dksX3_work_11 3 rfl rfl)
theorem dX3_work_266 : decode cX3_work 266 = .ok (.bastore, 1) := dk_84 (dk_at dksX3_work_11 4 rfl rfl)
theorem dX3_work_267 : decode cX3_work 267 = .ok (.goto 79, 3) := dk_167 0 79 (dk_at dksX3_work_11 5 rfl rfl)
theorem dX3_work_270 : decode cX3_work 270 = .ok (.iinc 6 (-1), 3) := dk_132 6 255 (dk_at dksX3_work_11 8 rfl rfl)
theorem dX3_work_273 : decode cX3_work 273 = .ok (.aload_n 0, 1) := dk_42 (dk_at dksX3_work_11 11 rfl rfl)
theorem dX3_work_274 : decode cX3_work 274 = .ok (.getfield 39, 3) := dk_180 0 39 (dk_at dksX3_work_11 12 rfl rfl)
theorem dX3_work_277 : decode cX3_work 277 = .ok (.iload 6, 2) := dk_21 6 (dk_at dksX3_work_11 15 rfl rfl)
theorem dX3_work_279 : decode cX3_work 279 = .ok (.iconst 1, 1) := dk_4 (dk_at dksX3_work_11 17 rfl rfl)
theorem dX3_work_280 : decode cX3_work 280 = .ok (.isub, 1) := dk_100 (dk_at dksX3_work_11 18 rfl rfl)
theorem dX3_work_281 : decode cX3_work 281 = .ok (.iload 8, 2) := dk_21 8 (dk_at dksX3_work_11 19 rfl rfl)
theorem dX3_work_283 : decode cX3_work 283 = .ok (.bipush 21, 2) := dk_16 21 (dk_at dksX3_work_11 21 rfl rfl)
theorem dX3_work_285 : decode cX3_work 285 = .ok (.if_icmp .ne 33, 3) := dk_160 0 33 (dk_at dksX3_work_12 0 rfl rfl)
theorem dX3_work_288 : decode cX3_work 288 = .ok (.aload_n 0, 1) := dk_42 (dk_at dksX3_work_12 3 rfl rfl)
theorem dX3_work_289 : decode cX3_work 289 = .ok (.getfield 39, 3) := dk_180 0 39 (dk_at dksX3_work_12 4 rfl rfl)
theorem dX3_work_292 : decode cX3_work 292 = .ok (.iload 6, 2) := dk_21 6 (dk_at dksX3_work_12 7 rfl rfl)
theorem dX3_work_294 : decode cX3_work 294 = .ok (.iconst 1, 1) := dk_4 (dk_at dksX3_work_12 9 rfl rfl)
theorem dX3_work_295 : decode cX3_work 295 = .ok (.isub, 1) := dk_100 (dk_at dksX3_work_12 10 rfl rfl)
theorem dX3_work_296 : decode cX3_work 296 = .ok (.baload, 1) := dk_51 (dk_at dksX3_work_12 11 rfl rfl)
theorem dX3_work_297 : decode cX3_work 297 = .ok (.ifCond .eq 17, 3) := dk_153 0 17 (dk_at dksX3_work_12 12 rfl rfl)
theorem dX3_work_300 : decode cX3_work 300 = .ok (.aload_n 0, 1) := dk_42 (dk_at dksX3_work_12 15 rfl rfl)
theorem dX3_work_301 : decode cX3_work 301 = .ok (.getfield 39, 3) := dk_180 0 39 (dk_at dksX3_work_12 16 rfl rfl)
theorem dX3_work_304 : decode cX3_work 304 = .ok (.iload 6, 2) := dk_21 6 (dk_at dksX3_work_12 19 rfl rfl)
theorem dX3_work_306 : decode cX3_work 306 = .ok (.baload, 1) := dk_51 (dk_at dksX3_work_12 21 rfl rfl)
theorem dX3_work_307 : decode cX3_work 307 = .ok (.ifCond .eq 7, 3) := dk_153 0 7 (dk_at dksX3_work_13 0 rfl rfl)
theorem dX3_work_310 : decode cX3_work 310 = .ok (.iconst 1, 1) := dk_4 (dk_at dksX3_work_13 3 rfl rfl)
theorem dX3_work_311 : decode cX3_work 311 = .ok (.goto 34, 3) := dk_167 0 34 (dk_at dksX3_work_13 4 rfl rfl)
theorem dX3_work_314 : decode cX3_work 314 = .ok (.iconst 0, 1) := dk_3 (dk_at dksX3_work_13 7 rfl rfl)
theorem dX3_work_315 : decode cX3_work 315 = .ok (.goto 30, 3) := dk_167 0 30 (dk_at dksX3_work_13 8 rfl rfl)
theorem dX3_work_318 : decode cX3_work 318 = .ok (.aload_n 0, 1) := dk_42 (dk_at dksX3_work_13 11 rfl rfl)
theorem dX3_work_319 : decode cX3_work 319 = .ok (.getfield 39, 3) := dk_180 0 39 (dk_at dksX3_work_13 12 rfl rfl)
theorem dX3_work_322 : decode cX3_work 322 = .ok (.iload 6, 2) := dk_21 6 (dk_at dksX3_work_13 15 rfl rfl)
theorem dX3_work_324 : decode cX3_work 324 = .ok (.iconst 1, 1) := dk_4 (dk_at dksX3_work_13 17 rfl rfl)
theorem dX3_work_325 : decode cX3_work 325 = .ok (.isub, 1) := dk_100 (dk_at dksX3_work_13 18 rfl rfl)
theorem dX3_work_326 : decode cX3_work 326 = .ok (.baload, 1) := dk_51 (dk_at dksX3_work_13 19 rfl rfl)
theorem dX3_work_327 : decode cX3_work 327 = .ok (.ifCond .ne 13, 3) := dk_154 0 13 (dk_at dksX3_work_13 20 rfl rfl)
theorem dX3_work_330 : decode cX3_work 330 = .ok (.aload_n 0, 1) := dk_42 (dk_at dksX3_work_13 23 rfl rfl)
theorem dX3_work_331 : decode cX3_work 331 = .ok (.getfield 39, 3) := dk_180 0 39 (dk_at dksX3_work_14 0 rfl rfl)
theorem dX3_work_334 : decode cX3_work 334 = .ok (.iload 6, 2) := dk_21 6 (dk_at dksX3_work_14 3 rfl rfl)
theorem dX3_work_336 : decode cX3_work 336 = .ok (.baload, 1) := dk_51 (dk_at dksX3_work_14 5 rfl rfl)
theorem dX3_work_337 : decode cX3_work 337 = .ok (.ifCond .eq 7, 3) := dk_153 0 7 (dk_at dksX3_work_14 6 rfl rfl)
theorem dX3_work_340 : decode cX3_work 340 = .ok (.iconst 1, 1) := dk_4 (dk_at dksX3_work_14 9 rfl rfl)
theorem dX3_work_341 : decode cX3_work 341 = .ok (.goto 4, 3) := dk_167 0 4 (dk_at dksX3_work_14 10 rfl rfl)
theorem dX3_work_344 : decode cX3_work 344 = .ok (.iconst 0, 1) := dk_3 (dk_at dksX3_work_14 13 rfl rfl)
theorem dX3_work_345 : decode cX3_work 345 = .ok (.bastore, 1) := dk_84 (dk_at dksX3_work_14 14 rfl rfl)
theorem dX3_work_346 : decode cX3_work 346 = .ok (.iinc 7 1, 3) := dk_132 7 1 (dk_at dksX3_work_14 15 rfl rfl)
theorem dX3_work_349 : decode cX3_work 349 = .ok (.goto (-311), 3) := dk_167 254 201 (dk_at dksX3_work_14 18 rfl rfl)
theorem dX3_work_352 : decode cX3_work 352 = .ok (.return_, 1) := dk_177 (dk_at dksX3_work_14 21 rfl rfl)
abbrev cX3_two : ByteArray := prog_17_method_53_code
def yX3_two : MethodName := ⟨RX3, "two", "(IJJ)J"⟩
def dkwX3_two_3 : List UInt8 := [154, 0, 7, 9, 167, 0, 9, 31, 33, 109, 184, 1, 3, 173]
abbrev dktX3_two_3 : List UInt8 := dkwX3_two_3 ++ []
def dkwX3_two_2 : List UInt8 := [31, 33, 97, 184, 1, 3, 173, 31, 33, 101, 184, 1, 3, 173, 31, 33, 105, 184, 1, 3, 173, 33, 9, 148]
abbrev dktX3_two_2 : List UInt8 := dkwX3_two_2 ++ dktX3_two_3
def dkwX3_two_1 : List UInt8 := [170, 0, 0, 0, 0, 0, 48, 0, 0, 0, 3, 0, 0, 0, 5, 0, 0, 0, 27, 0, 0, 0, 34, 0, 0, 0, 41]
abbrev dktX3_two_1 : List UInt8 := dkwX3_two_1 ++ dktX3_two_2
def dkwX3_two_0 : List UInt8 := [26]
abbrev dktX3_two_0 : List UInt8 := dkwX3_two_0 ++ dktX3_two_1
theorem dksX3_two_0 : cX3_two.data.toList.drop 0 = dktX3_two_0 := by decide +kernel
theorem dksX3_two_1 : cX3_two.data.toList.drop 1 = dktX3_two_1 := dk_seg dksX3_two_0 1 rfl rfl
theorem dksX3_two_2 : cX3_two.data.toList.drop 28 = dktX3_two_2 := dk_seg dksX3_two_1 27 rfl rfl
theorem dksX3_two_3 : cX3_two.data.toList.drop 52 = dktX3_two_3 := dk_seg dksX3_two_2 24 rfl rfl
theorem dX3_two_0 : decode cX3_two 0 = .ok (.iload_n 0, 1) := dk_26 (dk_at dksX3_two_0 0 rfl rfl)
theorem dX3_two_1 : decode cX3_two 1 = .ok (.tableswitch 48 3 5 #[27, 34, 41], 27) := by decide +kernel
theorem dX3_two_28 : decode cX3_two 28 = .ok (.lload_n 1, 1) := dk_31 (dk_at dksX3_two_2 0 rfl rfl)
theorem dX3_two_29 : decode cX3_two 29 = .ok (.lload_n 3, 1) := dk_33 (dk_at dksX3_two_2 1 rfl rfl)
theorem dX3_two_30 : decode cX3_two 30 = .ok (.ladd, 1) := dk_97 (dk_at dksX3_two_2 2 rfl rfl)
theorem dX3_two_31 : decode cX3_two 31 = .ok (.invokestatic 259, 3) := dk_184 1 3 (dk_at dksX3_two_2 3 rfl rfl)
theorem dX3_two_34 : decode cX3_two 34 = .ok (.lreturn, 1) := dk_173 (dk_at dksX3_two_2 6 rfl rfl)
theorem dX3_two_35 : decode cX3_two 35 = .ok (.lload_n 1, 1) := dk_31 (dk_at dksX3_two_2 7 rfl rfl)
theorem dX3_two_36 : decode cX3_two 36 = .ok (.lload_n 3, 1) := dk_33 (dk_at dksX3_two_2 8 rfl rfl)
theorem dX3_two_37 : decode cX3_two 37 = .ok (.lsub, 1) := dk_101 (dk_at dksX3_two_2 9 rfl rfl)
theorem dX3_two_38 : decode cX3_two 38 = .ok (.invokestatic 259, 3) := dk_184 1 3 (dk_at dksX3_two_2 10 rfl rfl)
theorem dX3_two_41 : decode cX3_two 41 = .ok (.lreturn, 1) := dk_173 (dk_at dksX3_two_2 13 rfl rfl)
theorem dX3_two_42 : decode cX3_two 42 = .ok (.lload_n 1, 1) := dk_31 (dk_at dksX3_two_2 14 rfl rfl)
theorem dX3_two_43 : decode cX3_two 43 = .ok (.lload_n 3, 1) := dk_33 (dk_at dksX3_two_2 15 rfl rfl)
theorem dX3_two_44 : decode cX3_two 44 = .ok (.lmul, 1) := dk_105 (dk_at dksX3_two_2 16 rfl rfl)
theorem dX3_two_45 : decode cX3_two 45 = .ok (.invokestatic 259, 3) := dk_184 1 3 (dk_at dksX3_two_2 17 rfl rfl)
theorem dX3_two_48 : decode cX3_two 48 = .ok (.lreturn, 1) := dk_173 (dk_at dksX3_two_2 20 rfl rfl)
theorem dX3_two_49 : decode cX3_two 49 = .ok (.lload_n 3, 1) := dk_33 (dk_at dksX3_two_2 21 rfl rfl)
theorem dX3_two_50 : decode cX3_two 50 = .ok (.lconst 0, 1) := dk_9 (dk_at dksX3_two_2 22 rfl rfl)
theorem dX3_two_51 : decode cX3_two 51 = .ok (.lcmp, 1) := dk_148 (dk_at dksX3_two_2 23 rfl rfl)
theorem dX3_two_52 : decode cX3_two 52 = .ok (.ifCond .ne 7, 3) := dk_154 0 7 (dk_at dksX3_two_3 0 rfl rfl)
theorem dX3_two_55 : decode cX3_two 55 = .ok (.lconst 0, 1) := dk_9 (dk_at dksX3_two_3 3 rfl rfl)
theorem dX3_two_56 : decode cX3_two 56 = .ok (.goto 9, 3) := dk_167 0 9 (dk_at dksX3_two_3 4 rfl rfl)
theorem dX3_two_59 : decode cX3_two 59 = .ok (.lload_n 1, 1) := dk_31 (dk_at dksX3_two_3 7 rfl rfl)
theorem dX3_two_60 : decode cX3_two 60 = .ok (.lload_n 3, 1) := dk_33 (dk_at dksX3_two_3 8 rfl rfl)
theorem dX3_two_61 : decode cX3_two 61 = .ok (.ldiv, 1) := dk_109 (dk_at dksX3_two_3 9 rfl rfl)
theorem dX3_two_62 : decode cX3_two 62 = .ok (.invokestatic 259, 3) := dk_184 1 3 (dk_at dksX3_two_3 10 rfl rfl)
theorem dX3_two_65 : decode cX3_two 65 = .ok (.lreturn, 1) := dk_173 (dk_at dksX3_two_3 13 rfl rfl)
abbrev cX3_clip : ByteArray := prog_17_method_52_code
def yX3_clip : MethodName := ⟨RX3, "clip", "(J)J"⟩
def dkwX3_clip_1 : List UInt8 := [20, 1, 1, 167, 0, 4, 30, 173]
abbrev dktX3_clip_1 : List UInt8 := dkwX3_clip_1 ++ []
def dkwX3_clip_0 : List UInt8 := [30, 20, 0, 255, 148, 158, 0, 9, 20, 0, 255, 167, 0, 18, 30, 20, 1, 1, 148, 156, 0, 9]
abbrev dktX3_clip_0 : List UInt8 := dkwX3_clip_0 ++ dktX3_clip_1
theorem dksX3_clip_0 : cX3_clip.data.toList.drop 0 = dktX3_clip_0 := by decide +kernel
theorem dksX3_clip_1 : cX3_clip.data.toList.drop 22 = dktX3_clip_1 := dk_seg dksX3_clip_0 22 rfl rfl
theorem dX3_clip_0 : decode cX3_clip 0 = .ok (.lload_n 0, 1) := dk_30 (dk_at dksX3_clip_0 0 rfl rfl)
theorem dX3_clip_1 : decode cX3_clip 1 = .ok (.ldc2_w 255, 3) := dk_20 0 255 (dk_at dksX3_clip_0 1 rfl rfl)
theorem dX3_clip_4 : decode cX3_clip 4 = .ok (.lcmp, 1) := dk_148 (dk_at dksX3_clip_0 4 rfl rfl)
theorem dX3_clip_5 : decode cX3_clip 5 = .ok (.ifCond .le 9, 3) := dk_158 0 9 (dk_at dksX3_clip_0 5 rfl rfl)
theorem dX3_clip_8 : decode cX3_clip 8 = .ok (.ldc2_w 255, 3) := dk_20 0 255 (dk_at dksX3_clip_0 8 rfl rfl)
theorem dX3_clip_11 : decode cX3_clip 11 = .ok (.goto 18, 3) := dk_167 0 18 (dk_at dksX3_clip_0 11 rfl rfl)
theorem dX3_clip_14 : decode cX3_clip 14 = .ok (.lload_n 0, 1) := dk_30 (dk_at dksX3_clip_0 14 rfl rfl)
theorem dX3_clip_15 : decode cX3_clip 15 = .ok (.ldc2_w 257, 3) := dk_20 1 1 (dk_at dksX3_clip_0 15 rfl rfl)
theorem dX3_clip_18 : decode cX3_clip 18 = .ok (.lcmp, 1) := dk_148 (dk_at dksX3_clip_0 18 rfl rfl)
theorem dX3_clip_19 : decode cX3_clip 19 = .ok (.ifCond .ge 9, 3) := dk_156 0 9 (dk_at dksX3_clip_0 19 rfl rfl)
theorem dX3_clip_22 : decode cX3_clip 22 = .ok (.ldc2_w 257, 3) := dk_20 1 1 (dk_at dksX3_clip_1 0 rfl rfl)
theorem dX3_clip_25 : decode cX3_clip 25 = .ok (.goto 4, 3) := dk_167 0 4 (dk_at dksX3_clip_1 3 rfl rfl)
theorem dX3_clip_28 : decode cX3_clip 28 = .ok (.lload_n 0, 1) := dk_30 (dk_at dksX3_clip_1 6 rfl rfl)
theorem dX3_clip_29 : decode cX3_clip 29 = .ok (.lreturn, 1) := dk_173 (dk_at dksX3_clip_1 7 rfl rfl)
abbrev cX3_isAsked : ByteArray := prog_17_method_54_code
def yX3_isAsked : MethodName := ⟨RX3, "isAsked", "(IJJ)Z"⟩
def dkwX3_isAsked_4 : List UInt8 := [167, 0, 18, 3, 167, 0, 14, 31, 33, 148, 153, 0, 7, 4, 167, 0, 4, 3, 172]
abbrev dktX3_isAsked_4 : List UInt8 := dkwX3_isAsked_4 ++ []
def dkwX3_isAsked_3 : List UInt8 := [155, 0, 7, 4, 167, 0, 38, 3, 167, 0, 34, 26, 16, 14, 160, 0, 17, 31, 33, 148, 154, 0, 7, 4]
abbrev dktX3_isAsked_3 : List UInt8 := dkwX3_isAsked_3 ++ dktX3_isAsked_4
def dkwX3_isAsked_2 : List UInt8 := [33, 148, 158, 0, 7, 4, 167, 0, 58, 3, 167, 0, 54, 26, 16, 13, 160, 0, 17, 31, 33, 148]
abbrev dktX3_isAsked_2 : List UInt8 := dkwX3_isAsked_2 ++ dktX3_isAsked_3
def dkwX3_isAsked_1 : List UInt8 := [160, 0, 17, 31, 33, 148, 157, 0, 7, 4, 167, 0, 78, 3, 167, 0, 74, 26, 16, 12, 160, 0, 17, 31]
abbrev dktX3_isAsked_1 : List UInt8 := dkwX3_isAsked_1 ++ dktX3_isAsked_2
def dkwX3_isAsked_0 : List UInt8 := [26, 16, 10, 160, 0, 17, 31, 33, 148, 156, 0, 7, 4, 167, 0, 98, 3, 167, 0, 94, 26, 16, 11]
abbrev dktX3_isAsked_0 : List UInt8 := dkwX3_isAsked_0 ++ dktX3_isAsked_1
theorem dksX3_isAsked_0 : cX3_isAsked.data.toList.drop 0 = dktX3_isAsked_0 := by decide +kernel
theorem dksX3_isAsked_1 : cX3_isAsked.data.toList.drop 23 = dktX3_isAsked_1 := dk_seg dksX3_isAsked_0 23 rfl rfl
theorem dksX3_isAsked_2 : cX3_isAsked.data.toList.drop 47 = dktX3_isAsked_2 := dk_seg dksX3_isAsked_1 24 rfl rfl
theorem dksX3_isAsked_3 : cX3_isAsked.data.toList.drop 69 = dktX3_isAsked_3 := dk_seg dksX3_isAsked_2 22 rfl rfl
theorem dksX3_isAsked_4 : cX3_isAsked.data.toList.drop 93 = dktX3_isAsked_4 := dk_seg dksX3_isAsked_3 24 rfl rfl
theorem dX3_isAsked_0 : decode cX3_isAsked 0 = .ok (.iload_n 0, 1) := dk_26 (dk_at dksX3_isAsked_0 0 rfl rfl)
theorem dX3_isAsked_1 : decode cX3_isAsked 1 = .ok (.bipush 10, 2) := dk_16 10 (dk_at dksX3_isAsked_0 1 rfl rfl)
theorem dX3_isAsked_3 : decode cX3_isAsked 3 = .ok (.if_icmp .ne 17, 3) := dk_160 0 17 (dk_at dksX3_isAsked_0 3 rfl rfl)
theorem dX3_isAsked_6 : decode cX3_isAsked 6 = .ok (.lload_n 1, 1) := dk_31 (dk_at dksX3_isAsked_0 6 rfl rfl)
theorem dX3_isAsked_7 : decode cX3_isAsked 7 = .ok (.lload_n 3, 1) := dk_33 (dk_at dksX3_isAsked_0 7 rfl rfl)
theorem dX3_isAsked_8 : decode cX3_isAsked 8 = .ok (.lcmp, 1) := dk_148 (dk_at dksX3_isAsked_0 8 rfl rfl)
theorem dX3_isAsked_9 : decode cX3_isAsked 9 = .ok (.ifCond .ge 7, 3) := dk_156 0 7 (dk_at dksX3_isAsked_0 9 rfl rfl)
theorem dX3_isAsked_12 : decode cX3_isAsked 12 = .ok (.iconst 1, 1) := dk_4 (dk_at dksX3_isAsked_0 12 rfl rfl)
theorem dX3_isAsked_13 : decode cX3_isAsked 13 = .ok (.goto 98, 3) := dk_167 0 98 (dk_at dksX3_isAsked_0 13 rfl rfl)
theorem dX3_isAsked_16 : decode cX3_isAsked 16 = .ok (.iconst 0, 1) := dk_3 (dk_at dksX3_isAsked_0 16 rfl rfl)
theorem dX3_isAsked_17 : decode cX3_isAsked 17 = .ok (.goto 94, 3) := dk_167 0 94 (dk_at dksX3_isAsked_0 17 rfl rfl)
theorem dX3_isAsked_20 : decode cX3_isAsked 20 = .ok (.iload_n 0, 1) := dk_26 (dk_at dksX3_isAsked_0 20 rfl rfl)
theorem dX3_isAsked_21 : decode cX3_isAsked 21 = .ok (.bipush 11, 2) := dk_16 11 (dk_at dksX3_isAsked_0 21 rfl rfl)
theorem dX3_isAsked_23 : decode cX3_isAsked 23 = .ok (.if_icmp .ne 17, 3) := dk_160 0 17 (dk_at dksX3_isAsked_1 0 rfl rfl)
theorem dX3_isAsked_26 : decode cX3_isAsked 26 = .ok (.lload_n 1, 1) := dk_31 (dk_at dksX3_isAsked_1 3 rfl rfl)
theorem dX3_isAsked_27 : decode cX3_isAsked 27 = .ok (.lload_n 3, 1) := dk_33 (dk_at dksX3_isAsked_1 4 rfl rfl)
theorem dX3_isAsked_28 : decode cX3_isAsked 28 = .ok (.lcmp, 1) := dk_148 (dk_at dksX3_isAsked_1 5 rfl rfl)
theorem dX3_isAsked_29 : decode cX3_isAsked 29 = .ok (.ifCond .gt 7, 3) := dk_157 0 7 (dk_at dksX3_isAsked_1 6 rfl rfl)
theorem dX3_isAsked_32 : decode cX3_isAsked 32 = .ok (.iconst 1, 1) := dk_4 (dk_at dksX3_isAsked_1 9 rfl rfl)
theorem dX3_isAsked_33 : decode cX3_isAsked 33 = .ok (.goto 78, 3) := dk_167 0 78 (dk_at dksX3_isAsked_1 10 rfl rfl)
theorem dX3_isAsked_36 : decode cX3_isAsked 36 = .ok (.iconst 0, 1) := dk_3 (dk_at dksX3_isAsked_1 13 rfl rfl)
theorem dX3_isAsked_37 : decode cX3_isAsked 37 = .ok (.goto 74, 3) := dk_167 0 74 (dk_at dksX3_isAsked_1 14 rfl rfl)
theorem dX3_isAsked_40 : decode cX3_isAsked 40 = .ok (.iload_n 0, 1) := dk_26 (dk_at dksX3_isAsked_1 17 rfl rfl)
theorem dX3_isAsked_41 : decode cX3_isAsked 41 = .ok (.bipush 12, 2) := dk_16 12 (dk_at dksX3_isAsked_1 18 rfl rfl)
theorem dX3_isAsked_43 : decode cX3_isAsked 43 = .ok (.if_icmp .ne 17, 3) := dk_160 0 17 (dk_at dksX3_isAsked_1 20 rfl rfl)
theorem dX3_isAsked_46 : decode cX3_isAsked 46 = .ok (.lload_n 1, 1) := dk_31 (dk_at dksX3_isAsked_1 23 rfl rfl)
theorem dX3_isAsked_47 : decode cX3_isAsked 47 = .ok (.lload_n 3, 1) := dk_33 (dk_at dksX3_isAsked_2 0 rfl rfl)
theorem dX3_isAsked_48 : decode cX3_isAsked 48 = .ok (.lcmp, 1) := dk_148 (dk_at dksX3_isAsked_2 1 rfl rfl)
theorem dX3_isAsked_49 : decode cX3_isAsked 49 = .ok (.ifCond .le 7, 3) := dk_158 0 7 (dk_at dksX3_isAsked_2 2 rfl rfl)
theorem dX3_isAsked_52 : decode cX3_isAsked 52 = .ok (.iconst 1, 1) := dk_4 (dk_at dksX3_isAsked_2 5 rfl rfl)
theorem dX3_isAsked_53 : decode cX3_isAsked 53 = .ok (.goto 58, 3) := dk_167 0 58 (dk_at dksX3_isAsked_2 6 rfl rfl)
theorem dX3_isAsked_56 : decode cX3_isAsked 56 = .ok (.iconst 0, 1) := dk_3 (dk_at dksX3_isAsked_2 9 rfl rfl)
theorem dX3_isAsked_57 : decode cX3_isAsked 57 = .ok (.goto 54, 3) := dk_167 0 54 (dk_at dksX3_isAsked_2 10 rfl rfl)
theorem dX3_isAsked_60 : decode cX3_isAsked 60 = .ok (.iload_n 0, 1) := dk_26 (dk_at dksX3_isAsked_2 13 rfl rfl)
theorem dX3_isAsked_61 : decode cX3_isAsked 61 = .ok (.bipush 13, 2) := dk_16 13 (dk_at dksX3_isAsked_2 14 rfl rfl)
theorem dX3_isAsked_63 : decode cX3_isAsked 63 = .ok (.if_icmp .ne 17, 3) := dk_160 0 17 (dk_at dksX3_isAsked_2 16 rfl rfl)
theorem dX3_isAsked_66 : decode cX3_isAsked 66 = .ok (.lload_n 1, 1) := dk_31 (dk_at dksX3_isAsked_2 19 rfl rfl)
theorem dX3_isAsked_67 : decode cX3_isAsked 67 = .ok (.lload_n 3, 1) := dk_33 (dk_at dksX3_isAsked_2 20 rfl rfl)
theorem dX3_isAsked_68 : decode cX3_isAsked 68 = .ok (.lcmp, 1) := dk_148 (dk_at dksX3_isAsked_2 21 rfl rfl)
theorem dX3_isAsked_69 : decode cX3_isAsked 69 = .ok (.ifCond .lt 7, 3) := dk_155 0 7 (dk_at dksX3_isAsked_3 0 rfl rfl)
theorem dX3_isAsked_72 : decode cX3_isAsked 72 = .ok (.iconst 1, 1) := dk_4 (dk_at dksX3_isAsked_3 3 rfl rfl)
theorem dX3_isAsked_73 : decode cX3_isAsked 73 = .ok (.goto 38, 3) := dk_167 0 38 (dk_at dksX3_isAsked_3 4 rfl rfl)
theorem dX3_isAsked_76 : decode cX3_isAsked 76 = .ok (.iconst 0, 1) := dk_3 (dk_at dksX3_isAsked_3 7 rfl rfl)
theorem dX3_isAsked_77 : decode cX3_isAsked 77 = .ok (.goto 34, 3) := dk_167 0 34 (dk_at dksX3_isAsked_3 8 rfl rfl)
theorem dX3_isAsked_80 : decode cX3_isAsked 80 = .ok (.iload_n 0, 1) := dk_26 (dk_at dksX3_isAsked_3 11 rfl rfl)
theorem dX3_isAsked_81 : decode cX3_isAsked 81 = .ok (.bipush 14, 2) := dk_16 14 (dk_at dksX3_isAsked_3 12 rfl rfl)
theorem dX3_isAsked_83 : decode cX3_isAsked 83 = .ok (.if_icmp .ne 17, 3) := dk_160 0 17 (dk_at dksX3_isAsked_3 14 rfl rfl)
theorem dX3_isAsked_86 : decode cX3_isAsked 86 = .ok (.lload_n 1, 1) := dk_31 (dk_at dksX3_isAsked_3 17 rfl rfl)
theorem dX3_isAsked_87 : decode cX3_isAsked 87 = .ok (.lload_n 3, 1) := dk_33 (dk_at dksX3_isAsked_3 18 rfl rfl)
theorem dX3_isAsked_88 : decode cX3_isAsked 88 = .ok (.lcmp, 1) := dk_148 (dk_at dksX3_isAsked_3 19 rfl rfl)
theorem dX3_isAsked_89 : decode cX3_isAsked 89 = .ok (.ifCond .ne 7, 3) := dk_154 0 7 (dk_at dksX3_isAsked_3 20 rfl rfl)
theorem dX3_isAsked_92 : decode cX3_isAsked 92 = .ok (.iconst 1, 1) := dk_4 (dk_at dksX3_isAsked_3 23 rfl rfl)
theorem dX3_isAsked_93 : decode cX3_isAsked 93 = .ok (.goto 18, 3) := dk_167 0 18 (dk_at dksX3_isAsked_4 0 rfl rfl)
theorem dX3_isAsked_96 : decode cX3_isAsked 96 = .ok (.iconst 0, 1) := dk_3 (dk_at dksX3_isAsked_4 3 rfl rfl)
theorem dX3_isAsked_97 : decode cX3_isAsked 97 = .ok (.goto 14, 3) := dk_167 0 14 (dk_at dksX3_isAsked_4 4 rfl rfl)
theorem dX3_isAsked_100 : decode cX3_isAsked 100 = .ok (.lload_n 1, 1) := dk_31 (dk_at dksX3_isAsked_4 7 rfl rfl)
theorem dX3_isAsked_101 : decode cX3_isAsked 101 = .ok (.lload_n 3, 1) := dk_33 (dk_at dksX3_isAsked_4 8 rfl rfl)
theorem dX3_isAsked_102 : decode cX3_isAsked 102 = .ok (.lcmp, 1) := dk_148 (dk_at dksX3_isAsked_4 9 rfl rfl)
theorem dX3_isAsked_103 : decode cX3_isAsked 103 = .ok (.ifCond .eq 7, 3) := dk_153 0 7 (dk_at dksX3_isAsked_4 10 rfl rfl)
theorem dX3_isAsked_106 : decode cX3_isAsked 106 = .ok (.iconst 1, 1) := dk_4 (dk_at dksX3_isAsked_4 13 rfl rfl)
theorem dX3_isAsked_107 : decode cX3_isAsked 107 = .ok (.goto 4, 3) := dk_167 0 4 (dk_at dksX3_isAsked_4 14 rfl rfl)
theorem dX3_isAsked_110 : decode cX3_isAsked 110 = .ok (.iconst 0, 1) := dk_3 (dk_at dksX3_isAsked_4 17 rfl rfl)
theorem dX3_isAsked_111 : decode cX3_isAsked 111 = .ok (.ireturn, 1) := dk_172 (dk_at dksX3_isAsked_4 18 rfl rfl)
abbrev cX3_sumOf : ByteArray := prog_17_method_61_code
def yX3_sumOf : MethodName := ⟨RX3, "sumOf", "(II)I"⟩
def dkwX3_sumOf_3 : List UInt8 := [158, 0, 8, 16, 99, 167, 0, 10, 42, 180, 0, 35, 3, 47, 136, 172, 132, 3, 1, 167, 255, 169, 28, 172]
abbrev dktX3_sumOf_3 : List UInt8 := dkwX3_sumOf_3 ++ []
def dkwX3_sumOf_2 : List UInt8 := [180, 0, 35, 3, 47, 9, 148, 156, 0, 7, 3, 167, 0, 28, 42, 180, 0, 35, 3, 47, 20, 1, 30, 148]
abbrev dktX3_sumOf_2 : List UInt8 := dkwX3_sumOf_2 ++ dktX3_sumOf_3
def dkwX3_sumOf_1 : List UInt8 := [182, 1, 24, 27, 159, 0, 6, 167, 0, 55, 42, 42, 180, 0, 7, 6, 46, 29, 182, 1, 27, 42]
abbrev dktX3_sumOf_1 : List UInt8 := dkwX3_sumOf_1 ++ dktX3_sumOf_2
def dkwX3_sumOf_0 : List UInt8 := [3, 62, 29, 42, 42, 180, 0, 7, 6, 46, 182, 1, 21, 162, 0, 79, 42, 42, 180, 0, 7, 6, 46, 29]
abbrev dktX3_sumOf_0 : List UInt8 := dkwX3_sumOf_0 ++ dktX3_sumOf_1
theorem dksX3_sumOf_0 : cX3_sumOf.data.toList.drop 0 = dktX3_sumOf_0 := by decide +kernel
theorem dksX3_sumOf_1 : cX3_sumOf.data.toList.drop 24 = dktX3_sumOf_1 := dk_seg dksX3_sumOf_0 24 rfl rfl
theorem dksX3_sumOf_2 : cX3_sumOf.data.toList.drop 46 = dktX3_sumOf_2 := dk_seg dksX3_sumOf_1 22 rfl rfl
theorem dksX3_sumOf_3 : cX3_sumOf.data.toList.drop 70 = dktX3_sumOf_3 := dk_seg dksX3_sumOf_2 24 rfl rfl
theorem dX3_sumOf_0 : decode cX3_sumOf 0 = .ok (.iconst 0, 1) := dk_3 (dk_at dksX3_sumOf_0 0 rfl rfl)
theorem dX3_sumOf_1 : decode cX3_sumOf 1 = .ok (.istore_n 3, 1) := dk_62 (dk_at dksX3_sumOf_0 1 rfl rfl)
theorem dX3_sumOf_2 : decode cX3_sumOf 2 = .ok (.iload_n 3, 1) := dk_29 (dk_at dksX3_sumOf_0 2 rfl rfl)
theorem dX3_sumOf_3 : decode cX3_sumOf 3 = .ok (.aload_n 0, 1) := dk_42 (dk_at dksX3_sumOf_0 3 rfl rfl)
theorem dX3_sumOf_4 : decode cX3_sumOf 4 = .ok (.aload_n 0, 1) := dk_42 (dk_at dksX3_sumOf_0 4 rfl rfl)
theorem dX3_sumOf_5 : decode cX3_sumOf 5 = .ok (.getfield 7, 3) := dk_180 0 7 (dk_at dksX3_sumOf_0 5 rfl rfl)
theorem dX3_sumOf_8 : decode cX3_sumOf 8 = .ok (.iconst 3, 1) := dk_6 (dk_at dksX3_sumOf_0 8 rfl rfl)
theorem dX3_sumOf_9 : decode cX3_sumOf 9 = .ok (.iaload, 1) := dk_46 (dk_at dksX3_sumOf_0 9 rfl rfl)
theorem dX3_sumOf_10 : decode cX3_sumOf 10 = .ok (.invokevirtual 277, 3) := dk_182 1 21 (dk_at dksX3_sumOf_0 10 rfl rfl)
theorem dX3_sumOf_13 : decode cX3_sumOf 13 = .ok (.if_icmp .ge 79, 3) := dk_162 0 79 (dk_at dksX3_sumOf_0 13 rfl rfl)
theorem dX3_sumOf_16 : decode cX3_sumOf 16 = .ok (.aload_n 0, 1) := dk_42 (dk_at dksX3_sumOf_0 16 rfl rfl)
theorem dX3_sumOf_17 : decode cX3_sumOf 17 = .ok (.aload_n 0, 1) := dk_42 (dk_at dksX3_sumOf_0 17 rfl rfl)
theorem dX3_sumOf_18 : decode cX3_sumOf 18 = .ok (.getfield 7, 3) := dk_180 0 7 (dk_at dksX3_sumOf_0 18 rfl rfl)
theorem dX3_sumOf_21 : decode cX3_sumOf 21 = .ok (.iconst 3, 1) := dk_6 (dk_at dksX3_sumOf_0 21 rfl rfl)
theorem dX3_sumOf_22 : decode cX3_sumOf 22 = .ok (.iaload, 1) := dk_46 (dk_at dksX3_sumOf_0 22 rfl rfl)
theorem dX3_sumOf_23 : decode cX3_sumOf 23 = .ok (.iload_n 3, 1) := dk_29 (dk_at dksX3_sumOf_0 23 rfl rfl)
theorem dX3_sumOf_24 : decode cX3_sumOf 24 = .ok (.invokevirtual 280, 3) := dk_182 1 24 (dk_at dksX3_sumOf_1 0 rfl rfl)
theorem dX3_sumOf_27 : decode cX3_sumOf 27 = .ok (.iload_n 1, 1) := dk_27 (dk_at dksX3_sumOf_1 3 rfl rfl)
theorem dX3_sumOf_28 : decode cX3_sumOf 28 = .ok (.if_icmp .eq 6, 3) := dk_159 0 6 (dk_at dksX3_sumOf_1 4 rfl rfl)
theorem dX3_sumOf_31 : decode cX3_sumOf 31 = .ok (.goto 55, 3) := dk_167 0 55 (dk_at dksX3_sumOf_1 7 rfl rfl)
theorem dX3_sumOf_34 : decode cX3_sumOf 34 = .ok (.aload_n 0, 1) := dk_42 (dk_at dksX3_sumOf_1 10 rfl rfl)
theorem dX3_sumOf_35 : decode cX3_sumOf 35 = .ok (.aload_n 0, 1) := dk_42 (dk_at dksX3_sumOf_1 11 rfl rfl)
theorem dX3_sumOf_36 : decode cX3_sumOf 36 = .ok (.getfield 7, 3) := dk_180 0 7 (dk_at dksX3_sumOf_1 12 rfl rfl)
theorem dX3_sumOf_39 : decode cX3_sumOf 39 = .ok (.iconst 3, 1) := dk_6 (dk_at dksX3_sumOf_1 15 rfl rfl)
theorem dX3_sumOf_40 : decode cX3_sumOf 40 = .ok (.iaload, 1) := dk_46 (dk_at dksX3_sumOf_1 16 rfl rfl)
theorem dX3_sumOf_41 : decode cX3_sumOf 41 = .ok (.iload_n 3, 1) := dk_29 (dk_at dksX3_sumOf_1 17 rfl rfl)
theorem dX3_sumOf_42 : decode cX3_sumOf 42 = .ok (.invokevirtual 283, 3) := dk_182 1 27 (dk_at dksX3_sumOf_1 18 rfl rfl)
theorem dX3_sumOf_45 : decode cX3_sumOf 45 = .ok (.aload_n 0, 1) := dk_42 (dk_at dksX3_sumOf_1 21 rfl rfl)
theorem dX3_sumOf_46 : decode cX3_sumOf 46 = .ok (.getfield 35, 3) := dk_180 0 35 (dk_at dksX3_sumOf_2 0 rfl rfl)
theorem dX3_sumOf_49 : decode cX3_sumOf 49 = .ok (.iconst 0, 1) := dk_3 (dk_at dksX3_sumOf_2 3 rfl rfl)
theorem dX3_sumOf_50 : decode cX3_sumOf 50 = .ok (.laload, 1) := dk_47 (dk_at dksX3_sumOf_2 4 rfl rfl)
theorem dX3_sumOf_51 : decode cX3_sumOf 51 = .ok (.lconst 0, 1) := dk_9 (dk_at dksX3_sumOf_2 5 rfl rfl)
theorem dX3_sumOf_52 : decode cX3_sumOf 52 = .ok (.lcmp, 1) := dk_148 (dk_at dksX3_sumOf_2 6 rfl rfl)
theorem dX3_sumOf_53 : decode cX3_sumOf 53 = .ok (.ifCond .ge 7, 3) := dk_156 0 7 (dk_at dksX3_sumOf_2 7 rfl rfl)
theorem dX3_sumOf_56 : decode cX3_sumOf 56 = .ok (.iconst 0, 1) := dk_3 (dk_at dksX3_sumOf_2 10 rfl rfl)
theorem dX3_sumOf_57 : decode cX3_sumOf 57 = .ok (.goto 28, 3) := dk_167 0 28 (dk_at dksX3_sumOf_2 11 rfl rfl)
theorem dX3_sumOf_60 : decode cX3_sumOf 60 = .ok (.aload_n 0, 1) := dk_42 (dk_at dksX3_sumOf_2 14 rfl rfl)
theorem dX3_sumOf_61 : decode cX3_sumOf 61 = .ok (.getfield 35, 3) := dk_180 0 35 (dk_at dksX3_sumOf_2 15 rfl rfl)
theorem dX3_sumOf_64 : decode cX3_sumOf 64 = .ok (.iconst 0, 1) := dk_3 (dk_at dksX3_sumOf_2 18 rfl rfl)
theorem dX3_sumOf_65 : decode cX3_sumOf 65 = .ok (.laload, 1) := dk_47 (dk_at dksX3_sumOf_2 19 rfl rfl)
theorem dX3_sumOf_66 : decode cX3_sumOf 66 = .ok (.ldc2_w 286, 3) := dk_20 1 30 (dk_at dksX3_sumOf_2 20 rfl rfl)
theorem dX3_sumOf_69 : decode cX3_sumOf 69 = .ok (.lcmp, 1) := dk_148 (dk_at dksX3_sumOf_2 23 rfl rfl)
theorem dX3_sumOf_70 : decode cX3_sumOf 70 = .ok (.ifCond .le 8, 3) := dk_158 0 8 (dk_at dksX3_sumOf_3 0 rfl rfl)
theorem dX3_sumOf_73 : decode cX3_sumOf 73 = .ok (.bipush 99, 2) := dk_16 99 (dk_at dksX3_sumOf_3 3 rfl rfl)
theorem dX3_sumOf_75 : decode cX3_sumOf 75 = .ok (.goto 10, 3) := dk_167 0 10 (dk_at dksX3_sumOf_3 5 rfl rfl)
theorem dX3_sumOf_78 : decode cX3_sumOf 78 = .ok (.aload_n 0, 1) := dk_42 (dk_at dksX3_sumOf_3 8 rfl rfl)
theorem dX3_sumOf_79 : decode cX3_sumOf 79 = .ok (.getfield 35, 3) := dk_180 0 35 (dk_at dksX3_sumOf_3 9 rfl rfl)
theorem dX3_sumOf_82 : decode cX3_sumOf 82 = .ok (.iconst 0, 1) := dk_3 (dk_at dksX3_sumOf_3 12 rfl rfl)
theorem dX3_sumOf_83 : decode cX3_sumOf 83 = .ok (.laload, 1) := dk_47 (dk_at dksX3_sumOf_3 13 rfl rfl)
theorem dX3_sumOf_84 : decode cX3_sumOf 84 = .ok (.l2i, 1) := dk_136 (dk_at dksX3_sumOf_3 14 rfl rfl)
theorem dX3_sumOf_85 : decode cX3_sumOf 85 = .ok (.ireturn, 1) := dk_172 (dk_at dksX3_sumOf_3 15 rfl rfl)
theorem dX3_sumOf_86 : decode cX3_sumOf 86 = .ok (.iinc 3 1, 3) := dk_132 3 1 (dk_at dksX3_sumOf_3 16 rfl rfl)
theorem dX3_sumOf_89 : decode cX3_sumOf 89 = .ok (.goto (-87), 3) := dk_167 255 169 (dk_at dksX3_sumOf_3 19 rfl rfl)
theorem dX3_sumOf_92 : decode cX3_sumOf 92 = .ok (.iload_n 2, 1) := dk_28 (dk_at dksX3_sumOf_3 22 rfl rfl)
theorem dX3_sumOf_93 : decode cX3_sumOf 93 = .ok (.ireturn, 1) := dk_172 (dk_at dksX3_sumOf_3 23 rfl rfl)
abbrev cX3_watch : ByteArray := prog_17_method_77_code
def yX3_watch : MethodName := ⟨RX3, "watch", "(III)I"⟩
def dkwX3_watch_13 : List UInt8 := [167, 0, 4, 3, 21, 6, 153, 0, 7, 5, 167, 0, 4, 3, 96, 172]
abbrev dktX3_watch_13 : List UInt8 := dkwX3_watch_13 ++ []
def dkwX3_watch_12 : List UInt8 := [42, 180, 0, 7, 4, 27, 79, 42, 180, 0, 7, 3, 92, 46, 4, 96, 79, 21, 5, 153, 0, 7, 4]
abbrev dktX3_watch_12 : List UInt8 := dkwX3_watch_12 ++ dktX3_watch_13
def dkwX3_watch_11 : List UInt8 := [180, 0, 7, 17, 0, 220, 5, 21, 7, 104, 96, 46, 27, 4, 182, 1, 43, 79, 132, 7, 1, 167, 255, 193]
abbrev dktX3_watch_11 : List UInt8 := dkwX3_watch_11 ++ dktX3_watch_12
def dkwX3_watch_10 : List UInt8 := [21, 7, 104, 96, 46, 155, 0, 35, 42, 180, 0, 7, 17, 0, 220, 5, 21, 7, 104, 96, 42, 42]
abbrev dktX3_watch_10 : List UInt8 := dkwX3_watch_10 ++ dktX3_watch_11
def dkwX3_watch_9 : List UInt8 := [3, 54, 7, 21, 7, 42, 180, 0, 7, 16, 7, 46, 162, 0, 57, 42, 180, 0, 7, 17, 0, 220, 5]
abbrev dktX3_watch_9 : List UInt8 := dkwX3_watch_9 ++ dktX3_watch_10
def dkwX3_watch_8 : List UInt8 := [132, 7, 1, 167, 255, 201, 42, 3, 21, 5, 28, 27, 182, 1, 82, 42, 4, 21, 6, 29, 27, 182, 1, 82]
abbrev dktX3_watch_8 : List UInt8 := dkwX3_watch_8 ++ dktX3_watch_9
def dkwX3_watch_7 : List UInt8 := [42, 180, 0, 43, 17, 1, 248, 21, 7, 96, 42, 180, 0, 43, 17, 2, 28, 21, 7, 96, 46, 79]
abbrev dktX3_watch_7 : List UInt8 := dkwX3_watch_7 ++ dktX3_watch_8
def dkwX3_watch_6 : List UInt8 := [162, 0, 52, 42, 180, 0, 7, 16, 30, 21, 7, 96, 42, 180, 0, 43, 17, 2, 28, 21, 7, 96, 46, 79]
abbrev dktX3_watch_6 : List UInt8 := dkwX3_watch_6 ++ dktX3_watch_7
def dkwX3_watch_5 : List UInt8 := [17, 2, 28, 27, 42, 180, 0, 7, 3, 46, 182, 1, 79, 3, 54, 7, 21, 7, 42, 180, 0, 83]
abbrev dktX3_watch_5 : List UInt8 := dkwX3_watch_5 ++ dktX3_watch_6
def dkwX3_watch_4 : List UInt8 := [17, 1, 212, 21, 4, 96, 3, 79, 42, 4, 17, 1, 212, 29, 182, 1, 76, 54, 6, 42, 17, 1, 248]
abbrev dktX3_watch_4 : List UInt8 := dkwX3_watch_4 ++ dktX3_watch_5
def dkwX3_watch_3 : List UInt8 := [17, 1, 248, 28, 182, 1, 76, 54, 5, 21, 5, 153, 0, 20, 28, 7, 162, 0, 15, 42, 180, 0, 43]
abbrev dktX3_watch_3 : List UInt8 := dkwX3_watch_3 ++ dktX3_watch_4
def dkwX3_watch_2 : List UInt8 := [184, 0, 108, 46, 54, 4, 42, 17, 1, 248, 182, 1, 60, 42, 17, 1, 212, 182, 1, 60, 42, 3]
abbrev dktX3_watch_2 : List UInt8 := dkwX3_watch_2 ++ dktX3_watch_3
def dkwX3_watch_1 : List UInt8 := [153, 0, 14, 42, 180, 0, 7, 3, 46, 16, 99, 160, 0, 5, 2, 172, 42, 180, 0, 7, 3, 3]
abbrev dktX3_watch_1 : List UInt8 := dkwX3_watch_1 ++ dktX3_watch_2
def dkwX3_watch_0 : List UInt8 := [27, 184, 0, 102, 153, 0, 34, 28, 2, 16, 7, 184, 0, 90, 153, 0, 24, 29, 2, 16, 7, 184, 0, 90]
abbrev dktX3_watch_0 : List UInt8 := dkwX3_watch_0 ++ dktX3_watch_1
theorem dksX3_watch_0 : cX3_watch.data.toList.drop 0 = dktX3_watch_0 := by decide +kernel
theorem dksX3_watch_1 : cX3_watch.data.toList.drop 24 = dktX3_watch_1 := dk_seg dksX3_watch_0 24 rfl rfl
theorem dksX3_watch_2 : cX3_watch.data.toList.drop 46 = dktX3_watch_2 := dk_seg dksX3_watch_1 22 rfl rfl
theorem dksX3_watch_3 : cX3_watch.data.toList.drop 68 = dktX3_watch_3 := dk_seg dksX3_watch_2 22 rfl rfl
theorem dksX3_watch_4 : cX3_watch.data.toList.drop 91 = dktX3_watch_4 := dk_seg dksX3_watch_3 23 rfl rfl
theorem dksX3_watch_5 : cX3_watch.data.toList.drop 114 = dktX3_watch_5 := dk_seg dksX3_watch_4 23 rfl rfl
theorem dksX3_watch_6 : cX3_watch.data.toList.drop 136 = dktX3_watch_6 := dk_seg dksX3_watch_5 22 rfl rfl
theorem dksX3_watch_7 : cX3_watch.data.toList.drop 160 = dktX3_watch_7 := dk_seg dksX3_watch_6 24 rfl rfl
theorem dksX3_watch_8 : cX3_watch.data.toList.drop 182 = dktX3_watch_8 := dk_seg dksX3_watch_7 22 rfl rfl
theorem dksX3_watch_9 : cX3_watch.data.toList.drop 206 = dktX3_watch_9 := dk_seg dksX3_watch_8 24 rfl rfl
theorem dksX3_watch_10 : cX3_watch.data.toList.drop 229 = dktX3_watch_10 := dk_seg dksX3_watch_9 23 rfl rfl
theorem dksX3_watch_11 : cX3_watch.data.toList.drop 251 = dktX3_watch_11 := dk_seg dksX3_watch_10 22 rfl rfl
theorem dksX3_watch_12 : cX3_watch.data.toList.drop 275 = dktX3_watch_12 := dk_seg dksX3_watch_11 24 rfl rfl
theorem dksX3_watch_13 : cX3_watch.data.toList.drop 298 = dktX3_watch_13 := dk_seg dksX3_watch_12 23 rfl rfl
theorem dX3_watch_0 : decode cX3_watch 0 = .ok (.iload_n 1, 1) := dk_27 (dk_at dksX3_watch_0 0 rfl rfl)
theorem dX3_watch_1 : decode cX3_watch 1 = .ok (.invokestatic 102, 3) := dk_184 0 102 (dk_at dksX3_watch_0 1 rfl rfl)
theorem dX3_watch_4 : decode cX3_watch 4 = .ok (.ifCond .eq 34, 3) := dk_153 0 34 (dk_at dksX3_watch_0 4 rfl rfl)
theorem dX3_watch_7 : decode cX3_watch 7 = .ok (.iload_n 2, 1) := dk_28 (dk_at dksX3_watch_0 7 rfl rfl)
theorem dX3_watch_8 : decode cX3_watch 8 = .ok (.iconst (-1), 1) := dk_2 (dk_at dksX3_watch_0 8 rfl rfl)
theorem dX3_watch_9 : decode cX3_watch 9 = .ok (.bipush 7, 2) := dk_16 7 (dk_at dksX3_watch_0 9 rfl rfl)
theorem dX3_watch_11 : decode cX3_watch 11 = .ok (.invokestatic 90, 3) := dk_184 0 90 (dk_at dksX3_watch_0 11 rfl rfl)
theorem dX3_watch_14 : decode cX3_watch 14 = .ok (.ifCond .eq 24, 3) := dk_153 0 24 (dk_at dksX3_watch_0 14 rfl rfl)
theorem dX3_watch_17 : decode cX3_watch 17 = .ok (.iload_n 3, 1) := dk_29 (dk_at dksX3_watch_0 17 rfl rfl)
theorem dX3_watch_18 : decode cX3_watch 18 = .ok (.iconst (-1), 1) := dk_2 (dk_at dksX3_watch_0 18 rfl rfl)
theorem dX3_watch_19 : decode cX3_watch 19 = .ok (.bipush 7, 2) := dk_16 7 (dk_at dksX3_watch_0 19 rfl rfl)
theorem dX3_watch_21 : decode cX3_watch 21 = .ok (.invokestatic 90, 3) := dk_184 0 90 (dk_at dksX3_watch_0 21 rfl rfl)
theorem dX3_watch_24 : decode cX3_watch 24 = .ok (.ifCond .eq 14, 3) := dk_153 0 14 (dk_at dksX3_watch_1 0 rfl rfl)
theorem dX3_watch_27 : decode cX3_watch 27 = .ok (.aload_n 0, 1) := dk_42 (dk_at dksX3_watch_1 3 rfl rfl)
theorem dX3_watch_28 : decode cX3_watch 28 = .ok (.getfield 7, 3) := dk_180 0 7 (dk_at dksX3_watch_1 4 rfl rfl)
theorem dX3_watch_31 : decode cX3_watch 31 = .ok (.iconst 0, 1) := dk_3 (dk_at dksX3_watch_1 7 rfl rfl)
theorem dX3_watch_32 : decode cX3_watch 32 = .ok (.iaload, 1) := dk_46 (dk_at dksX3_watch_1 8 rfl rfl)
theorem dX3_watch_33 : decode cX3_watch 33 = .ok (.bipush 99, 2) := dk_16 99 (dk_at dksX3_watch_1 9 rfl rfl)
theorem dX3_watch_35 : decode cX3_watch 35 = .ok (.if_icmp .ne 5, 3) := dk_160 0 5 (dk_at dksX3_watch_1 11 rfl rfl)
theorem dX3_watch_38 : decode cX3_watch 38 = .ok (.iconst (-1), 1) := dk_2 (dk_at dksX3_watch_1 14 rfl rfl)
theorem dX3_watch_39 : decode cX3_watch 39 = .ok (.ireturn, 1) := dk_172 (dk_at dksX3_watch_1 15 rfl rfl)
theorem dX3_watch_40 : decode cX3_watch 40 = .ok (.aload_n 0, 1) := dk_42 (dk_at dksX3_watch_1 16 rfl rfl)
theorem dX3_watch_41 : decode cX3_watch 41 = .ok (.getfield 7, 3) := dk_180 0 7 (dk_at dksX3_watch_1 17 rfl rfl)
theorem dX3_watch_44 : decode cX3_watch 44 = .ok (.iconst 0, 1) := dk_3 (dk_at dksX3_watch_1 20 rfl rfl)
theorem dX3_watch_45 : decode cX3_watch 45 = .ok (.iconst 0, 1) := dk_3 (dk_at dksX3_watch_1 21 rfl rfl)
theorem dX3_watch_46 : decode cX3_watch 46 = .ok (.invokestatic 108, 3) := dk_184 0 108 (dk_at dksX3_watch_2 0 rfl rfl)
theorem dX3_watch_49 : decode cX3_watch 49 = .ok (.iaload, 1) := dk_46 (dk_at dksX3_watch_2 3 rfl rfl)
theorem dX3_watch_50 : decode cX3_watch 50 = .ok (.istore 4, 2) := dk_54 4 (dk_at dksX3_watch_2 4 rfl rfl)
theorem dX3_watch_52 : decode cX3_watch 52 = .ok (.aload_n 0, 1) := dk_42 (dk_at dksX3_watch_2 6 rfl rfl)
theorem dX3_watch_53 : decode cX3_watch 53 = .ok (.sipush 504, 3) := dk_17 1 248 (dk_at dksX3_watch_2 7 rfl rfl)
theorem dX3_watch_56 : decode cX3_watch 56 = .ok (.invokevirtual 316, 3) := dk_182 1 60 (dk_at dksX3_watch_2 10 rfl rfl)
theorem dX3_watch_59 : decode cX3_watch 59 = .ok (.aload_n 0, 1) := dk_42 (dk_at dksX3_watch_2 13 rfl rfl)
theorem dX3_watch_60 : decode cX3_watch 60 = .ok (.sipush 468, 3) := dk_17 1 212 (dk_at dksX3_watch_2 14 rfl rfl)
theorem dX3_watch_63 : decode cX3_watch 63 = .ok (.invokevirtual 316, 3) := dk_182 1 60 (dk_at dksX3_watch_2 17 rfl rfl)
theorem dX3_watch_66 : decode cX3_watch 66 = .ok (.aload_n 0, 1) := dk_42 (dk_at dksX3_watch_2 20 rfl rfl)
theorem dX3_watch_67 : decode cX3_watch 67 = .ok (.iconst 0, 1) := dk_3 (dk_at dksX3_watch_2 21 rfl rfl)
theorem dX3_watch_68 : decode cX3_watch 68 = .ok (.sipush 504, 3) := dk_17 1 248 (dk_at dksX3_watch_3 0 rfl rfl)
theorem dX3_watch_71 : decode cX3_watch 71 = .ok (.iload_n 2, 1) := dk_28 (dk_at dksX3_watch_3 3 rfl rfl)
theorem dX3_watch_72 : decode cX3_watch 72 = .ok (.invokevirtual 332, 3) := dk_182 1 76 (dk_at dksX3_watch_3 4 rfl rfl)
theorem dX3_watch_75 : decode cX3_watch 75 = .ok (.istore 5, 2) := dk_54 5 (dk_at dksX3_watch_3 7 rfl rfl)
theorem dX3_watch_77 : decode cX3_watch 77 = .ok (.iload 5, 2) := dk_21 5 (dk_at dksX3_watch_3 9 rfl rfl)
theorem dX3_watch_79 : decode cX3_watch 79 = .ok (.ifCond .eq 20, 3) := dk_153 0 20 (dk_at dksX3_watch_3 11 rfl rfl)
theorem dX3_watch_82 : decode cX3_watch 82 = .ok (.iload_n 2, 1) := dk_28 (dk_at dksX3_watch_3 14 rfl rfl)
theorem dX3_watch_83 : decode cX3_watch 83 = .ok (.iconst 4, 1) := dk_7 (dk_at dksX3_watch_3 15 rfl rfl)
theorem dX3_watch_84 : decode cX3_watch 84 = .ok (.if_icmp .ge 15, 3) := dk_162 0 15 (dk_at dksX3_watch_3 16 rfl rfl)
theorem dX3_watch_87 : decode cX3_watch 87 = .ok (.aload_n 0, 1) := dk_42 (dk_at dksX3_watch_3 19 rfl rfl)
theorem dX3_watch_88 : decode cX3_watch 88 = .ok (.getfield 43, 3) := dk_180 0 43 (dk_at dksX3_watch_3 20 rfl rfl)
theorem dX3_watch_91 : decode cX3_watch 91 = .ok (.sipush 468, 3) := dk_17 1 212 (dk_at dksX3_watch_4 0 rfl rfl)
theorem dX3_watch_94 : decode cX3_watch 94 = .ok (.iload 4, 2) := dk_21 4 (dk_at dksX3_watch_4 3 rfl rfl)
theorem dX3_watch_96 : decode cX3_watch 96 = .ok (.iadd, 1) := dk_96 (dk_at dksX3_watch_4 5 rfl rfl)
theorem dX3_watch_97 : decode cX3_watch 97 = .ok (.iconst 0, 1) := dk_3 (dk_at dksX3_watch_4 6 rfl rfl)
theorem dX3_watch_98 : decode cX3_watch 98 = .ok (.iastore, 1) := dk_79 (dk_at dksX3_watch_4 7 rfl rfl)
theorem dX3_watch_99 : decode cX3_watch 99 = .ok (.aload_n 0, 1) := dk_42 (dk_at dksX3_watch_4 8 rfl rfl)
theorem dX3_watch_100 : decode cX3_watch 100 = .ok (.iconst 1, 1) := dk_4 (dk_at dksX3_watch_4 9 rfl rfl)
theorem dX3_watch_101 : decode cX3_watch 101 = .ok (.sipush 468, 3) := dk_17 1 212 (dk_at dksX3_watch_4 10 rfl rfl)
theorem dX3_watch_104 : decode cX3_watch 104 = .ok (.iload_n 3, 1) := dk_29 (dk_at dksX3_watch_4 13 rfl rfl)
theorem dX3_watch_105 : decode cX3_watch 105 = .ok (.invokevirtual 332, 3) := dk_182 1 76 (dk_at dksX3_watch_4 14 rfl rfl)
theorem dX3_watch_108 : decode cX3_watch 108 = .ok (.istore 6, 2) := dk_54 6 (dk_at dksX3_watch_4 17 rfl rfl)
theorem dX3_watch_110 : decode cX3_watch 110 = .ok (.aload_n 0, 1) := dk_42 (dk_at dksX3_watch_4 19 rfl rfl)
theorem dX3_watch_111 : decode cX3_watch 111 = .ok (.sipush 504, 3) := dk_17 1 248 (dk_at dksX3_watch_4 20 rfl rfl)
theorem dX3_watch_114 : decode cX3_watch 114 = .ok (.sipush 540, 3) := dk_17 2 28 (dk_at dksX3_watch_5 0 rfl rfl)
theorem dX3_watch_117 : decode cX3_watch 117 = .ok (.iload_n 1, 1) := dk_27 (dk_at dksX3_watch_5 3 rfl rfl)
theorem dX3_watch_118 : decode cX3_watch 118 = .ok (.aload_n 0, 1) := dk_42 (dk_at dksX3_watch_5 4 rfl rfl)
theorem dX3_watch_119 : decode cX3_watch 119 = .ok (.getfield 7, 3) := dk_180 0 7 (dk_at dksX3_watch_5 5 rfl rfl)
theorem dX3_watch_122 : decode cX3_watch 122 = .ok (.iconst 0, 1) := dk_3 (dk_at dksX3_watch_5 8 rfl rfl)
theorem dX3_watch_123 : decode cX3_watch 123 = .ok (.iaload, 1) := dk_46 (dk_at dksX3_watch_5 9 rfl rfl)
theorem dX3_watch_124 : decode cX3_watch 124 = .ok (.invokevirtual 335, 3) := dk_182 1 79 (dk_at dksX3_watch_5 10 rfl rfl)
theorem dX3_watch_127 : decode cX3_watch 127 = .ok (.iconst 0, 1) := dk_3 (dk_at dksX3_watch_5 13 rfl rfl)
theorem dX3_watch_128 : decode cX3_watch 128 = .ok (.istore 7, 2) := dk_54 7 (dk_at dksX3_watch_5 14 rfl rfl)
theorem dX3_watch_130 : decode cX3_watch 130 = .ok (.iload 7, 2) := dk_21 7 (dk_at dksX3_watch_5 16 rfl rfl)
theorem dX3_watch_132 : decode cX3_watch 132 = .ok (.aload_n 0, 1) := dk_42 (dk_at dksX3_watch_5 18 rfl rfl)
theorem dX3_watch_133 : decode cX3_watch 133 = .ok (.getfield 83, 3) := dk_180 0 83 (dk_at dksX3_watch_5 19 rfl rfl)
theorem dX3_watch_136 : decode cX3_watch 136 = .ok (.if_icmp .ge 52, 3) := dk_162 0 52 (dk_at dksX3_watch_6 0 rfl rfl)
theorem dX3_watch_139 : decode cX3_watch 139 = .ok (.aload_n 0, 1) := dk_42 (dk_at dksX3_watch_6 3 rfl rfl)
theorem dX3_watch_140 : decode cX3_watch 140 = .ok (.getfield 7, 3) := dk_180 0 7 (dk_at dksX3_watch_6 4 rfl rfl)
theorem dX3_watch_143 : decode cX3_watch 143 = .ok (.bipush 30, 2) := dk_16 30 (dk_at dksX3_watch_6 7 rfl rfl)
theorem dX3_watch_145 : decode cX3_watch 145 = .ok (.iload 7, 2) := dk_21 7 (dk_at dksX3_watch_6 9 rfl rfl)
theorem dX3_watch_147 : decode cX3_watch 147 = .ok (.iadd, 1) := dk_96 (dk_at dksX3_watch_6 11 rfl rfl)
theorem dX3_watch_148 : decode cX3_watch 148 = .ok (.aload_n 0, 1) := dk_42 (dk_at dksX3_watch_6 12 rfl rfl)
theorem dX3_watch_149 : decode cX3_watch 149 = .ok (.getfield 43, 3) := dk_180 0 43 (dk_at dksX3_watch_6 13 rfl rfl)
theorem dX3_watch_152 : decode cX3_watch 152 = .ok (.sipush 540, 3) := dk_17 2 28 (dk_at dksX3_watch_6 16 rfl rfl)
theorem dX3_watch_155 : decode cX3_watch 155 = .ok (.iload 7, 2) := dk_21 7 (dk_at dksX3_watch_6 19 rfl rfl)
theorem dX3_watch_157 : decode cX3_watch 157 = .ok (.iadd, 1) := dk_96 (dk_at dksX3_watch_6 21 rfl rfl)
theorem dX3_watch_158 : decode cX3_watch 158 = .ok (.iaload, 1) := dk_46 (dk_at dksX3_watch_6 22 rfl rfl)
theorem dX3_watch_159 : decode cX3_watch 159 = .ok (.iastore, 1) := dk_79 (dk_at dksX3_watch_6 23 rfl rfl)
theorem dX3_watch_160 : decode cX3_watch 160 = .ok (.aload_n 0, 1) := dk_42 (dk_at dksX3_watch_7 0 rfl rfl)
theorem dX3_watch_161 : decode cX3_watch 161 = .ok (.getfield 43, 3) := dk_180 0 43 (dk_at dksX3_watch_7 1 rfl rfl)
theorem dX3_watch_164 : decode cX3_watch 164 = .ok (.sipush 504, 3) := dk_17 1 248 (dk_at dksX3_watch_7 4 rfl rfl)
theorem dX3_watch_167 : decode cX3_watch 167 = .ok (.iload 7, 2) := dk_21 7 (dk_at dksX3_watch_7 7 rfl rfl)
theorem dX3_watch_169 : decode cX3_watch 169 = .ok (.iadd, 1) := dk_96 (dk_at dksX3_watch_7 9 rfl rfl)
theorem dX3_watch_170 : decode cX3_watch 170 = .ok (.aload_n 0, 1) := dk_42 (dk_at dksX3_watch_7 10 rfl rfl)
theorem dX3_watch_171 : decode cX3_watch 171 = .ok (.getfield 43, 3) := dk_180 0 43 (dk_at dksX3_watch_7 11 rfl rfl)
theorem dX3_watch_174 : decode cX3_watch 174 = .ok (.sipush 540, 3) := dk_17 2 28 (dk_at dksX3_watch_7 14 rfl rfl)
theorem dX3_watch_177 : decode cX3_watch 177 = .ok (.iload 7, 2) := dk_21 7 (dk_at dksX3_watch_7 17 rfl rfl)
theorem dX3_watch_179 : decode cX3_watch 179 = .ok (.iadd, 1) := dk_96 (dk_at dksX3_watch_7 19 rfl rfl)
theorem dX3_watch_180 : decode cX3_watch 180 = .ok (.iaload, 1) := dk_46 (dk_at dksX3_watch_7 20 rfl rfl)
theorem dX3_watch_181 : decode cX3_watch 181 = .ok (.iastore, 1) := dk_79 (dk_at dksX3_watch_7 21 rfl rfl)
theorem dX3_watch_182 : decode cX3_watch 182 = .ok (.iinc 7 1, 3) := dk_132 7 1 (dk_at dksX3_watch_8 0 rfl rfl)
theorem dX3_watch_185 : decode cX3_watch 185 = .ok (.goto (-55), 3) := dk_167 255 201 (dk_at dksX3_watch_8 3 rfl rfl)
theorem dX3_watch_188 : decode cX3_watch 188 = .ok (.aload_n 0, 1) := dk_42 (dk_at dksX3_watch_8 6 rfl rfl)
theorem dX3_watch_189 : decode cX3_watch 189 = .ok (.iconst 0, 1) := dk_3 (dk_at dksX3_watch_8 7 rfl rfl)
theorem dX3_watch_190 : decode cX3_watch 190 = .ok (.iload 5, 2) := dk_21 5 (dk_at dksX3_watch_8 8 rfl rfl)
theorem dX3_watch_192 : decode cX3_watch 192 = .ok (.iload_n 2, 1) := dk_28 (dk_at dksX3_watch_8 10 rfl rfl)
theorem dX3_watch_193 : decode cX3_watch 193 = .ok (.iload_n 1, 1) := dk_27 (dk_at dksX3_watch_8 11 rfl rfl)
theorem dX3_watch_194 : decode cX3_watch 194 = .ok (.invokevirtual 338, 3) := dk_182 1 82 (dk_at dksX3_watch_8 12 rfl rfl)
theorem dX3_watch_197 : decode cX3_watch 197 = .ok (.aload_n 0, 1) := dk_42 (dk_at dksX3_watch_8 15 rfl rfl)
theorem dX3_watch_198 : decode cX3_watch 198 = .ok (.iconst 1, 1) := dk_4 (dk_at dksX3_watch_8 16 rfl rfl)
theorem dX3_watch_199 : decode cX3_watch 199 = .ok (.iload 6, 2) := dk_21 6 (dk_at dksX3_watch_8 17 rfl rfl)
theorem dX3_watch_201 : decode cX3_watch 201 = .ok (.iload_n 3, 1) := dk_29 (dk_at dksX3_watch_8 19 rfl rfl)
theorem dX3_watch_202 : decode cX3_watch 202 = .ok (.iload_n 1, 1) := dk_27 (dk_at dksX3_watch_8 20 rfl rfl)
theorem dX3_watch_203 : decode cX3_watch 203 = .ok (.invokevirtual 338, 3) := dk_182 1 82 (dk_at dksX3_watch_8 21 rfl rfl)
theorem dX3_watch_206 : decode cX3_watch 206 = .ok (.iconst 0, 1) := dk_3 (dk_at dksX3_watch_9 0 rfl rfl)
theorem dX3_watch_207 : decode cX3_watch 207 = .ok (.istore 7, 2) := dk_54 7 (dk_at dksX3_watch_9 1 rfl rfl)
theorem dX3_watch_209 : decode cX3_watch 209 = .ok (.iload 7, 2) := dk_21 7 (dk_at dksX3_watch_9 3 rfl rfl)
theorem dX3_watch_211 : decode cX3_watch 211 = .ok (.aload_n 0, 1) := dk_42 (dk_at dksX3_watch_9 5 rfl rfl)
theorem dX3_watch_212 : decode cX3_watch 212 = .ok (.getfield 7, 3) := dk_180 0 7 (dk_at dksX3_watch_9 6 rfl rfl)
theorem dX3_watch_215 : decode cX3_watch 215 = .ok (.bipush 7, 2) := dk_16 7 (dk_at dksX3_watch_9 9 rfl rfl)
theorem dX3_watch_217 : decode cX3_watch 217 = .ok (.iaload, 1) := dk_46 (dk_at dksX3_watch_9 11 rfl rfl)
theorem dX3_watch_218 : decode cX3_watch 218 = .ok (.if_icmp .ge 57, 3) := dk_162 0 57 (dk_at dksX3_watch_9 12 rfl rfl)
theorem dX3_watch_221 : decode cX3_watch 221 = .ok (.aload_n 0, 1) := dk_42 (dk_at dksX3_watch_9 15 rfl rfl)
theorem dX3_watch_222 : decode cX3_watch 222 = .ok (.getfield 7, 3) := dk_180 0 7 (dk_at dksX3_watch_9 16 rfl rfl)
theorem dX3_watch_225 : decode cX3_watch 225 = .ok (.sipush 220, 3) := dk_17 0 220 (dk_at dksX3_watch_9 19 rfl rfl)
theorem dX3_watch_228 : decode cX3_watch 228 = .ok (.iconst 2, 1) := dk_5 (dk_at dksX3_watch_9 22 rfl rfl)
theorem dX3_watch_229 : decode cX3_watch 229 = .ok (.iload 7, 2) := dk_21 7 (dk_at dksX3_watch_10 0 rfl rfl)
theorem dX3_watch_231 : decode cX3_watch 231 = .ok (.imul, 1) := dk_104 (dk_at dksX3_watch_10 2 rfl rfl)
theorem dX3_watch_232 : decode cX3_watch 232 = .ok (.iadd, 1) := dk_96 (dk_at dksX3_watch_10 3 rfl rfl)
theorem dX3_watch_233 : decode cX3_watch 233 = .ok (.iaload, 1) := dk_46 (dk_at dksX3_watch_10 4 rfl rfl)
theorem dX3_watch_234 : decode cX3_watch 234 = .ok (.ifCond .lt 35, 3) := dk_155 0 35 (dk_at dksX3_watch_10 5 rfl rfl)
theorem dX3_watch_237 : decode cX3_watch 237 = .ok (.aload_n 0, 1) := dk_42 (dk_at dksX3_watch_10 8 rfl rfl)
theorem dX3_watch_238 : decode cX3_watch 238 = .ok (.getfield 7, 3) := dk_180 0 7 (dk_at dksX3_watch_10 9 rfl rfl)
theorem dX3_watch_241 : decode cX3_watch 241 = .ok (.sipush 220, 3) := dk_17 0 220 (dk_at dksX3_watch_10 12 rfl rfl)
theorem dX3_watch_244 : decode cX3_watch 244 = .ok (.iconst 2, 1) := dk_5 (dk_at dksX3_watch_10 15 rfl rfl)
theorem dX3_watch_245 : decode cX3_watch 245 = .ok (.iload 7, 2) := dk_21 7 (dk_at dksX3_watch_10 16 rfl rfl)
theorem dX3_watch_247 : decode cX3_watch 247 = .ok (.imul, 1) := dk_104 (dk_at dksX3_watch_10 18 rfl rfl)
theorem dX3_watch_248 : decode cX3_watch 248 = .ok (.iadd, 1) := dk_96 (dk_at dksX3_watch_10 19 rfl rfl)
theorem dX3_watch_249 : decode cX3_watch 249 = .ok (.aload_n 0, 1) := dk_42 (dk_at dksX3_watch_10 20 rfl rfl)
theorem dX3_watch_250 : decode cX3_watch 250 = .ok (.aload_n 0, 1) := dk_42 (dk_at dksX3_watch_10 21 rfl rfl)
theorem dX3_watch_251 : decode cX3_watch 251 = .ok (.getfield 7, 3) := dk_180 0 7 (dk_at dksX3_watch_11 0 rfl rfl)
theorem dX3_watch_254 : decode cX3_watch 254 = .ok (.sipush 220, 3) := dk_17 0 220 (dk_at dksX3_watch_11 3 rfl rfl)
theorem dX3_watch_257 : decode cX3_watch 257 = .ok (.iconst 2, 1) := dk_5 (dk_at dksX3_watch_11 6 rfl rfl)
theorem dX3_watch_258 : decode cX3_watch 258 = .ok (.iload 7, 2) := dk_21 7 (dk_at dksX3_watch_11 7 rfl rfl)
theorem dX3_watch_260 : decode cX3_watch 260 = .ok (.imul, 1) := dk_104 (dk_at dksX3_watch_11 9 rfl rfl)
theorem dX3_watch_261 : decode cX3_watch 261 = .ok (.iadd, 1) := dk_96 (dk_at dksX3_watch_11 10 rfl rfl)
theorem dX3_watch_262 : decode cX3_watch 262 = .ok (.iaload, 1) := dk_46 (dk_at dksX3_watch_11 11 rfl rfl)
theorem dX3_watch_263 : decode cX3_watch 263 = .ok (.iload_n 1, 1) := dk_27 (dk_at dksX3_watch_11 12 rfl rfl)
theorem dX3_watch_264 : decode cX3_watch 264 = .ok (.iconst 1, 1) := dk_4 (dk_at dksX3_watch_11 13 rfl rfl)
theorem dX3_watch_265 : decode cX3_watch 265 = .ok (.invokevirtual 299, 3) := dk_182 1 43 (dk_at dksX3_watch_11 14 rfl rfl)
theorem dX3_watch_268 : decode cX3_watch 268 = .ok (.iastore, 1) := dk_79 (dk_at dksX3_watch_11 17 rfl rfl)
theorem dX3_watch_269 : decode cX3_watch 269 = .ok (.iinc 7 1, 3) := dk_132 7 1 (dk_at dksX3_watch_11 18 rfl rfl)
theorem dX3_watch_272 : decode cX3_watch 272 = .ok (.goto (-63), 3) := dk_167 255 193 (dk_at dksX3_watch_11 21 rfl rfl)
theorem dX3_watch_275 : decode cX3_watch 275 = .ok (.aload_n 0, 1) := dk_42 (dk_at dksX3_watch_12 0 rfl rfl)
theorem dX3_watch_276 : decode cX3_watch 276 = .ok (.getfield 7, 3) := dk_180 0 7 (dk_at dksX3_watch_12 1 rfl rfl)
theorem dX3_watch_279 : decode cX3_watch 279 = .ok (.iconst 1, 1) := dk_4 (dk_at dksX3_watch_12 4 rfl rfl)
theorem dX3_watch_280 : decode cX3_watch 280 = .ok (.iload_n 1, 1) := dk_27 (dk_at dksX3_watch_12 5 rfl rfl)
theorem dX3_watch_281 : decode cX3_watch 281 = .ok (.iastore, 1) := dk_79 (dk_at dksX3_watch_12 6 rfl rfl)
theorem dX3_watch_282 : decode cX3_watch 282 = .ok (.aload_n 0, 1) := dk_42 (dk_at dksX3_watch_12 7 rfl rfl)
theorem dX3_watch_283 : decode cX3_watch 283 = .ok (.getfield 7, 3) := dk_180 0 7 (dk_at dksX3_watch_12 8 rfl rfl)
theorem dX3_watch_286 : decode cX3_watch 286 = .ok (.iconst 0, 1) := dk_3 (dk_at dksX3_watch_12 11 rfl rfl)
theorem dX3_watch_287 : decode cX3_watch 287 = .ok (.dup2, 1) := dk_92 (dk_at dksX3_watch_12 12 rfl rfl)
theorem dX3_watch_288 : decode cX3_watch 288 = .ok (.iaload, 1) := dk_46 (dk_at dksX3_watch_12 13 rfl rfl)
theorem dX3_watch_289 : decode cX3_watch 289 = .ok (.iconst 1, 1) := dk_4 (dk_at dksX3_watch_12 14 rfl rfl)
theorem dX3_watch_290 : decode cX3_watch 290 = .ok (.iadd, 1) := dk_96 (dk_at dksX3_watch_12 15 rfl rfl)
theorem dX3_watch_291 : decode cX3_watch 291 = .ok (.iastore, 1) := dk_79 (dk_at dksX3_watch_12 16 rfl rfl)
theorem dX3_watch_292 : decode cX3_watch 292 = .ok (.iload 5, 2) := dk_21 5 (dk_at dksX3_watch_12 17 rfl rfl)
theorem dX3_watch_294 : decode cX3_watch 294 = .ok (.ifCond .eq 7, 3) := dk_153 0 7 (dk_at dksX3_watch_12 19 rfl rfl)
theorem dX3_watch_297 : decode cX3_watch 297 = .ok (.iconst 1, 1) := dk_4 (dk_at dksX3_watch_12 22 rfl rfl)
theorem dX3_watch_298 : decode cX3_watch 298 = .ok (.goto 4, 3) := dk_167 0 4 (dk_at dksX3_watch_13 0 rfl rfl)
theorem dX3_watch_301 : decode cX3_watch 301 = .ok (.iconst 0, 1) := dk_3 (dk_at dksX3_watch_13 3 rfl rfl)
theorem dX3_watch_302 : decode cX3_watch 302 = .ok (.iload 6, 2) := dk_21 6 (dk_at dksX3_watch_13 4 rfl rfl)
theorem dX3_watch_304 : decode cX3_watch 304 = .ok (.ifCond .eq 7, 3) := dk_153 0 7 (dk_at dksX3_watch_13 6 rfl rfl)
theorem dX3_watch_307 : decode cX3_watch 307 = .ok (.iconst 2, 1) := dk_5 (dk_at dksX3_watch_13 9 rfl rfl)
theorem dX3_watch_308 : decode cX3_watch 308 = .ok (.goto 4, 3) := dk_167 0 4 (dk_at dksX3_watch_13 10 rfl rfl)
theorem dX3_watch_311 : decode cX3_watch 311 = .ok (.iconst 0, 1) := dk_3 (dk_at dksX3_watch_13 13 rfl rfl)
theorem dX3_watch_312 : decode cX3_watch 312 = .ok (.iadd, 1) := dk_96 (dk_at dksX3_watch_13 14 rfl rfl)
theorem dX3_watch_313 : decode cX3_watch 313 = .ok (.ireturn, 1) := dk_172 (dk_at dksX3_watch_13 15 rfl rfl)
abbrev cX3_does : ByteArray := prog_17_method_75_code
def yX3_does : MethodName := ⟨RX3, "does", "(III)Z"⟩
def dkwX3_does_5 : List UInt8 := [160, 0, 14, 42, 180, 0, 7, 27, 6, 184, 0, 108, 4, 79, 4, 172]
abbrev dktX3_does_5 : List UInt8 := dkwX3_does_5 ++ []
def dkwX3_does_4 : List UInt8 := [180, 0, 7, 27, 3, 184, 0, 108, 21, 5, 79, 42, 180, 0, 7, 16, 70, 21, 5, 96, 46, 4]
abbrev dktX3_does_4 : List UInt8 := dkwX3_does_4 ++ dktX3_does_5
def dkwX3_does_3 : List UInt8 := [6, 164, 0, 5, 4, 172, 42, 42, 180, 0, 7, 27, 3, 184, 0, 108, 46, 29, 182, 1, 15, 54, 5, 42]
abbrev dktX3_does_3 : List UInt8 := dkwX3_does_3 ++ dktX3_does_4
def dkwX3_does_2 : List UInt8 := [180, 0, 7, 27, 5, 184, 0, 108, 29, 42, 180, 0, 7, 27, 5, 184, 0, 108, 46, 184, 1, 66, 79, 29]
abbrev dktX3_does_2 : List UInt8 := dkwX3_does_2 ++ dktX3_does_3
def dkwX3_does_1 : List UInt8 := [21, 4, 156, 0, 5, 3, 172, 42, 180, 0, 7, 27, 4, 184, 0, 108, 92, 46, 21, 4, 100, 79, 42]
abbrev dktX3_does_1 : List UInt8 := dkwX3_does_1 ++ dktX3_does_2
def dkwX3_does_0 : List UInt8 := [29, 155, 0, 11, 42, 27, 182, 1, 57, 154, 0, 5, 3, 172, 42, 27, 28, 29, 182, 1, 63, 54, 4]
abbrev dktX3_does_0 : List UInt8 := dkwX3_does_0 ++ dktX3_does_1
theorem dksX3_does_0 : cX3_does.data.toList.drop 0 = dktX3_does_0 := by decide +kernel
theorem dksX3_does_1 : cX3_does.data.toList.drop 23 = dktX3_does_1 := dk_seg dksX3_does_0 23 rfl rfl
theorem dksX3_does_2 : cX3_does.data.toList.drop 46 = dktX3_does_2 := dk_seg dksX3_does_1 23 rfl rfl
theorem dksX3_does_3 : cX3_does.data.toList.drop 70 = dktX3_does_3 := dk_seg dksX3_does_2 24 rfl rfl
theorem dksX3_does_4 : cX3_does.data.toList.drop 94 = dktX3_does_4 := dk_seg dksX3_does_3 24 rfl rfl
theorem dksX3_does_5 : cX3_does.data.toList.drop 116 = dktX3_does_5 := dk_seg dksX3_does_4 22 rfl rfl
theorem dX3_does_0 : decode cX3_does 0 = .ok (.iload_n 3, 1) := dk_29 (dk_at dksX3_does_0 0 rfl rfl)
theorem dX3_does_1 : decode cX3_does 1 = .ok (.ifCond .lt 11, 3) := dk_155 0 11 (dk_at dksX3_does_0 1 rfl rfl)
theorem dX3_does_4 : decode cX3_does 4 = .ok (.aload_n 0, 1) := dk_42 (dk_at dksX3_does_0 4 rfl rfl)
theorem dX3_does_5 : decode cX3_does 5 = .ok (.iload_n 1, 1) := dk_27 (dk_at dksX3_does_0 5 rfl rfl)
theorem dX3_does_6 : decode cX3_does 6 = .ok (.invokevirtual 313, 3) := dk_182 1 57 (dk_at dksX3_does_0 6 rfl rfl)
theorem dX3_does_9 : decode cX3_does 9 = .ok (.ifCond .ne 5, 3) := dk_154 0 5 (dk_at dksX3_does_0 9 rfl rfl)
theorem dX3_does_12 : decode cX3_does 12 = .ok (.iconst 0, 1) := dk_3 (dk_at dksX3_does_0 12 rfl rfl)
theorem dX3_does_13 : decode cX3_does 13 = .ok (.ireturn, 1) := dk_172 (dk_at dksX3_does_0 13 rfl rfl)
theorem dX3_does_14 : decode cX3_does 14 = .ok (.aload_n 0, 1) := dk_42 (dk_at dksX3_does_0 14 rfl rfl)
theorem dX3_does_15 : decode cX3_does 15 = .ok (.iload_n 1, 1) := dk_27 (dk_at dksX3_does_0 15 rfl rfl)
theorem dX3_does_16 : decode cX3_does 16 = .ok (.iload_n 2, 1) := dk_28 (dk_at dksX3_does_0 16 rfl rfl)
theorem dX3_does_17 : decode cX3_does 17 = .ok (.iload_n 3, 1) := dk_29 (dk_at dksX3_does_0 17 rfl rfl)
theorem dX3_does_18 : decode cX3_does 18 = .ok (.invokevirtual 319, 3) := dk_182 1 63 (dk_at dksX3_does_0 18 rfl rfl)
theorem dX3_does_21 : decode cX3_does 21 = .ok (.istore 4, 2) := dk_54 4 (dk_at dksX3_does_0 21 rfl rfl)
theorem dX3_does_23 : decode cX3_does 23 = .ok (.iload 4, 2) := dk_21 4 (dk_at dksX3_does_1 0 rfl rfl)
theorem dX3_does_25 : decode cX3_does 25 = .ok (.ifCond .ge 5, 3) := dk_156 0 5 (dk_at dksX3_does_1 2 rfl rfl)
theorem dX3_does_28 : decode cX3_does 28 = .ok (.iconst 0, 1) := dk_3 (dk_at dksX3_does_1 5 rfl rfl)
theorem dX3_does_29 : decode cX3_does 29 = .ok (.ireturn, 1) := dk_172 (dk_at dksX3_does_1 6 rfl rfl)
theorem dX3_does_30 : decode cX3_does 30 = .ok (.aload_n 0, 1) := dk_42 (dk_at dksX3_does_1 7 rfl rfl)
theorem dX3_does_31 : decode cX3_does 31 = .ok (.getfield 7, 3) := dk_180 0 7 (dk_at dksX3_does_1 8 rfl rfl)
theorem dX3_does_34 : decode cX3_does 34 = .ok (.iload_n 1, 1) := dk_27 (dk_at dksX3_does_1 11 rfl rfl)
theorem dX3_does_35 : decode cX3_does 35 = .ok (.iconst 1, 1) := dk_4 (dk_at dksX3_does_1 12 rfl rfl)
theorem dX3_does_36 : decode cX3_does 36 = .ok (.invokestatic 108, 3) := dk_184 0 108 (dk_at dksX3_does_1 13 rfl rfl)
theorem dX3_does_39 : decode cX3_does 39 = .ok (.dup2, 1) := dk_92 (dk_at dksX3_does_1 16 rfl rfl)
theorem dX3_does_40 : decode cX3_does 40 = .ok (.iaload, 1) := dk_46 (dk_at dksX3_does_1 17 rfl rfl)
theorem dX3_does_41 : decode cX3_does 41 = .ok (.iload 4, 2) := dk_21 4 (dk_at dksX3_does_1 18 rfl rfl)
theorem dX3_does_43 : decode cX3_does 43 = .ok (.isub, 1) := dk_100 (dk_at dksX3_does_1 20 rfl rfl)
theorem dX3_does_44 : decode cX3_does 44 = .ok (.iastore, 1) := dk_79 (dk_at dksX3_does_1 21 rfl rfl)
theorem dX3_does_45 : decode cX3_does 45 = .ok (.aload_n 0, 1) := dk_42 (dk_at dksX3_does_1 22 rfl rfl)
theorem dX3_does_46 : decode cX3_does 46 = .ok (.getfield 7, 3) := dk_180 0 7 (dk_at dksX3_does_2 0 rfl rfl)
theorem dX3_does_49 : decode cX3_does 49 = .ok (.iload_n 1, 1) := dk_27 (dk_at dksX3_does_2 3 rfl rfl)
theorem dX3_does_50 : decode cX3_does 50 = .ok (.iconst 2, 1) := dk_5 (dk_at dksX3_does_2 4 rfl rfl)
theorem dX3_does_51 : decode cX3_does 51 = .ok (.invokestatic 108, 3) := dk_184 0 108 (dk_at dksX3_does_2 5 rfl rfl)
theorem dX3_does_54 : decode cX3_does 54 = .ok (.iload_n 3, 1) := dk_29 (dk_at dksX3_does_2 8 rfl rfl)
theorem dX3_does_55 : decode cX3_does 55 = .ok (.aload_n 0, 1) := dk_42 (dk_at dksX3_does_2 9 rfl rfl)
theorem dX3_does_56 : decode cX3_does 56 = .ok (.getfield 7, 3) := dk_180 0 7 (dk_at dksX3_does_2 10 rfl rfl)
theorem dX3_does_59 : decode cX3_does 59 = .ok (.iload_n 1, 1) := dk_27 (dk_at dksX3_does_2 13 rfl rfl)
theorem dX3_does_60 : decode cX3_does 60 = .ok (.iconst 2, 1) := dk_5 (dk_at dksX3_does_2 14 rfl rfl)
theorem dX3_does_61 : decode cX3_does 61 = .ok (.invokestatic 108, 3) := dk_184 0 108 (dk_at dksX3_does_2 15 rfl rfl)
theorem dX3_does_64 : decode cX3_does 64 = .ok (.iaload, 1) := dk_46 (dk_at dksX3_does_2 18 rfl rfl)
theorem dX3_does_65 : decode cX3_does 65 = .ok (.invokestatic 322, 3) := dk_184 1 66 (dk_at dksX3_does_2 19 rfl rfl)
theorem dX3_does_68 : decode cX3_does 68 = .ok (.iastore, 1) := dk_79 (dk_at dksX3_does_2 22 rfl rfl)
theorem dX3_does_69 : decode cX3_does 69 = .ok (.iload_n 3, 1) := dk_29 (dk_at dksX3_does_2 23 rfl rfl)
theorem dX3_does_70 : decode cX3_does 70 = .ok (.iconst 3, 1) := dk_6 (dk_at dksX3_does_3 0 rfl rfl)
theorem dX3_does_71 : decode cX3_does 71 = .ok (.if_icmp .le 5, 3) := dk_164 0 5 (dk_at dksX3_does_3 1 rfl rfl)
theorem dX3_does_74 : decode cX3_does 74 = .ok (.iconst 1, 1) := dk_4 (dk_at dksX3_does_3 4 rfl rfl)
theorem dX3_does_75 : decode cX3_does 75 = .ok (.ireturn, 1) := dk_172 (dk_at dksX3_does_3 5 rfl rfl)
theorem dX3_does_76 : decode cX3_does 76 = .ok (.aload_n 0, 1) := dk_42 (dk_at dksX3_does_3 6 rfl rfl)
theorem dX3_does_77 : decode cX3_does 77 = .ok (.aload_n 0, 1) := dk_42 (dk_at dksX3_does_3 7 rfl rfl)
theorem dX3_does_78 : decode cX3_does 78 = .ok (.getfield 7, 3) := dk_180 0 7 (dk_at dksX3_does_3 8 rfl rfl)
theorem dX3_does_81 : decode cX3_does 81 = .ok (.iload_n 1, 1) := dk_27 (dk_at dksX3_does_3 11 rfl rfl)
theorem dX3_does_82 : decode cX3_does 82 = .ok (.iconst 0, 1) := dk_3 (dk_at dksX3_does_3 12 rfl rfl)
theorem dX3_does_83 : decode cX3_does 83 = .ok (.invokestatic 108, 3) := dk_184 0 108 (dk_at dksX3_does_3 13 rfl rfl)
theorem dX3_does_86 : decode cX3_does 86 = .ok (.iaload, 1) := dk_46 (dk_at dksX3_does_3 16 rfl rfl)
theorem dX3_does_87 : decode cX3_does 87 = .ok (.iload_n 3, 1) := dk_29 (dk_at dksX3_does_3 17 rfl rfl)
theorem dX3_does_88 : decode cX3_does 88 = .ok (.invokevirtual 271, 3) := dk_182 1 15 (dk_at dksX3_does_3 18 rfl rfl)
theorem dX3_does_91 : decode cX3_does 91 = .ok (.istore 5, 2) := dk_54 5 (dk_at dksX3_does_3 21 rfl rfl)
theorem dX3_does_93 : decode cX3_does 93 = .ok (.aload_n 0, 1) := dk_42 (dk_at dksX3_does_3 23 rfl rfl)
theorem dX3_does_94 : decode cX3_does 94 = .ok (.getfield 7, 3) := dk_180 0 7 (dk_at dksX3_does_4 0 rfl rfl)
theorem dX3_does_97 : decode cX3_does 97 = .ok (.iload_n 1, 1) := dk_27 (dk_at dksX3_does_4 3 rfl rfl)
theorem dX3_does_98 : decode cX3_does 98 = .ok (.iconst 0, 1) := dk_3 (dk_at dksX3_does_4 4 rfl rfl)
theorem dX3_does_99 : decode cX3_does 99 = .ok (.invokestatic 108, 3) := dk_184 0 108 (dk_at dksX3_does_4 5 rfl rfl)
theorem dX3_does_102 : decode cX3_does 102 = .ok (.iload 5, 2) := dk_21 5 (dk_at dksX3_does_4 8 rfl rfl)
theorem dX3_does_104 : decode cX3_does 104 = .ok (.iastore, 1) := dk_79 (dk_at dksX3_does_4 10 rfl rfl)
theorem dX3_does_105 : decode cX3_does 105 = .ok (.aload_n 0, 1) := dk_42 (dk_at dksX3_does_4 11 rfl rfl)
theorem dX3_does_106 : decode cX3_does 106 = .ok (.getfield 7, 3) := dk_180 0 7 (dk_at dksX3_does_4 12 rfl rfl)
theorem dX3_does_109 : decode cX3_does 109 = .ok (.bipush 70, 2) := dk_16 70 (dk_at dksX3_does_4 15 rfl rfl)
theorem dX3_does_111 : decode cX3_does 111 = .ok (.iload 5, 2) := dk_21 5 (dk_at dksX3_does_4 17 rfl rfl)
theorem dX3_does_113 : decode cX3_does 113 = .ok (.iadd, 1) := dk_96 (dk_at dksX3_does_4 19 rfl rfl)
theorem dX3_does_114 : decode cX3_does 114 = .ok (.iaload, 1) := dk_46 (dk_at dksX3_does_4 20 rfl rfl)
theorem dX3_does_115 : decode cX3_does 115 = .ok (.iconst 1, 1) := dk_4 (dk_at dksX3_does_4 21 rfl rfl)
theorem dX3_does_116 : decode cX3_does 116 = .ok (.if_icmp .ne 14, 3) := dk_160 0 14 (dk_at dksX3_does_5 0 rfl rfl)
theorem dX3_does_119 : decode cX3_does 119 = .ok (.aload_n 0, 1) := dk_42 (dk_at dksX3_does_5 3 rfl rfl)
theorem dX3_does_120 : decode cX3_does 120 = .ok (.getfield 7, 3) := dk_180 0 7 (dk_at dksX3_does_5 4 rfl rfl)
theorem dX3_does_123 : decode cX3_does 123 = .ok (.iload_n 1, 1) := dk_27 (dk_at dksX3_does_5 7 rfl rfl)
theorem dX3_does_124 : decode cX3_does 124 = .ok (.iconst 3, 1) := dk_6 (dk_at dksX3_does_5 8 rfl rfl)
theorem dX3_does_125 : decode cX3_does 125 = .ok (.invokestatic 108, 3) := dk_184 0 108 (dk_at dksX3_does_5 9 rfl rfl)
theorem dX3_does_128 : decode cX3_does 128 = .ok (.iconst 1, 1) := dk_4 (dk_at dksX3_does_5 12 rfl rfl)
theorem dX3_does_129 : decode cX3_does 129 = .ok (.iastore, 1) := dk_79 (dk_at dksX3_does_5 13 rfl rfl)
theorem dX3_does_130 : decode cX3_does 130 = .ok (.iconst 1, 1) := dk_4 (dk_at dksX3_does_5 14 rfl rfl)
theorem dX3_does_131 : decode cX3_does 131 = .ok (.ireturn, 1) := dk_172 (dk_at dksX3_does_5 15 rfl rfl)
abbrev cX3_firesBehind : ByteArray := prog_17_method_71_code
def yX3_firesBehind : MethodName := ⟨RX3, "firesBehind", "(II)I"⟩
def dkwX3_firesBehind_0 : List UInt8 := [26, 16, 6, 160, 0, 7, 4, 167, 0, 14, 26, 16, 7, 160, 0, 7, 3, 167, 0, 4, 27, 172]
abbrev dktX3_firesBehind_0 : List UInt8 := dkwX3_firesBehind_0 ++ []
theorem dksX3_firesBehind_0 : cX3_firesBehind.data.toList.drop 0 = dktX3_firesBehind_0 := by decide +kernel
theorem dX3_firesBehind_0 : decode cX3_firesBehind 0 = .ok (.iload_n 0, 1) := dk_26 (dk_at dksX3_firesBehind_0 0 rfl rfl)
theorem dX3_firesBehind_1 : decode cX3_firesBehind 1 = .ok (.bipush 6, 2) := dk_16 6 (dk_at dksX3_firesBehind_0 1 rfl rfl)
theorem dX3_firesBehind_3 : decode cX3_firesBehind 3 = .ok (.if_icmp .ne 7, 3) := dk_160 0 7 (dk_at dksX3_firesBehind_0 3 rfl rfl)
theorem dX3_firesBehind_6 : decode cX3_firesBehind 6 = .ok (.iconst 1, 1) := dk_4 (dk_at dksX3_firesBehind_0 6 rfl rfl)
theorem dX3_firesBehind_7 : decode cX3_firesBehind 7 = .ok (.goto 14, 3) := dk_167 0 14 (dk_at dksX3_firesBehind_0 7 rfl rfl)
theorem dX3_firesBehind_10 : decode cX3_firesBehind 10 = .ok (.iload_n 0, 1) := dk_26 (dk_at dksX3_firesBehind_0 10 rfl rfl)
theorem dX3_firesBehind_11 : decode cX3_firesBehind 11 = .ok (.bipush 7, 2) := dk_16 7 (dk_at dksX3_firesBehind_0 11 rfl rfl)
theorem dX3_firesBehind_13 : decode cX3_firesBehind 13 = .ok (.if_icmp .ne 7, 3) := dk_160 0 7 (dk_at dksX3_firesBehind_0 13 rfl rfl)
theorem dX3_firesBehind_16 : decode cX3_firesBehind 16 = .ok (.iconst 0, 1) := dk_3 (dk_at dksX3_firesBehind_0 16 rfl rfl)
theorem dX3_firesBehind_17 : decode cX3_firesBehind 17 = .ok (.goto 4, 3) := dk_167 0 4 (dk_at dksX3_firesBehind_0 17 rfl rfl)
theorem dX3_firesBehind_20 : decode cX3_firesBehind 20 = .ok (.iload_n 1, 1) := dk_27 (dk_at dksX3_firesBehind_0 20 rfl rfl)
theorem dX3_firesBehind_21 : decode cX3_firesBehind 21 = .ok (.ireturn, 1) := dk_172 (dk_at dksX3_firesBehind_0 21 rfl rfl)
abbrev cX3_go : ByteArray := prog_17_method_67_code
def yX3_go : MethodName := ⟨RX3, "go", "(IIII)V"⟩
def dkwX3_go_4 : List UInt8 := [167, 255, 206, 177]
abbrev dktX3_go_4 : List UInt8 := dkwX3_go_4 ++ []
def dkwX3_go_3 : List UInt8 := [21, 5, 96, 42, 16, 6, 42, 180, 0, 43, 17, 2, 136, 21, 5, 96, 46, 182, 1, 40, 79, 132, 5, 1]
abbrev dktX3_go_3 : List UInt8 := dkwX3_go_3 ++ dktX3_go_4
def dkwX3_go_2 : List UInt8 := [180, 0, 83, 162, 0, 47, 42, 17, 2, 136, 21, 5, 29, 21, 4, 182, 1, 32, 42, 180, 0, 43, 28]
abbrev dktX3_go_2 : List UInt8 := dkwX3_go_2 ++ dktX3_go_3
def dkwX3_go_1 : List UInt8 := [42, 21, 5, 29, 2, 182, 1, 43, 182, 1, 18, 79, 132, 5, 1, 167, 255, 220, 3, 54, 5, 21, 5, 42]
abbrev dktX3_go_1 : List UInt8 := dkwX3_go_1 ++ dktX3_go_2
def dkwX3_go_0 : List UInt8 := [3, 54, 5, 21, 5, 42, 180, 0, 83, 162, 0, 33, 42, 180, 0, 43, 17, 2, 136, 21, 5, 96, 42, 27]
abbrev dktX3_go_0 : List UInt8 := dkwX3_go_0 ++ dktX3_go_1
theorem dksX3_go_0 : cX3_go.data.toList.drop 0 = dktX3_go_0 := by decide +kernel
theorem dksX3_go_1 : cX3_go.data.toList.drop 24 = dktX3_go_1 := dk_seg dksX3_go_0 24 rfl rfl
theorem dksX3_go_2 : cX3_go.data.toList.drop 48 = dktX3_go_2 := dk_seg dksX3_go_1 24 rfl rfl
theorem dksX3_go_3 : cX3_go.data.toList.drop 71 = dktX3_go_3 := dk_seg dksX3_go_2 23 rfl rfl
theorem dksX3_go_4 : cX3_go.data.toList.drop 95 = dktX3_go_4 := dk_seg dksX3_go_3 24 rfl rfl
theorem dX3_go_0 : decode cX3_go 0 = .ok (.iconst 0, 1) := dk_3 (dk_at dksX3_go_0 0 rfl rfl)
theorem dX3_go_1 : decode cX3_go 1 = .ok (.istore 5, 2) := dk_54 5 (dk_at dksX3_go_0 1 rfl rfl)
theorem dX3_go_3 : decode cX3_go 3 = .ok (.iload 5, 2) := dk_21 5 (dk_at dksX3_go_0 3 rfl rfl)
theorem dX3_go_5 : decode cX3_go 5 = .ok (.aload_n 0, 1) := dk_42 (dk_at dksX3_go_0 5 rfl rfl)
theorem dX3_go_6 : decode cX3_go 6 = .ok (.getfield 83, 3) := dk_180 0 83 (dk_at dksX3_go_0 6 rfl rfl)
theorem dX3_go_9 : decode cX3_go 9 = .ok (.if_icmp .ge 33, 3) := dk_162 0 33 (dk_at dksX3_go_0 9 rfl rfl)
theorem dX3_go_12 : decode cX3_go 12 = .ok (.aload_n 0, 1) := dk_42 (dk_at dksX3_go_0 12 rfl rfl)
theorem dX3_go_13 : decode cX3_go 13 = .ok (.getfield 43, 3) := dk_180 0 43 (dk_at dksX3_go_0 13 rfl rfl)
theorem dX3_go_16 : decode cX3_go 16 = .ok (.sipush 648, 3) := dk_17 2 136 (dk_at dksX3_go_0 16 rfl rfl)
theorem dX3_go_19 : decode cX3_go 19 = .ok (.iload 5, 2) := dk_21 5 (dk_at dksX3_go_0 19 rfl rfl)
theorem dX3_go_21 : decode cX3_go 21 = .ok (.iadd, 1) := dk_96 (dk_at dksX3_go_0 21 rfl rfl)
theorem dX3_go_22 : decode cX3_go 22 = .ok (.aload_n 0, 1) := dk_42 (dk_at dksX3_go_0 22 rfl rfl)
theorem dX3_go_23 : decode cX3_go 23 = .ok (.iload_n 1, 1) := dk_27 (dk_at dksX3_go_0 23 rfl rfl)
theorem dX3_go_24 : decode cX3_go 24 = .ok (.aload_n 0, 1) := dk_42 (dk_at dksX3_go_1 0 rfl rfl)
theorem dX3_go_25 : decode cX3_go 25 = .ok (.iload 5, 2) := dk_21 5 (dk_at dksX3_go_1 1 rfl rfl)
theorem dX3_go_27 : decode cX3_go 27 = .ok (.iload_n 3, 1) := dk_29 (dk_at dksX3_go_1 3 rfl rfl)
theorem dX3_go_28 : decode cX3_go 28 = .ok (.iconst (-1), 1) := dk_2 (dk_at dksX3_go_1 4 rfl rfl)
theorem dX3_go_29 : decode cX3_go 29 = .ok (.invokevirtual 299, 3) := dk_182 1 43 (dk_at dksX3_go_1 5 rfl rfl)
theorem dX3_go_32 : decode cX3_go 32 = .ok (.invokevirtual 274, 3) := dk_182 1 18 (dk_at dksX3_go_1 8 rfl rfl)
theorem dX3_go_35 : decode cX3_go 35 = .ok (.iastore, 1) := dk_79 (dk_at dksX3_go_1 11 rfl rfl)
theorem dX3_go_36 : decode cX3_go 36 = .ok (.iinc 5 1, 3) := dk_132 5 1 (dk_at dksX3_go_1 12 rfl rfl)
theorem dX3_go_39 : decode cX3_go 39 = .ok (.goto (-36), 3) := dk_167 255 220 (dk_at dksX3_go_1 15 rfl rfl)
theorem dX3_go_42 : decode cX3_go 42 = .ok (.iconst 0, 1) := dk_3 (dk_at dksX3_go_1 18 rfl rfl)
theorem dX3_go_43 : decode cX3_go 43 = .ok (.istore 5, 2) := dk_54 5 (dk_at dksX3_go_1 19 rfl rfl)
theorem dX3_go_45 : decode cX3_go 45 = .ok (.iload 5, 2) := dk_21 5 (dk_at dksX3_go_1 21 rfl rfl)
theorem dX3_go_47 : decode cX3_go 47 = .ok (.aload_n 0, 1) := dk_42 (dk_at dksX3_go_1 23 rfl rfl)
theorem dX3_go_48 : decode cX3_go 48 = .ok (.getfield 83, 3) := dk_180 0 83 (dk_at dksX3_go_2 0 rfl rfl)
theorem dX3_go_51 : decode cX3_go 51 = .ok (.if_icmp .ge 47, 3) := dk_162 0 47 (dk_at dksX3_go_2 3 rfl rfl)
theorem dX3_go_54 : decode cX3_go 54 = .ok (.aload_n 0, 1) := dk_42 (dk_at dksX3_go_2 6 rfl rfl)
theorem dX3_go_55 : decode cX3_go 55 = .ok (.sipush 648, 3) := dk_17 2 136 (dk_at dksX3_go_2 7 rfl rfl)
theorem dX3_go_58 : decode cX3_go 58 = .ok (.iload 5, 2) := dk_21 5 (dk_at dksX3_go_2 10 rfl rfl)
theorem dX3_go_60 : decode cX3_go 60 = .ok (.iload_n 3, 1) := dk_29 (dk_at dksX3_go_2 12 rfl rfl)
theorem dX3_go_61 : decode cX3_go 61 = .ok (.iload 4, 2) := dk_21 4 (dk_at dksX3_go_2 13 rfl rfl)
theorem dX3_go_63 : decode cX3_go 63 = .ok (.invokevirtual 288, 3) := dk_182 1 32 (dk_at dksX3_go_2 15 rfl rfl)
theorem dX3_go_66 : decode cX3_go 66 = .ok (.aload_n 0, 1) := dk_42 (dk_at dksX3_go_2 18 rfl rfl)
theorem dX3_go_67 : decode cX3_go 67 = .ok (.getfield 43, 3) := dk_180 0 43 (dk_at dksX3_go_2 19 rfl rfl)
theorem dX3_go_70 : decode cX3_go 70 = .ok (.iload_n 2, 1) := dk_28 (dk_at dksX3_go_2 22 rfl rfl)
theorem dX3_go_71 : decode cX3_go 71 = .ok (.iload 5, 2) := dk_21 5 (dk_at dksX3_go_3 0 rfl rfl)
theorem dX3_go_73 : decode cX3_go 73 = .ok (.iadd, 1) := dk_96 (dk_at dksX3_go_3 2 rfl rfl)
theorem dX3_go_74 : decode cX3_go 74 = .ok (.aload_n 0, 1) := dk_42 (dk_at dksX3_go_3 3 rfl rfl)
theorem dX3_go_75 : decode cX3_go 75 = .ok (.bipush 6, 2) := dk_16 6 (dk_at dksX3_go_3 4 rfl rfl)
theorem dX3_go_77 : decode cX3_go 77 = .ok (.aload_n 0, 1) := dk_42 (dk_at dksX3_go_3 6 rfl rfl)
theorem dX3_go_78 : decode cX3_go 78 = .ok (.getfield 43, 3) := dk_180 0 43 (dk_at dksX3_go_3 7 rfl rfl)
theorem dX3_go_81 : decode cX3_go 81 = .ok (.sipush 648, 3) := dk_17 2 136 (dk_at dksX3_go_3 10 rfl rfl)
theorem dX3_go_84 : decode cX3_go 84 = .ok (.iload 5, 2) := dk_21 5 (dk_at dksX3_go_3 13 rfl rfl)
theorem dX3_go_86 : decode cX3_go 86 = .ok (.iadd, 1) := dk_96 (dk_at dksX3_go_3 15 rfl rfl)
theorem dX3_go_87 : decode cX3_go 87 = .ok (.iaload, 1) := dk_46 (dk_at dksX3_go_3 16 rfl rfl)
theorem dX3_go_88 : decode cX3_go 88 = .ok (.invokevirtual 296, 3) := dk_182 1 40 (dk_at dksX3_go_3 17 rfl rfl)
theorem dX3_go_91 : decode cX3_go 91 = .ok (.iastore, 1) := dk_79 (dk_at dksX3_go_3 20 rfl rfl)
theorem dX3_go_92 : decode cX3_go 92 = .ok (.iinc 5 1, 3) := dk_132 5 1 (dk_at dksX3_go_3 21 rfl rfl)
theorem dX3_go_95 : decode cX3_go 95 = .ok (.goto (-50), 3) := dk_167 255 206 (dk_at dksX3_go_4 0 rfl rfl)
theorem dX3_go_98 : decode cX3_go 98 = .ok (.return_, 1) := dk_177 (dk_at dksX3_go_4 3 rfl rfl)
abbrev cX3_driven : ByteArray := prog_17_method_65_code
def yX3_driven : MethodName := ⟨RX3, "driven", "(III)I"⟩
def dkwX3_driven_1 : List UInt8 := [5, 28, 104, 96, 4, 96, 46, 104, 182, 0, 94, 172]
abbrev dktX3_driven_1 : List UInt8 := dkwX3_driven_1 ++ []
def dkwX3_driven_0 : List UInt8 := [42, 27, 29, 42, 180, 0, 7, 17, 0, 150, 5, 28, 104, 96, 46, 104, 29, 42, 180, 0, 7, 17, 0, 150]
abbrev dktX3_driven_0 : List UInt8 := dkwX3_driven_0 ++ dktX3_driven_1
theorem dksX3_driven_0 : cX3_driven.data.toList.drop 0 = dktX3_driven_0 := by decide +kernel
theorem dksX3_driven_1 : cX3_driven.data.toList.drop 24 = dktX3_driven_1 := dk_seg dksX3_driven_0 24 rfl rfl
theorem dX3_driven_0 : decode cX3_driven 0 = .ok (.aload_n 0, 1) := dk_42 (dk_at dksX3_driven_0 0 rfl rfl)
theorem dX3_driven_1 : decode cX3_driven 1 = .ok (.iload_n 1, 1) := dk_27 (dk_at dksX3_driven_0 1 rfl rfl)
theorem dX3_driven_2 : decode cX3_driven 2 = .ok (.iload_n 3, 1) := dk_29 (dk_at dksX3_driven_0 2 rfl rfl)
theorem dX3_driven_3 : decode cX3_driven 3 = .ok (.aload_n 0, 1) := dk_42 (dk_at dksX3_driven_0 3 rfl rfl)
theorem dX3_driven_4 : decode cX3_driven 4 = .ok (.getfield 7, 3) := dk_180 0 7 (dk_at dksX3_driven_0 4 rfl rfl)
theorem dX3_driven_7 : decode cX3_driven 7 = .ok (.sipush 150, 3) := dk_17 0 150 (dk_at dksX3_driven_0 7 rfl rfl)
theorem dX3_driven_10 : decode cX3_driven 10 = .ok (.iconst 2, 1) := dk_5 (dk_at dksX3_driven_0 10 rfl rfl)
theorem dX3_driven_11 : decode cX3_driven 11 = .ok (.iload_n 2, 1) := dk_28 (dk_at dksX3_driven_0 11 rfl rfl)
theorem dX3_driven_12 : decode cX3_driven 12 = .ok (.imul, 1) := dk_104 (dk_at dksX3_driven_0 12 rfl rfl)
theorem dX3_driven_13 : decode cX3_driven 13 = .ok (.iadd, 1) := dk_96 (dk_at dksX3_driven_0 13 rfl rfl)
theorem dX3_driven_14 : decode cX3_driven 14 = .ok (.iaload, 1) := dk_46 (dk_at dksX3_driven_0 14 rfl rfl)
theorem dX3_driven_15 : decode cX3_driven 15 = .ok (.imul, 1) := dk_104 (dk_at dksX3_driven_0 15 rfl rfl)
theorem dX3_driven_16 : decode cX3_driven 16 = .ok (.iload_n 3, 1) := dk_29 (dk_at dksX3_driven_0 16 rfl rfl)
theorem dX3_driven_17 : decode cX3_driven 17 = .ok (.aload_n 0, 1) := dk_42 (dk_at dksX3_driven_0 17 rfl rfl)
theorem dX3_driven_18 : decode cX3_driven 18 = .ok (.getfield 7, 3) := dk_180 0 7 (dk_at dksX3_driven_0 18 rfl rfl)
theorem dX3_driven_21 : decode cX3_driven 21 = .ok (.sipush 150, 3) := dk_17 0 150 (dk_at dksX3_driven_0 21 rfl rfl)
theorem dX3_driven_24 : decode cX3_driven 24 = .ok (.iconst 2, 1) := dk_5 (dk_at dksX3_driven_1 0 rfl rfl)
theorem dX3_driven_25 : decode cX3_driven 25 = .ok (.iload_n 2, 1) := dk_28 (dk_at dksX3_driven_1 1 rfl rfl)
theorem dX3_driven_26 : decode cX3_driven 26 = .ok (.imul, 1) := dk_104 (dk_at dksX3_driven_1 2 rfl rfl)
theorem dX3_driven_27 : decode cX3_driven 27 = .ok (.iadd, 1) := dk_96 (dk_at dksX3_driven_1 3 rfl rfl)
theorem dX3_driven_28 : decode cX3_driven 28 = .ok (.iconst 1, 1) := dk_4 (dk_at dksX3_driven_1 4 rfl rfl)
theorem dX3_driven_29 : decode cX3_driven 29 = .ok (.iadd, 1) := dk_96 (dk_at dksX3_driven_1 5 rfl rfl)
theorem dX3_driven_30 : decode cX3_driven 30 = .ok (.iaload, 1) := dk_46 (dk_at dksX3_driven_1 6 rfl rfl)
theorem dX3_driven_31 : decode cX3_driven 31 = .ok (.imul, 1) := dk_104 (dk_at dksX3_driven_1 7 rfl rfl)
theorem dX3_driven_32 : decode cX3_driven 32 = .ok (.invokevirtual 94, 3) := dk_182 0 94 (dk_at dksX3_driven_1 8 rfl rfl)
theorem dX3_driven_35 : decode cX3_driven 35 = .ok (.ireturn, 1) := dk_172 (dk_at dksX3_driven_1 11 rfl rfl)
abbrev cX3_floatShip : ByteArray := prog_17_method_76_code
def yX3_floatShip : MethodName := ⟨RX3, "floatShip", "(IZII)V"⟩
def dkwX3_floatShip_4 : List UInt8 := [6, 184, 0, 108, 5, 79, 177]
abbrev dktX3_floatShip_4 : List UInt8 := dkwX3_floatShip_4 ++ []
def dkwX3_floatShip_3 : List UInt8 := [3, 184, 0, 108, 46, 21, 4, 42, 180, 0, 7, 3, 46, 182, 1, 72, 153, 0, 14, 42, 180, 0, 7, 27]
abbrev dktX3_floatShip_3 : List UInt8 := dkwX3_floatShip_3 ++ dktX3_floatShip_4
def dkwX3_floatShip_2 : List UInt8 := [180, 0, 7, 27, 3, 184, 0, 108, 46, 21, 4, 182, 1, 69, 79, 42, 17, 1, 248, 42, 180, 0, 7, 27]
abbrev dktX3_floatShip_2 : List UInt8 := dkwX3_floatShip_2 ++ dktX3_floatShip_3
def dkwX3_floatShip_1 : List UInt8 := [167, 0, 4, 3, 54, 5, 21, 5, 154, 0, 29, 42, 180, 0, 7, 27, 3, 184, 0, 108, 42, 42]
abbrev dktX3_floatShip_1 : List UInt8 := dkwX3_floatShip_1 ++ dktX3_floatShip_2
def dkwX3_floatShip_0 : List UInt8 := [42, 27, 182, 1, 57, 154, 0, 4, 177, 28, 153, 0, 17, 29, 7, 161, 0, 8, 29, 8, 160, 0, 7, 4]
abbrev dktX3_floatShip_0 : List UInt8 := dkwX3_floatShip_0 ++ dktX3_floatShip_1
theorem dksX3_floatShip_0 : cX3_floatShip.data.toList.drop 0 = dktX3_floatShip_0 := by decide +kernel
theorem dksX3_floatShip_1 : cX3_floatShip.data.toList.drop 24 = dktX3_floatShip_1 := dk_seg dksX3_floatShip_0 24 rfl rfl
theorem dksX3_floatShip_2 : cX3_floatShip.data.toList.drop 46 = dktX3_floatShip_2 := dk_seg dksX3_floatShip_1 22 rfl rfl
theorem dksX3_floatShip_3 : cX3_floatShip.data.toList.drop 70 = dktX3_floatShip_3 := dk_seg dksX3_floatShip_2 24 rfl rfl
theorem dksX3_floatShip_4 : cX3_floatShip.data.toList.drop 94 = dktX3_floatShip_4 := dk_seg dksX3_floatShip_3 24 rfl rfl
theorem dX3_floatShip_0 : decode cX3_floatShip 0 = .ok (.aload_n 0, 1) := dk_42 (dk_at dksX3_floatShip_0 0 rfl rfl)
theorem dX3_floatShip_1 : decode cX3_floatShip 1 = .ok (.iload_n 1, 1) := dk_27 (dk_at dksX3_floatShip_0 1 rfl rfl)
theorem dX3_floatShip_2 : decode cX3_floatShip 2 = .ok (.invokevirtual 313, 3) := dk_182 1 57 (dk_at dksX3_floatShip_0 2 rfl rfl)
theorem dX3_floatShip_5 : decode cX3_floatShip 5 = .ok (.ifCond .ne 4, 3) := dk_154 0 4 (dk_at dksX3_floatShip_0 5 rfl rfl)
theorem dX3_floatShip_8 : decode cX3_floatShip 8 = .ok (.return_, 1) := dk_177 (dk_at dksX3_floatShip_0 8 rfl rfl)
theorem dX3_floatShip_9 : decode cX3_floatShip 9 = .ok (.iload_n 2, 1) := dk_28 (dk_at dksX3_floatShip_0 9 rfl rfl)
theorem dX3_floatShip_10 : decode cX3_floatShip 10 = .ok (.ifCond .eq 17, 3) := dk_153 0 17 (dk_at dksX3_floatShip_0 10 rfl rfl)
theorem dX3_floatShip_13 : decode cX3_floatShip 13 = .ok (.iload_n 3, 1) := dk_29 (dk_at dksX3_floatShip_0 13 rfl rfl)
theorem dX3_floatShip_14 : decode cX3_floatShip 14 = .ok (.iconst 4, 1) := dk_7 (dk_at dksX3_floatShip_0 14 rfl rfl)
theorem dX3_floatShip_15 : decode cX3_floatShip 15 = .ok (.if_icmp .lt 8, 3) := dk_161 0 8 (dk_at dksX3_floatShip_0 15 rfl rfl)
theorem dX3_floatShip_18 : decode cX3_floatShip 18 = .ok (.iload_n 3, 1) := dk_29 (dk_at dksX3_floatShip_0 18 rfl rfl)
theorem dX3_floatShip_19 : decode cX3_floatShip 19 = .ok (.iconst 5, 1) := dk_8 (dk_at dksX3_floatShip_0 19 rfl rfl)
theorem dX3_floatShip_20 : decode cX3_floatShip 20 = .ok (.if_icmp .ne 7, 3) := dk_160 0 7 (dk_at dksX3_floatShip_0 20 rfl rfl)
theorem dX3_floatShip_23 : decode cX3_floatShip 23 = .ok (.iconst 1, 1) := dk_4 (dk_at dksX3_floatShip_0 23 rfl rfl)
theorem dX3_floatShip_24 : decode cX3_floatShip 24 = .ok (.goto 4, 3) := dk_167 0 4 (dk_at dksX3_floatShip_1 0 rfl rfl)
theorem dX3_floatShip_27 : decode cX3_floatShip 27 = .ok (.iconst 0, 1) := dk_3 (dk_at dksX3_floatShip_1 3 rfl rfl)
theorem dX3_floatShip_28 : decode cX3_floatShip 28 = .ok (.istore 5, 2) := dk_54 5 (dk_at dksX3_floatShip_1 4 rfl rfl)
theorem dX3_floatShip_30 : decode cX3_floatShip 30 = .ok (.iload 5, 2) := dk_21 5 (dk_at dksX3_floatShip_1 6 rfl rfl)
theorem dX3_floatShip_32 : decode cX3_floatShip 32 = .ok (.ifCond .ne 29, 3) := dk_154 0 29 (dk_at dksX3_floatShip_1 8 rfl rfl)
theorem dX3_floatShip_35 : decode cX3_floatShip 35 = .ok (.aload_n 0, 1) := dk_42 (dk_at dksX3_floatShip_1 11 rfl rfl)
theorem dX3_floatShip_36 : decode cX3_floatShip 36 = .ok (.getfield 7, 3) := dk_180 0 7 (dk_at dksX3_floatShip_1 12 rfl rfl)
theorem dX3_floatShip_39 : decode cX3_floatShip 39 = .ok (.iload_n 1, 1) := dk_27 (dk_at dksX3_floatShip_1 15 rfl rfl)
theorem dX3_floatShip_40 : decode cX3_floatShip 40 = .ok (.iconst 0, 1) := dk_3 (dk_at dksX3_floatShip_1 16 rfl rfl)
theorem dX3_floatShip_41 : decode cX3_floatShip 41 = .ok (.invokestatic 108, 3) := dk_184 0 108 (dk_at dksX3_floatShip_1 17 rfl rfl)
theorem dX3_floatShip_44 : decode cX3_floatShip 44 = .ok (.aload_n 0, 1) := dk_42 (dk_at dksX3_floatShip_1 20 rfl rfl)
theorem dX3_floatShip_45 : decode cX3_floatShip 45 = .ok (.aload_n 0, 1) := dk_42 (dk_at dksX3_floatShip_1 21 rfl rfl)
theorem dX3_floatShip_46 : decode cX3_floatShip 46 = .ok (.getfield 7, 3) := dk_180 0 7 (dk_at dksX3_floatShip_2 0 rfl rfl)
theorem dX3_floatShip_49 : decode cX3_floatShip 49 = .ok (.iload_n 1, 1) := dk_27 (dk_at dksX3_floatShip_2 3 rfl rfl)
theorem dX3_floatShip_50 : decode cX3_floatShip 50 = .ok (.iconst 0, 1) := dk_3 (dk_at dksX3_floatShip_2 4 rfl rfl)
theorem dX3_floatShip_51 : decode cX3_floatShip 51 = .ok (.invokestatic 108, 3) := dk_184 0 108 (dk_at dksX3_floatShip_2 5 rfl rfl)
theorem dX3_floatShip_54 : decode cX3_floatShip 54 = .ok (.iaload, 1) := dk_46 (dk_at dksX3_floatShip_2 8 rfl rfl)
theorem dX3_floatShip_55 : decode cX3_floatShip 55 = .ok (.iload 4, 2) := dk_21 4 (dk_at dksX3_floatShip_2 9 rfl rfl)
theorem dX3_floatShip_57 : decode cX3_floatShip 57 = .ok (.invokevirtual 325, 3) := dk_182 1 69 (dk_at dksX3_floatShip_2 11 rfl rfl)
theorem dX3_floatShip_60 : decode cX3_floatShip 60 = .ok (.iastore, 1) := dk_79 (dk_at dksX3_floatShip_2 14 rfl rfl)
theorem dX3_floatShip_61 : decode cX3_floatShip 61 = .ok (.aload_n 0, 1) := dk_42 (dk_at dksX3_floatShip_2 15 rfl rfl)
theorem dX3_floatShip_62 : decode cX3_floatShip 62 = .ok (.sipush 504, 3) := dk_17 1 248 (dk_at dksX3_floatShip_2 16 rfl rfl)
theorem dX3_floatShip_65 : decode cX3_floatShip 65 = .ok (.aload_n 0, 1) := dk_42 (dk_at dksX3_floatShip_2 19 rfl rfl)
theorem dX3_floatShip_66 : decode cX3_floatShip 66 = .ok (.getfield 7, 3) := dk_180 0 7 (dk_at dksX3_floatShip_2 20 rfl rfl)
theorem dX3_floatShip_69 : decode cX3_floatShip 69 = .ok (.iload_n 1, 1) := dk_27 (dk_at dksX3_floatShip_2 23 rfl rfl)
theorem dX3_floatShip_70 : decode cX3_floatShip 70 = .ok (.iconst 0, 1) := dk_3 (dk_at dksX3_floatShip_3 0 rfl rfl)
theorem dX3_floatShip_71 : decode cX3_floatShip 71 = .ok (.invokestatic 108, 3) := dk_184 0 108 (dk_at dksX3_floatShip_3 1 rfl rfl)
theorem dX3_floatShip_74 : decode cX3_floatShip 74 = .ok (.iaload, 1) := dk_46 (dk_at dksX3_floatShip_3 4 rfl rfl)
theorem dX3_floatShip_75 : decode cX3_floatShip 75 = .ok (.iload 4, 2) := dk_21 4 (dk_at dksX3_floatShip_3 5 rfl rfl)
theorem dX3_floatShip_77 : decode cX3_floatShip 77 = .ok (.aload_n 0, 1) := dk_42 (dk_at dksX3_floatShip_3 7 rfl rfl)
theorem dX3_floatShip_78 : decode cX3_floatShip 78 = .ok (.getfield 7, 3) := dk_180 0 7 (dk_at dksX3_floatShip_3 8 rfl rfl)
theorem dX3_floatShip_81 : decode cX3_floatShip 81 = .ok (.iconst 0, 1) := dk_3 (dk_at dksX3_floatShip_3 11 rfl rfl)
theorem dX3_floatShip_82 : decode cX3_floatShip 82 = .ok (.iaload, 1) := dk_46 (dk_at dksX3_floatShip_3 12 rfl rfl)
theorem dX3_floatShip_83 : decode cX3_floatShip 83 = .ok (.invokevirtual 328, 3) := dk_182 1 72 (dk_at dksX3_floatShip_3 13 rfl rfl)
theorem dX3_floatShip_86 : decode cX3_floatShip 86 = .ok (.ifCond .eq 14, 3) := dk_153 0 14 (dk_at dksX3_floatShip_3 16 rfl rfl)
theorem dX3_floatShip_89 : decode cX3_floatShip 89 = .ok (.aload_n 0, 1) := dk_42 (dk_at dksX3_floatShip_3 19 rfl rfl)
theorem dX3_floatShip_90 : decode cX3_floatShip 90 = .ok (.getfield 7, 3) := dk_180 0 7 (dk_at dksX3_floatShip_3 20 rfl rfl)
theorem dX3_floatShip_93 : decode cX3_floatShip 93 = .ok (.iload_n 1, 1) := dk_27 (dk_at dksX3_floatShip_3 23 rfl rfl)
theorem dX3_floatShip_94 : decode cX3_floatShip 94 = .ok (.iconst 3, 1) := dk_6 (dk_at dksX3_floatShip_4 0 rfl rfl)
theorem dX3_floatShip_95 : decode cX3_floatShip 95 = .ok (.invokestatic 108, 3) := dk_184 0 108 (dk_at dksX3_floatShip_4 1 rfl rfl)
theorem dX3_floatShip_98 : decode cX3_floatShip 98 = .ok (.iconst 2, 1) := dk_5 (dk_at dksX3_floatShip_4 4 rfl rfl)
theorem dX3_floatShip_99 : decode cX3_floatShip 99 = .ok (.iastore, 1) := dk_79 (dk_at dksX3_floatShip_4 5 rfl rfl)
theorem dX3_floatShip_100 : decode cX3_floatShip 100 = .ok (.return_, 1) := dk_177 (dk_at dksX3_floatShip_4 6 rfl rfl)
abbrev cX3_drifted : ByteArray := prog_17_method_66_code
def yX3_drifted : MethodName := ⟨RX3, "drifted", "(II)I"⟩
def dkwX3_drifted_0 : List UInt8 := [42, 27, 28, 4, 182, 1, 43, 62, 29, 156, 0, 7, 27, 167, 0, 4, 29, 172]
abbrev dktX3_drifted_0 : List UInt8 := dkwX3_drifted_0 ++ []
theorem dksX3_drifted_0 : cX3_drifted.data.toList.drop 0 = dktX3_drifted_0 := by decide +kernel
theorem dX3_drifted_0 : decode cX3_drifted 0 = .ok (.aload_n 0, 1) := dk_42 (dk_at dksX3_drifted_0 0 rfl rfl)
theorem dX3_drifted_1 : decode cX3_drifted 1 = .ok (.iload_n 1, 1) := dk_27 (dk_at dksX3_drifted_0 1 rfl rfl)
theorem dX3_drifted_2 : decode cX3_drifted 2 = .ok (.iload_n 2, 1) := dk_28 (dk_at dksX3_drifted_0 2 rfl rfl)
theorem dX3_drifted_3 : decode cX3_drifted 3 = .ok (.iconst 1, 1) := dk_4 (dk_at dksX3_drifted_0 3 rfl rfl)
theorem dX3_drifted_4 : decode cX3_drifted 4 = .ok (.invokevirtual 299, 3) := dk_182 1 43 (dk_at dksX3_drifted_0 4 rfl rfl)
theorem dX3_drifted_7 : decode cX3_drifted 7 = .ok (.istore_n 3, 1) := dk_62 (dk_at dksX3_drifted_0 7 rfl rfl)
theorem dX3_drifted_8 : decode cX3_drifted 8 = .ok (.iload_n 3, 1) := dk_29 (dk_at dksX3_drifted_0 8 rfl rfl)
theorem dX3_drifted_9 : decode cX3_drifted 9 = .ok (.ifCond .ge 7, 3) := dk_156 0 7 (dk_at dksX3_drifted_0 9 rfl rfl)
theorem dX3_drifted_12 : decode cX3_drifted 12 = .ok (.iload_n 1, 1) := dk_27 (dk_at dksX3_drifted_0 12 rfl rfl)
theorem dX3_drifted_13 : decode cX3_drifted 13 = .ok (.goto 4, 3) := dk_167 0 4 (dk_at dksX3_drifted_0 13 rfl rfl)
theorem dX3_drifted_16 : decode cX3_drifted 16 = .ok (.iload_n 3, 1) := dk_29 (dk_at dksX3_drifted_0 16 rfl rfl)
theorem dX3_drifted_17 : decode cX3_drifted 17 = .ok (.ireturn, 1) := dk_172 (dk_at dksX3_drifted_0 17 rfl rfl)
abbrev cX3_nips : ByteArray := prog_17_method_63_code
def yX3_nips : MethodName := ⟨RX3, "nips", "(IIII)Z"⟩
def dkwX3_nips_0 : List UInt8 := [42, 27, 28, 29, 21, 4, 182, 1, 32, 42, 5, 3, 182, 1, 36, 172]
abbrev dktX3_nips_0 : List UInt8 := dkwX3_nips_0 ++ []
theorem dksX3_nips_0 : cX3_nips.data.toList.drop 0 = dktX3_nips_0 := by decide +kernel
theorem dX3_nips_0 : decode cX3_nips 0 = .ok (.aload_n 0, 1) := dk_42 (dk_at dksX3_nips_0 0 rfl rfl)
theorem dX3_nips_1 : decode cX3_nips 1 = .ok (.iload_n 1, 1) := dk_27 (dk_at dksX3_nips_0 1 rfl rfl)
theorem dX3_nips_2 : decode cX3_nips 2 = .ok (.iload_n 2, 1) := dk_28 (dk_at dksX3_nips_0 2 rfl rfl)
theorem dX3_nips_3 : decode cX3_nips 3 = .ok (.iload_n 3, 1) := dk_29 (dk_at dksX3_nips_0 3 rfl rfl)
theorem dX3_nips_4 : decode cX3_nips 4 = .ok (.iload 4, 2) := dk_21 4 (dk_at dksX3_nips_0 4 rfl rfl)
theorem dX3_nips_6 : decode cX3_nips 6 = .ok (.invokevirtual 288, 3) := dk_182 1 32 (dk_at dksX3_nips_0 6 rfl rfl)
theorem dX3_nips_9 : decode cX3_nips 9 = .ok (.aload_n 0, 1) := dk_42 (dk_at dksX3_nips_0 9 rfl rfl)
theorem dX3_nips_10 : decode cX3_nips 10 = .ok (.iconst 2, 1) := dk_5 (dk_at dksX3_nips_0 10 rfl rfl)
theorem dX3_nips_11 : decode cX3_nips 11 = .ok (.iconst 0, 1) := dk_3 (dk_at dksX3_nips_0 11 rfl rfl)
theorem dX3_nips_12 : decode cX3_nips 12 = .ok (.invokevirtual 292, 3) := dk_182 1 36 (dk_at dksX3_nips_0 12 rfl rfl)
theorem dX3_nips_15 : decode cX3_nips 15 = .ok (.ireturn, 1) := dk_172 (dk_at dksX3_nips_0 15 rfl rfl)
abbrev cX3_of : ByteArray := prog_17_method_78_code
def yX3_of : MethodName := ⟨RX3, "of", "(II)I"⟩
def dkwX3_of_1 : List UInt8 := [184, 0, 108, 46, 154, 0, 5, 2, 172, 42, 180, 0, 7, 27, 28, 184, 0, 108, 46, 172]
abbrev dktX3_of_1 : List UInt8 := dkwX3_of_1 ++ []
def dkwX3_of_0 : List UInt8 := [27, 184, 0, 105, 153, 0, 25, 28, 3, 6, 184, 0, 90, 153, 0, 16, 42, 180, 0, 7, 27, 7]
abbrev dktX3_of_0 : List UInt8 := dkwX3_of_0 ++ dktX3_of_1
theorem dksX3_of_0 : cX3_of.data.toList.drop 0 = dktX3_of_0 := by decide +kernel
theorem dksX3_of_1 : cX3_of.data.toList.drop 22 = dktX3_of_1 := dk_seg dksX3_of_0 22 rfl rfl
theorem dX3_of_0 : decode cX3_of 0 = .ok (.iload_n 1, 1) := dk_27 (dk_at dksX3_of_0 0 rfl rfl)
theorem dX3_of_1 : decode cX3_of 1 = .ok (.invokestatic 105, 3) := dk_184 0 105 (dk_at dksX3_of_0 1 rfl rfl)
theorem dX3_of_4 : decode cX3_of 4 = .ok (.ifCond .eq 25, 3) := dk_153 0 25 (dk_at dksX3_of_0 4 rfl rfl)
theorem dX3_of_7 : decode cX3_of 7 = .ok (.iload_n 2, 1) := dk_28 (dk_at dksX3_of_0 7 rfl rfl)
theorem dX3_of_8 : decode cX3_of 8 = .ok (.iconst 0, 1) := dk_3 (dk_at dksX3_of_0 8 rfl rfl)
theorem dX3_of_9 : decode cX3_of 9 = .ok (.iconst 3, 1) := dk_6 (dk_at dksX3_of_0 9 rfl rfl)
theorem dX3_of_10 : decode cX3_of 10 = .ok (.invokestatic 90, 3) := dk_184 0 90 (dk_at dksX3_of_0 10 rfl rfl)
theorem dX3_of_13 : decode cX3_of 13 = .ok (.ifCond .eq 16, 3) := dk_153 0 16 (dk_at dksX3_of_0 13 rfl rfl)
theorem dX3_of_16 : decode cX3_of 16 = .ok (.aload_n 0, 1) := dk_42 (dk_at dksX3_of_0 16 rfl rfl)
theorem dX3_of_17 : decode cX3_of 17 = .ok (.getfield 7, 3) := dk_180 0 7 (dk_at dksX3_of_0 17 rfl rfl)
theorem dX3_of_20 : decode cX3_of 20 = .ok (.iload_n 1, 1) := dk_27 (dk_at dksX3_of_0 20 rfl rfl)
theorem dX3_of_21 : decode cX3_of 21 = .ok (.iconst 4, 1) := dk_7 (dk_at dksX3_of_0 21 rfl rfl)
theorem dX3_of_22 : decode cX3_of 22 = .ok (.invokestatic 108, 3) := dk_184 0 108 (dk_at dksX3_of_1 0 rfl rfl)
theorem dX3_of_25 : decode cX3_of 25 = .ok (.iaload, 1) := dk_46 (dk_at dksX3_of_1 3 rfl rfl)
theorem dX3_of_26 : decode cX3_of 26 = .ok (.ifCond .ne 5, 3) := dk_154 0 5 (dk_at dksX3_of_1 4 rfl rfl)
theorem dX3_of_29 : decode cX3_of 29 = .ok (.iconst (-1), 1) := dk_2 (dk_at dksX3_of_1 7 rfl rfl)
theorem dX3_of_30 : decode cX3_of 30 = .ok (.ireturn, 1) := dk_172 (dk_at dksX3_of_1 8 rfl rfl)
theorem dX3_of_31 : decode cX3_of 31 = .ok (.aload_n 0, 1) := dk_42 (dk_at dksX3_of_1 9 rfl rfl)
theorem dX3_of_32 : decode cX3_of 32 = .ok (.getfield 7, 3) := dk_180 0 7 (dk_at dksX3_of_1 10 rfl rfl)
theorem dX3_of_35 : decode cX3_of 35 = .ok (.iload_n 1, 1) := dk_27 (dk_at dksX3_of_1 13 rfl rfl)
theorem dX3_of_36 : decode cX3_of 36 = .ok (.iload_n 2, 1) := dk_28 (dk_at dksX3_of_1 14 rfl rfl)
theorem dX3_of_37 : decode cX3_of 37 = .ok (.invokestatic 108, 3) := dk_184 0 108 (dk_at dksX3_of_1 15 rfl rfl)
theorem dX3_of_40 : decode cX3_of 40 = .ok (.iaload, 1) := dk_46 (dk_at dksX3_of_1 18 rfl rfl)
theorem dX3_of_41 : decode cX3_of 41 = .ok (.ireturn, 1) := dk_172 (dk_at dksX3_of_1 19 rfl rfl)
abbrev cX3_ahead : ByteArray := prog_17_method_79_code
def yX3_ahead : MethodName := ⟨RX3, "ahead", "(II)I"⟩
def dkwX3_ahead_2 : List UInt8 := [27, 4, 96, 167, 0, 9, 42, 180, 0, 7, 7, 46, 79, 42, 180, 0, 7, 7, 46, 172]
abbrev dktX3_ahead_2 : List UInt8 := dkwX3_ahead_2 ++ []
def dkwX3_ahead_1 : List UInt8 := [17, 0, 180, 27, 96, 28, 79, 42, 180, 0, 7, 7, 27, 4, 96, 42, 180, 0, 7, 7, 46, 164, 0, 9]
abbrev dktX3_ahead_1 : List UInt8 := dkwX3_ahead_1 ++ dktX3_ahead_2
def dkwX3_ahead_0 : List UInt8 := [27, 3, 16, 11, 184, 0, 90, 153, 0, 10, 28, 184, 0, 102, 154, 0, 5, 2, 172, 42, 180, 0, 7]
abbrev dktX3_ahead_0 : List UInt8 := dkwX3_ahead_0 ++ dktX3_ahead_1
theorem dksX3_ahead_0 : cX3_ahead.data.toList.drop 0 = dktX3_ahead_0 := by decide +kernel
theorem dksX3_ahead_1 : cX3_ahead.data.toList.drop 23 = dktX3_ahead_1 := dk_seg dksX3_ahead_0 23 rfl rfl
theorem dksX3_ahead_2 : cX3_ahead.data.toList.drop 47 = dktX3_ahead_2 := dk_seg dksX3_ahead_1 24 rfl rfl
theorem dX3_ahead_0 : decode cX3_ahead 0 = .ok (.iload_n 1, 1) := dk_27 (dk_at dksX3_ahead_0 0 rfl rfl)
theorem dX3_ahead_1 : decode cX3_ahead 1 = .ok (.iconst 0, 1) := dk_3 (dk_at dksX3_ahead_0 1 rfl rfl)
theorem dX3_ahead_2 : decode cX3_ahead 2 = .ok (.bipush 11, 2) := dk_16 11 (dk_at dksX3_ahead_0 2 rfl rfl)
theorem dX3_ahead_4 : decode cX3_ahead 4 = .ok (.invokestatic 90, 3) := dk_184 0 90 (dk_at dksX3_ahead_0 4 rfl rfl)
theorem dX3_ahead_7 : decode cX3_ahead 7 = .ok (.ifCond .eq 10, 3) := dk_153 0 10 (dk_at dksX3_ahead_0 7 rfl rfl)
theorem dX3_ahead_10 : decode cX3_ahead 10 = .ok (.iload_n 2, 1) := dk_28 (dk_at dksX3_ahead_0 10 rfl rfl)
theorem dX3_ahead_11 : decode cX3_ahead 11 = .ok (.invokestatic 102, 3) := dk_184 0 102 (dk_at dksX3_ahead_0 11 rfl rfl)
theorem dX3_ahead_14 : decode cX3_ahead 14 = .ok (.ifCond .ne 5, 3) := dk_154 0 5 (dk_at dksX3_ahead_0 14 rfl rfl)
theorem dX3_ahead_17 : decode cX3_ahead 17 = .ok (.iconst (-1), 1) := dk_2 (dk_at dksX3_ahead_0 17 rfl rfl)
theorem dX3_ahead_18 : decode cX3_ahead 18 = .ok (.ireturn, 1) := dk_172 (dk_at dksX3_ahead_0 18 rfl rfl)
theorem dX3_ahead_19 : decode cX3_ahead 19 = .ok (.aload_n 0, 1) := dk_42 (dk_at dksX3_ahead_0 19 rfl rfl)
theorem dX3_ahead_20 : decode cX3_ahead 20 = .ok (.getfield 7, 3) := dk_180 0 7 (dk_at dksX3_ahead_0 20 rfl rfl)
theorem dX3_ahead_23 : decode cX3_ahead 23 = .ok (.sipush 180, 3) := dk_17 0 180 (dk_at dksX3_ahead_1 0 rfl rfl)
theorem dX3_ahead_26 : decode cX3_ahead 26 = .ok (.iload_n 1, 1) := dk_27 (dk_at dksX3_ahead_1 3 rfl rfl)
theorem dX3_ahead_27 : decode cX3_ahead 27 = .ok (.iadd, 1) := dk_96 (dk_at dksX3_ahead_1 4 rfl rfl)
theorem dX3_ahead_28 : decode cX3_ahead 28 = .ok (.iload_n 2, 1) := dk_28 (dk_at dksX3_ahead_1 5 rfl rfl)
theorem dX3_ahead_29 : decode cX3_ahead 29 = .ok (.iastore, 1) := dk_79 (dk_at dksX3_ahead_1 6 rfl rfl)
theorem dX3_ahead_30 : decode cX3_ahead 30 = .ok (.aload_n 0, 1) := dk_42 (dk_at dksX3_ahead_1 7 rfl rfl)
theorem dX3_ahead_31 : decode cX3_ahead 31 = .ok (.getfield 7, 3) := dk_180 0 7 (dk_at dksX3_ahead_1 8 rfl rfl)
theorem dX3_ahead_34 : decode cX3_ahead 34 = .ok (.iconst 4, 1) := dk_7 (dk_at dksX3_ahead_1 11 rfl rfl)
theorem dX3_ahead_35 : decode cX3_ahead 35 = .ok (.iload_n 1, 1) := dk_27 (dk_at dksX3_ahead_1 12 rfl rfl)
theorem dX3_ahead_36 : decode cX3_ahead 36 = .ok (.iconst 1, 1) := dk_4 (dk_at dksX3_ahead_1 13 rfl rfl)
theorem dX3_ahead_37 : decode cX3_ahead 37 = .ok (.iadd, 1) := dk_96 (dk_at dksX3_ahead_1 14 rfl rfl)
theorem dX3_ahead_38 : decode cX3_ahead 38 = .ok (.aload_n 0, 1) := dk_42 (dk_at dksX3_ahead_1 15 rfl rfl)
theorem dX3_ahead_39 : decode cX3_ahead 39 = .ok (.getfield 7, 3) := dk_180 0 7 (dk_at dksX3_ahead_1 16 rfl rfl)
theorem dX3_ahead_42 : decode cX3_ahead 42 = .ok (.iconst 4, 1) := dk_7 (dk_at dksX3_ahead_1 19 rfl rfl)
theorem dX3_ahead_43 : decode cX3_ahead 43 = .ok (.iaload, 1) := dk_46 (dk_at dksX3_ahead_1 20 rfl rfl)
theorem dX3_ahead_44 : decode cX3_ahead 44 = .ok (.if_icmp .le 9, 3) := dk_164 0 9 (dk_at dksX3_ahead_1 21 rfl rfl)
theorem dX3_ahead_47 : decode cX3_ahead 47 = .ok (.iload_n 1, 1) := dk_27 (dk_at dksX3_ahead_2 0 rfl rfl)
theorem dX3_ahead_48 : decode cX3_ahead 48 = .ok (.iconst 1, 1) := dk_4 (dk_at dksX3_ahead_2 1 rfl rfl)
theorem dX3_ahead_49 : decode cX3_ahead 49 = .ok (.iadd, 1) := dk_96 (dk_at dksX3_ahead_2 2 rfl rfl)
theorem dX3_ahead_50 : decode cX3_ahead 50 = .ok (.goto 9, 3) := dk_167 0 9 (dk_at dksX3_ahead_2 3 rfl rfl)
theorem dX3_ahead_53 : decode cX3_ahead 53 = .ok (.aload_n 0, 1) := dk_42 (dk_at dksX3_ahead_2 6 rfl rfl)
theorem dX3_ahead_54 : decode cX3_ahead 54 = .ok (.getfield 7, 3) := dk_180 0 7 (dk_at dksX3_ahead_2 7 rfl rfl)
theorem dX3_ahead_57 : decode cX3_ahead 57 = .ok (.iconst 4, 1) := dk_7 (dk_at dksX3_ahead_2 10 rfl rfl)
theorem dX3_ahead_58 : decode cX3_ahead 58 = .ok (.iaload, 1) := dk_46 (dk_at dksX3_ahead_2 11 rfl rfl)
theorem dX3_ahead_59 : decode cX3_ahead 59 = .ok (.iastore, 1) := dk_79 (dk_at dksX3_ahead_2 12 rfl rfl)
theorem dX3_ahead_60 : decode cX3_ahead 60 = .ok (.aload_n 0, 1) := dk_42 (dk_at dksX3_ahead_2 13 rfl rfl)
theorem dX3_ahead_61 : decode cX3_ahead 61 = .ok (.getfield 7, 3) := dk_180 0 7 (dk_at dksX3_ahead_2 14 rfl rfl)
theorem dX3_ahead_64 : decode cX3_ahead 64 = .ok (.iconst 4, 1) := dk_7 (dk_at dksX3_ahead_2 17 rfl rfl)
theorem dX3_ahead_65 : decode cX3_ahead 65 = .ok (.iaload, 1) := dk_46 (dk_at dksX3_ahead_2 18 rfl rfl)
theorem dX3_ahead_66 : decode cX3_ahead 66 = .ok (.ireturn, 1) := dk_172 (dk_at dksX3_ahead_2 19 rfl rfl)
abbrev cX3_many : ByteArray := prog_17_method_80_code
def yX3_many : MethodName := ⟨RX3, "many", "(II)Z"⟩
def dkwX3_many_1 : List UInt8 := [180, 0, 7, 7, 27, 79, 42, 180, 0, 7, 8, 28, 79, 4, 172]
abbrev dktX3_many_1 : List UInt8 := dkwX3_many_1 ++ []
def dkwX3_many_0 : List UInt8 := [27, 3, 16, 12, 184, 0, 90, 153, 0, 12, 28, 3, 27, 184, 0, 90, 154, 0, 5, 3, 172, 42]
abbrev dktX3_many_0 : List UInt8 := dkwX3_many_0 ++ dktX3_many_1
theorem dksX3_many_0 : cX3_many.data.toList.drop 0 = dktX3_many_0 := by decide +kernel
theorem dksX3_many_1 : cX3_many.data.toList.drop 22 = dktX3_many_1 := dk_seg dksX3_many_0 22 rfl rfl
theorem dX3_many_0 : decode cX3_many 0 = .ok (.iload_n 1, 1) := dk_27 (dk_at dksX3_many_0 0 rfl rfl)
theorem dX3_many_1 : decode cX3_many 1 = .ok (.iconst 0, 1) := dk_3 (dk_at dksX3_many_0 1 rfl rfl)
theorem dX3_many_2 : decode cX3_many 2 = .ok (.bipush 12, 2) := dk_16 12 (dk_at dksX3_many_0 2 rfl rfl)
theorem dX3_many_4 : decode cX3_many 4 = .ok (.invokestatic 90, 3) := dk_184 0 90 (dk_at dksX3_many_0 4 rfl rfl)
theorem dX3_many_7 : decode cX3_many 7 = .ok (.ifCond .eq 12, 3) := dk_153 0 12 (dk_at dksX3_many_0 7 rfl rfl)
theorem dX3_many_10 : decode cX3_many 10 = .ok (.iload_n 2, 1) := dk_28 (dk_at dksX3_many_0 10 rfl rfl)
theorem dX3_many_11 : decode cX3_many 11 = .ok (.iconst 0, 1) := dk_3 (dk_at dksX3_many_0 11 rfl rfl)
theorem dX3_many_12 : decode cX3_many 12 = .ok (.iload_n 1, 1) := dk_27 (dk_at dksX3_many_0 12 rfl rfl)
theorem dX3_many_13 : decode cX3_many 13 = .ok (.invokestatic 90, 3) := dk_184 0 90 (dk_at dksX3_many_0 13 rfl rfl)
theorem dX3_many_16 : decode cX3_many 16 = .ok (.ifCond .ne 5, 3) := dk_154 0 5 (dk_at dksX3_many_0 16 rfl rfl)
theorem dX3_many_19 : decode cX3_many 19 = .ok (.iconst 0, 1) := dk_3 (dk_at dksX3_many_0 19 rfl rfl)
theorem dX3_many_20 : decode cX3_many 20 = .ok (.ireturn, 1) := dk_172 (dk_at dksX3_many_0 20 rfl rfl)
theorem dX3_many_21 : decode cX3_many 21 = .ok (.aload_n 0, 1) := dk_42 (dk_at dksX3_many_0 21 rfl rfl)
theorem dX3_many_22 : decode cX3_many 22 = .ok (.getfield 7, 3) := dk_180 0 7 (dk_at dksX3_many_1 0 rfl rfl)
theorem dX3_many_25 : decode cX3_many 25 = .ok (.iconst 4, 1) := dk_7 (dk_at dksX3_many_1 3 rfl rfl)
theorem dX3_many_26 : decode cX3_many 26 = .ok (.iload_n 1, 1) := dk_27 (dk_at dksX3_many_1 4 rfl rfl)
theorem dX3_many_27 : decode cX3_many 27 = .ok (.iastore, 1) := dk_79 (dk_at dksX3_many_1 5 rfl rfl)
theorem dX3_many_28 : decode cX3_many 28 = .ok (.aload_n 0, 1) := dk_42 (dk_at dksX3_many_1 6 rfl rfl)
theorem dX3_many_29 : decode cX3_many 29 = .ok (.getfield 7, 3) := dk_180 0 7 (dk_at dksX3_many_1 7 rfl rfl)
theorem dX3_many_32 : decode cX3_many 32 = .ok (.iconst 5, 1) := dk_8 (dk_at dksX3_many_1 10 rfl rfl)
theorem dX3_many_33 : decode cX3_many 33 = .ok (.iload_n 2, 1) := dk_28 (dk_at dksX3_many_1 11 rfl rfl)
theorem dX3_many_34 : decode cX3_many 34 = .ok (.iastore, 1) := dk_79 (dk_at dksX3_many_1 12 rfl rfl)
theorem dX3_many_35 : decode cX3_many 35 = .ok (.iconst 1, 1) := dk_4 (dk_at dksX3_many_1 13 rfl rfl)
theorem dX3_many_36 : decode cX3_many 36 = .ok (.ireturn, 1) := dk_172 (dk_at dksX3_many_1 14 rfl rfl)
abbrev cX3_soonest : ByteArray := prog_17_method_92_code
def yX3_soonest : MethodName := ⟨RX3, "soonest", "(I)I"⟩
def dkwX3_soonest_8 : List UInt8 := [42, 27, 16, 10, 100, 21, 4, 21, 5, 21, 6, 182, 1, 105, 172]
abbrev dktX3_soonest_8 : List UInt8 := dkwX3_soonest_8 ++ []
def dkwX3_soonest_7 : List UInt8 := [21, 4, 21, 8, 182, 1, 93, 54, 4, 21, 8, 21, 6, 184, 1, 66, 54, 6, 132, 7, 1, 167, 255, 190]
abbrev dktX3_soonest_7 : List UInt8 := dkwX3_soonest_7 ++ dktX3_soonest_8
def dkwX3_soonest_6 : List UInt8 := [54, 8, 21, 5, 42, 21, 7, 21, 4, 21, 5, 21, 6, 21, 8, 182, 1, 89, 100, 54, 5, 42, 21, 7]
abbrev dktX3_soonest_6 : List UInt8 := dkwX3_soonest_6 ++ dktX3_soonest_7
def dkwX3_soonest_5 : List UInt8 := [3, 54, 7, 21, 7, 27, 16, 10, 100, 162, 0, 63, 42, 21, 7, 21, 4, 21, 5, 21, 6, 182, 1, 105]
abbrev dktX3_soonest_5 : List UInt8 := dkwX3_soonest_5 ++ dktX3_soonest_6
def dkwX3_soonest_4 : List UInt8 := [29, 161, 0, 5, 2, 172, 42, 182, 1, 111, 54, 4, 42, 182, 1, 114, 54, 5, 42, 182, 1, 117, 54, 6]
abbrev dktX3_soonest_4 : List UInt8 := dkwX3_soonest_4 ++ dktX3_soonest_5
def dkwX3_soonest_3 : List UInt8 := [5, 162, 0, 19, 27, 154, 0, 7, 29, 167, 0, 10, 16, 99, 28, 16, 100, 112, 100, 172, 27, 16, 10, 100]
abbrev dktX3_soonest_3 : List UInt8 := dkwX3_soonest_3 ++ dktX3_soonest_4
def dkwX3_soonest_2 : List UInt8 := [182, 1, 114, 42, 182, 1, 117, 184, 1, 96, 46, 61, 28, 156, 0, 5, 2, 172, 28, 16, 100, 108, 62, 27]
abbrev dktX3_soonest_2 : List UInt8 := dkwX3_soonest_2 ++ dktX3_soonest_3
def dkwX3_soonest_1 : List UInt8 := [184, 0, 90, 154, 0, 5, 2, 172, 42, 182, 1, 108, 42, 180, 0, 53, 3, 42, 182, 1, 111, 42]
abbrev dktX3_soonest_1 : List UInt8 := dkwX3_soonest_1 ++ dktX3_soonest_2
def dkwX3_soonest_0 : List UInt8 := [42, 3, 182, 1, 57, 153, 0, 23, 27, 3, 4, 184, 0, 90, 154, 0, 16, 27, 16, 10, 16, 21]
abbrev dktX3_soonest_0 : List UInt8 := dkwX3_soonest_0 ++ dktX3_soonest_1
theorem dksX3_soonest_0 : cX3_soonest.data.toList.drop 0 = dktX3_soonest_0 := by decide +kernel
theorem dksX3_soonest_1 : cX3_soonest.data.toList.drop 22 = dktX3_soonest_1 := dk_seg dksX3_soonest_0 22 rfl rfl
theorem dksX3_soonest_2 : cX3_soonest.data.toList.drop 44 = dktX3_soonest_2 := dk_seg dksX3_soonest_1 22 rfl rfl
theorem dksX3_soonest_3 : cX3_soonest.data.toList.drop 68 = dktX3_soonest_3 := dk_seg dksX3_soonest_2 24 rfl rfl
theorem dksX3_soonest_4 : cX3_soonest.data.toList.drop 92 = dktX3_soonest_4 := dk_seg dksX3_soonest_3 24 rfl rfl
theorem dksX3_soonest_5 : cX3_soonest.data.toList.drop 116 = dktX3_soonest_5 := dk_seg dksX3_soonest_4 24 rfl rfl
theorem dksX3_soonest_6 : cX3_soonest.data.toList.drop 140 = dktX3_soonest_6 := dk_seg dksX3_soonest_5 24 rfl rfl
theorem dksX3_soonest_7 : cX3_soonest.data.toList.drop 164 = dktX3_soonest_7 := dk_seg dksX3_soonest_6 24 rfl rfl
theorem dksX3_soonest_8 : cX3_soonest.data.toList.drop 188 = dktX3_soonest_8 := dk_seg dksX3_soonest_7 24 rfl rfl
theorem dX3_soonest_0 : decode cX3_soonest 0 = .ok (.aload_n 0, 1) := dk_42 (dk_at dksX3_soonest_0 0 rfl rfl)
theorem dX3_soonest_1 : decode cX3_soonest 1 = .ok (.iconst 0, 1) := dk_3 (dk_at dksX3_soonest_0 1 rfl rfl)
theorem dX3_soonest_2 : decode cX3_soonest 2 = .ok (.invokevirtual 313, 3) := dk_182 1 57 (dk_at dksX3_soonest_0 2 rfl rfl)
theorem dX3_soonest_5 : decode cX3_soonest 5 = .ok (.ifCond .eq 23, 3) := dk_153 0 23 (dk_at dksX3_soonest_0 5 rfl rfl)
theorem dX3_soonest_8 : decode cX3_soonest 8 = .ok (.iload_n 1, 1) := dk_27 (dk_at dksX3_soonest_0 8 rfl rfl)
theorem dX3_soonest_9 : decode cX3_soonest 9 = .ok (.iconst 0, 1) := dk_3 (dk_at dksX3_soonest_0 9 rfl rfl)
theorem dX3_soonest_10 : decode cX3_soonest 10 = .ok (.iconst 1, 1) := dk_4 (dk_at dksX3_soonest_0 10 rfl rfl)
theorem dX3_soonest_11 : decode cX3_soonest 11 = .ok (.invokestatic 90, 3) := dk_184 0 90 (dk_at dksX3_soonest_0 11 rfl rfl)
theorem dX3_soonest_14 : decode cX3_soonest 14 = .ok (.ifCond .ne 16, 3) := dk_154 0 16 (dk_at dksX3_soonest_0 14 rfl rfl)
theorem dX3_soonest_17 : decode cX3_soonest 17 = .ok (.iload_n 1, 1) := dk_27 (dk_at dksX3_soonest_0 17 rfl rfl)
theorem dX3_soonest_18 : decode cX3_soonest 18 = .ok (.bipush 10, 2) := dk_16 10 (dk_at dksX3_soonest_0 18 rfl rfl)
theorem dX3_soonest_20 : decode cX3_soonest 20 = .ok (.bipush 21, 2) := dk_16 21 (dk_at dksX3_soonest_0 20 rfl rfl)
theorem dX3_soonest_22 : decode cX3_soonest 22 = .ok (.invokestatic 90, 3) := dk_184 0 90 (dk_at dksX3_soonest_1 0 rfl rfl)
theorem dX3_soonest_25 : decode cX3_soonest 25 = .ok (.ifCond .ne 5, 3) := dk_154 0 5 (dk_at dksX3_soonest_1 3 rfl rfl)
theorem dX3_soonest_28 : decode cX3_soonest 28 = .ok (.iconst (-1), 1) := dk_2 (dk_at dksX3_soonest_1 6 rfl rfl)
theorem dX3_soonest_29 : decode cX3_soonest 29 = .ok (.ireturn, 1) := dk_172 (dk_at dksX3_soonest_1 7 rfl rfl)
theorem dX3_soonest_30 : decode cX3_soonest 30 = .ok (.aload_n 0, 1) := dk_42 (dk_at dksX3_soonest_1 8 rfl rfl)
theorem dX3_soonest_31 : decode cX3_soonest 31 = .ok (.invokevirtual 364, 3) := dk_182 1 108 (dk_at dksX3_soonest_1 9 rfl rfl)
theorem dX3_soonest_34 : decode cX3_soonest 34 = .ok (.aload_n 0, 1) := dk_42 (dk_at dksX3_soonest_1 12 rfl rfl)
theorem dX3_soonest_35 : decode cX3_soonest 35 = .ok (.getfield 53, 3) := dk_180 0 53 (dk_at dksX3_soonest_1 13 rfl rfl)
theorem dX3_soonest_38 : decode cX3_soonest 38 = .ok (.iconst 0, 1) := dk_3 (dk_at dksX3_soonest_1 16 rfl rfl)
theorem dX3_soonest_39 : decode cX3_soonest 39 = .ok (.aload_n 0, 1) := dk_42 (dk_at dksX3_soonest_1 17 rfl rfl)
theorem dX3_soonest_40 : decode cX3_soonest 40 = .ok (.invokevirtual 367, 3) := dk_182 1 111 (dk_at dksX3_soonest_1 18 rfl rfl)
theorem dX3_soonest_43 : decode cX3_soonest 43 = .ok (.aload_n 0, 1) := dk_42 (dk_at dksX3_soonest_1 21 rfl rfl)
theorem dX3_soonest_44 : decode cX3_soonest 44 = .ok (.invokevirtual 370, 3) := dk_182 1 114 (dk_at dksX3_soonest_2 0 rfl rfl)
theorem dX3_soonest_47 : decode cX3_soonest 47 = .ok (.aload_n 0, 1) := dk_42 (dk_at dksX3_soonest_2 3 rfl rfl)
theorem dX3_soonest_48 : decode cX3_soonest 48 = .ok (.invokevirtual 373, 3) := dk_182 1 117 (dk_at dksX3_soonest_2 4 rfl rfl)
theorem dX3_soonest_51 : decode cX3_soonest 51 = .ok (.invokestatic 352, 3) := dk_184 1 96 (dk_at dksX3_soonest_2 7 rfl rfl)
theorem dX3_soonest_54 : decode cX3_soonest 54 = .ok (.iaload, 1) := dk_46 (dk_at dksX3_soonest_2 10 rfl rfl)
theorem dX3_soonest_55 : decode cX3_soonest 55 = .ok (.istore_n 2, 1) := dk_61 (dk_at dksX3_soonest_2 11 rfl rfl)
theorem dX3_soonest_56 : decode cX3_soonest 56 = .ok (.iload_n 2, 1) := dk_28 (dk_at dksX3_soonest_2 12 rfl rfl)
theorem dX3_soonest_57 : decode cX3_soonest 57 = .ok (.ifCond .ge 5, 3) := dk_156 0 5 (dk_at dksX3_soonest_2 13 rfl rfl)
theorem dX3_soonest_60 : decode cX3_soonest 60 = .ok (.iconst (-1), 1) := dk_2 (dk_at dksX3_soonest_2 16 rfl rfl)
theorem dX3_soonest_61 : decode cX3_soonest 61 = .ok (.ireturn, 1) := dk_172 (dk_at dksX3_soonest_2 17 rfl rfl)
theorem dX3_soonest_62 : decode cX3_soonest 62 = .ok (.iload_n 2, 1) := dk_28 (dk_at dksX3_soonest_2 18 rfl rfl)
theorem dX3_soonest_63 : decode cX3_soonest 63 = .ok (.bipush 100, 2) := dk_16 100 (dk_at dksX3_soonest_2 19 rfl rfl)
theorem dX3_soonest_65 : decode cX3_soonest 65 = .ok (.idiv, 1) := dk_108 (dk_at dksX3_soonest_2 21 rfl rfl)
theorem dX3_soonest_66 : decode cX3_soonest 66 = .ok (.istore_n 3, 1) := dk_62 (dk_at dksX3_soonest_2 22 rfl rfl)
theorem dX3_soonest_67 : decode cX3_soonest 67 = .ok (.iload_n 1, 1) := dk_27 (dk_at dksX3_soonest_2 23 rfl rfl)
theorem dX3_soonest_68 : decode cX3_soonest 68 = .ok (.iconst 2, 1) := dk_5 (dk_at dksX3_soonest_3 0 rfl rfl)
theorem dX3_soonest_69 : decode cX3_soonest 69 = .ok (.if_icmp .ge 19, 3) := dk_162 0 19 (dk_at dksX3_soonest_3 1 rfl rfl)
theorem dX3_soonest_72 : decode cX3_soonest 72 = .ok (.iload_n 1, 1) := dk_27 (dk_at dksX3_soonest_3 4 rfl rfl)
theorem dX3_soonest_73 : decode cX3_soonest 73 = .ok (.ifCond .ne 7, 3) := dk_154 0 7 (dk_at dksX3_soonest_3 5 rfl rfl)
theorem dX3_soonest_76 : decode cX3_soonest 76 = .ok (.iload_n 3, 1) := dk_29 (dk_at dksX3_soonest_3 8 rfl rfl)
theorem dX3_soonest_77 : decode cX3_soonest 77 = .ok (.goto 10, 3) := dk_167 0 10 (dk_at dksX3_soonest_3 9 rfl rfl)
theorem dX3_soonest_80 : decode cX3_soonest 80 = .ok (.bipush 99, 2) := dk_16 99 (dk_at dksX3_soonest_3 12 rfl rfl)
theorem dX3_soonest_82 : decode cX3_soonest 82 = .ok (.iload_n 2, 1) := dk_28 (dk_at dksX3_soonest_3 14 rfl rfl)
theorem dX3_soonest_83 : decode cX3_soonest 83 = .ok (.bipush 100, 2) := dk_16 100 (dk_at dksX3_soonest_3 15 rfl rfl)
theorem dX3_soonest_85 : decode cX3_soonest 85 = .ok (.irem, 1) := dk_112 (dk_at dksX3_soonest_3 17 rfl rfl)
theorem dX3_soonest_86 : decode cX3_soonest 86 = .ok (.isub, 1) := dk_100 (dk_at dksX3_soonest_3 18 rfl rfl)
theorem dX3_soonest_87 : decode cX3_soonest 87 = .ok (.ireturn, 1) := dk_172 (dk_at dksX3_soonest_3 19 rfl rfl)
theorem dX3_soonest_88 : decode cX3_soonest 88 = .ok (.iload_n 1, 1) := dk_27 (dk_at dksX3_soonest_3 20 rfl rfl)
theorem dX3_soonest_89 : decode cX3_soonest 89 = .ok (.bipush 10, 2) := dk_16 10 (dk_at dksX3_soonest_3 21 rfl rfl)
theorem dX3_soonest_91 : decode cX3_soonest 91 = .ok (.isub, 1) := dk_100 (dk_at dksX3_soonest_3 23 rfl rfl)
theorem dX3_soonest_92 : decode cX3_soonest 92 = .ok (.iload_n 3, 1) := dk_29 (dk_at dksX3_soonest_4 0 rfl rfl)
theorem dX3_soonest_93 : decode cX3_soonest 93 = .ok (.if_icmp .lt 5, 3) := dk_161 0 5 (dk_at dksX3_soonest_4 1 rfl rfl)
theorem dX3_soonest_96 : decode cX3_soonest 96 = .ok (.iconst (-1), 1) := dk_2 (dk_at dksX3_soonest_4 4 rfl rfl)
theorem dX3_soonest_97 : decode cX3_soonest 97 = .ok (.ireturn, 1) := dk_172 (dk_at dksX3_soonest_4 5 rfl rfl)
theorem dX3_soonest_98 : decode cX3_soonest 98 = .ok (.aload_n 0, 1) := dk_42 (dk_at dksX3_soonest_4 6 rfl rfl)
theorem dX3_soonest_99 : decode cX3_soonest 99 = .ok (.invokevirtual 367, 3) := dk_182 1 111 (dk_at dksX3_soonest_4 7 rfl rfl)
theorem dX3_soonest_102 : decode cX3_soonest 102 = .ok (.istore 4, 2) := dk_54 4 (dk_at dksX3_soonest_4 10 rfl rfl)
theorem dX3_soonest_104 : decode cX3_soonest 104 = .ok (.aload_n 0, 1) := dk_42 (dk_at dksX3_soonest_4 12 rfl rfl)
theorem dX3_soonest_105 : decode cX3_soonest 105 = .ok (.invokevirtual 370, 3) := dk_182 1 114 (dk_at dksX3_soonest_4 13 rfl rfl)
theorem dX3_soonest_108 : decode cX3_soonest 108 = .ok (.istore 5, 2) := dk_54 5 (dk_at dksX3_soonest_4 16 rfl rfl)
theorem dX3_soonest_110 : decode cX3_soonest 110 = .ok (.aload_n 0, 1) := dk_42 (dk_at dksX3_soonest_4 18 rfl rfl)
theorem dX3_soonest_111 : decode cX3_soonest 111 = .ok (.invokevirtual 373, 3) := dk_182 1 117 (dk_at dksX3_soonest_4 19 rfl rfl)
theorem dX3_soonest_114 : decode cX3_soonest 114 = .ok (.istore 6, 2) := dk_54 6 (dk_at dksX3_soonest_4 22 rfl rfl)
theorem dX3_soonest_116 : decode cX3_soonest 116 = .ok (.iconst 0, 1) := dk_3 (dk_at dksX3_soonest_5 0 rfl rfl)
theorem dX3_soonest_117 : decode cX3_soonest 117 = .ok (.istore 7, 2) := dk_54 7 (dk_at dksX3_soonest_5 1 rfl rfl)
theorem dX3_soonest_119 : decode cX3_soonest 119 = .ok (.iload 7, 2) := dk_21 7 (dk_at dksX3_soonest_5 3 rfl rfl)
theorem dX3_soonest_121 : decode cX3_soonest 121 = .ok (.iload_n 1, 1) := dk_27 (dk_at dksX3_soonest_5 5 rfl rfl)
theorem dX3_soonest_122 : decode cX3_soonest 122 = .ok (.bipush 10, 2) := dk_16 10 (dk_at dksX3_soonest_5 6 rfl rfl)
theorem dX3_soonest_124 : decode cX3_soonest 124 = .ok (.isub, 1) := dk_100 (dk_at dksX3_soonest_5 8 rfl rfl)
theorem dX3_soonest_125 : decode cX3_soonest 125 = .ok (.if_icmp .ge 63, 3) := dk_162 0 63 (dk_at dksX3_soonest_5 9 rfl rfl)
theorem dX3_soonest_128 : decode cX3_soonest 128 = .ok (.aload_n 0, 1) := dk_42 (dk_at dksX3_soonest_5 12 rfl rfl)
theorem dX3_soonest_129 : decode cX3_soonest 129 = .ok (.iload 7, 2) := dk_21 7 (dk_at dksX3_soonest_5 13 rfl rfl)
theorem dX3_soonest_131 : decode cX3_soonest 131 = .ok (.iload 4, 2) := dk_21 4 (dk_at dksX3_soonest_5 15 rfl rfl)
theorem dX3_soonest_133 : decode cX3_soonest 133 = .ok (.iload 5, 2) := dk_21 5 (dk_at dksX3_soonest_5 17 rfl rfl)
theorem dX3_soonest_135 : decode cX3_soonest 135 = .ok (.iload 6, 2) := dk_21 6 (dk_at dksX3_soonest_5 19 rfl rfl)
theorem dX3_soonest_137 : decode cX3_soonest 137 = .ok (.invokevirtual 361, 3) := dk_182 1 105 (dk_at dksX3_soonest_5 21 rfl rfl)
theorem dX3_soonest_140 : decode cX3_soonest 140 = .ok (.istore 8, 2) := dk_54 8 (dk_at dksX3_soonest_6 0 rfl rfl)
theorem dX3_soonest_142 : decode cX3_soonest 142 = .ok (.iload 5, 2) := dk_21 5 (dk_at dksX3_soonest_6 2 rfl rfl)
theorem dX3_soonest_144 : decode cX3_soonest 144 = .ok (.aload_n 0, 1) := dk_42 (dk_at dksX3_soonest_6 4 rfl rfl)
theorem dX3_soonest_145 : decode cX3_soonest 145 = .ok (.iload 7, 2) := dk_21 7 (dk_at dksX3_soonest_6 5 rfl rfl)
theorem dX3_soonest_147 : decode cX3_soonest 147 = .ok (.iload 4, 2) := dk_21 4 (dk_at dksX3_soonest_6 7 rfl rfl)
theorem dX3_soonest_149 : decode cX3_soonest 149 = .ok (.iload 5, 2) := dk_21 5 (dk_at dksX3_soonest_6 9 rfl rfl)
theorem dX3_soonest_151 : decode cX3_soonest 151 = .ok (.iload 6, 2) := dk_21 6 (dk_at dksX3_soonest_6 11 rfl rfl)
theorem dX3_soonest_153 : decode cX3_soonest 153 = .ok (.iload 8, 2) := dk_21 8 (dk_at dksX3_soonest_6 13 rfl rfl)
theorem dX3_soonest_155 : decode cX3_soonest 155 = .ok (.invokevirtual 345, 3) := dk_182 1 89 (dk_at dksX3_soonest_6 15 rfl rfl)
theorem dX3_soonest_158 : decode cX3_soonest 158 = .ok (.isub, 1) := dk_100 (dk_at dksX3_soonest_6 18 rfl rfl)
theorem dX3_soonest_159 : decode cX3_soonest 159 = .ok (.istore 5, 2) := dk_54 5 (dk_at dksX3_soonest_6 19 rfl rfl)
theorem dX3_soonest_161 : decode cX3_soonest 161 = .ok (.aload_n 0, 1) := dk_42 (dk_at dksX3_soonest_6 21 rfl rfl)
theorem dX3_soonest_162 : decode cX3_soonest 162 = .ok (.iload 7, 2) := dk_21 7 (dk_at dksX3_soonest_6 22 rfl rfl)
theorem dX3_soonest_164 : decode cX3_soonest 164 = .ok (.iload 4, 2) := dk_21 4 (dk_at dksX3_soonest_7 0 rfl rfl)
theorem dX3_soonest_166 : decode cX3_soonest 166 = .ok (.iload 8, 2) := dk_21 8 (dk_at dksX3_soonest_7 2 rfl rfl)
theorem dX3_soonest_168 : decode cX3_soonest 168 = .ok (.invokevirtual 349, 3) := dk_182 1 93 (dk_at dksX3_soonest_7 4 rfl rfl)
theorem dX3_soonest_171 : decode cX3_soonest 171 = .ok (.istore 4, 2) := dk_54 4 (dk_at dksX3_soonest_7 7 rfl rfl)
theorem dX3_soonest_173 : decode cX3_soonest 173 = .ok (.iload 8, 2) := dk_21 8 (dk_at dksX3_soonest_7 9 rfl rfl)
theorem dX3_soonest_175 : decode cX3_soonest 175 = .ok (.iload 6, 2) := dk_21 6 (dk_at dksX3_soonest_7 11 rfl rfl)
theorem dX3_soonest_177 : decode cX3_soonest 177 = .ok (.invokestatic 322, 3) := dk_184 1 66 (dk_at dksX3_soonest_7 13 rfl rfl)
theorem dX3_soonest_180 : decode cX3_soonest 180 = .ok (.istore 6, 2) := dk_54 6 (dk_at dksX3_soonest_7 16 rfl rfl)
theorem dX3_soonest_182 : decode cX3_soonest 182 = .ok (.iinc 7 1, 3) := dk_132 7 1 (dk_at dksX3_soonest_7 18 rfl rfl)
theorem dX3_soonest_185 : decode cX3_soonest 185 = .ok (.goto (-66), 3) := dk_167 255 190 (dk_at dksX3_soonest_7 21 rfl rfl)
theorem dX3_soonest_188 : decode cX3_soonest 188 = .ok (.aload_n 0, 1) := dk_42 (dk_at dksX3_soonest_8 0 rfl rfl)
theorem dX3_soonest_189 : decode cX3_soonest 189 = .ok (.iload_n 1, 1) := dk_27 (dk_at dksX3_soonest_8 1 rfl rfl)
theorem dX3_soonest_190 : decode cX3_soonest 190 = .ok (.bipush 10, 2) := dk_16 10 (dk_at dksX3_soonest_8 2 rfl rfl)
theorem dX3_soonest_192 : decode cX3_soonest 192 = .ok (.isub, 1) := dk_100 (dk_at dksX3_soonest_8 4 rfl rfl)
theorem dX3_soonest_193 : decode cX3_soonest 193 = .ok (.iload 4, 2) := dk_21 4 (dk_at dksX3_soonest_8 5 rfl rfl)
theorem dX3_soonest_195 : decode cX3_soonest 195 = .ok (.iload 5, 2) := dk_21 5 (dk_at dksX3_soonest_8 7 rfl rfl)
theorem dX3_soonest_197 : decode cX3_soonest 197 = .ok (.iload 6, 2) := dk_21 6 (dk_at dksX3_soonest_8 9 rfl rfl)
theorem dX3_soonest_199 : decode cX3_soonest 199 = .ok (.invokevirtual 361, 3) := dk_182 1 105 (dk_at dksX3_soonest_8 11 rfl rfl)
theorem dX3_soonest_202 : decode cX3_soonest 202 = .ok (.ireturn, 1) := dk_172 (dk_at dksX3_soonest_8 14 rfl rfl)
abbrev cX3_findOut : ByteArray := prog_17_method_88_code
def yX3_findOut : MethodName := ⟨RX3, "findOut", "()V"⟩
def dkwX3_findOut_5 : List UInt8 := [177]
abbrev dktX3_findOut_5 : List UInt8 := dkwX3_findOut_5 ++ []
def dkwX3_findOut_4 : List UInt8 := [132, 5, 1, 167, 255, 236, 132, 4, 1, 167, 255, 220, 132, 3, 1, 167, 255, 203, 132, 2, 255, 167, 255, 191]
abbrev dktX3_findOut_4 : List UInt8 := dkwX3_findOut_4 ++ dktX3_findOut_5
def dkwX3_findOut_3 : List UInt8 := [162, 0, 35, 3, 54, 5, 21, 5, 5, 162, 0, 20, 42, 28, 29, 21, 4, 21, 5, 182, 1, 105, 87]
abbrev dktX3_findOut_3 : List UInt8 := dkwX3_findOut_3 ++ dktX3_findOut_4
def dkwX3_findOut_2 : List UInt8 := [61, 28, 155, 0, 67, 3, 62, 29, 42, 180, 0, 83, 162, 0, 51, 3, 54, 4, 21, 4, 16, 100]
abbrev dktX3_findOut_2 : List UInt8 := dkwX3_findOut_2 ++ dktX3_findOut_3
def dkwX3_findOut_1 : List UInt8 := [3, 3, 184, 1, 96, 162, 0, 16, 42, 180, 0, 53, 28, 2, 79, 132, 2, 1, 167, 255, 233, 27, 4, 100]
abbrev dktX3_findOut_1 : List UInt8 := dkwX3_findOut_1 ++ dktX3_findOut_2
def dkwX3_findOut_0 : List UInt8 := [42, 182, 1, 102, 42, 180, 0, 7, 7, 46, 60, 27, 3, 3, 3, 184, 1, 96, 61, 28, 27, 4, 96, 3]
abbrev dktX3_findOut_0 : List UInt8 := dkwX3_findOut_0 ++ dktX3_findOut_1
theorem dksX3_findOut_0 : cX3_findOut.data.toList.drop 0 = dktX3_findOut_0 := by decide +kernel
theorem dksX3_findOut_1 : cX3_findOut.data.toList.drop 24 = dktX3_findOut_1 := dk_seg dksX3_findOut_0 24 rfl rfl
theorem dksX3_findOut_2 : cX3_findOut.data.toList.drop 48 = dktX3_findOut_2 := dk_seg dksX3_findOut_1 24 rfl rfl
theorem dksX3_findOut_3 : cX3_findOut.data.toList.drop 70 = dktX3_findOut_3 := dk_seg dksX3_findOut_2 22 rfl rfl
theorem dksX3_findOut_4 : cX3_findOut.data.toList.drop 93 = dktX3_findOut_4 := dk_seg dksX3_findOut_3 23 rfl rfl
theorem dksX3_findOut_5 : cX3_findOut.data.toList.drop 117 = dktX3_findOut_5 := dk_seg dksX3_findOut_4 24 rfl rfl
theorem dX3_findOut_0 : decode cX3_findOut 0 = .ok (.aload_n 0, 1) := dk_42 (dk_at dksX3_findOut_0 0 rfl rfl)
theorem dX3_findOut_1 : decode cX3_findOut 1 = .ok (.invokevirtual 358, 3) := dk_182 1 102 (dk_at dksX3_findOut_0 1 rfl rfl)
theorem dX3_findOut_4 : decode cX3_findOut 4 = .ok (.aload_n 0, 1) := dk_42 (dk_at dksX3_findOut_0 4 rfl rfl)
theorem dX3_findOut_5 : decode cX3_findOut 5 = .ok (.getfield 7, 3) := dk_180 0 7 (dk_at dksX3_findOut_0 5 rfl rfl)
theorem dX3_findOut_8 : decode cX3_findOut 8 = .ok (.iconst 4, 1) := dk_7 (dk_at dksX3_findOut_0 8 rfl rfl)
theorem dX3_findOut_9 : decode cX3_findOut 9 = .ok (.iaload, 1) := dk_46 (dk_at dksX3_findOut_0 9 rfl rfl)
theorem dX3_findOut_10 : decode cX3_findOut 10 = .ok (.istore_n 1, 1) := dk_60 (dk_at dksX3_findOut_0 10 rfl rfl)
theorem dX3_findOut_11 : decode cX3_findOut 11 = .ok (.iload_n 1, 1) := dk_27 (dk_at dksX3_findOut_0 11 rfl rfl)
theorem dX3_findOut_12 : decode cX3_findOut 12 = .ok (.iconst 0, 1) := dk_3 (dk_at dksX3_findOut_0 12 rfl rfl)
theorem dX3_findOut_13 : decode cX3_findOut 13 = .ok (.iconst 0, 1) := dk_3 (dk_at dksX3_findOut_0 13 rfl rfl)
theorem dX3_findOut_14 : decode cX3_findOut 14 = .ok (.iconst 0, 1) := dk_3 (dk_at dksX3_findOut_0 14 rfl rfl)
theorem dX3_findOut_15 : decode cX3_findOut 15 = .ok (.invokestatic 352, 3) := dk_184 1 96 (dk_at dksX3_findOut_0 15 rfl rfl)
theorem dX3_findOut_18 : decode cX3_findOut 18 = .ok (.istore_n 2, 1) := dk_61 (dk_at dksX3_findOut_0 18 rfl rfl)
theorem dX3_findOut_19 : decode cX3_findOut 19 = .ok (.iload_n 2, 1) := dk_28 (dk_at dksX3_findOut_0 19 rfl rfl)
theorem dX3_findOut_20 : decode cX3_findOut 20 = .ok (.iload_n 1, 1) := dk_27 (dk_at dksX3_findOut_0 20 rfl rfl)
theorem dX3_findOut_21 : decode cX3_findOut 21 = .ok (.iconst 1, 1) := dk_4 (dk_at dksX3_findOut_0 21 rfl rfl)
theorem dX3_findOut_22 : decode cX3_findOut 22 = .ok (.iadd, 1) := dk_96 (dk_at dksX3_findOut_0 22 rfl rfl)
theorem dX3_findOut_23 : decode cX3_findOut 23 = .ok (.iconst 0, 1) := dk_3 (dk_at dksX3_findOut_0 23 rfl rfl)
theorem dX3_findOut_24 : decode cX3_findOut 24 = .ok (.iconst 0, 1) := dk_3 (dk_at dksX3_findOut_1 0 rfl rfl)
theorem dX3_findOut_25 : decode cX3_findOut 25 = .ok (.iconst 0, 1) := dk_3 (dk_at dksX3_findOut_1 1 rfl rfl)
theorem dX3_findOut_26 : decode cX3_findOut 26 = .ok (.invokestatic 352, 3) := dk_184 1 96 (dk_at dksX3_findOut_1 2 rfl rfl)
theorem dX3_findOut_29 : decode cX3_findOut 29 = .ok (.if_icmp .ge 16, 3) := dk_162 0 16 (dk_at dksX3_findOut_1 5 rfl rfl)
theorem dX3_findOut_32 : decode cX3_findOut 32 = .ok (.aload_n 0, 1) := dk_42 (dk_at dksX3_findOut_1 8 rfl rfl)
theorem dX3_findOut_33 : decode cX3_findOut 33 = .ok (.getfield 53, 3) := dk_180 0 53 (dk_at dksX3_findOut_1 9 rfl rfl)
theorem dX3_findOut_36 : decode cX3_findOut 36 = .ok (.iload_n 2, 1) := dk_28 (dk_at dksX3_findOut_1 12 rfl rfl)
theorem dX3_findOut_37 : decode cX3_findOut 37 = .ok (.iconst (-1), 1) := dk_2 (dk_at dksX3_findOut_1 13 rfl rfl)
theorem dX3_findOut_38 : decode cX3_findOut 38 = .ok (.iastore, 1) := dk_79 (dk_at dksX3_findOut_1 14 rfl rfl)
theorem dX3_findOut_39 : decode cX3_findOut 39 = .ok (.iinc 2 1, 3) := dk_132 2 1 (dk_at dksX3_findOut_1 15 rfl rfl)
theorem dX3_findOut_42 : decode cX3_findOut 42 = .ok (.goto (-23), 3) := dk_167 255 233 (dk_at dksX3_findOut_1 18 rfl rfl)
theorem dX3_findOut_45 : decode cX3_findOut 45 = .ok (.iload_n 1, 1) := dk_27 (dk_at dksX3_findOut_1 21 rfl rfl)
theorem dX3_findOut_46 : decode cX3_findOut 46 = .ok (.iconst 1, 1) := dk_4 (dk_at dksX3_findOut_1 22 rfl rfl)
theorem dX3_findOut_47 : decode cX3_findOut 47 = .ok (.isub, 1) := dk_100 (dk_at dksX3_findOut_1 23 rfl rfl)
theorem dX3_findOut_48 : decode cX3_findOut 48 = .ok (.istore_n 2, 1) := dk_61 (dk_at dksX3_findOut_2 0 rfl rfl)
theorem dX3_findOut_49 : decode cX3_findOut 49 = .ok (.iload_n 2, 1) := dk_28 (dk_at dksX3_findOut_2 1 rfl rfl)
theorem dX3_findOut_50 : decode cX3_findOut 50 = .ok (.ifCond .lt 67, 3) := dk_155 0 67 (dk_at dksX3_findOut_2 2 rfl rfl)
theorem dX3_findOut_53 : decode cX3_findOut 53 = .ok (.iconst 0, 1) := dk_3 (dk_at dksX3_findOut_2 5 rfl rfl)
theorem dX3_findOut_54 : decode cX3_findOut 54 = .ok (.istore_n 3, 1) := dk_62 (dk_at dksX3_findOut_2 6 rfl rfl)
theorem dX3_findOut_55 : decode cX3_findOut 55 = .ok (.iload_n 3, 1) := dk_29 (dk_at dksX3_findOut_2 7 rfl rfl)
theorem dX3_findOut_56 : decode cX3_findOut 56 = .ok (.aload_n 0, 1) := dk_42 (dk_at dksX3_findOut_2 8 rfl rfl)
theorem dX3_findOut_57 : decode cX3_findOut 57 = .ok (.getfield 83, 3) := dk_180 0 83 (dk_at dksX3_findOut_2 9 rfl rfl)
theorem dX3_findOut_60 : decode cX3_findOut 60 = .ok (.if_icmp .ge 51, 3) := dk_162 0 51 (dk_at dksX3_findOut_2 12 rfl rfl)
theorem dX3_findOut_63 : decode cX3_findOut 63 = .ok (.iconst 0, 1) := dk_3 (dk_at dksX3_findOut_2 15 rfl rfl)
theorem dX3_findOut_64 : decode cX3_findOut 64 = .ok (.istore 4, 2) := dk_54 4 (dk_at dksX3_findOut_2 16 rfl rfl)
theorem dX3_findOut_66 : decode cX3_findOut 66 = .ok (.iload 4, 2) := dk_21 4 (dk_at dksX3_findOut_2 18 rfl rfl)
theorem dX3_findOut_68 : decode cX3_findOut 68 = .ok (.bipush 100, 2) := dk_16 100 (dk_at dksX3_findOut_2 20 rfl rfl)
theorem dX3_findOut_70 : decode cX3_findOut 70 = .ok (.if_icmp .ge 35, 3) := dk_162 0 35 (dk_at dksX3_findOut_3 0 rfl rfl)
theorem dX3_findOut_73 : decode cX3_findOut 73 = .ok (.iconst 0, 1) := dk_3 (dk_at dksX3_findOut_3 3 rfl rfl)
theorem dX3_findOut_74 : decode cX3_findOut 74 = .ok (.istore 5, 2) := dk_54 5 (dk_at dksX3_findOut_3 4 rfl rfl)
theorem dX3_findOut_76 : decode cX3_findOut 76 = .ok (.iload 5, 2) := dk_21 5 (dk_at dksX3_findOut_3 6 rfl rfl)
theorem dX3_findOut_78 : decode cX3_findOut 78 = .ok (.iconst 2, 1) := dk_5 (dk_at dksX3_findOut_3 8 rfl rfl)
theorem dX3_findOut_79 : decode cX3_findOut 79 = .ok (.if_icmp .ge 20, 3) := dk_162 0 20 (dk_at dksX3_findOut_3 9 rfl rfl)
theorem dX3_findOut_82 : decode cX3_findOut 82 = .ok (.aload_n 0, 1) := dk_42 (dk_at dksX3_findOut_3 12 rfl rfl)
theorem dX3_findOut_83 : decode cX3_findOut 83 = .ok (.iload_n 2, 1) := dk_28 (dk_at dksX3_findOut_3 13 rfl rfl)
theorem dX3_findOut_84 : decode cX3_findOut 84 = .ok (.iload_n 3, 1) := dk_29 (dk_at dksX3_findOut_3 14 rfl rfl)
theorem dX3_findOut_85 : decode cX3_findOut 85 = .ok (.iload 4, 2) := dk_21 4 (dk_at dksX3_findOut_3 15 rfl rfl)
theorem dX3_findOut_87 : decode cX3_findOut 87 = .ok (.iload 5, 2) := dk_21 5 (dk_at dksX3_findOut_3 17 rfl rfl)
theorem dX3_findOut_89 : decode cX3_findOut 89 = .ok (.invokevirtual 361, 3) := dk_182 1 105 (dk_at dksX3_findOut_3 19 rfl rfl)
theorem dX3_findOut_92 : decode cX3_findOut 92 = .ok (.pop, 1) := dk_87 (dk_at dksX3_findOut_3 22 rfl rfl)
theorem dX3_findOut_93 : decode cX3_findOut 93 = .ok (.iinc 5 1, 3) := dk_132 5 1 (dk_at dksX3_findOut_4 0 rfl rfl)
theorem dX3_findOut_96 : decode cX3_findOut 96 = .ok (.goto (-20), 3) := dk_167 255 236 (dk_at dksX3_findOut_4 3 rfl rfl)
theorem dX3_findOut_99 : decode cX3_findOut 99 = .ok (.iinc 4 1, 3) := dk_132 4 1 (dk_at dksX3_findOut_4 6 rfl rfl)
theorem dX3_findOut_102 : decode cX3_findOut 102 = .ok (.goto (-36), 3) := dk_167 255 220 (dk_at dksX3_findOut_4 9 rfl rfl)
theorem dX3_findOut_105 : decode cX3_findOut 105 = .ok (.iinc 3 1, 3) := dk_132 3 1 (dk_at dksX3_findOut_4 12 rfl rfl)
theorem dX3_findOut_108 : decode cX3_findOut 108 = .ok (.goto (-53), 3) := dk_167 255 203 (dk_at dksX3_findOut_4 15 rfl rfl)
theorem dX3_findOut_111 : decode cX3_findOut 111 = .ok (.iinc 2 (-1), 3) := dk_132 2 255 (dk_at dksX3_findOut_4 18 rfl rfl)
theorem dX3_findOut_114 : decode cX3_findOut 114 = .ok (.goto (-65), 3) := dk_167 255 191 (dk_at dksX3_findOut_4 21 rfl rfl)
theorem dX3_findOut_117 : decode cX3_findOut 117 = .ok (.return_, 1) := dk_177 (dk_at dksX3_findOut_5 0 rfl rfl)
abbrev cX3_look : ByteArray := prog_17_method_82_code
def yX3_look : MethodName := ⟨RX3, "look", "()V"⟩
def dkwX3_look_6 : List UInt8 := [46, 28, 96, 182, 1, 72, 84, 132, 3, 1, 167, 255, 205, 132, 2, 1, 167, 255, 111, 177]
abbrev dktX3_look_6 : List UInt8 := dkwX3_look_6 ++ []
def dkwX3_look_5 : List UInt8 := [96, 42, 16, 36, 28, 4, 96, 104, 29, 42, 180, 0, 7, 17, 0, 180, 28, 96, 46, 42, 180, 0, 7, 3]
abbrev dktX3_look_5 : List UInt8 := dkwX3_look_5 ++ dktX3_look_6
def dkwX3_look_4 : List UInt8 := [28, 96, 182, 1, 79, 3, 62, 29, 42, 180, 0, 83, 162, 0, 49, 42, 180, 0, 49, 16, 36, 28, 104, 29]
abbrev dktX3_look_4 : List UInt8 := dkwX3_look_4 ++ dktX3_look_5
def dkwX3_look_3 : List UInt8 := [28, 104, 16, 36, 28, 4, 96, 104, 42, 180, 0, 7, 17, 0, 180, 28, 96, 46, 42, 180, 0, 7, 3, 46]
abbrev dktX3_look_3 : List UInt8 := dkwX3_look_3 ++ dktX3_look_4
def dkwX3_look_2 : List UInt8 := [182, 1, 86, 42, 180, 0, 7, 3, 46, 28, 96, 182, 1, 46, 79, 132, 3, 1, 167, 255, 212, 42, 16, 36]
abbrev dktX3_look_2 : List UInt8 := dkwX3_look_2 ++ dktX3_look_3
def dkwX3_look_1 : List UInt8 := [180, 0, 83, 162, 0, 42, 42, 180, 0, 46, 16, 36, 28, 104, 29, 96, 42, 16, 36, 28, 104, 29, 42, 28]
abbrev dktX3_look_1 : List UInt8 := dkwX3_look_1 ++ dktX3_look_2
def dkwX3_look_0 : List UInt8 := [42, 3, 182, 1, 60, 42, 180, 0, 7, 7, 46, 60, 3, 61, 28, 27, 162, 0, 146, 3, 62, 29, 42]
abbrev dktX3_look_0 : List UInt8 := dkwX3_look_0 ++ dktX3_look_1
theorem dksX3_look_0 : cX3_look.data.toList.drop 0 = dktX3_look_0 := by decide +kernel
theorem dksX3_look_1 : cX3_look.data.toList.drop 23 = dktX3_look_1 := dk_seg dksX3_look_0 23 rfl rfl
theorem dksX3_look_2 : cX3_look.data.toList.drop 47 = dktX3_look_2 := dk_seg dksX3_look_1 24 rfl rfl
theorem dksX3_look_3 : cX3_look.data.toList.drop 71 = dktX3_look_3 := dk_seg dksX3_look_2 24 rfl rfl
theorem dksX3_look_4 : cX3_look.data.toList.drop 95 = dktX3_look_4 := dk_seg dksX3_look_3 24 rfl rfl
theorem dksX3_look_5 : cX3_look.data.toList.drop 119 = dktX3_look_5 := dk_seg dksX3_look_4 24 rfl rfl
theorem dksX3_look_6 : cX3_look.data.toList.drop 143 = dktX3_look_6 := dk_seg dksX3_look_5 24 rfl rfl
theorem dX3_look_0 : decode cX3_look 0 = .ok (.aload_n 0, 1) := dk_42 (dk_at dksX3_look_0 0 rfl rfl)
theorem dX3_look_1 : decode cX3_look 1 = .ok (.iconst 0, 1) := dk_3 (dk_at dksX3_look_0 1 rfl rfl)
theorem dX3_look_2 : decode cX3_look 2 = .ok (.invokevirtual 316, 3) := dk_182 1 60 (dk_at dksX3_look_0 2 rfl rfl)
theorem dX3_look_5 : decode cX3_look 5 = .ok (.aload_n 0, 1) := dk_42 (dk_at dksX3_look_0 5 rfl rfl)
theorem dX3_look_6 : decode cX3_look 6 = .ok (.getfield 7, 3) := dk_180 0 7 (dk_at dksX3_look_0 6 rfl rfl)
theorem dX3_look_9 : decode cX3_look 9 = .ok (.iconst 4, 1) := dk_7 (dk_at dksX3_look_0 9 rfl rfl)
theorem dX3_look_10 : decode cX3_look 10 = .ok (.iaload, 1) := dk_46 (dk_at dksX3_look_0 10 rfl rfl)
theorem dX3_look_11 : decode cX3_look 11 = .ok (.istore_n 1, 1) := dk_60 (dk_at dksX3_look_0 11 rfl rfl)
theorem dX3_look_12 : decode cX3_look 12 = .ok (.iconst 0, 1) := dk_3 (dk_at dksX3_look_0 12 rfl rfl)
theorem dX3_look_13 : decode cX3_look 13 = .ok (.istore_n 2, 1) := dk_61 (dk_at dksX3_look_0 13 rfl rfl)
theorem dX3_look_14 : decode cX3_look 14 = .ok (.iload_n 2, 1) := dk_28 (dk_at dksX3_look_0 14 rfl rfl)
theorem dX3_look_15 : decode cX3_look 15 = .ok (.iload_n 1, 1) := dk_27 (dk_at dksX3_look_0 15 rfl rfl)
theorem dX3_look_16 : decode cX3_look 16 = .ok (.if_icmp .ge 146, 3) := dk_162 0 146 (dk_at dksX3_look_0 16 rfl rfl)
theorem dX3_look_19 : decode cX3_look 19 = .ok (.iconst 0, 1) := dk_3 (dk_at dksX3_look_0 19 rfl rfl)
theorem dX3_look_20 : decode cX3_look 20 = .ok (.istore_n 3, 1) := dk_62 (dk_at dksX3_look_0 20 rfl rfl)
theorem dX3_look_21 : decode cX3_look 21 = .ok (.iload_n 3, 1) := dk_29 (dk_at dksX3_look_0 21 rfl rfl)
theorem dX3_look_22 : decode cX3_look 22 = .ok (.aload_n 0, 1) := dk_42 (dk_at dksX3_look_0 22 rfl rfl)
theorem dX3_look_23 : decode cX3_look 23 = .ok (.getfield 83, 3) := dk_180 0 83 (dk_at dksX3_look_1 0 rfl rfl)
theorem dX3_look_26 : decode cX3_look 26 = .ok (.if_icmp .ge 42, 3) := dk_162 0 42 (dk_at dksX3_look_1 3 rfl rfl)
theorem dX3_look_29 : decode cX3_look 29 = .ok (.aload_n 0, 1) := dk_42 (dk_at dksX3_look_1 6 rfl rfl)
theorem dX3_look_30 : decode cX3_look 30 = .ok (.getfield 46, 3) := dk_180 0 46 (dk_at dksX3_look_1 7 rfl rfl)
theorem dX3_look_33 : decode cX3_look 33 = .ok (.bipush 36, 2) := dk_16 36 (dk_at dksX3_look_1 10 rfl rfl)
theorem dX3_look_35 : decode cX3_look 35 = .ok (.iload_n 2, 1) := dk_28 (dk_at dksX3_look_1 12 rfl rfl)
theorem dX3_look_36 : decode cX3_look 36 = .ok (.imul, 1) := dk_104 (dk_at dksX3_look_1 13 rfl rfl)
theorem dX3_look_37 : decode cX3_look 37 = .ok (.iload_n 3, 1) := dk_29 (dk_at dksX3_look_1 14 rfl rfl)
theorem dX3_look_38 : decode cX3_look 38 = .ok (.iadd, 1) := dk_96 (dk_at dksX3_look_1 15 rfl rfl)
theorem dX3_look_39 : decode cX3_look 39 = .ok (.aload_n 0, 1) := dk_42 (dk_at dksX3_look_1 16 rfl rfl)
theorem dX3_look_40 : decode cX3_look 40 = .ok (.bipush 36, 2) := dk_16 36 (dk_at dksX3_look_1 17 rfl rfl)
theorem dX3_look_42 : decode cX3_look 42 = .ok (.iload_n 2, 1) := dk_28 (dk_at dksX3_look_1 19 rfl rfl)
theorem dX3_look_43 : decode cX3_look 43 = .ok (.imul, 1) := dk_104 (dk_at dksX3_look_1 20 rfl rfl)
theorem dX3_look_44 : decode cX3_look 44 = .ok (.iload_n 3, 1) := dk_29 (dk_at dksX3_look_1 21 rfl rfl)
theorem dX3_look_45 : decode cX3_look 45 = .ok (.aload_n 0, 1) := dk_42 (dk_at dksX3_look_1 22 rfl rfl)
theorem dX3_look_46 : decode cX3_look 46 = .ok (.iload_n 2, 1) := dk_28 (dk_at dksX3_look_1 23 rfl rfl)
theorem dX3_look_47 : decode cX3_look 47 = .ok (.invokevirtual 342, 3) := dk_182 1 86 (dk_at dksX3_look_2 0 rfl rfl)
theorem dX3_look_50 : decode cX3_look 50 = .ok (.aload_n 0, 1) := dk_42 (dk_at dksX3_look_2 3 rfl rfl)
theorem dX3_look_51 : decode cX3_look 51 = .ok (.getfield 7, 3) := dk_180 0 7 (dk_at dksX3_look_2 4 rfl rfl)
theorem dX3_look_54 : decode cX3_look 54 = .ok (.iconst 0, 1) := dk_3 (dk_at dksX3_look_2 7 rfl rfl)
theorem dX3_look_55 : decode cX3_look 55 = .ok (.iaload, 1) := dk_46 (dk_at dksX3_look_2 8 rfl rfl)
theorem dX3_look_56 : decode cX3_look 56 = .ok (.iload_n 2, 1) := dk_28 (dk_at dksX3_look_2 9 rfl rfl)
theorem dX3_look_57 : decode cX3_look 57 = .ok (.iadd, 1) := dk_96 (dk_at dksX3_look_2 10 rfl rfl)
theorem dX3_look_58 : decode cX3_look 58 = .ok (.invokevirtual 302, 3) := dk_182 1 46 (dk_at dksX3_look_2 11 rfl rfl)
theorem dX3_look_61 : decode cX3_look 61 = .ok (.iastore, 1) := dk_79 (dk_at dksX3_look_2 14 rfl rfl)
theorem dX3_look_62 : decode cX3_look 62 = .ok (.iinc 3 1, 3) := dk_132 3 1 (dk_at dksX3_look_2 15 rfl rfl)
theorem dX3_look_65 : decode cX3_look 65 = .ok (.goto (-44), 3) := dk_167 255 212 (dk_at dksX3_look_2 18 rfl rfl)
theorem dX3_look_68 : decode cX3_look 68 = .ok (.aload_n 0, 1) := dk_42 (dk_at dksX3_look_2 21 rfl rfl)
theorem dX3_look_69 : decode cX3_look 69 = .ok (.bipush 36, 2) := dk_16 36 (dk_at dksX3_look_2 22 rfl rfl)
theorem dX3_look_71 : decode cX3_look 71 = .ok (.iload_n 2, 1) := dk_28 (dk_at dksX3_look_3 0 rfl rfl)
theorem dX3_look_72 : decode cX3_look 72 = .ok (.imul, 1) := dk_104 (dk_at dksX3_look_3 1 rfl rfl)
theorem dX3_look_73 : decode cX3_look 73 = .ok (.bipush 36, 2) := dk_16 36 (dk_at dksX3_look_3 2 rfl rfl)
theorem dX3_look_75 : decode cX3_look 75 = .ok (.iload_n 2, 1) := dk_28 (dk_at dksX3_look_3 4 rfl rfl)
theorem dX3_look_76 : decode cX3_look 76 = .ok (.iconst 1, 1) := dk_4 (dk_at dksX3_look_3 5 rfl rfl)
theorem dX3_look_77 : decode cX3_look 77 = .ok (.iadd, 1) := dk_96 (dk_at dksX3_look_3 6 rfl rfl)
theorem dX3_look_78 : decode cX3_look 78 = .ok (.imul, 1) := dk_104 (dk_at dksX3_look_3 7 rfl rfl)
theorem dX3_look_79 : decode cX3_look 79 = .ok (.aload_n 0, 1) := dk_42 (dk_at dksX3_look_3 8 rfl rfl)
theorem dX3_look_80 : decode cX3_look 80 = .ok (.getfield 7, 3) := dk_180 0 7 (dk_at dksX3_look_3 9 rfl rfl)
theorem dX3_look_83 : decode cX3_look 83 = .ok (.sipush 180, 3) := dk_17 0 180 (dk_at dksX3_look_3 12 rfl rfl)
theorem dX3_look_86 : decode cX3_look 86 = .ok (.iload_n 2, 1) := dk_28 (dk_at dksX3_look_3 15 rfl rfl)
theorem dX3_look_87 : decode cX3_look 87 = .ok (.iadd, 1) := dk_96 (dk_at dksX3_look_3 16 rfl rfl)
theorem dX3_look_88 : decode cX3_look 88 = .ok (.iaload, 1) := dk_46 (dk_at dksX3_look_3 17 rfl rfl)
theorem dX3_look_89 : decode cX3_look 89 = .ok (.aload_n 0, 1) := dk_42 (dk_at dksX3_look_3 18 rfl rfl)
theorem dX3_look_90 : decode cX3_look 90 = .ok (.getfield 7, 3) := dk_180 0 7 (dk_at dksX3_look_3 19 rfl rfl)
theorem dX3_look_93 : decode cX3_look 93 = .ok (.iconst 0, 1) := dk_3 (dk_at dksX3_look_3 22 rfl rfl)
theorem dX3_look_94 : decode cX3_look 94 = .ok (.iaload, 1) := dk_46 (dk_at dksX3_look_3 23 rfl rfl)
theorem dX3_look_95 : decode cX3_look 95 = .ok (.iload_n 2, 1) := dk_28 (dk_at dksX3_look_4 0 rfl rfl)
theorem dX3_look_96 : decode cX3_look 96 = .ok (.iadd, 1) := dk_96 (dk_at dksX3_look_4 1 rfl rfl)
theorem dX3_look_97 : decode cX3_look 97 = .ok (.invokevirtual 335, 3) := dk_182 1 79 (dk_at dksX3_look_4 2 rfl rfl)
theorem dX3_look_100 : decode cX3_look 100 = .ok (.iconst 0, 1) := dk_3 (dk_at dksX3_look_4 5 rfl rfl)
theorem dX3_look_101 : decode cX3_look 101 = .ok (.istore_n 3, 1) := dk_62 (dk_at dksX3_look_4 6 rfl rfl)
theorem dX3_look_102 : decode cX3_look 102 = .ok (.iload_n 3, 1) := dk_29 (dk_at dksX3_look_4 7 rfl rfl)
theorem dX3_look_103 : decode cX3_look 103 = .ok (.aload_n 0, 1) := dk_42 (dk_at dksX3_look_4 8 rfl rfl)
theorem dX3_look_104 : decode cX3_look 104 = .ok (.getfield 83, 3) := dk_180 0 83 (dk_at dksX3_look_4 9 rfl rfl)
theorem dX3_look_107 : decode cX3_look 107 = .ok (.if_icmp .ge 49, 3) := dk_162 0 49 (dk_at dksX3_look_4 12 rfl rfl)
theorem dX3_look_110 : decode cX3_look 110 = .ok (.aload_n 0, 1) := dk_42 (dk_at dksX3_look_4 15 rfl rfl)
theorem dX3_look_111 : decode cX3_look 111 = .ok (.getfield 49, 3) := dk_180 0 49 (dk_at dksX3_look_4 16 rfl rfl)
theorem dX3_look_114 : decode cX3_look 114 = .ok (.bipush 36, 2) := dk_16 36 (dk_at dksX3_look_4 19 rfl rfl)
theorem dX3_look_116 : decode cX3_look 116 = .ok (.iload_n 2, 1) := dk_28 (dk_at dksX3_look_4 21 rfl rfl)
theorem dX3_look_117 : decode cX3_look 117 = .ok (.imul, 1) := dk_104 (dk_at dksX3_look_4 22 rfl rfl)
theorem dX3_look_118 : decode cX3_look 118 = .ok (.iload_n 3, 1) := dk_29 (dk_at dksX3_look_4 23 rfl rfl)
theorem dX3_look_119 : decode cX3_look 119 = .ok (.iadd, 1) := dk_96 (dk_at dksX3_look_5 0 rfl rfl)
theorem dX3_look_120 : decode cX3_look 120 = .ok (.aload_n 0, 1) := dk_42 (dk_at dksX3_look_5 1 rfl rfl)
theorem dX3_look_121 : decode cX3_look 121 = .ok (.bipush 36, 2) := dk_16 36 (dk_at dksX3_look_5 2 rfl rfl)
theorem dX3_look_123 : decode cX3_look 123 = .ok (.iload_n 2, 1) := dk_28 (dk_at dksX3_look_5 4 rfl rfl)
theorem dX3_look_124 : decode cX3_look 124 = .ok (.iconst 1, 1) := dk_4 (dk_at dksX3_look_5 5 rfl rfl)
theorem dX3_look_125 : decode cX3_look 125 = .ok (.iadd, 1) := dk_96 (dk_at dksX3_look_5 6 rfl rfl)
theorem dX3_look_126 : decode cX3_look 126 = .ok (.imul, 1) := dk_104 (dk_at dksX3_look_5 7 rfl rfl)
theorem dX3_look_127 : decode cX3_look 127 = .ok (.iload_n 3, 1) := dk_29 (dk_at dksX3_look_5 8 rfl rfl)
theorem dX3_look_128 : decode cX3_look 128 = .ok (.aload_n 0, 1) := dk_42 (dk_at dksX3_look_5 9 rfl rfl)
theorem dX3_look_129 : decode cX3_look 129 = .ok (.getfield 7, 3) := dk_180 0 7 (dk_at dksX3_look_5 10 rfl rfl)
theorem dX3_look_132 : decode cX3_look 132 = .ok (.sipush 180, 3) := dk_17 0 180 (dk_at dksX3_look_5 13 rfl rfl)
theorem dX3_look_135 : decode cX3_look 135 = .ok (.iload_n 2, 1) := dk_28 (dk_at dksX3_look_5 16 rfl rfl)
theorem dX3_look_136 : decode cX3_look 136 = .ok (.iadd, 1) := dk_96 (dk_at dksX3_look_5 17 rfl rfl)
theorem dX3_look_137 : decode cX3_look 137 = .ok (.iaload, 1) := dk_46 (dk_at dksX3_look_5 18 rfl rfl)
theorem dX3_look_138 : decode cX3_look 138 = .ok (.aload_n 0, 1) := dk_42 (dk_at dksX3_look_5 19 rfl rfl)
theorem dX3_look_139 : decode cX3_look 139 = .ok (.getfield 7, 3) := dk_180 0 7 (dk_at dksX3_look_5 20 rfl rfl)
theorem dX3_look_142 : decode cX3_look 142 = .ok (.iconst 0, 1) := dk_3 (dk_at dksX3_look_5 23 rfl rfl)
theorem dX3_look_143 : decode cX3_look 143 = .ok (.iaload, 1) := dk_46 (dk_at dksX3_look_6 0 rfl rfl)
theorem dX3_look_144 : decode cX3_look 144 = .ok (.iload_n 2, 1) := dk_28 (dk_at dksX3_look_6 1 rfl rfl)
theorem dX3_look_145 : decode cX3_look 145 = .ok (.iadd, 1) := dk_96 (dk_at dksX3_look_6 2 rfl rfl)
theorem dX3_look_146 : decode cX3_look 146 = .ok (.invokevirtual 328, 3) := dk_182 1 72 (dk_at dksX3_look_6 3 rfl rfl)
theorem dX3_look_149 : decode cX3_look 149 = .ok (.bastore, 1) := dk_84 (dk_at dksX3_look_6 6 rfl rfl)
theorem dX3_look_150 : decode cX3_look 150 = .ok (.iinc 3 1, 3) := dk_132 3 1 (dk_at dksX3_look_6 7 rfl rfl)
theorem dX3_look_153 : decode cX3_look 153 = .ok (.goto (-51), 3) := dk_167 255 205 (dk_at dksX3_look_6 10 rfl rfl)
theorem dX3_look_156 : decode cX3_look 156 = .ok (.iinc 2 1, 3) := dk_132 2 1 (dk_at dksX3_look_6 13 rfl rfl)
theorem dX3_look_159 : decode cX3_look 159 = .ok (.goto (-145), 3) := dk_167 255 111 (dk_at dksX3_look_6 16 rfl rfl)
theorem dX3_look_162 : decode cX3_look 162 = .ok (.return_, 1) := dk_177 (dk_at dksX3_look_6 19 rfl rfl)
abbrev cX3_windBefore : ByteArray := prog_17_method_81_code
def yX3_windBefore : MethodName := ⟨RX3, "windBefore", "(I)I"⟩
def dkwX3_windBefore_1 : List UInt8 := [46, 172]
abbrev dktX3_windBefore_1 : List UInt8 := dkwX3_windBefore_1 ++ []
def dkwX3_windBefore_0 : List UInt8 := [27, 154, 0, 12, 42, 180, 0, 7, 4, 46, 167, 0, 15, 42, 180, 0, 7, 17, 0, 180, 27, 96, 4, 100]
abbrev dktX3_windBefore_0 : List UInt8 := dkwX3_windBefore_0 ++ dktX3_windBefore_1
theorem dksX3_windBefore_0 : cX3_windBefore.data.toList.drop 0 = dktX3_windBefore_0 := by decide +kernel
theorem dksX3_windBefore_1 : cX3_windBefore.data.toList.drop 24 = dktX3_windBefore_1 := dk_seg dksX3_windBefore_0 24 rfl rfl
theorem dX3_windBefore_0 : decode cX3_windBefore 0 = .ok (.iload_n 1, 1) := dk_27 (dk_at dksX3_windBefore_0 0 rfl rfl)
theorem dX3_windBefore_1 : decode cX3_windBefore 1 = .ok (.ifCond .ne 12, 3) := dk_154 0 12 (dk_at dksX3_windBefore_0 1 rfl rfl)
theorem dX3_windBefore_4 : decode cX3_windBefore 4 = .ok (.aload_n 0, 1) := dk_42 (dk_at dksX3_windBefore_0 4 rfl rfl)
theorem dX3_windBefore_5 : decode cX3_windBefore 5 = .ok (.getfield 7, 3) := dk_180 0 7 (dk_at dksX3_windBefore_0 5 rfl rfl)
theorem dX3_windBefore_8 : decode cX3_windBefore 8 = .ok (.iconst 1, 1) := dk_4 (dk_at dksX3_windBefore_0 8 rfl rfl)
theorem dX3_windBefore_9 : decode cX3_windBefore 9 = .ok (.iaload, 1) := dk_46 (dk_at dksX3_windBefore_0 9 rfl rfl)
theorem dX3_windBefore_10 : decode cX3_windBefore 10 = .ok (.goto 15, 3) := dk_167 0 15 (dk_at dksX3_windBefore_0 10 rfl rfl)
theorem dX3_windBefore_13 : decode cX3_windBefore 13 = .ok (.aload_n 0, 1) := dk_42 (dk_at dksX3_windBefore_0 13 rfl rfl)
theorem dX3_windBefore_14 : decode cX3_windBefore 14 = .ok (.getfield 7, 3) := dk_180 0 7 (dk_at dksX3_windBefore_0 14 rfl rfl)
theorem dX3_windBefore_17 : decode cX3_windBefore 17 = .ok (.sipush 180, 3) := dk_17 0 180 (dk_at dksX3_windBefore_0 17 rfl rfl)
theorem dX3_windBefore_20 : decode cX3_windBefore 20 = .ok (.iload_n 1, 1) := dk_27 (dk_at dksX3_windBefore_0 20 rfl rfl)
theorem dX3_windBefore_21 : decode cX3_windBefore 21 = .ok (.iadd, 1) := dk_96 (dk_at dksX3_windBefore_0 21 rfl rfl)
theorem dX3_windBefore_22 : decode cX3_windBefore 22 = .ok (.iconst 1, 1) := dk_4 (dk_at dksX3_windBefore_0 22 rfl rfl)
theorem dX3_windBefore_23 : decode cX3_windBefore 23 = .ok (.isub, 1) := dk_100 (dk_at dksX3_windBefore_0 23 rfl rfl)
theorem dX3_windBefore_24 : decode cX3_windBefore 24 = .ok (.iaload, 1) := dk_46 (dk_at dksX3_windBefore_1 0 rfl rfl)
theorem dX3_windBefore_25 : decode cX3_windBefore 25 = .ok (.ireturn, 1) := dk_172 (dk_at dksX3_windBefore_1 1 rfl rfl)
abbrev cX3_stateAt : ByteArray := prog_17_method_85_code
def yX3_stateAt : MethodName := ⟨RX3, "stateAt", "(IIII)I"⟩
def dkwX3_stateAt_0 : List UInt8 := [26, 16, 36, 104, 27, 96, 16, 100, 104, 28, 96, 5, 104, 29, 96, 172]
abbrev dktX3_stateAt_0 : List UInt8 := dkwX3_stateAt_0 ++ []
theorem dksX3_stateAt_0 : cX3_stateAt.data.toList.drop 0 = dktX3_stateAt_0 := by decide +kernel
theorem dX3_stateAt_0 : decode cX3_stateAt 0 = .ok (.iload_n 0, 1) := dk_26 (dk_at dksX3_stateAt_0 0 rfl rfl)
theorem dX3_stateAt_1 : decode cX3_stateAt 1 = .ok (.bipush 36, 2) := dk_16 36 (dk_at dksX3_stateAt_0 1 rfl rfl)
theorem dX3_stateAt_3 : decode cX3_stateAt 3 = .ok (.imul, 1) := dk_104 (dk_at dksX3_stateAt_0 3 rfl rfl)
theorem dX3_stateAt_4 : decode cX3_stateAt 4 = .ok (.iload_n 1, 1) := dk_27 (dk_at dksX3_stateAt_0 4 rfl rfl)
theorem dX3_stateAt_5 : decode cX3_stateAt 5 = .ok (.iadd, 1) := dk_96 (dk_at dksX3_stateAt_0 5 rfl rfl)
theorem dX3_stateAt_6 : decode cX3_stateAt 6 = .ok (.bipush 100, 2) := dk_16 100 (dk_at dksX3_stateAt_0 6 rfl rfl)
theorem dX3_stateAt_8 : decode cX3_stateAt 8 = .ok (.imul, 1) := dk_104 (dk_at dksX3_stateAt_0 8 rfl rfl)
theorem dX3_stateAt_9 : decode cX3_stateAt 9 = .ok (.iload_n 2, 1) := dk_28 (dk_at dksX3_stateAt_0 9 rfl rfl)
theorem dX3_stateAt_10 : decode cX3_stateAt 10 = .ok (.iadd, 1) := dk_96 (dk_at dksX3_stateAt_0 10 rfl rfl)
theorem dX3_stateAt_11 : decode cX3_stateAt 11 = .ok (.iconst 2, 1) := dk_5 (dk_at dksX3_stateAt_0 11 rfl rfl)
theorem dX3_stateAt_12 : decode cX3_stateAt 12 = .ok (.imul, 1) := dk_104 (dk_at dksX3_stateAt_0 12 rfl rfl)
theorem dX3_stateAt_13 : decode cX3_stateAt 13 = .ok (.iload_n 3, 1) := dk_29 (dk_at dksX3_stateAt_0 13 rfl rfl)
theorem dX3_stateAt_14 : decode cX3_stateAt 14 = .ok (.iadd, 1) := dk_96 (dk_at dksX3_stateAt_0 14 rfl rfl)
theorem dX3_stateAt_15 : decode cX3_stateAt 15 = .ok (.ireturn, 1) := dk_172 (dk_at dksX3_stateAt_0 15 rfl rfl)
abbrev cX3_bestOut : ByteArray := prog_17_method_87_code
def yX3_bestOut : MethodName := ⟨RX3, "bestOut", "(IIII)I"⟩
def dkwX3_bestOut_3 : List UInt8 := [21, 4, 184, 1, 96, 21, 6, 79, 21, 5, 172]
abbrev dktX3_bestOut_3 : List UInt8 := dkwX3_bestOut_3 ++ []
def dkwX3_bestOut_2 : List UInt8 := [167, 0, 11, 21, 7, 54, 5, 21, 8, 54, 6, 132, 7, 1, 167, 255, 205, 42, 180, 0, 53, 27, 28, 29]
abbrev dktX3_bestOut_2 : List UInt8 := dkwX3_bestOut_2 ++ dktX3_bestOut_3
def dkwX3_bestOut_1 : List UInt8 := [182, 1, 99, 54, 8, 21, 8, 155, 0, 26, 21, 6, 155, 0, 13, 21, 8, 21, 6, 161, 0, 6]
abbrev dktX3_bestOut_1 : List UInt8 := dkwX3_bestOut_1 ++ dktX3_bestOut_2
def dkwX3_bestOut_0 : List UInt8 := [2, 54, 5, 2, 54, 6, 3, 54, 7, 21, 7, 16, 8, 162, 0, 50, 42, 27, 28, 29, 21, 4, 21, 7]
abbrev dktX3_bestOut_0 : List UInt8 := dkwX3_bestOut_0 ++ dktX3_bestOut_1
theorem dksX3_bestOut_0 : cX3_bestOut.data.toList.drop 0 = dktX3_bestOut_0 := by decide +kernel
theorem dksX3_bestOut_1 : cX3_bestOut.data.toList.drop 24 = dktX3_bestOut_1 := dk_seg dksX3_bestOut_0 24 rfl rfl
theorem dksX3_bestOut_2 : cX3_bestOut.data.toList.drop 46 = dktX3_bestOut_2 := dk_seg dksX3_bestOut_1 22 rfl rfl
theorem dksX3_bestOut_3 : cX3_bestOut.data.toList.drop 70 = dktX3_bestOut_3 := dk_seg dksX3_bestOut_2 24 rfl rfl
theorem dX3_bestOut_0 : decode cX3_bestOut 0 = .ok (.iconst (-1), 1) := dk_2 (dk_at dksX3_bestOut_0 0 rfl rfl)
theorem dX3_bestOut_1 : decode cX3_bestOut 1 = .ok (.istore 5, 2) := dk_54 5 (dk_at dksX3_bestOut_0 1 rfl rfl)
theorem dX3_bestOut_3 : decode cX3_bestOut 3 = .ok (.iconst (-1), 1) := dk_2 (dk_at dksX3_bestOut_0 3 rfl rfl)
theorem dX3_bestOut_4 : decode cX3_bestOut 4 = .ok (.istore 6, 2) := dk_54 6 (dk_at dksX3_bestOut_0 4 rfl rfl)
theorem dX3_bestOut_6 : decode cX3_bestOut 6 = .ok (.iconst 0, 1) := dk_3 (dk_at dksX3_bestOut_0 6 rfl rfl)
theorem dX3_bestOut_7 : decode cX3_bestOut 7 = .ok (.istore 7, 2) := dk_54 7 (dk_at dksX3_bestOut_0 7 rfl rfl)
theorem dX3_bestOut_9 : decode cX3_bestOut 9 = .ok (.iload 7, 2) := dk_21 7 (dk_at dksX3_bestOut_0 9 rfl rfl)
theorem dX3_bestOut_11 : decode cX3_bestOut 11 = .ok (.bipush 8, 2) := dk_16 8 (dk_at dksX3_bestOut_0 11 rfl rfl)
theorem dX3_bestOut_13 : decode cX3_bestOut 13 = .ok (.if_icmp .ge 50, 3) := dk_162 0 50 (dk_at dksX3_bestOut_0 13 rfl rfl)
theorem dX3_bestOut_16 : decode cX3_bestOut 16 = .ok (.aload_n 0, 1) := dk_42 (dk_at dksX3_bestOut_0 16 rfl rfl)
theorem dX3_bestOut_17 : decode cX3_bestOut 17 = .ok (.iload_n 1, 1) := dk_27 (dk_at dksX3_bestOut_0 17 rfl rfl)
theorem dX3_bestOut_18 : decode cX3_bestOut 18 = .ok (.iload_n 2, 1) := dk_28 (dk_at dksX3_bestOut_0 18 rfl rfl)
theorem dX3_bestOut_19 : decode cX3_bestOut 19 = .ok (.iload_n 3, 1) := dk_29 (dk_at dksX3_bestOut_0 19 rfl rfl)
theorem dX3_bestOut_20 : decode cX3_bestOut 20 = .ok (.iload 4, 2) := dk_21 4 (dk_at dksX3_bestOut_0 20 rfl rfl)
theorem dX3_bestOut_22 : decode cX3_bestOut 22 = .ok (.iload 7, 2) := dk_21 7 (dk_at dksX3_bestOut_0 22 rfl rfl)
theorem dX3_bestOut_24 : decode cX3_bestOut 24 = .ok (.invokevirtual 355, 3) := dk_182 1 99 (dk_at dksX3_bestOut_1 0 rfl rfl)
theorem dX3_bestOut_27 : decode cX3_bestOut 27 = .ok (.istore 8, 2) := dk_54 8 (dk_at dksX3_bestOut_1 3 rfl rfl)
theorem dX3_bestOut_29 : decode cX3_bestOut 29 = .ok (.iload 8, 2) := dk_21 8 (dk_at dksX3_bestOut_1 5 rfl rfl)
theorem dX3_bestOut_31 : decode cX3_bestOut 31 = .ok (.ifCond .lt 26, 3) := dk_155 0 26 (dk_at dksX3_bestOut_1 7 rfl rfl)
theorem dX3_bestOut_34 : decode cX3_bestOut 34 = .ok (.iload 6, 2) := dk_21 6 (dk_at dksX3_bestOut_1 10 rfl rfl)
theorem dX3_bestOut_36 : decode cX3_bestOut 36 = .ok (.ifCond .lt 13, 3) := dk_155 0 13 (dk_at dksX3_bestOut_1 12 rfl rfl)
theorem dX3_bestOut_39 : decode cX3_bestOut 39 = .ok (.iload 8, 2) := dk_21 8 (dk_at dksX3_bestOut_1 15 rfl rfl)
theorem dX3_bestOut_41 : decode cX3_bestOut 41 = .ok (.iload 6, 2) := dk_21 6 (dk_at dksX3_bestOut_1 17 rfl rfl)
theorem dX3_bestOut_43 : decode cX3_bestOut 43 = .ok (.if_icmp .lt 6, 3) := dk_161 0 6 (dk_at dksX3_bestOut_1 19 rfl rfl)
theorem dX3_bestOut_46 : decode cX3_bestOut 46 = .ok (.goto 11, 3) := dk_167 0 11 (dk_at dksX3_bestOut_2 0 rfl rfl)
theorem dX3_bestOut_49 : decode cX3_bestOut 49 = .ok (.iload 7, 2) := dk_21 7 (dk_at dksX3_bestOut_2 3 rfl rfl)
theorem dX3_bestOut_51 : decode cX3_bestOut 51 = .ok (.istore 5, 2) := dk_54 5 (dk_at dksX3_bestOut_2 5 rfl rfl)
theorem dX3_bestOut_53 : decode cX3_bestOut 53 = .ok (.iload 8, 2) := dk_21 8 (dk_at dksX3_bestOut_2 7 rfl rfl)
theorem dX3_bestOut_55 : decode cX3_bestOut 55 = .ok (.istore 6, 2) := dk_54 6 (dk_at dksX3_bestOut_2 9 rfl rfl)
theorem dX3_bestOut_57 : decode cX3_bestOut 57 = .ok (.iinc 7 1, 3) := dk_132 7 1 (dk_at dksX3_bestOut_2 11 rfl rfl)
theorem dX3_bestOut_60 : decode cX3_bestOut 60 = .ok (.goto (-51), 3) := dk_167 255 205 (dk_at dksX3_bestOut_2 14 rfl rfl)
theorem dX3_bestOut_63 : decode cX3_bestOut 63 = .ok (.aload_n 0, 1) := dk_42 (dk_at dksX3_bestOut_2 17 rfl rfl)
theorem dX3_bestOut_64 : decode cX3_bestOut 64 = .ok (.getfield 53, 3) := dk_180 0 53 (dk_at dksX3_bestOut_2 18 rfl rfl)
theorem dX3_bestOut_67 : decode cX3_bestOut 67 = .ok (.iload_n 1, 1) := dk_27 (dk_at dksX3_bestOut_2 21 rfl rfl)
theorem dX3_bestOut_68 : decode cX3_bestOut 68 = .ok (.iload_n 2, 1) := dk_28 (dk_at dksX3_bestOut_2 22 rfl rfl)
theorem dX3_bestOut_69 : decode cX3_bestOut 69 = .ok (.iload_n 3, 1) := dk_29 (dk_at dksX3_bestOut_2 23 rfl rfl)
theorem dX3_bestOut_70 : decode cX3_bestOut 70 = .ok (.iload 4, 2) := dk_21 4 (dk_at dksX3_bestOut_3 0 rfl rfl)
theorem dX3_bestOut_72 : decode cX3_bestOut 72 = .ok (.invokestatic 352, 3) := dk_184 1 96 (dk_at dksX3_bestOut_3 2 rfl rfl)
theorem dX3_bestOut_75 : decode cX3_bestOut 75 = .ok (.iload 6, 2) := dk_21 6 (dk_at dksX3_bestOut_3 5 rfl rfl)
theorem dX3_bestOut_77 : decode cX3_bestOut 77 = .ok (.iastore, 1) := dk_79 (dk_at dksX3_bestOut_3 7 rfl rfl)
theorem dX3_bestOut_78 : decode cX3_bestOut 78 = .ok (.iload 5, 2) := dk_21 5 (dk_at dksX3_bestOut_3 8 rfl rfl)
theorem dX3_bestOut_80 : decode cX3_bestOut 80 = .ok (.ireturn, 1) := dk_172 (dk_at dksX3_bestOut_3 10 rfl rfl)
abbrev cX3_outBy : ByteArray := prog_17_method_86_code
def yX3_outBy : MethodName := ⟨RX3, "outBy", "(IIIII)I"⟩
def dkwX3_outBy_4 : List UInt8 := [184, 1, 66, 184, 1, 96, 46, 54, 8, 21, 8, 156, 0, 7, 2, 167, 0, 8, 21, 8, 16, 100, 96, 172]
abbrev dktX3_outBy_4 : List UInt8 := dkwX3_outBy_4 ++ []
def dkwX3_outBy_3 : List UInt8 := [153, 0, 5, 2, 172, 42, 180, 0, 53, 27, 4, 96, 21, 7, 29, 21, 6, 100, 21, 5, 21, 4]
abbrev dktX3_outBy_3 : List UInt8 := dkwX3_outBy_3 ++ dktX3_outBy_4
def dkwX3_outBy_2 : List UInt8 := [160, 0, 12, 17, 0, 199, 29, 21, 6, 100, 100, 172, 42, 180, 0, 49, 16, 36, 27, 104, 21, 7, 96, 51]
abbrev dktX3_outBy_2 : List UInt8 := dkwX3_outBy_2 ++ dktX3_outBy_3
def dkwX3_outBy_1 : List UInt8 := [21, 5, 182, 1, 93, 54, 7, 21, 5, 7, 162, 0, 26, 42, 180, 0, 7, 16, 70, 21, 7, 96, 46, 4]
abbrev dktX3_outBy_1 : List UInt8 := dkwX3_outBy_1 ++ dktX3_outBy_2
def dkwX3_outBy_0 : List UInt8 := [42, 27, 28, 29, 21, 4, 21, 5, 182, 1, 89, 54, 6, 21, 6, 156, 0, 5, 2, 172, 42, 27, 28]
abbrev dktX3_outBy_0 : List UInt8 := dkwX3_outBy_0 ++ dktX3_outBy_1
theorem dksX3_outBy_0 : cX3_outBy.data.toList.drop 0 = dktX3_outBy_0 := by decide +kernel
theorem dksX3_outBy_1 : cX3_outBy.data.toList.drop 23 = dktX3_outBy_1 := dk_seg dksX3_outBy_0 23 rfl rfl
theorem dksX3_outBy_2 : cX3_outBy.data.toList.drop 47 = dktX3_outBy_2 := dk_seg dksX3_outBy_1 24 rfl rfl
theorem dksX3_outBy_3 : cX3_outBy.data.toList.drop 71 = dktX3_outBy_3 := dk_seg dksX3_outBy_2 24 rfl rfl
theorem dksX3_outBy_4 : cX3_outBy.data.toList.drop 93 = dktX3_outBy_4 := dk_seg dksX3_outBy_3 22 rfl rfl
theorem dX3_outBy_0 : decode cX3_outBy 0 = .ok (.aload_n 0, 1) := dk_42 (dk_at dksX3_outBy_0 0 rfl rfl)
theorem dX3_outBy_1 : decode cX3_outBy 1 = .ok (.iload_n 1, 1) := dk_27 (dk_at dksX3_outBy_0 1 rfl rfl)
theorem dX3_outBy_2 : decode cX3_outBy 2 = .ok (.iload_n 2, 1) := dk_28 (dk_at dksX3_outBy_0 2 rfl rfl)
theorem dX3_outBy_3 : decode cX3_outBy 3 = .ok (.iload_n 3, 1) := dk_29 (dk_at dksX3_outBy_0 3 rfl rfl)
theorem dX3_outBy_4 : decode cX3_outBy 4 = .ok (.iload 4, 2) := dk_21 4 (dk_at dksX3_outBy_0 4 rfl rfl)
theorem dX3_outBy_6 : decode cX3_outBy 6 = .ok (.iload 5, 2) := dk_21 5 (dk_at dksX3_outBy_0 6 rfl rfl)
theorem dX3_outBy_8 : decode cX3_outBy 8 = .ok (.invokevirtual 345, 3) := dk_182 1 89 (dk_at dksX3_outBy_0 8 rfl rfl)
theorem dX3_outBy_11 : decode cX3_outBy 11 = .ok (.istore 6, 2) := dk_54 6 (dk_at dksX3_outBy_0 11 rfl rfl)
theorem dX3_outBy_13 : decode cX3_outBy 13 = .ok (.iload 6, 2) := dk_21 6 (dk_at dksX3_outBy_0 13 rfl rfl)
theorem dX3_outBy_15 : decode cX3_outBy 15 = .ok (.ifCond .ge 5, 3) := dk_156 0 5 (dk_at dksX3_outBy_0 15 rfl rfl)
theorem dX3_outBy_18 : decode cX3_outBy 18 = .ok (.iconst (-1), 1) := dk_2 (dk_at dksX3_outBy_0 18 rfl rfl)
theorem dX3_outBy_19 : decode cX3_outBy 19 = .ok (.ireturn, 1) := dk_172 (dk_at dksX3_outBy_0 19 rfl rfl)
theorem dX3_outBy_20 : decode cX3_outBy 20 = .ok (.aload_n 0, 1) := dk_42 (dk_at dksX3_outBy_0 20 rfl rfl)
theorem dX3_outBy_21 : decode cX3_outBy 21 = .ok (.iload_n 1, 1) := dk_27 (dk_at dksX3_outBy_0 21 rfl rfl)
theorem dX3_outBy_22 : decode cX3_outBy 22 = .ok (.iload_n 2, 1) := dk_28 (dk_at dksX3_outBy_0 22 rfl rfl)
theorem dX3_outBy_23 : decode cX3_outBy 23 = .ok (.iload 5, 2) := dk_21 5 (dk_at dksX3_outBy_1 0 rfl rfl)
theorem dX3_outBy_25 : decode cX3_outBy 25 = .ok (.invokevirtual 349, 3) := dk_182 1 93 (dk_at dksX3_outBy_1 2 rfl rfl)
theorem dX3_outBy_28 : decode cX3_outBy 28 = .ok (.istore 7, 2) := dk_54 7 (dk_at dksX3_outBy_1 5 rfl rfl)
theorem dX3_outBy_30 : decode cX3_outBy 30 = .ok (.iload 5, 2) := dk_21 5 (dk_at dksX3_outBy_1 7 rfl rfl)
theorem dX3_outBy_32 : decode cX3_outBy 32 = .ok (.iconst 4, 1) := dk_7 (dk_at dksX3_outBy_1 9 rfl rfl)
theorem dX3_outBy_33 : decode cX3_outBy 33 = .ok (.if_icmp .ge 26, 3) := dk_162 0 26 (dk_at dksX3_outBy_1 10 rfl rfl)
theorem dX3_outBy_36 : decode cX3_outBy 36 = .ok (.aload_n 0, 1) := dk_42 (dk_at dksX3_outBy_1 13 rfl rfl)
theorem dX3_outBy_37 : decode cX3_outBy 37 = .ok (.getfield 7, 3) := dk_180 0 7 (dk_at dksX3_outBy_1 14 rfl rfl)
theorem dX3_outBy_40 : decode cX3_outBy 40 = .ok (.bipush 70, 2) := dk_16 70 (dk_at dksX3_outBy_1 17 rfl rfl)
theorem dX3_outBy_42 : decode cX3_outBy 42 = .ok (.iload 7, 2) := dk_21 7 (dk_at dksX3_outBy_1 19 rfl rfl)
theorem dX3_outBy_44 : decode cX3_outBy 44 = .ok (.iadd, 1) := dk_96 (dk_at dksX3_outBy_1 21 rfl rfl)
theorem dX3_outBy_45 : decode cX3_outBy 45 = .ok (.iaload, 1) := dk_46 (dk_at dksX3_outBy_1 22 rfl rfl)
theorem dX3_outBy_46 : decode cX3_outBy 46 = .ok (.iconst 1, 1) := dk_4 (dk_at dksX3_outBy_1 23 rfl rfl)
theorem dX3_outBy_47 : decode cX3_outBy 47 = .ok (.if_icmp .ne 12, 3) := dk_160 0 12 (dk_at dksX3_outBy_2 0 rfl rfl)
theorem dX3_outBy_50 : decode cX3_outBy 50 = .ok (.sipush 199, 3) := dk_17 0 199 (dk_at dksX3_outBy_2 3 rfl rfl)
theorem dX3_outBy_53 : decode cX3_outBy 53 = .ok (.iload_n 3, 1) := dk_29 (dk_at dksX3_outBy_2 6 rfl rfl)
theorem dX3_outBy_54 : decode cX3_outBy 54 = .ok (.iload 6, 2) := dk_21 6 (dk_at dksX3_outBy_2 7 rfl rfl)
theorem dX3_outBy_56 : decode cX3_outBy 56 = .ok (.isub, 1) := dk_100 (dk_at dksX3_outBy_2 9 rfl rfl)
theorem dX3_outBy_57 : decode cX3_outBy 57 = .ok (.isub, 1) := dk_100 (dk_at dksX3_outBy_2 10 rfl rfl)
theorem dX3_outBy_58 : decode cX3_outBy 58 = .ok (.ireturn, 1) := dk_172 (dk_at dksX3_outBy_2 11 rfl rfl)
theorem dX3_outBy_59 : decode cX3_outBy 59 = .ok (.aload_n 0, 1) := dk_42 (dk_at dksX3_outBy_2 12 rfl rfl)
theorem dX3_outBy_60 : decode cX3_outBy 60 = .ok (.getfield 49, 3) := dk_180 0 49 (dk_at dksX3_outBy_2 13 rfl rfl)
theorem dX3_outBy_63 : decode cX3_outBy 63 = .ok (.bipush 36, 2) := dk_16 36 (dk_at dksX3_outBy_2 16 rfl rfl)
theorem dX3_outBy_65 : decode cX3_outBy 65 = .ok (.iload_n 1, 1) := dk_27 (dk_at dksX3_outBy_2 18 rfl rfl)
theorem dX3_outBy_66 : decode cX3_outBy 66 = .ok (.imul, 1) := dk_104 (dk_at dksX3_outBy_2 19 rfl rfl)
theorem dX3_outBy_67 : decode cX3_outBy 67 = .ok (.iload 7, 2) := dk_21 7 (dk_at dksX3_outBy_2 20 rfl rfl)
theorem dX3_outBy_69 : decode cX3_outBy 69 = .ok (.iadd, 1) := dk_96 (dk_at dksX3_outBy_2 22 rfl rfl)
theorem dX3_outBy_70 : decode cX3_outBy 70 = .ok (.baload, 1) := dk_51 (dk_at dksX3_outBy_2 23 rfl rfl)
theorem dX3_outBy_71 : decode cX3_outBy 71 = .ok (.ifCond .eq 5, 3) := dk_153 0 5 (dk_at dksX3_outBy_3 0 rfl rfl)
theorem dX3_outBy_74 : decode cX3_outBy 74 = .ok (.iconst (-1), 1) := dk_2 (dk_at dksX3_outBy_3 3 rfl rfl)
theorem dX3_outBy_75 : decode cX3_outBy 75 = .ok (.ireturn, 1) := dk_172 (dk_at dksX3_outBy_3 4 rfl rfl)
theorem dX3_outBy_76 : decode cX3_outBy 76 = .ok (.aload_n 0, 1) := dk_42 (dk_at dksX3_outBy_3 5 rfl rfl)
theorem dX3_outBy_77 : decode cX3_outBy 77 = .ok (.getfield 53, 3) := dk_180 0 53 (dk_at dksX3_outBy_3 6 rfl rfl)
theorem dX3_outBy_80 : decode cX3_outBy 80 = .ok (.iload_n 1, 1) := dk_27 (dk_at dksX3_outBy_3 9 rfl rfl)
theorem dX3_outBy_81 : decode cX3_outBy 81 = .ok (.iconst 1, 1) := dk_4 (dk_at dksX3_outBy_3 10 rfl rfl)
theorem dX3_outBy_82 : decode cX3_outBy 82 = .ok (.iadd, 1) := dk_96 (dk_at dksX3_outBy_3 11 rfl rfl)
theorem dX3_outBy_83 : decode cX3_outBy 83 = .ok (.iload 7, 2) := dk_21 7 (dk_at dksX3_outBy_3 12 rfl rfl)
theorem dX3_outBy_85 : decode cX3_outBy 85 = .ok (.iload_n 3, 1) := dk_29 (dk_at dksX3_outBy_3 14 rfl rfl)
theorem dX3_outBy_86 : decode cX3_outBy 86 = .ok (.iload 6, 2) := dk_21 6 (dk_at dksX3_outBy_3 15 rfl rfl)
theorem dX3_outBy_88 : decode cX3_outBy 88 = .ok (.isub, 1) := dk_100 (dk_at dksX3_outBy_3 17 rfl rfl)
theorem dX3_outBy_89 : decode cX3_outBy 89 = .ok (.iload 5, 2) := dk_21 5 (dk_at dksX3_outBy_3 18 rfl rfl)
theorem dX3_outBy_91 : decode cX3_outBy 91 = .ok (.iload 4, 2) := dk_21 4 (dk_at dksX3_outBy_3 20 rfl rfl)
theorem dX3_outBy_93 : decode cX3_outBy 93 = .ok (.invokestatic 322, 3) := dk_184 1 66 (dk_at dksX3_outBy_4 0 rfl rfl)
theorem dX3_outBy_96 : decode cX3_outBy 96 = .ok (.invokestatic 352, 3) := dk_184 1 96 (dk_at dksX3_outBy_4 3 rfl rfl)
theorem dX3_outBy_99 : decode cX3_outBy 99 = .ok (.iaload, 1) := dk_46 (dk_at dksX3_outBy_4 6 rfl rfl)
theorem dX3_outBy_100 : decode cX3_outBy 100 = .ok (.istore 8, 2) := dk_54 8 (dk_at dksX3_outBy_4 7 rfl rfl)
theorem dX3_outBy_102 : decode cX3_outBy 102 = .ok (.iload 8, 2) := dk_21 8 (dk_at dksX3_outBy_4 9 rfl rfl)
theorem dX3_outBy_104 : decode cX3_outBy 104 = .ok (.ifCond .ge 7, 3) := dk_156 0 7 (dk_at dksX3_outBy_4 11 rfl rfl)
theorem dX3_outBy_107 : decode cX3_outBy 107 = .ok (.iconst (-1), 1) := dk_2 (dk_at dksX3_outBy_4 14 rfl rfl)
theorem dX3_outBy_108 : decode cX3_outBy 108 = .ok (.goto 8, 3) := dk_167 0 8 (dk_at dksX3_outBy_4 15 rfl rfl)
theorem dX3_outBy_111 : decode cX3_outBy 111 = .ok (.iload 8, 2) := dk_21 8 (dk_at dksX3_outBy_4 18 rfl rfl)
theorem dX3_outBy_113 : decode cX3_outBy 113 = .ok (.bipush 100, 2) := dk_16 100 (dk_at dksX3_outBy_4 20 rfl rfl)
theorem dX3_outBy_115 : decode cX3_outBy 115 = .ok (.iadd, 1) := dk_96 (dk_at dksX3_outBy_4 22 rfl rfl)
theorem dX3_outBy_116 : decode cX3_outBy 116 = .ok (.ireturn, 1) := dk_172 (dk_at dksX3_outBy_4 23 rfl rfl)
abbrev cX3_costAhead : ByteArray := prog_17_method_83_code
def yX3_costAhead : MethodName := ⟨RX3, "costAhead", "(IIIII)I"⟩
def dkwX3_costAhead_5 : List UInt8 := [27, 104, 21, 6, 96, 46, 54, 7, 21, 7, 29, 163, 0, 8, 21, 7, 167, 0, 4, 2, 172]
abbrev dktX3_costAhead_5 : List UInt8 := dkwX3_costAhead_5 ++ []
def dkwX3_costAhead_4 : List UInt8 := [180, 0, 7, 16, 10, 46, 167, 0, 24, 21, 6, 156, 0, 7, 2, 167, 0, 15, 42, 180, 0, 46, 16, 36]
abbrev dktX3_costAhead_4 : List UInt8 := dkwX3_costAhead_4 ++ dktX3_costAhead_5
def dkwX3_costAhead_3 : List UInt8 := [21, 5, 7, 160, 0, 13, 42, 180, 0, 7, 16, 9, 46, 167, 0, 40, 21, 5, 8, 160, 0, 13, 42]
abbrev dktX3_costAhead_3 : List UInt8 := dkwX3_costAhead_3 ++ dktX3_costAhead_4
def dkwX3_costAhead_2 : List UInt8 := [160, 0, 5, 2, 172, 21, 5, 7, 162, 0, 13, 42, 28, 21, 5, 182, 1, 15, 167, 0, 4, 2, 54, 6]
abbrev dktX3_costAhead_2 : List UInt8 := dkwX3_costAhead_2 ++ dktX3_costAhead_3
def dkwX3_costAhead_1 : List UInt8 := [180, 0, 7, 16, 11, 46, 161, 0, 13, 42, 180, 0, 7, 16, 11, 46, 167, 0, 4, 2, 172, 21, 4, 4]
abbrev dktX3_costAhead_1 : List UInt8 := dkwX3_costAhead_1 ++ dktX3_costAhead_2
def dkwX3_costAhead_0 : List UInt8 := [21, 5, 16, 6, 160, 0, 5, 3, 172, 21, 5, 16, 7, 160, 0, 32, 21, 4, 4, 160, 0, 24, 29, 42]
abbrev dktX3_costAhead_0 : List UInt8 := dkwX3_costAhead_0 ++ dktX3_costAhead_1
theorem dksX3_costAhead_0 : cX3_costAhead.data.toList.drop 0 = dktX3_costAhead_0 := by decide +kernel
theorem dksX3_costAhead_1 : cX3_costAhead.data.toList.drop 24 = dktX3_costAhead_1 := dk_seg dksX3_costAhead_0 24 rfl rfl
theorem dksX3_costAhead_2 : cX3_costAhead.data.toList.drop 48 = dktX3_costAhead_2 := dk_seg dksX3_costAhead_1 24 rfl rfl
theorem dksX3_costAhead_3 : cX3_costAhead.data.toList.drop 72 = dktX3_costAhead_3 := dk_seg dksX3_costAhead_2 24 rfl rfl
theorem dksX3_costAhead_4 : cX3_costAhead.data.toList.drop 95 = dktX3_costAhead_4 := dk_seg dksX3_costAhead_3 23 rfl rfl
theorem dksX3_costAhead_5 : cX3_costAhead.data.toList.drop 119 = dktX3_costAhead_5 := dk_seg dksX3_costAhead_4 24 rfl rfl
theorem dX3_costAhead_0 : decode cX3_costAhead 0 = .ok (.iload 5, 2) := dk_21 5 (dk_at dksX3_costAhead_0 0 rfl rfl)
theorem dX3_costAhead_2 : decode cX3_costAhead 2 = .ok (.bipush 6, 2) := dk_16 6 (dk_at dksX3_costAhead_0 2 rfl rfl)
theorem dX3_costAhead_4 : decode cX3_costAhead 4 = .ok (.if_icmp .ne 5, 3) := dk_160 0 5 (dk_at dksX3_costAhead_0 4 rfl rfl)
theorem dX3_costAhead_7 : decode cX3_costAhead 7 = .ok (.iconst 0, 1) := dk_3 (dk_at dksX3_costAhead_0 7 rfl rfl)
theorem dX3_costAhead_8 : decode cX3_costAhead 8 = .ok (.ireturn, 1) := dk_172 (dk_at dksX3_costAhead_0 8 rfl rfl)
theorem dX3_costAhead_9 : decode cX3_costAhead 9 = .ok (.iload 5, 2) := dk_21 5 (dk_at dksX3_costAhead_0 9 rfl rfl)
theorem dX3_costAhead_11 : decode cX3_costAhead 11 = .ok (.bipush 7, 2) := dk_16 7 (dk_at dksX3_costAhead_0 11 rfl rfl)
theorem dX3_costAhead_13 : decode cX3_costAhead 13 = .ok (.if_icmp .ne 32, 3) := dk_160 0 32 (dk_at dksX3_costAhead_0 13 rfl rfl)
theorem dX3_costAhead_16 : decode cX3_costAhead 16 = .ok (.iload 4, 2) := dk_21 4 (dk_at dksX3_costAhead_0 16 rfl rfl)
theorem dX3_costAhead_18 : decode cX3_costAhead 18 = .ok (.iconst 1, 1) := dk_4 (dk_at dksX3_costAhead_0 18 rfl rfl)
theorem dX3_costAhead_19 : decode cX3_costAhead 19 = .ok (.if_icmp .ne 24, 3) := dk_160 0 24 (dk_at dksX3_costAhead_0 19 rfl rfl)
theorem dX3_costAhead_22 : decode cX3_costAhead 22 = .ok (.iload_n 3, 1) := dk_29 (dk_at dksX3_costAhead_0 22 rfl rfl)
theorem dX3_costAhead_23 : decode cX3_costAhead 23 = .ok (.aload_n 0, 1) := dk_42 (dk_at dksX3_costAhead_0 23 rfl rfl)
theorem dX3_costAhead_24 : decode cX3_costAhead 24 = .ok (.getfield 7, 3) := dk_180 0 7 (dk_at dksX3_costAhead_1 0 rfl rfl)
theorem dX3_costAhead_27 : decode cX3_costAhead 27 = .ok (.bipush 11, 2) := dk_16 11 (dk_at dksX3_costAhead_1 3 rfl rfl)
theorem dX3_costAhead_29 : decode cX3_costAhead 29 = .ok (.iaload, 1) := dk_46 (dk_at dksX3_costAhead_1 5 rfl rfl)
theorem dX3_costAhead_30 : decode cX3_costAhead 30 = .ok (.if_icmp .lt 13, 3) := dk_161 0 13 (dk_at dksX3_costAhead_1 6 rfl rfl)
theorem dX3_costAhead_33 : decode cX3_costAhead 33 = .ok (.aload_n 0, 1) := dk_42 (dk_at dksX3_costAhead_1 9 rfl rfl)
theorem dX3_costAhead_34 : decode cX3_costAhead 34 = .ok (.getfield 7, 3) := dk_180 0 7 (dk_at dksX3_costAhead_1 10 rfl rfl)
theorem dX3_costAhead_37 : decode cX3_costAhead 37 = .ok (.bipush 11, 2) := dk_16 11 (dk_at dksX3_costAhead_1 13 rfl rfl)
theorem dX3_costAhead_39 : decode cX3_costAhead 39 = .ok (.iaload, 1) := dk_46 (dk_at dksX3_costAhead_1 15 rfl rfl)
theorem dX3_costAhead_40 : decode cX3_costAhead 40 = .ok (.goto 4, 3) := dk_167 0 4 (dk_at dksX3_costAhead_1 16 rfl rfl)
theorem dX3_costAhead_43 : decode cX3_costAhead 43 = .ok (.iconst (-1), 1) := dk_2 (dk_at dksX3_costAhead_1 19 rfl rfl)
theorem dX3_costAhead_44 : decode cX3_costAhead 44 = .ok (.ireturn, 1) := dk_172 (dk_at dksX3_costAhead_1 20 rfl rfl)
theorem dX3_costAhead_45 : decode cX3_costAhead 45 = .ok (.iload 4, 2) := dk_21 4 (dk_at dksX3_costAhead_1 21 rfl rfl)
theorem dX3_costAhead_47 : decode cX3_costAhead 47 = .ok (.iconst 1, 1) := dk_4 (dk_at dksX3_costAhead_1 23 rfl rfl)
theorem dX3_costAhead_48 : decode cX3_costAhead 48 = .ok (.if_icmp .ne 5, 3) := dk_160 0 5 (dk_at dksX3_costAhead_2 0 rfl rfl)
theorem dX3_costAhead_51 : decode cX3_costAhead 51 = .ok (.iconst (-1), 1) := dk_2 (dk_at dksX3_costAhead_2 3 rfl rfl)
theorem dX3_costAhead_52 : decode cX3_costAhead 52 = .ok (.ireturn, 1) := dk_172 (dk_at dksX3_costAhead_2 4 rfl rfl)
theorem dX3_costAhead_53 : decode cX3_costAhead 53 = .ok (.iload 5, 2) := dk_21 5 (dk_at dksX3_costAhead_2 5 rfl rfl)
theorem dX3_costAhead_55 : decode cX3_costAhead 55 = .ok (.iconst 4, 1) := dk_7 (dk_at dksX3_costAhead_2 7 rfl rfl)
theorem dX3_costAhead_56 : decode cX3_costAhead 56 = .ok (.if_icmp .ge 13, 3) := dk_162 0 13 (dk_at dksX3_costAhead_2 8 rfl rfl)
theorem dX3_costAhead_59 : decode cX3_costAhead 59 = .ok (.aload_n 0, 1) := dk_42 (dk_at dksX3_costAhead_2 11 rfl rfl)
theorem dX3_costAhead_60 : decode cX3_costAhead 60 = .ok (.iload_n 2, 1) := dk_28 (dk_at dksX3_costAhead_2 12 rfl rfl)
theorem dX3_costAhead_61 : decode cX3_costAhead 61 = .ok (.iload 5, 2) := dk_21 5 (dk_at dksX3_costAhead_2 13 rfl rfl)
theorem dX3_costAhead_63 : decode cX3_costAhead 63 = .ok (.invokevirtual 271, 3) := dk_182 1 15 (dk_at dksX3_costAhead_2 15 rfl rfl)
theorem dX3_costAhead_66 : decode cX3_costAhead 66 = .ok (.goto 4, 3) := dk_167 0 4 (dk_at dksX3_costAhead_2 18 rfl rfl)
theorem dX3_costAhead_69 : decode cX3_costAhead 69 = .ok (.iconst (-1), 1) := dk_2 (dk_at dksX3_costAhead_2 21 rfl rfl)
theorem dX3_costAhead_70 : decode cX3_costAhead 70 = .ok (.istore 6, 2) := dk_54 6 (dk_at dksX3_costAhead_2 22 rfl rfl)
theorem dX3_costAhead_72 : decode cX3_costAhead 72 = .ok (.iload 5, 2) := dk_21 5 (dk_at dksX3_costAhead_3 0 rfl rfl)
theorem dX3_costAhead_74 : decode cX3_costAhead 74 = .ok (.iconst 4, 1) := dk_7 (dk_at dksX3_costAhead_3 2 rfl rfl)
theorem dX3_costAhead_75 : decode cX3_costAhead 75 = .ok (.if_icmp .ne 13, 3) := dk_160 0 13 (dk_at dksX3_costAhead_3 3 rfl rfl)
theorem dX3_costAhead_78 : decode cX3_costAhead 78 = .ok (.aload_n 0, 1) := dk_42 (dk_at dksX3_costAhead_3 6 rfl rfl)
theorem dX3_costAhead_79 : decode cX3_costAhead 79 = .ok (.getfield 7, 3) := dk_180 0 7 (dk_at dksX3_costAhead_3 7 rfl rfl)
theorem dX3_costAhead_82 : decode cX3_costAhead 82 = .ok (.bipush 9, 2) := dk_16 9 (dk_at dksX3_costAhead_3 10 rfl rfl)
theorem dX3_costAhead_84 : decode cX3_costAhead 84 = .ok (.iaload, 1) := dk_46 (dk_at dksX3_costAhead_3 12 rfl rfl)
theorem dX3_costAhead_85 : decode cX3_costAhead 85 = .ok (.goto 40, 3) := dk_167 0 40 (dk_at dksX3_costAhead_3 13 rfl rfl)
theorem dX3_costAhead_88 : decode cX3_costAhead 88 = .ok (.iload 5, 2) := dk_21 5 (dk_at dksX3_costAhead_3 16 rfl rfl)
theorem dX3_costAhead_90 : decode cX3_costAhead 90 = .ok (.iconst 5, 1) := dk_8 (dk_at dksX3_costAhead_3 18 rfl rfl)
theorem dX3_costAhead_91 : decode cX3_costAhead 91 = .ok (.if_icmp .ne 13, 3) := dk_160 0 13 (dk_at dksX3_costAhead_3 19 rfl rfl)
theorem dX3_costAhead_94 : decode cX3_costAhead 94 = .ok (.aload_n 0, 1) := dk_42 (dk_at dksX3_costAhead_3 22 rfl rfl)
theorem dX3_costAhead_95 : decode cX3_costAhead 95 = .ok (.getfield 7, 3) := dk_180 0 7 (dk_at dksX3_costAhead_4 0 rfl rfl)
theorem dX3_costAhead_98 : decode cX3_costAhead 98 = .ok (.bipush 10, 2) := dk_16 10 (dk_at dksX3_costAhead_4 3 rfl rfl)
theorem dX3_costAhead_100 : decode cX3_costAhead 100 = .ok (.iaload, 1) := dk_46 (dk_at dksX3_costAhead_4 5 rfl rfl)
theorem dX3_costAhead_101 : decode cX3_costAhead 101 = .ok (.goto 24, 3) := dk_167 0 24 (dk_at dksX3_costAhead_4 6 rfl rfl)
theorem dX3_costAhead_104 : decode cX3_costAhead 104 = .ok (.iload 6, 2) := dk_21 6 (dk_at dksX3_costAhead_4 9 rfl rfl)
theorem dX3_costAhead_106 : decode cX3_costAhead 106 = .ok (.ifCond .ge 7, 3) := dk_156 0 7 (dk_at dksX3_costAhead_4 11 rfl rfl)
theorem dX3_costAhead_109 : decode cX3_costAhead 109 = .ok (.iconst (-1), 1) := dk_2 (dk_at dksX3_costAhead_4 14 rfl rfl)
theorem dX3_costAhead_110 : decode cX3_costAhead 110 = .ok (.goto 15, 3) := dk_167 0 15 (dk_at dksX3_costAhead_4 15 rfl rfl)
theorem dX3_costAhead_113 : decode cX3_costAhead 113 = .ok (.aload_n 0, 1) := dk_42 (dk_at dksX3_costAhead_4 18 rfl rfl)
theorem dX3_costAhead_114 : decode cX3_costAhead 114 = .ok (.getfield 46, 3) := dk_180 0 46 (dk_at dksX3_costAhead_4 19 rfl rfl)
theorem dX3_costAhead_117 : decode cX3_costAhead 117 = .ok (.bipush 36, 2) := dk_16 36 (dk_at dksX3_costAhead_4 22 rfl rfl)
theorem dX3_costAhead_119 : decode cX3_costAhead 119 = .ok (.iload_n 1, 1) := dk_27 (dk_at dksX3_costAhead_5 0 rfl rfl)
theorem dX3_costAhead_120 : decode cX3_costAhead 120 = .ok (.imul, 1) := dk_104 (dk_at dksX3_costAhead_5 1 rfl rfl)
theorem dX3_costAhead_121 : decode cX3_costAhead 121 = .ok (.iload 6, 2) := dk_21 6 (dk_at dksX3_costAhead_5 2 rfl rfl)
theorem dX3_costAhead_123 : decode cX3_costAhead 123 = .ok (.iadd, 1) := dk_96 (dk_at dksX3_costAhead_5 4 rfl rfl)
theorem dX3_costAhead_124 : decode cX3_costAhead 124 = .ok (.iaload, 1) := dk_46 (dk_at dksX3_costAhead_5 5 rfl rfl)
theorem dX3_costAhead_125 : decode cX3_costAhead 125 = .ok (.istore 7, 2) := dk_54 7 (dk_at dksX3_costAhead_5 6 rfl rfl)
theorem dX3_costAhead_127 : decode cX3_costAhead 127 = .ok (.iload 7, 2) := dk_21 7 (dk_at dksX3_costAhead_5 8 rfl rfl)
theorem dX3_costAhead_129 : decode cX3_costAhead 129 = .ok (.iload_n 3, 1) := dk_29 (dk_at dksX3_costAhead_5 10 rfl rfl)
theorem dX3_costAhead_130 : decode cX3_costAhead 130 = .ok (.if_icmp .gt 8, 3) := dk_163 0 8 (dk_at dksX3_costAhead_5 11 rfl rfl)
theorem dX3_costAhead_133 : decode cX3_costAhead 133 = .ok (.iload 7, 2) := dk_21 7 (dk_at dksX3_costAhead_5 14 rfl rfl)
theorem dX3_costAhead_135 : decode cX3_costAhead 135 = .ok (.goto 4, 3) := dk_167 0 4 (dk_at dksX3_costAhead_5 16 rfl rfl)
theorem dX3_costAhead_138 : decode cX3_costAhead 138 = .ok (.iconst (-1), 1) := dk_2 (dk_at dksX3_costAhead_5 19 rfl rfl)
theorem dX3_costAhead_139 : decode cX3_costAhead 139 = .ok (.ireturn, 1) := dk_172 (dk_at dksX3_costAhead_5 20 rfl rfl)
abbrev cX3_cellAhead : ByteArray := prog_17_method_84_code
def yX3_cellAhead : MethodName := ⟨RX3, "cellAhead", "(III)I"⟩
def dkwX3_cellAhead_1 : List UInt8 := [28, 42, 180, 0, 7, 17, 0, 180, 27, 96, 46, 182, 1, 69, 172]
abbrev dktX3_cellAhead_1 : List UInt8 := dkwX3_cellAhead_1 ++ []
def dkwX3_cellAhead_0 : List UInt8 := [29, 7, 162, 0, 12, 42, 28, 29, 182, 1, 15, 167, 0, 27, 29, 8, 160, 0, 7, 28, 167, 0, 18, 42]
abbrev dktX3_cellAhead_0 : List UInt8 := dkwX3_cellAhead_0 ++ dktX3_cellAhead_1
theorem dksX3_cellAhead_0 : cX3_cellAhead.data.toList.drop 0 = dktX3_cellAhead_0 := by decide +kernel
theorem dksX3_cellAhead_1 : cX3_cellAhead.data.toList.drop 24 = dktX3_cellAhead_1 := dk_seg dksX3_cellAhead_0 24 rfl rfl
theorem dX3_cellAhead_0 : decode cX3_cellAhead 0 = .ok (.iload_n 3, 1) := dk_29 (dk_at dksX3_cellAhead_0 0 rfl rfl)
theorem dX3_cellAhead_1 : decode cX3_cellAhead 1 = .ok (.iconst 4, 1) := dk_7 (dk_at dksX3_cellAhead_0 1 rfl rfl)
theorem dX3_cellAhead_2 : decode cX3_cellAhead 2 = .ok (.if_icmp .ge 12, 3) := dk_162 0 12 (dk_at dksX3_cellAhead_0 2 rfl rfl)
theorem dX3_cellAhead_5 : decode cX3_cellAhead 5 = .ok (.aload_n 0, 1) := dk_42 (dk_at dksX3_cellAhead_0 5 rfl rfl)
theorem dX3_cellAhead_6 : decode cX3_cellAhead 6 = .ok (.iload_n 2, 1) := dk_28 (dk_at dksX3_cellAhead_0 6 rfl rfl)
theorem dX3_cellAhead_7 : decode cX3_cellAhead 7 = .ok (.iload_n 3, 1) := dk_29 (dk_at dksX3_cellAhead_0 7 rfl rfl)
theorem dX3_cellAhead_8 : decode cX3_cellAhead 8 = .ok (.invokevirtual 271, 3) := dk_182 1 15 (dk_at dksX3_cellAhead_0 8 rfl rfl)
theorem dX3_cellAhead_11 : decode cX3_cellAhead 11 = .ok (.goto 27, 3) := dk_167 0 27 (dk_at dksX3_cellAhead_0 11 rfl rfl)
theorem dX3_cellAhead_14 : decode cX3_cellAhead 14 = .ok (.iload_n 3, 1) := dk_29 (dk_at dksX3_cellAhead_0 14 rfl rfl)
theorem dX3_cellAhead_15 : decode cX3_cellAhead 15 = .ok (.iconst 5, 1) := dk_8 (dk_at dksX3_cellAhead_0 15 rfl rfl)
theorem dX3_cellAhead_16 : decode cX3_cellAhead 16 = .ok (.if_icmp .ne 7, 3) := dk_160 0 7 (dk_at dksX3_cellAhead_0 16 rfl rfl)
theorem dX3_cellAhead_19 : decode cX3_cellAhead 19 = .ok (.iload_n 2, 1) := dk_28 (dk_at dksX3_cellAhead_0 19 rfl rfl)
theorem dX3_cellAhead_20 : decode cX3_cellAhead 20 = .ok (.goto 18, 3) := dk_167 0 18 (dk_at dksX3_cellAhead_0 20 rfl rfl)
theorem dX3_cellAhead_23 : decode cX3_cellAhead 23 = .ok (.aload_n 0, 1) := dk_42 (dk_at dksX3_cellAhead_0 23 rfl rfl)
theorem dX3_cellAhead_24 : decode cX3_cellAhead 24 = .ok (.iload_n 2, 1) := dk_28 (dk_at dksX3_cellAhead_1 0 rfl rfl)
theorem dX3_cellAhead_25 : decode cX3_cellAhead 25 = .ok (.aload_n 0, 1) := dk_42 (dk_at dksX3_cellAhead_1 1 rfl rfl)
theorem dX3_cellAhead_26 : decode cX3_cellAhead 26 = .ok (.getfield 7, 3) := dk_180 0 7 (dk_at dksX3_cellAhead_1 2 rfl rfl)
theorem dX3_cellAhead_29 : decode cX3_cellAhead 29 = .ok (.sipush 180, 3) := dk_17 0 180 (dk_at dksX3_cellAhead_1 5 rfl rfl)
theorem dX3_cellAhead_32 : decode cX3_cellAhead 32 = .ok (.iload_n 1, 1) := dk_27 (dk_at dksX3_cellAhead_1 8 rfl rfl)
theorem dX3_cellAhead_33 : decode cX3_cellAhead 33 = .ok (.iadd, 1) := dk_96 (dk_at dksX3_cellAhead_1 9 rfl rfl)
theorem dX3_cellAhead_34 : decode cX3_cellAhead 34 = .ok (.iaload, 1) := dk_46 (dk_at dksX3_cellAhead_1 10 rfl rfl)
theorem dX3_cellAhead_35 : decode cX3_cellAhead 35 = .ok (.invokevirtual 325, 3) := dk_182 1 69 (dk_at dksX3_cellAhead_1 11 rfl rfl)
theorem dX3_cellAhead_38 : decode cX3_cellAhead 38 = .ok (.ireturn, 1) := dk_172 (dk_at dksX3_cellAhead_1 14 rfl rfl)
abbrev cX3_shipCell : ByteArray := prog_17_method_89_code
def yX3_shipCell : MethodName := ⟨RX3, "shipCell", "()I"⟩
def dkwX3_shipCell_0 : List UInt8 := [42, 180, 0, 7, 3, 3, 184, 0, 108, 46, 172]
abbrev dktX3_shipCell_0 : List UInt8 := dkwX3_shipCell_0 ++ []
theorem dksX3_shipCell_0 : cX3_shipCell.data.toList.drop 0 = dktX3_shipCell_0 := by decide +kernel
theorem dX3_shipCell_0 : decode cX3_shipCell 0 = .ok (.aload_n 0, 1) := dk_42 (dk_at dksX3_shipCell_0 0 rfl rfl)
theorem dX3_shipCell_1 : decode cX3_shipCell 1 = .ok (.getfield 7, 3) := dk_180 0 7 (dk_at dksX3_shipCell_0 1 rfl rfl)
theorem dX3_shipCell_4 : decode cX3_shipCell 4 = .ok (.iconst 0, 1) := dk_3 (dk_at dksX3_shipCell_0 4 rfl rfl)
theorem dX3_shipCell_5 : decode cX3_shipCell 5 = .ok (.iconst 0, 1) := dk_3 (dk_at dksX3_shipCell_0 5 rfl rfl)
theorem dX3_shipCell_6 : decode cX3_shipCell 6 = .ok (.invokestatic 108, 3) := dk_184 0 108 (dk_at dksX3_shipCell_0 6 rfl rfl)
theorem dX3_shipCell_9 : decode cX3_shipCell 9 = .ok (.iaload, 1) := dk_46 (dk_at dksX3_shipCell_0 9 rfl rfl)
theorem dX3_shipCell_10 : decode cX3_shipCell 10 = .ok (.ireturn, 1) := dk_172 (dk_at dksX3_shipCell_0 10 rfl rfl)
abbrev cX3_shipCoal : ByteArray := prog_17_method_90_code
def yX3_shipCoal : MethodName := ⟨RX3, "shipCoal", "()I"⟩
def dkwX3_shipCoal_0 : List UInt8 := [42, 180, 0, 7, 3, 4, 184, 0, 108, 46, 172]
abbrev dktX3_shipCoal_0 : List UInt8 := dkwX3_shipCoal_0 ++ []
theorem dksX3_shipCoal_0 : cX3_shipCoal.data.toList.drop 0 = dktX3_shipCoal_0 := by decide +kernel
theorem dX3_shipCoal_0 : decode cX3_shipCoal 0 = .ok (.aload_n 0, 1) := dk_42 (dk_at dksX3_shipCoal_0 0 rfl rfl)
theorem dX3_shipCoal_1 : decode cX3_shipCoal 1 = .ok (.getfield 7, 3) := dk_180 0 7 (dk_at dksX3_shipCoal_0 1 rfl rfl)
theorem dX3_shipCoal_4 : decode cX3_shipCoal 4 = .ok (.iconst 0, 1) := dk_3 (dk_at dksX3_shipCoal_0 4 rfl rfl)
theorem dX3_shipCoal_5 : decode cX3_shipCoal 5 = .ok (.iconst 1, 1) := dk_4 (dk_at dksX3_shipCoal_0 5 rfl rfl)
theorem dX3_shipCoal_6 : decode cX3_shipCoal 6 = .ok (.invokestatic 108, 3) := dk_184 0 108 (dk_at dksX3_shipCoal_0 6 rfl rfl)
theorem dX3_shipCoal_9 : decode cX3_shipCoal 9 = .ok (.iaload, 1) := dk_46 (dk_at dksX3_shipCoal_0 9 rfl rfl)
theorem dX3_shipCoal_10 : decode cX3_shipCoal 10 = .ok (.ireturn, 1) := dk_172 (dk_at dksX3_shipCoal_0 10 rfl rfl)
abbrev cX3_shipBanked : ByteArray := prog_17_method_91_code
def yX3_shipBanked : MethodName := ⟨RX3, "shipBanked", "()I"⟩
def dkwX3_shipBanked_0 : List UInt8 := [42, 180, 0, 7, 3, 5, 184, 0, 108, 46, 172]
abbrev dktX3_shipBanked_0 : List UInt8 := dkwX3_shipBanked_0 ++ []
theorem dksX3_shipBanked_0 : cX3_shipBanked.data.toList.drop 0 = dktX3_shipBanked_0 := by decide +kernel
theorem dX3_shipBanked_0 : decode cX3_shipBanked 0 = .ok (.aload_n 0, 1) := dk_42 (dk_at dksX3_shipBanked_0 0 rfl rfl)
theorem dX3_shipBanked_1 : decode cX3_shipBanked 1 = .ok (.getfield 7, 3) := dk_180 0 7 (dk_at dksX3_shipBanked_0 1 rfl rfl)
theorem dX3_shipBanked_4 : decode cX3_shipBanked 4 = .ok (.iconst 0, 1) := dk_3 (dk_at dksX3_shipBanked_0 4 rfl rfl)
theorem dX3_shipBanked_5 : decode cX3_shipBanked 5 = .ok (.iconst 2, 1) := dk_5 (dk_at dksX3_shipBanked_0 5 rfl rfl)
theorem dX3_shipBanked_6 : decode cX3_shipBanked 6 = .ok (.invokestatic 108, 3) := dk_184 0 108 (dk_at dksX3_shipBanked_0 6 rfl rfl)
theorem dX3_shipBanked_9 : decode cX3_shipBanked 9 = .ok (.iaload, 1) := dk_46 (dk_at dksX3_shipBanked_0 9 rfl rfl)
theorem dX3_shipBanked_10 : decode cX3_shipBanked 10 = .ok (.ireturn, 1) := dk_172 (dk_at dksX3_shipBanked_0 10 rfl rfl)
abbrev cX3_least : ByteArray := prog_17_method_93_code
def yX3_least : MethodName := ⟨RX3, "least", "()I"⟩
def dkwX3_least_2 : List UInt8 := [132, 1, 1, 167, 255, 224, 2, 172]
abbrev dktX3_least_2 : List UInt8 := dkwX3_least_2 ++ []
def dkwX3_least_1 : List UInt8 := [180, 0, 53, 3, 42, 182, 1, 111, 27, 42, 182, 1, 117, 184, 1, 96, 46, 155, 0, 5, 27, 172]
abbrev dktX3_least_1 : List UInt8 := dkwX3_least_1 ++ dktX3_least_2
def dkwX3_least_0 : List UInt8 := [42, 3, 182, 1, 57, 154, 0, 5, 2, 172, 42, 182, 1, 108, 3, 60, 27, 16, 100, 162, 0, 32, 42]
abbrev dktX3_least_0 : List UInt8 := dkwX3_least_0 ++ dktX3_least_1
theorem dksX3_least_0 : cX3_least.data.toList.drop 0 = dktX3_least_0 := by decide +kernel
theorem dksX3_least_1 : cX3_least.data.toList.drop 23 = dktX3_least_1 := dk_seg dksX3_least_0 23 rfl rfl
theorem dksX3_least_2 : cX3_least.data.toList.drop 45 = dktX3_least_2 := dk_seg dksX3_least_1 22 rfl rfl
theorem dX3_least_0 : decode cX3_least 0 = .ok (.aload_n 0, 1) := dk_42 (dk_at dksX3_least_0 0 rfl rfl)
theorem dX3_least_1 : decode cX3_least 1 = .ok (.iconst 0, 1) := dk_3 (dk_at dksX3_least_0 1 rfl rfl)
theorem dX3_least_2 : decode cX3_least 2 = .ok (.invokevirtual 313, 3) := dk_182 1 57 (dk_at dksX3_least_0 2 rfl rfl)
theorem dX3_least_5 : decode cX3_least 5 = .ok (.ifCond .ne 5, 3) := dk_154 0 5 (dk_at dksX3_least_0 5 rfl rfl)
theorem dX3_least_8 : decode cX3_least 8 = .ok (.iconst (-1), 1) := dk_2 (dk_at dksX3_least_0 8 rfl rfl)
theorem dX3_least_9 : decode cX3_least 9 = .ok (.ireturn, 1) := dk_172 (dk_at dksX3_least_0 9 rfl rfl)
theorem dX3_least_10 : decode cX3_least 10 = .ok (.aload_n 0, 1) := dk_42 (dk_at dksX3_least_0 10 rfl rfl)
theorem dX3_least_11 : decode cX3_least 11 = .ok (.invokevirtual 364, 3) := dk_182 1 108 (dk_at dksX3_least_0 11 rfl rfl)
theorem dX3_least_14 : decode cX3_least 14 = .ok (.iconst 0, 1) := dk_3 (dk_at dksX3_least_0 14 rfl rfl)
theorem dX3_least_15 : decode cX3_least 15 = .ok (.istore_n 1, 1) := dk_60 (dk_at dksX3_least_0 15 rfl rfl)
theorem dX3_least_16 : decode cX3_least 16 = .ok (.iload_n 1, 1) := dk_27 (dk_at dksX3_least_0 16 rfl rfl)
theorem dX3_least_17 : decode cX3_least 17 = .ok (.bipush 100, 2) := dk_16 100 (dk_at dksX3_least_0 17 rfl rfl)
theorem dX3_least_19 : decode cX3_least 19 = .ok (.if_icmp .ge 32, 3) := dk_162 0 32 (dk_at dksX3_least_0 19 rfl rfl)
theorem dX3_least_22 : decode cX3_least 22 = .ok (.aload_n 0, 1) := dk_42 (dk_at dksX3_least_0 22 rfl rfl)
theorem dX3_least_23 : decode cX3_least 23 = .ok (.getfield 53, 3) := dk_180 0 53 (dk_at dksX3_least_1 0 rfl rfl)
theorem dX3_least_26 : decode cX3_least 26 = .ok (.iconst 0, 1) := dk_3 (dk_at dksX3_least_1 3 rfl rfl)
theorem dX3_least_27 : decode cX3_least 27 = .ok (.aload_n 0, 1) := dk_42 (dk_at dksX3_least_1 4 rfl rfl)
theorem dX3_least_28 : decode cX3_least 28 = .ok (.invokevirtual 367, 3) := dk_182 1 111 (dk_at dksX3_least_1 5 rfl rfl)
theorem dX3_least_31 : decode cX3_least 31 = .ok (.iload_n 1, 1) := dk_27 (dk_at dksX3_least_1 8 rfl rfl)
theorem dX3_least_32 : decode cX3_least 32 = .ok (.aload_n 0, 1) := dk_42 (dk_at dksX3_least_1 9 rfl rfl)
theorem dX3_least_33 : decode cX3_least 33 = .ok (.invokevirtual 373, 3) := dk_182 1 117 (dk_at dksX3_least_1 10 rfl rfl)
theorem dX3_least_36 : decode cX3_least 36 = .ok (.invokestatic 352, 3) := dk_184 1 96 (dk_at dksX3_least_1 13 rfl rfl)
theorem dX3_least_39 : decode cX3_least 39 = .ok (.iaload, 1) := dk_46 (dk_at dksX3_least_1 16 rfl rfl)
theorem dX3_least_40 : decode cX3_least 40 = .ok (.ifCond .lt 5, 3) := dk_155 0 5 (dk_at dksX3_least_1 17 rfl rfl)
theorem dX3_least_43 : decode cX3_least 43 = .ok (.iload_n 1, 1) := dk_27 (dk_at dksX3_least_1 20 rfl rfl)
theorem dX3_least_44 : decode cX3_least 44 = .ok (.ireturn, 1) := dk_172 (dk_at dksX3_least_1 21 rfl rfl)
theorem dX3_least_45 : decode cX3_least 45 = .ok (.iinc 1 1, 3) := dk_132 1 1 (dk_at dksX3_least_2 0 rfl rfl)
theorem dX3_least_48 : decode cX3_least 48 = .ok (.goto (-32), 3) := dk_167 255 224 (dk_at dksX3_least_2 3 rfl rfl)
theorem dX3_least_51 : decode cX3_least 51 = .ok (.iconst (-1), 1) := dk_2 (dk_at dksX3_least_2 6 rfl rfl)
theorem dX3_least_52 : decode cX3_least 52 = .ok (.ireturn, 1) := dk_172 (dk_at dksX3_least_2 7 rfl rfl)
abbrev cX3_order : ByteArray := prog_17_method_94_code
def yX3_order : MethodName := ⟨RX3, "order", "(II)I"⟩
def dkwX3_order_3 : List UInt8 := [172]
abbrev dktX3_order_3 : List UInt8 := dkwX3_order_3 ++ []
def dkwX3_order_2 : List UInt8 := [8, 46, 164, 0, 9, 27, 4, 96, 167, 0, 9, 42, 180, 0, 7, 8, 46, 79, 42, 180, 0, 7, 8, 46]
abbrev dktX3_order_2 : List UInt8 := dkwX3_order_2 ++ dktX3_order_3
def dkwX3_order_1 : List UInt8 := [172, 42, 180, 0, 7, 17, 0, 195, 27, 96, 28, 79, 42, 180, 0, 7, 8, 27, 4, 96, 42, 180, 0, 7]
abbrev dktX3_order_1 : List UInt8 := dkwX3_order_1 ++ dktX3_order_2
def dkwX3_order_0 : List UInt8 := [27, 3, 42, 180, 0, 7, 7, 46, 4, 100, 184, 0, 90, 153, 0, 10, 28, 184, 1, 54, 154, 0, 5, 2]
abbrev dktX3_order_0 : List UInt8 := dkwX3_order_0 ++ dktX3_order_1
theorem dksX3_order_0 : cX3_order.data.toList.drop 0 = dktX3_order_0 := by decide +kernel
theorem dksX3_order_1 : cX3_order.data.toList.drop 24 = dktX3_order_1 := dk_seg dksX3_order_0 24 rfl rfl
theorem dksX3_order_2 : cX3_order.data.toList.drop 48 = dktX3_order_2 := dk_seg dksX3_order_1 24 rfl rfl
theorem dksX3_order_3 : cX3_order.data.toList.drop 72 = dktX3_order_3 := dk_seg dksX3_order_2 24 rfl rfl
theorem dX3_order_0 : decode cX3_order 0 = .ok (.iload_n 1, 1) := dk_27 (dk_at dksX3_order_0 0 rfl rfl)
theorem dX3_order_1 : decode cX3_order 1 = .ok (.iconst 0, 1) := dk_3 (dk_at dksX3_order_0 1 rfl rfl)
theorem dX3_order_2 : decode cX3_order 2 = .ok (.aload_n 0, 1) := dk_42 (dk_at dksX3_order_0 2 rfl rfl)
theorem dX3_order_3 : decode cX3_order 3 = .ok (.getfield 7, 3) := dk_180 0 7 (dk_at dksX3_order_0 3 rfl rfl)
theorem dX3_order_6 : decode cX3_order 6 = .ok (.iconst 4, 1) := dk_7 (dk_at dksX3_order_0 6 rfl rfl)
theorem dX3_order_7 : decode cX3_order 7 = .ok (.iaload, 1) := dk_46 (dk_at dksX3_order_0 7 rfl rfl)
theorem dX3_order_8 : decode cX3_order 8 = .ok (.iconst 1, 1) := dk_4 (dk_at dksX3_order_0 8 rfl rfl)
theorem dX3_order_9 : decode cX3_order 9 = .ok (.isub, 1) := dk_100 (dk_at dksX3_order_0 9 rfl rfl)
theorem dX3_order_10 : decode cX3_order 10 = .ok (.invokestatic 90, 3) := dk_184 0 90 (dk_at dksX3_order_0 10 rfl rfl)
theorem dX3_order_13 : decode cX3_order 13 = .ok (.ifCond .eq 10, 3) := dk_153 0 10 (dk_at dksX3_order_0 13 rfl rfl)
theorem dX3_order_16 : decode cX3_order 16 = .ok (.iload_n 2, 1) := dk_28 (dk_at dksX3_order_0 16 rfl rfl)
theorem dX3_order_17 : decode cX3_order 17 = .ok (.invokestatic 310, 3) := dk_184 1 54 (dk_at dksX3_order_0 17 rfl rfl)
theorem dX3_order_20 : decode cX3_order 20 = .ok (.ifCond .ne 5, 3) := dk_154 0 5 (dk_at dksX3_order_0 20 rfl rfl)
theorem dX3_order_23 : decode cX3_order 23 = .ok (.iconst (-1), 1) := dk_2 (dk_at dksX3_order_0 23 rfl rfl)
theorem dX3_order_24 : decode cX3_order 24 = .ok (.ireturn, 1) := dk_172 (dk_at dksX3_order_1 0 rfl rfl)
theorem dX3_order_25 : decode cX3_order 25 = .ok (.aload_n 0, 1) := dk_42 (dk_at dksX3_order_1 1 rfl rfl)
theorem dX3_order_26 : decode cX3_order 26 = .ok (.getfield 7, 3) := dk_180 0 7 (dk_at dksX3_order_1 2 rfl rfl)
theorem dX3_order_29 : decode cX3_order 29 = .ok (.sipush 195, 3) := dk_17 0 195 (dk_at dksX3_order_1 5 rfl rfl)
theorem dX3_order_32 : decode cX3_order 32 = .ok (.iload_n 1, 1) := dk_27 (dk_at dksX3_order_1 8 rfl rfl)
theorem dX3_order_33 : decode cX3_order 33 = .ok (.iadd, 1) := dk_96 (dk_at dksX3_order_1 9 rfl rfl)
theorem dX3_order_34 : decode cX3_order 34 = .ok (.iload_n 2, 1) := dk_28 (dk_at dksX3_order_1 10 rfl rfl)
theorem dX3_order_35 : decode cX3_order 35 = .ok (.iastore, 1) := dk_79 (dk_at dksX3_order_1 11 rfl rfl)
theorem dX3_order_36 : decode cX3_order 36 = .ok (.aload_n 0, 1) := dk_42 (dk_at dksX3_order_1 12 rfl rfl)
theorem dX3_order_37 : decode cX3_order 37 = .ok (.getfield 7, 3) := dk_180 0 7 (dk_at dksX3_order_1 13 rfl rfl)
theorem dX3_order_40 : decode cX3_order 40 = .ok (.iconst 5, 1) := dk_8 (dk_at dksX3_order_1 16 rfl rfl)
theorem dX3_order_41 : decode cX3_order 41 = .ok (.iload_n 1, 1) := dk_27 (dk_at dksX3_order_1 17 rfl rfl)
theorem dX3_order_42 : decode cX3_order 42 = .ok (.iconst 1, 1) := dk_4 (dk_at dksX3_order_1 18 rfl rfl)
theorem dX3_order_43 : decode cX3_order 43 = .ok (.iadd, 1) := dk_96 (dk_at dksX3_order_1 19 rfl rfl)
theorem dX3_order_44 : decode cX3_order 44 = .ok (.aload_n 0, 1) := dk_42 (dk_at dksX3_order_1 20 rfl rfl)
theorem dX3_order_45 : decode cX3_order 45 = .ok (.getfield 7, 3) := dk_180 0 7 (dk_at dksX3_order_1 21 rfl rfl)
theorem dX3_order_48 : decode cX3_order 48 = .ok (.iconst 5, 1) := dk_8 (dk_at dksX3_order_2 0 rfl rfl)
theorem dX3_order_49 : decode cX3_order 49 = .ok (.iaload, 1) := dk_46 (dk_at dksX3_order_2 1 rfl rfl)
theorem dX3_order_50 : decode cX3_order 50 = .ok (.if_icmp .le 9, 3) := dk_164 0 9 (dk_at dksX3_order_2 2 rfl rfl)
theorem dX3_order_53 : decode cX3_order 53 = .ok (.iload_n 1, 1) := dk_27 (dk_at dksX3_order_2 5 rfl rfl)
theorem dX3_order_54 : decode cX3_order 54 = .ok (.iconst 1, 1) := dk_4 (dk_at dksX3_order_2 6 rfl rfl)
theorem dX3_order_55 : decode cX3_order 55 = .ok (.iadd, 1) := dk_96 (dk_at dksX3_order_2 7 rfl rfl)
theorem dX3_order_56 : decode cX3_order 56 = .ok (.goto 9, 3) := dk_167 0 9 (dk_at dksX3_order_2 8 rfl rfl)
theorem dX3_order_59 : decode cX3_order 59 = .ok (.aload_n 0, 1) := dk_42 (dk_at dksX3_order_2 11 rfl rfl)
theorem dX3_order_60 : decode cX3_order 60 = .ok (.getfield 7, 3) := dk_180 0 7 (dk_at dksX3_order_2 12 rfl rfl)
theorem dX3_order_63 : decode cX3_order 63 = .ok (.iconst 5, 1) := dk_8 (dk_at dksX3_order_2 15 rfl rfl)
theorem dX3_order_64 : decode cX3_order 64 = .ok (.iaload, 1) := dk_46 (dk_at dksX3_order_2 16 rfl rfl)
theorem dX3_order_65 : decode cX3_order 65 = .ok (.iastore, 1) := dk_79 (dk_at dksX3_order_2 17 rfl rfl)
theorem dX3_order_66 : decode cX3_order 66 = .ok (.aload_n 0, 1) := dk_42 (dk_at dksX3_order_2 18 rfl rfl)
theorem dX3_order_67 : decode cX3_order 67 = .ok (.getfield 7, 3) := dk_180 0 7 (dk_at dksX3_order_2 19 rfl rfl)
theorem dX3_order_70 : decode cX3_order 70 = .ok (.iconst 5, 1) := dk_8 (dk_at dksX3_order_2 22 rfl rfl)
theorem dX3_order_71 : decode cX3_order 71 = .ok (.iaload, 1) := dk_46 (dk_at dksX3_order_2 23 rfl rfl)
theorem dX3_order_72 : decode cX3_order 72 = .ok (.ireturn, 1) := dk_172 (dk_at dksX3_order_3 0 rfl rfl)
abbrev cX3_told : ByteArray := prog_17_method_96_code
def yX3_told : MethodName := ⟨RX3, "told", "(I)I"⟩
def dkwX3_told_2 : List UInt8 := [96, 46, 167, 0, 4, 2, 172]
abbrev dktX3_told_2 : List UInt8 := dkwX3_told_2 ++ []
def dkwX3_told_1 : List UInt8 := [156, 0, 10, 42, 180, 1, 120, 167, 0, 23, 27, 42, 180, 1, 120, 162, 0, 14, 42, 180, 0, 56, 27, 4]
abbrev dktX3_told_1 : List UInt8 := dkwX3_told_1 ++ dktX3_told_2
def dkwX3_told_0 : List UInt8 := [27, 2, 42, 180, 0, 7, 8, 46, 4, 100, 184, 0, 90, 154, 0, 5, 2, 172, 42, 182, 1, 123, 27]
abbrev dktX3_told_0 : List UInt8 := dkwX3_told_0 ++ dktX3_told_1
theorem dksX3_told_0 : cX3_told.data.toList.drop 0 = dktX3_told_0 := by decide +kernel
theorem dksX3_told_1 : cX3_told.data.toList.drop 23 = dktX3_told_1 := dk_seg dksX3_told_0 23 rfl rfl
theorem dksX3_told_2 : cX3_told.data.toList.drop 47 = dktX3_told_2 := dk_seg dksX3_told_1 24 rfl rfl
theorem dX3_told_0 : decode cX3_told 0 = .ok (.iload_n 1, 1) := dk_27 (dk_at dksX3_told_0 0 rfl rfl)
theorem dX3_told_1 : decode cX3_told 1 = .ok (.iconst (-1), 1) := dk_2 (dk_at dksX3_told_0 1 rfl rfl)
theorem dX3_told_2 : decode cX3_told 2 = .ok (.aload_n 0, 1) := dk_42 (dk_at dksX3_told_0 2 rfl rfl)
theorem dX3_told_3 : decode cX3_told 3 = .ok (.getfield 7, 3) := dk_180 0 7 (dk_at dksX3_told_0 3 rfl rfl)
theorem dX3_told_6 : decode cX3_told 6 = .ok (.iconst 5, 1) := dk_8 (dk_at dksX3_told_0 6 rfl rfl)
theorem dX3_told_7 : decode cX3_told 7 = .ok (.iaload, 1) := dk_46 (dk_at dksX3_told_0 7 rfl rfl)
theorem dX3_told_8 : decode cX3_told 8 = .ok (.iconst 1, 1) := dk_4 (dk_at dksX3_told_0 8 rfl rfl)
theorem dX3_told_9 : decode cX3_told 9 = .ok (.isub, 1) := dk_100 (dk_at dksX3_told_0 9 rfl rfl)
theorem dX3_told_10 : decode cX3_told 10 = .ok (.invokestatic 90, 3) := dk_184 0 90 (dk_at dksX3_told_0 10 rfl rfl)
theorem dX3_told_13 : decode cX3_told 13 = .ok (.ifCond .ne 5, 3) := dk_154 0 5 (dk_at dksX3_told_0 13 rfl rfl)
theorem dX3_told_16 : decode cX3_told 16 = .ok (.iconst (-1), 1) := dk_2 (dk_at dksX3_told_0 16 rfl rfl)
theorem dX3_told_17 : decode cX3_told 17 = .ok (.ireturn, 1) := dk_172 (dk_at dksX3_told_0 17 rfl rfl)
theorem dX3_told_18 : decode cX3_told 18 = .ok (.aload_n 0, 1) := dk_42 (dk_at dksX3_told_0 18 rfl rfl)
theorem dX3_told_19 : decode cX3_told 19 = .ok (.invokevirtual 379, 3) := dk_182 1 123 (dk_at dksX3_told_0 19 rfl rfl)
theorem dX3_told_22 : decode cX3_told 22 = .ok (.iload_n 1, 1) := dk_27 (dk_at dksX3_told_0 22 rfl rfl)
theorem dX3_told_23 : decode cX3_told 23 = .ok (.ifCond .ge 10, 3) := dk_156 0 10 (dk_at dksX3_told_1 0 rfl rfl)
theorem dX3_told_26 : decode cX3_told 26 = .ok (.aload_n 0, 1) := dk_42 (dk_at dksX3_told_1 3 rfl rfl)
theorem dX3_told_27 : decode cX3_told 27 = .ok (.getfield 376, 3) := dk_180 1 120 (dk_at dksX3_told_1 4 rfl rfl)
theorem dX3_told_30 : decode cX3_told 30 = .ok (.goto 23, 3) := dk_167 0 23 (dk_at dksX3_told_1 7 rfl rfl)
theorem dX3_told_33 : decode cX3_told 33 = .ok (.iload_n 1, 1) := dk_27 (dk_at dksX3_told_1 10 rfl rfl)
theorem dX3_told_34 : decode cX3_told 34 = .ok (.aload_n 0, 1) := dk_42 (dk_at dksX3_told_1 11 rfl rfl)
theorem dX3_told_35 : decode cX3_told 35 = .ok (.getfield 376, 3) := dk_180 1 120 (dk_at dksX3_told_1 12 rfl rfl)
theorem dX3_told_38 : decode cX3_told 38 = .ok (.if_icmp .ge 14, 3) := dk_162 0 14 (dk_at dksX3_told_1 15 rfl rfl)
theorem dX3_told_41 : decode cX3_told 41 = .ok (.aload_n 0, 1) := dk_42 (dk_at dksX3_told_1 18 rfl rfl)
theorem dX3_told_42 : decode cX3_told 42 = .ok (.getfield 56, 3) := dk_180 0 56 (dk_at dksX3_told_1 19 rfl rfl)
theorem dX3_told_45 : decode cX3_told 45 = .ok (.iload_n 1, 1) := dk_27 (dk_at dksX3_told_1 22 rfl rfl)
theorem dX3_told_46 : decode cX3_told 46 = .ok (.iconst 1, 1) := dk_4 (dk_at dksX3_told_1 23 rfl rfl)
theorem dX3_told_47 : decode cX3_told 47 = .ok (.iadd, 1) := dk_96 (dk_at dksX3_told_2 0 rfl rfl)
theorem dX3_told_48 : decode cX3_told 48 = .ok (.iaload, 1) := dk_46 (dk_at dksX3_told_2 1 rfl rfl)
theorem dX3_told_49 : decode cX3_told 49 = .ok (.goto 4, 3) := dk_167 0 4 (dk_at dksX3_told_2 2 rfl rfl)
theorem dX3_told_52 : decode cX3_told 52 = .ok (.iconst (-1), 1) := dk_2 (dk_at dksX3_told_2 5 rfl rfl)
theorem dX3_told_53 : decode cX3_told 53 = .ok (.ireturn, 1) := dk_172 (dk_at dksX3_told_2 6 rfl rfl)
abbrev cX3_follow : ByteArray := prog_17_method_95_code
def yX3_follow : MethodName := ⟨RX3, "follow", "()V"⟩
def dkwX3_follow_10 : List UInt8 := [184, 1, 66, 79, 167, 255, 64, 177]
abbrev dktX3_follow_10 : List UInt8 := dkwX3_follow_10 ++ []
def dkwX3_follow_9 : List UInt8 := [180, 0, 59, 28, 46, 21, 4, 100, 79, 42, 180, 0, 62, 42, 180, 1, 120, 29, 42, 180, 0, 62, 28, 46]
abbrev dktX3_follow_9 : List UInt8 := dkwX3_follow_9 ++ dktX3_follow_10
def dkwX3_follow_8 : List UInt8 := [181, 1, 120, 42, 180, 0, 56, 42, 180, 1, 120, 21, 5, 79, 42, 180, 0, 59, 42, 180, 1, 120, 42]
abbrev dktX3_follow_8 : List UInt8 := dkwX3_follow_8 ++ dktX3_follow_9
def dkwX3_follow_7 : List UInt8 := [51, 154, 0, 7, 4, 167, 0, 4, 3, 60, 27, 154, 0, 6, 167, 255, 125, 42, 89, 180, 1, 120, 4, 96]
abbrev dktX3_follow_7 : List UInt8 := dkwX3_follow_7 ++ dktX3_follow_8
def dkwX3_follow_6 : List UInt8 := [180, 0, 7, 16, 70, 21, 5, 96, 46, 4, 159, 0, 22, 42, 180, 0, 49, 16, 36, 28, 104, 21, 5, 96]
abbrev dktX3_follow_6 : List UInt8 := dkwX3_follow_6 ++ dktX3_follow_7
def dkwX3_follow_5 : List UInt8 := [180, 0, 56, 28, 46, 29, 182, 1, 93, 54, 5, 21, 5, 155, 0, 41, 29, 7, 162, 0, 17, 42]
abbrev dktX3_follow_5 : List UInt8 := dkwX3_follow_5 ++ dktX3_follow_6
def dkwX3_follow_4 : List UInt8 := [42, 180, 0, 62, 28, 46, 29, 182, 1, 89, 54, 4, 21, 4, 156, 0, 7, 2, 167, 0, 15, 42, 28, 42]
abbrev dktX3_follow_4 : List UInt8 := dkwX3_follow_4 ++ dktX3_follow_5
def dkwX3_follow_3 : List UInt8 := [180, 0, 7, 17, 0, 195, 28, 96, 46, 62, 42, 28, 42, 180, 0, 56, 28, 46, 42, 180, 0, 59, 28, 46]
abbrev dktX3_follow_3 : List UInt8 := dkwX3_follow_3 ++ dktX3_follow_4
def dkwX3_follow_2 : List UInt8 := [153, 0, 194, 42, 180, 1, 120, 42, 180, 0, 7, 8, 46, 162, 0, 181, 42, 180, 1, 120, 61, 42]
abbrev dktX3_follow_2 : List UInt8 := dkwX3_follow_2 ++ dktX3_follow_3
def dkwX3_follow_1 : List UInt8 := [42, 182, 1, 114, 79, 42, 180, 0, 62, 3, 42, 182, 1, 117, 79, 42, 3, 182, 1, 57, 60, 27]
abbrev dktX3_follow_1 : List UInt8 := dkwX3_follow_1 ++ dktX3_follow_2
def dkwX3_follow_0 : List UInt8 := [42, 182, 1, 102, 42, 3, 181, 1, 120, 42, 180, 0, 56, 3, 42, 182, 1, 111, 79, 42, 180, 0, 59, 3]
abbrev dktX3_follow_0 : List UInt8 := dkwX3_follow_0 ++ dktX3_follow_1
theorem dksX3_follow_0 : cX3_follow.data.toList.drop 0 = dktX3_follow_0 := by decide +kernel
theorem dksX3_follow_1 : cX3_follow.data.toList.drop 24 = dktX3_follow_1 := dk_seg dksX3_follow_0 24 rfl rfl
theorem dksX3_follow_2 : cX3_follow.data.toList.drop 46 = dktX3_follow_2 := dk_seg dksX3_follow_1 22 rfl rfl
theorem dksX3_follow_3 : cX3_follow.data.toList.drop 68 = dktX3_follow_3 := dk_seg dksX3_follow_2 22 rfl rfl
theorem dksX3_follow_4 : cX3_follow.data.toList.drop 92 = dktX3_follow_4 := dk_seg dksX3_follow_3 24 rfl rfl
theorem dksX3_follow_5 : cX3_follow.data.toList.drop 116 = dktX3_follow_5 := dk_seg dksX3_follow_4 24 rfl rfl
theorem dksX3_follow_6 : cX3_follow.data.toList.drop 138 = dktX3_follow_6 := dk_seg dksX3_follow_5 22 rfl rfl
theorem dksX3_follow_7 : cX3_follow.data.toList.drop 162 = dktX3_follow_7 := dk_seg dksX3_follow_6 24 rfl rfl
theorem dksX3_follow_8 : cX3_follow.data.toList.drop 186 = dktX3_follow_8 := dk_seg dksX3_follow_7 24 rfl rfl
theorem dksX3_follow_9 : cX3_follow.data.toList.drop 209 = dktX3_follow_9 := dk_seg dksX3_follow_8 23 rfl rfl
theorem dksX3_follow_10 : cX3_follow.data.toList.drop 233 = dktX3_follow_10 := dk_seg dksX3_follow_9 24 rfl rfl
theorem dX3_follow_0 : decode cX3_follow 0 = .ok (.aload_n 0, 1) := dk_42 (dk_at dksX3_follow_0 0 rfl rfl)
theorem dX3_follow_1 : decode cX3_follow 1 = .ok (.invokevirtual 358, 3) := dk_182 1 102 (dk_at dksX3_follow_0 1 rfl rfl)
theorem dX3_follow_4 : decode cX3_follow 4 = .ok (.aload_n 0, 1) := dk_42 (dk_at dksX3_follow_0 4 rfl rfl)
theorem dX3_follow_5 : decode cX3_follow 5 = .ok (.iconst 0, 1) := dk_3 (dk_at dksX3_follow_0 5 rfl rfl)
theorem dX3_follow_6 : decode cX3_follow 6 = .ok (.putfield 376, 3) := dk_181 1 120 (dk_at dksX3_follow_0 6 rfl rfl)
theorem dX3_follow_9 : decode cX3_follow 9 = .ok (.aload_n 0, 1) := dk_42 (dk_at dksX3_follow_0 9 rfl rfl)
theorem dX3_follow_10 : decode cX3_follow 10 = .ok (.getfield 56, 3) := dk_180 0 56 (dk_at dksX3_follow_0 10 rfl rfl)
theorem dX3_follow_13 : decode cX3_follow 13 = .ok (.iconst 0, 1) := dk_3 (dk_at dksX3_follow_0 13 rfl rfl)
theorem dX3_follow_14 : decode cX3_follow 14 = .ok (.aload_n 0, 1) := dk_42 (dk_at dksX3_follow_0 14 rfl rfl)
theorem dX3_follow_15 : decode cX3_follow 15 = .ok (.invokevirtual 367, 3) := dk_182 1 111 (dk_at dksX3_follow_0 15 rfl rfl)
theorem dX3_follow_18 : decode cX3_follow 18 = .ok (.iastore, 1) := dk_79 (dk_at dksX3_follow_0 18 rfl rfl)
theorem dX3_follow_19 : decode cX3_follow 19 = .ok (.aload_n 0, 1) := dk_42 (dk_at dksX3_follow_0 19 rfl rfl)
theorem dX3_follow_20 : decode cX3_follow 20 = .ok (.getfield 59, 3) := dk_180 0 59 (dk_at dksX3_follow_0 20 rfl rfl)
theorem dX3_follow_23 : decode cX3_follow 23 = .ok (.iconst 0, 1) := dk_3 (dk_at dksX3_follow_0 23 rfl rfl)
theorem dX3_follow_24 : decode cX3_follow 24 = .ok (.aload_n 0, 1) := dk_42 (dk_at dksX3_follow_1 0 rfl rfl)
theorem dX3_follow_25 : decode cX3_follow 25 = .ok (.invokevirtual 370, 3) := dk_182 1 114 (dk_at dksX3_follow_1 1 rfl rfl)
theorem dX3_follow_28 : decode cX3_follow 28 = .ok (.iastore, 1) := dk_79 (dk_at dksX3_follow_1 4 rfl rfl)
theorem dX3_follow_29 : decode cX3_follow 29 = .ok (.aload_n 0, 1) := dk_42 (dk_at dksX3_follow_1 5 rfl rfl)
theorem dX3_follow_30 : decode cX3_follow 30 = .ok (.getfield 62, 3) := dk_180 0 62 (dk_at dksX3_follow_1 6 rfl rfl)
theorem dX3_follow_33 : decode cX3_follow 33 = .ok (.iconst 0, 1) := dk_3 (dk_at dksX3_follow_1 9 rfl rfl)
theorem dX3_follow_34 : decode cX3_follow 34 = .ok (.aload_n 0, 1) := dk_42 (dk_at dksX3_follow_1 10 rfl rfl)
theorem dX3_follow_35 : decode cX3_follow 35 = .ok (.invokevirtual 373, 3) := dk_182 1 117 (dk_at dksX3_follow_1 11 rfl rfl)
theorem dX3_follow_38 : decode cX3_follow 38 = .ok (.iastore, 1) := dk_79 (dk_at dksX3_follow_1 14 rfl rfl)
theorem dX3_follow_39 : decode cX3_follow 39 = .ok (.aload_n 0, 1) := dk_42 (dk_at dksX3_follow_1 15 rfl rfl)
theorem dX3_follow_40 : decode cX3_follow 40 = .ok (.iconst 0, 1) := dk_3 (dk_at dksX3_follow_1 16 rfl rfl)
theorem dX3_follow_41 : decode cX3_follow 41 = .ok (.invokevirtual 313, 3) := dk_182 1 57 (dk_at dksX3_follow_1 17 rfl rfl)
theorem dX3_follow_44 : decode cX3_follow 44 = .ok (.istore_n 1, 1) := dk_60 (dk_at dksX3_follow_1 20 rfl rfl)
theorem dX3_follow_45 : decode cX3_follow 45 = .ok (.iload_n 1, 1) := dk_27 (dk_at dksX3_follow_1 21 rfl rfl)
theorem dX3_follow_46 : decode cX3_follow 46 = .ok (.ifCond .eq 194, 3) := dk_153 0 194 (dk_at dksX3_follow_2 0 rfl rfl)
theorem dX3_follow_49 : decode cX3_follow 49 = .ok (.aload_n 0, 1) := dk_42 (dk_at dksX3_follow_2 3 rfl rfl)
theorem dX3_follow_50 : decode cX3_follow 50 = .ok (.getfield 376, 3) := dk_180 1 120 (dk_at dksX3_follow_2 4 rfl rfl)
theorem dX3_follow_53 : decode cX3_follow 53 = .ok (.aload_n 0, 1) := dk_42 (dk_at dksX3_follow_2 7 rfl rfl)
theorem dX3_follow_54 : decode cX3_follow 54 = .ok (.getfield 7, 3) := dk_180 0 7 (dk_at dksX3_follow_2 8 rfl rfl)
theorem dX3_follow_57 : decode cX3_follow 57 = .ok (.iconst 5, 1) := dk_8 (dk_at dksX3_follow_2 11 rfl rfl)
theorem dX3_follow_58 : decode cX3_follow 58 = .ok (.iaload, 1) := dk_46 (dk_at dksX3_follow_2 12 rfl rfl)
theorem dX3_follow_59 : decode cX3_follow 59 = .ok (.if_icmp .ge 181, 3) := dk_162 0 181 (dk_at dksX3_follow_2 13 rfl rfl)
theorem dX3_follow_62 : decode cX3_follow 62 = .ok (.aload_n 0, 1) := dk_42 (dk_at dksX3_follow_2 16 rfl rfl)
theorem dX3_follow_63 : decode cX3_follow 63 = .ok (.getfield 376, 3) := dk_180 1 120 (dk_at dksX3_follow_2 17 rfl rfl)
theorem dX3_follow_66 : decode cX3_follow 66 = .ok (.istore_n 2, 1) := dk_61 (dk_at dksX3_follow_2 20 rfl rfl)
theorem dX3_follow_67 : decode cX3_follow 67 = .ok (.aload_n 0, 1) := dk_42 (dk_at dksX3_follow_2 21 rfl rfl)
theorem dX3_follow_68 : decode cX3_follow 68 = .ok (.getfield 7, 3) := dk_180 0 7 (dk_at dksX3_follow_3 0 rfl rfl)
theorem dX3_follow_71 : decode cX3_follow 71 = .ok (.sipush 195, 3) := dk_17 0 195 (dk_at dksX3_follow_3 3 rfl rfl)
theorem dX3_follow_74 : decode cX3_follow 74 = .ok (.iload_n 2, 1) := dk_28 (dk_at dksX3_follow_3 6 rfl rfl)
theorem dX3_follow_75 : decode cX3_follow 75 = .ok (.iadd, 1) := dk_96 (dk_at dksX3_follow_3 7 rfl rfl)
theorem dX3_follow_76 : decode cX3_follow 76 = .ok (.iaload, 1) := dk_46 (dk_at dksX3_follow_3 8 rfl rfl)
theorem dX3_follow_77 : decode cX3_follow 77 = .ok (.istore_n 3, 1) := dk_62 (dk_at dksX3_follow_3 9 rfl rfl)
theorem dX3_follow_78 : decode cX3_follow 78 = .ok (.aload_n 0, 1) := dk_42 (dk_at dksX3_follow_3 10 rfl rfl)
theorem dX3_follow_79 : decode cX3_follow 79 = .ok (.iload_n 2, 1) := dk_28 (dk_at dksX3_follow_3 11 rfl rfl)
theorem dX3_follow_80 : decode cX3_follow 80 = .ok (.aload_n 0, 1) := dk_42 (dk_at dksX3_follow_3 12 rfl rfl)
theorem dX3_follow_81 : decode cX3_follow 81 = .ok (.getfield 56, 3) := dk_180 0 56 (dk_at dksX3_follow_3 13 rfl rfl)
theorem dX3_follow_84 : decode cX3_follow 84 = .ok (.iload_n 2, 1) := dk_28 (dk_at dksX3_follow_3 16 rfl rfl)
theorem dX3_follow_85 : decode cX3_follow 85 = .ok (.iaload, 1) := dk_46 (dk_at dksX3_follow_3 17 rfl rfl)
theorem dX3_follow_86 : decode cX3_follow 86 = .ok (.aload_n 0, 1) := dk_42 (dk_at dksX3_follow_3 18 rfl rfl)
theorem dX3_follow_87 : decode cX3_follow 87 = .ok (.getfield 59, 3) := dk_180 0 59 (dk_at dksX3_follow_3 19 rfl rfl)
theorem dX3_follow_90 : decode cX3_follow 90 = .ok (.iload_n 2, 1) := dk_28 (dk_at dksX3_follow_3 22 rfl rfl)
theorem dX3_follow_91 : decode cX3_follow 91 = .ok (.iaload, 1) := dk_46 (dk_at dksX3_follow_3 23 rfl rfl)
theorem dX3_follow_92 : decode cX3_follow 92 = .ok (.aload_n 0, 1) := dk_42 (dk_at dksX3_follow_4 0 rfl rfl)
theorem dX3_follow_93 : decode cX3_follow 93 = .ok (.getfield 62, 3) := dk_180 0 62 (dk_at dksX3_follow_4 1 rfl rfl)
theorem dX3_follow_96 : decode cX3_follow 96 = .ok (.iload_n 2, 1) := dk_28 (dk_at dksX3_follow_4 4 rfl rfl)
theorem dX3_follow_97 : decode cX3_follow 97 = .ok (.iaload, 1) := dk_46 (dk_at dksX3_follow_4 5 rfl rfl)
theorem dX3_follow_98 : decode cX3_follow 98 = .ok (.iload_n 3, 1) := dk_29 (dk_at dksX3_follow_4 6 rfl rfl)
theorem dX3_follow_99 : decode cX3_follow 99 = .ok (.invokevirtual 345, 3) := dk_182 1 89 (dk_at dksX3_follow_4 7 rfl rfl)
theorem dX3_follow_102 : decode cX3_follow 102 = .ok (.istore 4, 2) := dk_54 4 (dk_at dksX3_follow_4 10 rfl rfl)
theorem dX3_follow_104 : decode cX3_follow 104 = .ok (.iload 4, 2) := dk_21 4 (dk_at dksX3_follow_4 12 rfl rfl)
theorem dX3_follow_106 : decode cX3_follow 106 = .ok (.ifCond .ge 7, 3) := dk_156 0 7 (dk_at dksX3_follow_4 14 rfl rfl)
theorem dX3_follow_109 : decode cX3_follow 109 = .ok (.iconst (-1), 1) := dk_2 (dk_at dksX3_follow_4 17 rfl rfl)
theorem dX3_follow_110 : decode cX3_follow 110 = .ok (.goto 15, 3) := dk_167 0 15 (dk_at dksX3_follow_4 18 rfl rfl)
theorem dX3_follow_113 : decode cX3_follow 113 = .ok (.aload_n 0, 1) := dk_42 (dk_at dksX3_follow_4 21 rfl rfl)
theorem dX3_follow_114 : decode cX3_follow 114 = .ok (.iload_n 2, 1) := dk_28 (dk_at dksX3_follow_4 22 rfl rfl)
theorem dX3_follow_115 : decode cX3_follow 115 = .ok (.aload_n 0, 1) := dk_42 (dk_at dksX3_follow_4 23 rfl rfl)
theorem dX3_follow_116 : decode cX3_follow 116 = .ok (.getfield 56, 3) := dk_180 0 56 (dk_at dksX3_follow_5 0 rfl rfl)
theorem dX3_follow_119 : decode cX3_follow 119 = .ok (.iload_n 2, 1) := dk_28 (dk_at dksX3_follow_5 3 rfl rfl)
theorem dX3_follow_120 : decode cX3_follow 120 = .ok (.iaload, 1) := dk_46 (dk_at dksX3_follow_5 4 rfl rfl)
theorem dX3_follow_121 : decode cX3_follow 121 = .ok (.iload_n 3, 1) := dk_29 (dk_at dksX3_follow_5 5 rfl rfl)
theorem dX3_follow_122 : decode cX3_follow 122 = .ok (.invokevirtual 349, 3) := dk_182 1 93 (dk_at dksX3_follow_5 6 rfl rfl)
theorem dX3_follow_125 : decode cX3_follow 125 = .ok (.istore 5, 2) := dk_54 5 (dk_at dksX3_follow_5 9 rfl rfl)
theorem dX3_follow_127 : decode cX3_follow 127 = .ok (.iload 5, 2) := dk_21 5 (dk_at dksX3_follow_5 11 rfl rfl)
theorem dX3_follow_129 : decode cX3_follow 129 = .ok (.ifCond .lt 41, 3) := dk_155 0 41 (dk_at dksX3_follow_5 13 rfl rfl)
theorem dX3_follow_132 : decode cX3_follow 132 = .ok (.iload_n 3, 1) := dk_29 (dk_at dksX3_follow_5 16 rfl rfl)
theorem dX3_follow_133 : decode cX3_follow 133 = .ok (.iconst 4, 1) := dk_7 (dk_at dksX3_follow_5 17 rfl rfl)
theorem dX3_follow_134 : decode cX3_follow 134 = .ok (.if_icmp .ge 17, 3) := dk_162 0 17 (dk_at dksX3_follow_5 18 rfl rfl)
theorem dX3_follow_137 : decode cX3_follow 137 = .ok (.aload_n 0, 1) := dk_42 (dk_at dksX3_follow_5 21 rfl rfl)
theorem dX3_follow_138 : decode cX3_follow 138 = .ok (.getfield 7, 3) := dk_180 0 7 (dk_at dksX3_follow_6 0 rfl rfl)
theorem dX3_follow_141 : decode cX3_follow 141 = .ok (.bipush 70, 2) := dk_16 70 (dk_at dksX3_follow_6 3 rfl rfl)
theorem dX3_follow_143 : decode cX3_follow 143 = .ok (.iload 5, 2) := dk_21 5 (dk_at dksX3_follow_6 5 rfl rfl)
theorem dX3_follow_145 : decode cX3_follow 145 = .ok (.iadd, 1) := dk_96 (dk_at dksX3_follow_6 7 rfl rfl)
theorem dX3_follow_146 : decode cX3_follow 146 = .ok (.iaload, 1) := dk_46 (dk_at dksX3_follow_6 8 rfl rfl)
theorem dX3_follow_147 : decode cX3_follow 147 = .ok (.iconst 1, 1) := dk_4 (dk_at dksX3_follow_6 9 rfl rfl)
theorem dX3_follow_148 : decode cX3_follow 148 = .ok (.if_icmp .eq 22, 3) := dk_159 0 22 (dk_at dksX3_follow_6 10 rfl rfl)
theorem dX3_follow_151 : decode cX3_follow 151 = .ok (.aload_n 0, 1) := dk_42 (dk_at dksX3_follow_6 13 rfl rfl)
theorem dX3_follow_152 : decode cX3_follow 152 = .ok (.getfield 49, 3) := dk_180 0 49 (dk_at dksX3_follow_6 14 rfl rfl)
theorem dX3_follow_155 : decode cX3_follow 155 = .ok (.bipush 36, 2) := dk_16 36 (dk_at dksX3_follow_6 17 rfl rfl)
theorem dX3_follow_157 : decode cX3_follow 157 = .ok (.iload_n 2, 1) := dk_28 (dk_at dksX3_follow_6 19 rfl rfl)
theorem dX3_follow_158 : decode cX3_follow 158 = .ok (.imul, 1) := dk_104 (dk_at dksX3_follow_6 20 rfl rfl)
theorem dX3_follow_159 : decode cX3_follow 159 = .ok (.iload 5, 2) := dk_21 5 (dk_at dksX3_follow_6 21 rfl rfl)
theorem dX3_follow_161 : decode cX3_follow 161 = .ok (.iadd, 1) := dk_96 (dk_at dksX3_follow_6 23 rfl rfl)
theorem dX3_follow_162 : decode cX3_follow 162 = .ok (.baload, 1) := dk_51 (dk_at dksX3_follow_7 0 rfl rfl)
theorem dX3_follow_163 : decode cX3_follow 163 = .ok (.ifCond .ne 7, 3) := dk_154 0 7 (dk_at dksX3_follow_7 1 rfl rfl)
theorem dX3_follow_166 : decode cX3_follow 166 = .ok (.iconst 1, 1) := dk_4 (dk_at dksX3_follow_7 4 rfl rfl)
theorem dX3_follow_167 : decode cX3_follow 167 = .ok (.goto 4, 3) := dk_167 0 4 (dk_at dksX3_follow_7 5 rfl rfl)
theorem dX3_follow_170 : decode cX3_follow 170 = .ok (.iconst 0, 1) := dk_3 (dk_at dksX3_follow_7 8 rfl rfl)
theorem dX3_follow_171 : decode cX3_follow 171 = .ok (.istore_n 1, 1) := dk_60 (dk_at dksX3_follow_7 9 rfl rfl)
theorem dX3_follow_172 : decode cX3_follow 172 = .ok (.iload_n 1, 1) := dk_27 (dk_at dksX3_follow_7 10 rfl rfl)
theorem dX3_follow_173 : decode cX3_follow 173 = .ok (.ifCond .ne 6, 3) := dk_154 0 6 (dk_at dksX3_follow_7 11 rfl rfl)
theorem dX3_follow_176 : decode cX3_follow 176 = .ok (.goto (-131), 3) := dk_167 255 125 (dk_at dksX3_follow_7 14 rfl rfl)
theorem dX3_follow_179 : decode cX3_follow 179 = .ok (.aload_n 0, 1) := dk_42 (dk_at dksX3_follow_7 17 rfl rfl)
theorem dX3_follow_180 : decode cX3_follow 180 = .ok (.dup, 1) := dk_89 (dk_at dksX3_follow_7 18 rfl rfl)
theorem dX3_follow_181 : decode cX3_follow 181 = .ok (.getfield 376, 3) := dk_180 1 120 (dk_at dksX3_follow_7 19 rfl rfl)
theorem dX3_follow_184 : decode cX3_follow 184 = .ok (.iconst 1, 1) := dk_4 (dk_at dksX3_follow_7 22 rfl rfl)
theorem dX3_follow_185 : decode cX3_follow 185 = .ok (.iadd, 1) := dk_96 (dk_at dksX3_follow_7 23 rfl rfl)
theorem dX3_follow_186 : decode cX3_follow 186 = .ok (.putfield 376, 3) := dk_181 1 120 (dk_at dksX3_follow_8 0 rfl rfl)
theorem dX3_follow_189 : decode cX3_follow 189 = .ok (.aload_n 0, 1) := dk_42 (dk_at dksX3_follow_8 3 rfl rfl)
theorem dX3_follow_190 : decode cX3_follow 190 = .ok (.getfield 56, 3) := dk_180 0 56 (dk_at dksX3_follow_8 4 rfl rfl)
theorem dX3_follow_193 : decode cX3_follow 193 = .ok (.aload_n 0, 1) := dk_42 (dk_at dksX3_follow_8 7 rfl rfl)
theorem dX3_follow_194 : decode cX3_follow 194 = .ok (.getfield 376, 3) := dk_180 1 120 (dk_at dksX3_follow_8 8 rfl rfl)
theorem dX3_follow_197 : decode cX3_follow 197 = .ok (.iload 5, 2) := dk_21 5 (dk_at dksX3_follow_8 11 rfl rfl)
theorem dX3_follow_199 : decode cX3_follow 199 = .ok (.iastore, 1) := dk_79 (dk_at dksX3_follow_8 13 rfl rfl)
theorem dX3_follow_200 : decode cX3_follow 200 = .ok (.aload_n 0, 1) := dk_42 (dk_at dksX3_follow_8 14 rfl rfl)
theorem dX3_follow_201 : decode cX3_follow 201 = .ok (.getfield 59, 3) := dk_180 0 59 (dk_at dksX3_follow_8 15 rfl rfl)
theorem dX3_follow_204 : decode cX3_follow 204 = .ok (.aload_n 0, 1) := dk_42 (dk_at dksX3_follow_8 18 rfl rfl)
theorem dX3_follow_205 : decode cX3_follow 205 = .ok (.getfield 376, 3) := dk_180 1 120 (dk_at dksX3_follow_8 19 rfl rfl)
theorem dX3_follow_208 : decode cX3_follow 208 = .ok (.aload_n 0, 1) := dk_42 (dk_at dksX3_follow_8 22 rfl rfl)
theorem dX3_follow_209 : decode cX3_follow 209 = .ok (.getfield 59, 3) := dk_180 0 59 (dk_at dksX3_follow_9 0 rfl rfl)
theorem dX3_follow_212 : decode cX3_follow 212 = .ok (.iload_n 2, 1) := dk_28 (dk_at dksX3_follow_9 3 rfl rfl)
theorem dX3_follow_213 : decode cX3_follow 213 = .ok (.iaload, 1) := dk_46 (dk_at dksX3_follow_9 4 rfl rfl)
theorem dX3_follow_214 : decode cX3_follow 214 = .ok (.iload 4, 2) := dk_21 4 (dk_at dksX3_follow_9 5 rfl rfl)
theorem dX3_follow_216 : decode cX3_follow 216 = .ok (.isub, 1) := dk_100 (dk_at dksX3_follow_9 7 rfl rfl)
theorem dX3_follow_217 : decode cX3_follow 217 = .ok (.iastore, 1) := dk_79 (dk_at dksX3_follow_9 8 rfl rfl)
theorem dX3_follow_218 : decode cX3_follow 218 = .ok (.aload_n 0, 1) := dk_42 (dk_at dksX3_follow_9 9 rfl rfl)
theorem dX3_follow_219 : decode cX3_follow 219 = .ok (.getfield 62, 3) := dk_180 0 62 (dk_at dksX3_follow_9 10 rfl rfl)
theorem dX3_follow_222 : decode cX3_follow 222 = .ok (.aload_n 0, 1) := dk_42 (dk_at dksX3_follow_9 13 rfl rfl)
theorem dX3_follow_223 : decode cX3_follow 223 = .ok (.getfield 376, 3) := dk_180 1 120 (dk_at dksX3_follow_9 14 rfl rfl)
theorem dX3_follow_226 : decode cX3_follow 226 = .ok (.iload_n 3, 1) := dk_29 (dk_at dksX3_follow_9 17 rfl rfl)
theorem dX3_follow_227 : decode cX3_follow 227 = .ok (.aload_n 0, 1) := dk_42 (dk_at dksX3_follow_9 18 rfl rfl)
theorem dX3_follow_228 : decode cX3_follow 228 = .ok (.getfield 62, 3) := dk_180 0 62 (dk_at dksX3_follow_9 19 rfl rfl)
theorem dX3_follow_231 : decode cX3_follow 231 = .ok (.iload_n 2, 1) := dk_28 (dk_at dksX3_follow_9 22 rfl rfl)
theorem dX3_follow_232 : decode cX3_follow 232 = .ok (.iaload, 1) := dk_46 (dk_at dksX3_follow_9 23 rfl rfl)
theorem dX3_follow_233 : decode cX3_follow 233 = .ok (.invokestatic 322, 3) := dk_184 1 66 (dk_at dksX3_follow_10 0 rfl rfl)
theorem dX3_follow_236 : decode cX3_follow 236 = .ok (.iastore, 1) := dk_79 (dk_at dksX3_follow_10 3 rfl rfl)
theorem dX3_follow_237 : decode cX3_follow 237 = .ok (.goto (-192), 3) := dk_167 255 64 (dk_at dksX3_follow_10 4 rfl rfl)
theorem dX3_follow_240 : decode cX3_follow 240 = .ok (.return_, 1) := dk_177 (dk_at dksX3_follow_10 7 rfl rfl)
abbrev cX3_home : ByteArray := prog_17_method_97_code
def yX3_home : MethodName := ⟨RX3, "home", "(I)Z"⟩
def dkwX3_home_0 : List UInt8 := [42, 27, 182, 0, 98, 154, 0, 5, 3, 172, 42, 180, 0, 7, 16, 6, 27, 79, 4, 172]
abbrev dktX3_home_0 : List UInt8 := dkwX3_home_0 ++ []
theorem dksX3_home_0 : cX3_home.data.toList.drop 0 = dktX3_home_0 := by decide +kernel
theorem dX3_home_0 : decode cX3_home 0 = .ok (.aload_n 0, 1) := dk_42 (dk_at dksX3_home_0 0 rfl rfl)
theorem dX3_home_1 : decode cX3_home 1 = .ok (.iload_n 1, 1) := dk_27 (dk_at dksX3_home_0 1 rfl rfl)
theorem dX3_home_2 : decode cX3_home 2 = .ok (.invokevirtual 98, 3) := dk_182 0 98 (dk_at dksX3_home_0 2 rfl rfl)
theorem dX3_home_5 : decode cX3_home 5 = .ok (.ifCond .ne 5, 3) := dk_154 0 5 (dk_at dksX3_home_0 5 rfl rfl)
theorem dX3_home_8 : decode cX3_home 8 = .ok (.iconst 0, 1) := dk_3 (dk_at dksX3_home_0 8 rfl rfl)
theorem dX3_home_9 : decode cX3_home 9 = .ok (.ireturn, 1) := dk_172 (dk_at dksX3_home_0 9 rfl rfl)
theorem dX3_home_10 : decode cX3_home 10 = .ok (.aload_n 0, 1) := dk_42 (dk_at dksX3_home_0 10 rfl rfl)
theorem dX3_home_11 : decode cX3_home 11 = .ok (.getfield 7, 3) := dk_180 0 7 (dk_at dksX3_home_0 11 rfl rfl)
theorem dX3_home_14 : decode cX3_home 14 = .ok (.bipush 6, 2) := dk_16 6 (dk_at dksX3_home_0 14 rfl rfl)
theorem dX3_home_16 : decode cX3_home 16 = .ok (.iload_n 1, 1) := dk_27 (dk_at dksX3_home_0 16 rfl rfl)
theorem dX3_home_17 : decode cX3_home 17 = .ok (.iastore, 1) := dk_79 (dk_at dksX3_home_0 17 rfl rfl)
theorem dX3_home_18 : decode cX3_home 18 = .ok (.iconst 1, 1) := dk_4 (dk_at dksX3_home_0 18 rfl rfl)
theorem dX3_home_19 : decode cX3_home 19 = .ok (.ireturn, 1) := dk_172 (dk_at dksX3_home_0 19 rfl rfl)
abbrev cX3_last : ByteArray := prog_17_method_99_code
def yX3_last : MethodName := ⟨RX3, "last", "()I"⟩
def dkwX3_last_6 : List UInt8 := [132, 1, 255, 167, 255, 217, 2, 172]
abbrev dktX3_last_6 : List UInt8 := dkwX3_last_6 ++ []
def dkwX3_last_5 : List UInt8 := [27, 46, 42, 180, 0, 59, 27, 46, 42, 180, 0, 62, 27, 46, 184, 1, 96, 51, 153, 0, 5, 27, 172]
abbrev dktX3_last_5 : List UInt8 := dkwX3_last_5 ++ dktX3_last_6
def dkwX3_last_4 : List UInt8 := [132, 1, 255, 167, 255, 182, 42, 180, 1, 120, 60, 27, 155, 0, 41, 42, 180, 0, 65, 27, 42, 180, 0, 56]
abbrev dktX3_last_4 : List UInt8 := dkwX3_last_4 ++ dktX3_last_5
def dkwX3_last_3 : List UInt8 := [182, 1, 126, 84, 132, 4, 1, 167, 255, 225, 132, 3, 1, 167, 255, 210, 132, 2, 1, 167, 255, 194]
abbrev dktX3_last_3 : List UInt8 := dkwX3_last_3 ++ dktX3_last_4
def dkwX3_last_2 : List UInt8 := [21, 4, 5, 162, 0, 31, 42, 180, 0, 65, 27, 28, 29, 21, 4, 184, 1, 96, 42, 27, 28, 29, 21, 4]
abbrev dktX3_last_2 : List UInt8 := dkwX3_last_2 ++ dktX3_last_3
def dkwX3_last_1 : List UInt8 := [155, 0, 76, 3, 61, 28, 42, 180, 0, 83, 162, 0, 60, 3, 62, 29, 16, 100, 162, 0, 46, 3, 54, 4]
abbrev dktX3_last_1 : List UInt8 := dkwX3_last_1 ++ dktX3_last_2
def dkwX3_last_0 : List UInt8 := [42, 3, 182, 1, 57, 154, 0, 5, 2, 172, 42, 182, 1, 123, 42, 180, 0, 7, 7, 46, 60, 27]
abbrev dktX3_last_0 : List UInt8 := dkwX3_last_0 ++ dktX3_last_1
theorem dksX3_last_0 : cX3_last.data.toList.drop 0 = dktX3_last_0 := by decide +kernel
theorem dksX3_last_1 : cX3_last.data.toList.drop 22 = dktX3_last_1 := dk_seg dksX3_last_0 22 rfl rfl
theorem dksX3_last_2 : cX3_last.data.toList.drop 46 = dktX3_last_2 := dk_seg dksX3_last_1 24 rfl rfl
theorem dksX3_last_3 : cX3_last.data.toList.drop 70 = dktX3_last_3 := dk_seg dksX3_last_2 24 rfl rfl
theorem dksX3_last_4 : cX3_last.data.toList.drop 92 = dktX3_last_4 := dk_seg dksX3_last_3 22 rfl rfl
theorem dksX3_last_5 : cX3_last.data.toList.drop 116 = dktX3_last_5 := dk_seg dksX3_last_4 24 rfl rfl
theorem dksX3_last_6 : cX3_last.data.toList.drop 139 = dktX3_last_6 := dk_seg dksX3_last_5 23 rfl rfl
theorem dX3_last_0 : decode cX3_last 0 = .ok (.aload_n 0, 1) := dk_42 (dk_at dksX3_last_0 0 rfl rfl)
theorem dX3_last_1 : decode cX3_last 1 = .ok (.iconst 0, 1) := dk_3 (dk_at dksX3_last_0 1 rfl rfl)
theorem dX3_last_2 : decode cX3_last 2 = .ok (.invokevirtual 313, 3) := dk_182 1 57 (dk_at dksX3_last_0 2 rfl rfl)
theorem dX3_last_5 : decode cX3_last 5 = .ok (.ifCond .ne 5, 3) := dk_154 0 5 (dk_at dksX3_last_0 5 rfl rfl)
theorem dX3_last_8 : decode cX3_last 8 = .ok (.iconst (-1), 1) := dk_2 (dk_at dksX3_last_0 8 rfl rfl)
theorem dX3_last_9 : decode cX3_last 9 = .ok (.ireturn, 1) := dk_172 (dk_at dksX3_last_0 9 rfl rfl)
theorem dX3_last_10 : decode cX3_last 10 = .ok (.aload_n 0, 1) := dk_42 (dk_at dksX3_last_0 10 rfl rfl)
theorem dX3_last_11 : decode cX3_last 11 = .ok (.invokevirtual 379, 3) := dk_182 1 123 (dk_at dksX3_last_0 11 rfl rfl)
theorem dX3_last_14 : decode cX3_last 14 = .ok (.aload_n 0, 1) := dk_42 (dk_at dksX3_last_0 14 rfl rfl)
theorem dX3_last_15 : decode cX3_last 15 = .ok (.getfield 7, 3) := dk_180 0 7 (dk_at dksX3_last_0 15 rfl rfl)
theorem dX3_last_18 : decode cX3_last 18 = .ok (.iconst 4, 1) := dk_7 (dk_at dksX3_last_0 18 rfl rfl)
theorem dX3_last_19 : decode cX3_last 19 = .ok (.iaload, 1) := dk_46 (dk_at dksX3_last_0 19 rfl rfl)
theorem dX3_last_20 : decode cX3_last 20 = .ok (.istore_n 1, 1) := dk_60 (dk_at dksX3_last_0 20 rfl rfl)
theorem dX3_last_21 : decode cX3_last 21 = .ok (.iload_n 1, 1) := dk_27 (dk_at dksX3_last_0 21 rfl rfl)
theorem dX3_last_22 : decode cX3_last 22 = .ok (.ifCond .lt 76, 3) := dk_155 0 76 (dk_at dksX3_last_1 0 rfl rfl)
theorem dX3_last_25 : decode cX3_last 25 = .ok (.iconst 0, 1) := dk_3 (dk_at dksX3_last_1 3 rfl rfl)
theorem dX3_last_26 : decode cX3_last 26 = .ok (.istore_n 2, 1) := dk_61 (dk_at dksX3_last_1 4 rfl rfl)
theorem dX3_last_27 : decode cX3_last 27 = .ok (.iload_n 2, 1) := dk_28 (dk_at dksX3_last_1 5 rfl rfl)
theorem dX3_last_28 : decode cX3_last 28 = .ok (.aload_n 0, 1) := dk_42 (dk_at dksX3_last_1 6 rfl rfl)
theorem dX3_last_29 : decode cX3_last 29 = .ok (.getfield 83, 3) := dk_180 0 83 (dk_at dksX3_last_1 7 rfl rfl)
theorem dX3_last_32 : decode cX3_last 32 = .ok (.if_icmp .ge 60, 3) := dk_162 0 60 (dk_at dksX3_last_1 10 rfl rfl)
theorem dX3_last_35 : decode cX3_last 35 = .ok (.iconst 0, 1) := dk_3 (dk_at dksX3_last_1 13 rfl rfl)
theorem dX3_last_36 : decode cX3_last 36 = .ok (.istore_n 3, 1) := dk_62 (dk_at dksX3_last_1 14 rfl rfl)
theorem dX3_last_37 : decode cX3_last 37 = .ok (.iload_n 3, 1) := dk_29 (dk_at dksX3_last_1 15 rfl rfl)
theorem dX3_last_38 : decode cX3_last 38 = .ok (.bipush 100, 2) := dk_16 100 (dk_at dksX3_last_1 16 rfl rfl)
theorem dX3_last_40 : decode cX3_last 40 = .ok (.if_icmp .ge 46, 3) := dk_162 0 46 (dk_at dksX3_last_1 18 rfl rfl)
theorem dX3_last_43 : decode cX3_last 43 = .ok (.iconst 0, 1) := dk_3 (dk_at dksX3_last_1 21 rfl rfl)
theorem dX3_last_44 : decode cX3_last 44 = .ok (.istore 4, 2) := dk_54 4 (dk_at dksX3_last_1 22 rfl rfl)
theorem dX3_last_46 : decode cX3_last 46 = .ok (.iload 4, 2) := dk_21 4 (dk_at dksX3_last_2 0 rfl rfl)
theorem dX3_last_48 : decode cX3_last 48 = .ok (.iconst 2, 1) := dk_5 (dk_at dksX3_last_2 2 rfl rfl)
theorem dX3_last_49 : decode cX3_last 49 = .ok (.if_icmp .ge 31, 3) := dk_162 0 31 (dk_at dksX3_last_2 3 rfl rfl)
theorem dX3_last_52 : decode cX3_last 52 = .ok (.aload_n 0, 1) := dk_42 (dk_at dksX3_last_2 6 rfl rfl)
theorem dX3_last_53 : decode cX3_last 53 = .ok (.getfield 65, 3) := dk_180 0 65 (dk_at dksX3_last_2 7 rfl rfl)
theorem dX3_last_56 : decode cX3_last 56 = .ok (.iload_n 1, 1) := dk_27 (dk_at dksX3_last_2 10 rfl rfl)
theorem dX3_last_57 : decode cX3_last 57 = .ok (.iload_n 2, 1) := dk_28 (dk_at dksX3_last_2 11 rfl rfl)
theorem dX3_last_58 : decode cX3_last 58 = .ok (.iload_n 3, 1) := dk_29 (dk_at dksX3_last_2 12 rfl rfl)
theorem dX3_last_59 : decode cX3_last 59 = .ok (.iload 4, 2) := dk_21 4 (dk_at dksX3_last_2 13 rfl rfl)
theorem dX3_last_61 : decode cX3_last 61 = .ok (.invokestatic 352, 3) := dk_184 1 96 (dk_at dksX3_last_2 15 rfl rfl)
theorem dX3_last_64 : decode cX3_last 64 = .ok (.aload_n 0, 1) := dk_42 (dk_at dksX3_last_2 18 rfl rfl)
theorem dX3_last_65 : decode cX3_last 65 = .ok (.iload_n 1, 1) := dk_27 (dk_at dksX3_last_2 19 rfl rfl)
theorem dX3_last_66 : decode cX3_last 66 = .ok (.iload_n 2, 1) := dk_28 (dk_at dksX3_last_2 20 rfl rfl)
theorem dX3_last_67 : decode cX3_last 67 = .ok (.iload_n 3, 1) := dk_29 (dk_at dksX3_last_2 21 rfl rfl)
theorem dX3_last_68 : decode cX3_last 68 = .ok (.iload 4, 2) := dk_21 4 (dk_at dksX3_last_2 22 rfl rfl)
theorem dX3_last_70 : decode cX3_last 70 = .ok (.invokevirtual 382, 3) := dk_182 1 126 (dk_at dksX3_last_3 0 rfl rfl)
theorem dX3_last_73 : decode cX3_last 73 = .ok (.bastore, 1) := dk_84 (dk_at dksX3_last_3 3 rfl rfl)
theorem dX3_last_74 : decode cX3_last 74 = .ok (.iinc 4 1, 3) := dk_132 4 1 (dk_at dksX3_last_3 4 rfl rfl)
theorem dX3_last_77 : decode cX3_last 77 = .ok (.goto (-31), 3) := dk_167 255 225 (dk_at dksX3_last_3 7 rfl rfl)
theorem dX3_last_80 : decode cX3_last 80 = .ok (.iinc 3 1, 3) := dk_132 3 1 (dk_at dksX3_last_3 10 rfl rfl)
theorem dX3_last_83 : decode cX3_last 83 = .ok (.goto (-46), 3) := dk_167 255 210 (dk_at dksX3_last_3 13 rfl rfl)
theorem dX3_last_86 : decode cX3_last 86 = .ok (.iinc 2 1, 3) := dk_132 2 1 (dk_at dksX3_last_3 16 rfl rfl)
theorem dX3_last_89 : decode cX3_last 89 = .ok (.goto (-62), 3) := dk_167 255 194 (dk_at dksX3_last_3 19 rfl rfl)
theorem dX3_last_92 : decode cX3_last 92 = .ok (.iinc 1 (-1), 3) := dk_132 1 255 (dk_at dksX3_last_4 0 rfl rfl)
theorem dX3_last_95 : decode cX3_last 95 = .ok (.goto (-74), 3) := dk_167 255 182 (dk_at dksX3_last_4 3 rfl rfl)
theorem dX3_last_98 : decode cX3_last 98 = .ok (.aload_n 0, 1) := dk_42 (dk_at dksX3_last_4 6 rfl rfl)
theorem dX3_last_99 : decode cX3_last 99 = .ok (.getfield 376, 3) := dk_180 1 120 (dk_at dksX3_last_4 7 rfl rfl)
theorem dX3_last_102 : decode cX3_last 102 = .ok (.istore_n 1, 1) := dk_60 (dk_at dksX3_last_4 10 rfl rfl)
theorem dX3_last_103 : decode cX3_last 103 = .ok (.iload_n 1, 1) := dk_27 (dk_at dksX3_last_4 11 rfl rfl)
theorem dX3_last_104 : decode cX3_last 104 = .ok (.ifCond .lt 41, 3) := dk_155 0 41 (dk_at dksX3_last_4 12 rfl rfl)
theorem dX3_last_107 : decode cX3_last 107 = .ok (.aload_n 0, 1) := dk_42 (dk_at dksX3_last_4 15 rfl rfl)
theorem dX3_last_108 : decode cX3_last 108 = .ok (.getfield 65, 3) := dk_180 0 65 (dk_at dksX3_last_4 16 rfl rfl)
theorem dX3_last_111 : decode cX3_last 111 = .ok (.iload_n 1, 1) := dk_27 (dk_at dksX3_last_4 19 rfl rfl)
theorem dX3_last_112 : decode cX3_last 112 = .ok (.aload_n 0, 1) := dk_42 (dk_at dksX3_last_4 20 rfl rfl)
theorem dX3_last_113 : decode cX3_last 113 = .ok (.getfield 56, 3) := dk_180 0 56 (dk_at dksX3_last_4 21 rfl rfl)
theorem dX3_last_116 : decode cX3_last 116 = .ok (.iload_n 1, 1) := dk_27 (dk_at dksX3_last_5 0 rfl rfl)
theorem dX3_last_117 : decode cX3_last 117 = .ok (.iaload, 1) := dk_46 (dk_at dksX3_last_5 1 rfl rfl)
theorem dX3_last_118 : decode cX3_last 118 = .ok (.aload_n 0, 1) := dk_42 (dk_at dksX3_last_5 2 rfl rfl)
theorem dX3_last_119 : decode cX3_last 119 = .ok (.getfield 59, 3) := dk_180 0 59 (dk_at dksX3_last_5 3 rfl rfl)
theorem dX3_last_122 : decode cX3_last 122 = .ok (.iload_n 1, 1) := dk_27 (dk_at dksX3_last_5 6 rfl rfl)
theorem dX3_last_123 : decode cX3_last 123 = .ok (.iaload, 1) := dk_46 (dk_at dksX3_last_5 7 rfl rfl)
theorem dX3_last_124 : decode cX3_last 124 = .ok (.aload_n 0, 1) := dk_42 (dk_at dksX3_last_5 8 rfl rfl)
theorem dX3_last_125 : decode cX3_last 125 = .ok (.getfield 62, 3) := dk_180 0 62 (dk_at dksX3_last_5 9 rfl rfl)
theorem dX3_last_128 : decode cX3_last 128 = .ok (.iload_n 1, 1) := dk_27 (dk_at dksX3_last_5 12 rfl rfl)
theorem dX3_last_129 : decode cX3_last 129 = .ok (.iaload, 1) := dk_46 (dk_at dksX3_last_5 13 rfl rfl)
theorem dX3_last_130 : decode cX3_last 130 = .ok (.invokestatic 352, 3) := dk_184 1 96 (dk_at dksX3_last_5 14 rfl rfl)
theorem dX3_last_133 : decode cX3_last 133 = .ok (.baload, 1) := dk_51 (dk_at dksX3_last_5 17 rfl rfl)
theorem dX3_last_134 : decode cX3_last 134 = .ok (.ifCond .eq 5, 3) := dk_153 0 5 (dk_at dksX3_last_5 18 rfl rfl)
theorem dX3_last_137 : decode cX3_last 137 = .ok (.iload_n 1, 1) := dk_27 (dk_at dksX3_last_5 21 rfl rfl)
theorem dX3_last_138 : decode cX3_last 138 = .ok (.ireturn, 1) := dk_172 (dk_at dksX3_last_5 22 rfl rfl)
theorem dX3_last_139 : decode cX3_last 139 = .ok (.iinc 1 (-1), 3) := dk_132 1 255 (dk_at dksX3_last_6 0 rfl rfl)
theorem dX3_last_142 : decode cX3_last 142 = .ok (.goto (-39), 3) := dk_167 255 217 (dk_at dksX3_last_6 3 rfl rfl)
theorem dX3_last_145 : decode cX3_last 145 = .ok (.iconst (-1), 1) := dk_2 (dk_at dksX3_last_6 6 rfl rfl)
theorem dX3_last_146 : decode cX3_last 146 = .ok (.ireturn, 1) := dk_172 (dk_at dksX3_last_6 7 rfl rfl)
abbrev cX3_canHome : ByteArray := prog_17_method_98_code
def yX3_canHome : MethodName := ⟨RX3, "canHome", "(IIII)Z"⟩
def dkwX3_canHome_5 : List UInt8 := [184, 1, 66, 184, 1, 96, 51, 153, 0, 5, 4, 172, 132, 5, 1, 167, 255, 138, 3, 172]
abbrev dktX3_canHome_5 : List UInt8 := dkwX3_canHome_5 ++ []
def dkwX3_canHome_4 : List UInt8 := [51, 153, 0, 6, 167, 0, 32, 42, 180, 0, 65, 27, 4, 96, 21, 7, 29, 21, 6, 100, 21, 5, 21, 4]
abbrev dktX3_canHome_4 : List UInt8 := dkwX3_canHome_4 ++ dktX3_canHome_5
def dkwX3_canHome_3 : List UInt8 := [180, 0, 7, 16, 70, 21, 7, 96, 46, 4, 159, 0, 50, 42, 180, 0, 49, 16, 36, 27, 104, 21, 7, 96]
abbrev dktX3_canHome_3 : List UInt8 := dkwX3_canHome_3 ++ dktX3_canHome_4
def dkwX3_canHome_2 : List UInt8 := [156, 0, 6, 167, 0, 80, 42, 27, 28, 21, 5, 182, 1, 93, 54, 7, 21, 5, 7, 162, 0, 17, 42]
abbrev dktX3_canHome_2 : List UInt8 := dkwX3_canHome_2 ++ dktX3_canHome_3
def dkwX3_canHome_1 : List UInt8 := [42, 180, 0, 7, 7, 46, 162, 0, 107, 42, 27, 28, 29, 21, 4, 21, 5, 182, 1, 89, 54, 6, 21, 6]
abbrev dktX3_canHome_1 : List UInt8 := dkwX3_canHome_1 ++ dktX3_canHome_2
def dkwX3_canHome_0 : List UInt8 := [28, 42, 180, 0, 7, 16, 6, 46, 160, 0, 5, 4, 172, 3, 54, 5, 21, 5, 16, 8, 162, 0, 117, 27]
abbrev dktX3_canHome_0 : List UInt8 := dkwX3_canHome_0 ++ dktX3_canHome_1
theorem dksX3_canHome_0 : cX3_canHome.data.toList.drop 0 = dktX3_canHome_0 := by decide +kernel
theorem dksX3_canHome_1 : cX3_canHome.data.toList.drop 24 = dktX3_canHome_1 := dk_seg dksX3_canHome_0 24 rfl rfl
theorem dksX3_canHome_2 : cX3_canHome.data.toList.drop 48 = dktX3_canHome_2 := dk_seg dksX3_canHome_1 24 rfl rfl
theorem dksX3_canHome_3 : cX3_canHome.data.toList.drop 71 = dktX3_canHome_3 := dk_seg dksX3_canHome_2 23 rfl rfl
theorem dksX3_canHome_4 : cX3_canHome.data.toList.drop 95 = dktX3_canHome_4 := dk_seg dksX3_canHome_3 24 rfl rfl
theorem dksX3_canHome_5 : cX3_canHome.data.toList.drop 119 = dktX3_canHome_5 := dk_seg dksX3_canHome_4 24 rfl rfl
theorem dX3_canHome_0 : decode cX3_canHome 0 = .ok (.iload_n 2, 1) := dk_28 (dk_at dksX3_canHome_0 0 rfl rfl)
theorem dX3_canHome_1 : decode cX3_canHome 1 = .ok (.aload_n 0, 1) := dk_42 (dk_at dksX3_canHome_0 1 rfl rfl)
theorem dX3_canHome_2 : decode cX3_canHome 2 = .ok (.getfield 7, 3) := dk_180 0 7 (dk_at dksX3_canHome_0 2 rfl rfl)
theorem dX3_canHome_5 : decode cX3_canHome 5 = .ok (.bipush 6, 2) := dk_16 6 (dk_at dksX3_canHome_0 5 rfl rfl)
theorem dX3_canHome_7 : decode cX3_canHome 7 = .ok (.iaload, 1) := dk_46 (dk_at dksX3_canHome_0 7 rfl rfl)
theorem dX3_canHome_8 : decode cX3_canHome 8 = .ok (.if_icmp .ne 5, 3) := dk_160 0 5 (dk_at dksX3_canHome_0 8 rfl rfl)
theorem dX3_canHome_11 : decode cX3_canHome 11 = .ok (.iconst 1, 1) := dk_4 (dk_at dksX3_canHome_0 11 rfl rfl)
theorem dX3_canHome_12 : decode cX3_canHome 12 = .ok (.ireturn, 1) := dk_172 (dk_at dksX3_canHome_0 12 rfl rfl)
theorem dX3_canHome_13 : decode cX3_canHome 13 = .ok (.iconst 0, 1) := dk_3 (dk_at dksX3_canHome_0 13 rfl rfl)
theorem dX3_canHome_14 : decode cX3_canHome 14 = .ok (.istore 5, 2) := dk_54 5 (dk_at dksX3_canHome_0 14 rfl rfl)
theorem dX3_canHome_16 : decode cX3_canHome 16 = .ok (.iload 5, 2) := dk_21 5 (dk_at dksX3_canHome_0 16 rfl rfl)
theorem dX3_canHome_18 : decode cX3_canHome 18 = .ok (.bipush 8, 2) := dk_16 8 (dk_at dksX3_canHome_0 18 rfl rfl)
theorem dX3_canHome_20 : decode cX3_canHome 20 = .ok (.if_icmp .ge 117, 3) := dk_162 0 117 (dk_at dksX3_canHome_0 20 rfl rfl)
theorem dX3_canHome_23 : decode cX3_canHome 23 = .ok (.iload_n 1, 1) := dk_27 (dk_at dksX3_canHome_0 23 rfl rfl)
theorem dX3_canHome_24 : decode cX3_canHome 24 = .ok (.aload_n 0, 1) := dk_42 (dk_at dksX3_canHome_1 0 rfl rfl)
theorem dX3_canHome_25 : decode cX3_canHome 25 = .ok (.getfield 7, 3) := dk_180 0 7 (dk_at dksX3_canHome_1 1 rfl rfl)
theorem dX3_canHome_28 : decode cX3_canHome 28 = .ok (.iconst 4, 1) := dk_7 (dk_at dksX3_canHome_1 4 rfl rfl)
theorem dX3_canHome_29 : decode cX3_canHome 29 = .ok (.iaload, 1) := dk_46 (dk_at dksX3_canHome_1 5 rfl rfl)
theorem dX3_canHome_30 : decode cX3_canHome 30 = .ok (.if_icmp .ge 107, 3) := dk_162 0 107 (dk_at dksX3_canHome_1 6 rfl rfl)
theorem dX3_canHome_33 : decode cX3_canHome 33 = .ok (.aload_n 0, 1) := dk_42 (dk_at dksX3_canHome_1 9 rfl rfl)
theorem dX3_canHome_34 : decode cX3_canHome 34 = .ok (.iload_n 1, 1) := dk_27 (dk_at dksX3_canHome_1 10 rfl rfl)
theorem dX3_canHome_35 : decode cX3_canHome 35 = .ok (.iload_n 2, 1) := dk_28 (dk_at dksX3_canHome_1 11 rfl rfl)
theorem dX3_canHome_36 : decode cX3_canHome 36 = .ok (.iload_n 3, 1) := dk_29 (dk_at dksX3_canHome_1 12 rfl rfl)
theorem dX3_canHome_37 : decode cX3_canHome 37 = .ok (.iload 4, 2) := dk_21 4 (dk_at dksX3_canHome_1 13 rfl rfl)
theorem dX3_canHome_39 : decode cX3_canHome 39 = .ok (.iload 5, 2) := dk_21 5 (dk_at dksX3_canHome_1 15 rfl rfl)
theorem dX3_canHome_41 : decode cX3_canHome 41 = .ok (.invokevirtual 345, 3) := dk_182 1 89 (dk_at dksX3_canHome_1 17 rfl rfl)
theorem dX3_canHome_44 : decode cX3_canHome 44 = .ok (.istore 6, 2) := dk_54 6 (dk_at dksX3_canHome_1 20 rfl rfl)
theorem dX3_canHome_46 : decode cX3_canHome 46 = .ok (.iload 6, 2) := dk_21 6 (dk_at dksX3_canHome_1 22 rfl rfl)
theorem dX3_canHome_48 : decode cX3_canHome 48 = .ok (.ifCond .ge 6, 3) := dk_156 0 6 (dk_at dksX3_canHome_2 0 rfl rfl)
theorem dX3_canHome_51 : decode cX3_canHome 51 = .ok (.goto 80, 3) := dk_167 0 80 (dk_at dksX3_canHome_2 3 rfl rfl)
theorem dX3_canHome_54 : decode cX3_canHome 54 = .ok (.aload_n 0, 1) := dk_42 (dk_at dksX3_canHome_2 6 rfl rfl)
theorem dX3_canHome_55 : decode cX3_canHome 55 = .ok (.iload_n 1, 1) := dk_27 (dk_at dksX3_canHome_2 7 rfl rfl)
theorem dX3_canHome_56 : decode cX3_canHome 56 = .ok (.iload_n 2, 1) := dk_28 (dk_at dksX3_canHome_2 8 rfl rfl)
theorem dX3_canHome_57 : decode cX3_canHome 57 = .ok (.iload 5, 2) := dk_21 5 (dk_at dksX3_canHome_2 9 rfl rfl)
theorem dX3_canHome_59 : decode cX3_canHome 59 = .ok (.invokevirtual 349, 3) := dk_182 1 93 (dk_at dksX3_canHome_2 11 rfl rfl)
theorem dX3_canHome_62 : decode cX3_canHome 62 = .ok (.istore 7, 2) := dk_54 7 (dk_at dksX3_canHome_2 14 rfl rfl)
theorem dX3_canHome_64 : decode cX3_canHome 64 = .ok (.iload 5, 2) := dk_21 5 (dk_at dksX3_canHome_2 16 rfl rfl)
theorem dX3_canHome_66 : decode cX3_canHome 66 = .ok (.iconst 4, 1) := dk_7 (dk_at dksX3_canHome_2 18 rfl rfl)
theorem dX3_canHome_67 : decode cX3_canHome 67 = .ok (.if_icmp .ge 17, 3) := dk_162 0 17 (dk_at dksX3_canHome_2 19 rfl rfl)
theorem dX3_canHome_70 : decode cX3_canHome 70 = .ok (.aload_n 0, 1) := dk_42 (dk_at dksX3_canHome_2 22 rfl rfl)
theorem dX3_canHome_71 : decode cX3_canHome 71 = .ok (.getfield 7, 3) := dk_180 0 7 (dk_at dksX3_canHome_3 0 rfl rfl)
theorem dX3_canHome_74 : decode cX3_canHome 74 = .ok (.bipush 70, 2) := dk_16 70 (dk_at dksX3_canHome_3 3 rfl rfl)
theorem dX3_canHome_76 : decode cX3_canHome 76 = .ok (.iload 7, 2) := dk_21 7 (dk_at dksX3_canHome_3 5 rfl rfl)
theorem dX3_canHome_78 : decode cX3_canHome 78 = .ok (.iadd, 1) := dk_96 (dk_at dksX3_canHome_3 7 rfl rfl)
theorem dX3_canHome_79 : decode cX3_canHome 79 = .ok (.iaload, 1) := dk_46 (dk_at dksX3_canHome_3 8 rfl rfl)
theorem dX3_canHome_80 : decode cX3_canHome 80 = .ok (.iconst 1, 1) := dk_4 (dk_at dksX3_canHome_3 9 rfl rfl)
theorem dX3_canHome_81 : decode cX3_canHome 81 = .ok (.if_icmp .eq 50, 3) := dk_159 0 50 (dk_at dksX3_canHome_3 10 rfl rfl)
theorem dX3_canHome_84 : decode cX3_canHome 84 = .ok (.aload_n 0, 1) := dk_42 (dk_at dksX3_canHome_3 13 rfl rfl)
theorem dX3_canHome_85 : decode cX3_canHome 85 = .ok (.getfield 49, 3) := dk_180 0 49 (dk_at dksX3_canHome_3 14 rfl rfl)
theorem dX3_canHome_88 : decode cX3_canHome 88 = .ok (.bipush 36, 2) := dk_16 36 (dk_at dksX3_canHome_3 17 rfl rfl)
theorem dX3_canHome_90 : decode cX3_canHome 90 = .ok (.iload_n 1, 1) := dk_27 (dk_at dksX3_canHome_3 19 rfl rfl)
theorem dX3_canHome_91 : decode cX3_canHome 91 = .ok (.imul, 1) := dk_104 (dk_at dksX3_canHome_3 20 rfl rfl)
theorem dX3_canHome_92 : decode cX3_canHome 92 = .ok (.iload 7, 2) := dk_21 7 (dk_at dksX3_canHome_3 21 rfl rfl)
theorem dX3_canHome_94 : decode cX3_canHome 94 = .ok (.iadd, 1) := dk_96 (dk_at dksX3_canHome_3 23 rfl rfl)
theorem dX3_canHome_95 : decode cX3_canHome 95 = .ok (.baload, 1) := dk_51 (dk_at dksX3_canHome_4 0 rfl rfl)
theorem dX3_canHome_96 : decode cX3_canHome 96 = .ok (.ifCond .eq 6, 3) := dk_153 0 6 (dk_at dksX3_canHome_4 1 rfl rfl)
theorem dX3_canHome_99 : decode cX3_canHome 99 = .ok (.goto 32, 3) := dk_167 0 32 (dk_at dksX3_canHome_4 4 rfl rfl)
theorem dX3_canHome_102 : decode cX3_canHome 102 = .ok (.aload_n 0, 1) := dk_42 (dk_at dksX3_canHome_4 7 rfl rfl)
theorem dX3_canHome_103 : decode cX3_canHome 103 = .ok (.getfield 65, 3) := dk_180 0 65 (dk_at dksX3_canHome_4 8 rfl rfl)
theorem dX3_canHome_106 : decode cX3_canHome 106 = .ok (.iload_n 1, 1) := dk_27 (dk_at dksX3_canHome_4 11 rfl rfl)
theorem dX3_canHome_107 : decode cX3_canHome 107 = .ok (.iconst 1, 1) := dk_4 (dk_at dksX3_canHome_4 12 rfl rfl)
theorem dX3_canHome_108 : decode cX3_canHome 108 = .ok (.iadd, 1) := dk_96 (dk_at dksX3_canHome_4 13 rfl rfl)
theorem dX3_canHome_109 : decode cX3_canHome 109 = .ok (.iload 7, 2) := dk_21 7 (dk_at dksX3_canHome_4 14 rfl rfl)
theorem dX3_canHome_111 : decode cX3_canHome 111 = .ok (.iload_n 3, 1) := dk_29 (dk_at dksX3_canHome_4 16 rfl rfl)
theorem dX3_canHome_112 : decode cX3_canHome 112 = .ok (.iload 6, 2) := dk_21 6 (dk_at dksX3_canHome_4 17 rfl rfl)
theorem dX3_canHome_114 : decode cX3_canHome 114 = .ok (.isub, 1) := dk_100 (dk_at dksX3_canHome_4 19 rfl rfl)
theorem dX3_canHome_115 : decode cX3_canHome 115 = .ok (.iload 5, 2) := dk_21 5 (dk_at dksX3_canHome_4 20 rfl rfl)
theorem dX3_canHome_117 : decode cX3_canHome 117 = .ok (.iload 4, 2) := dk_21 4 (dk_at dksX3_canHome_4 22 rfl rfl)
theorem dX3_canHome_119 : decode cX3_canHome 119 = .ok (.invokestatic 322, 3) := dk_184 1 66 (dk_at dksX3_canHome_5 0 rfl rfl)
theorem dX3_canHome_122 : decode cX3_canHome 122 = .ok (.invokestatic 352, 3) := dk_184 1 96 (dk_at dksX3_canHome_5 3 rfl rfl)
theorem dX3_canHome_125 : decode cX3_canHome 125 = .ok (.baload, 1) := dk_51 (dk_at dksX3_canHome_5 6 rfl rfl)
theorem dX3_canHome_126 : decode cX3_canHome 126 = .ok (.ifCond .eq 5, 3) := dk_153 0 5 (dk_at dksX3_canHome_5 7 rfl rfl)
theorem dX3_canHome_129 : decode cX3_canHome 129 = .ok (.iconst 1, 1) := dk_4 (dk_at dksX3_canHome_5 10 rfl rfl)
theorem dX3_canHome_130 : decode cX3_canHome 130 = .ok (.ireturn, 1) := dk_172 (dk_at dksX3_canHome_5 11 rfl rfl)
theorem dX3_canHome_131 : decode cX3_canHome 131 = .ok (.iinc 5 1, 3) := dk_132 5 1 (dk_at dksX3_canHome_5 12 rfl rfl)
theorem dX3_canHome_134 : decode cX3_canHome 134 = .ok (.goto (-118), 3) := dk_167 255 138 (dk_at dksX3_canHome_5 15 rfl rfl)
theorem dX3_canHome_137 : decode cX3_canHome 137 = .ok (.iconst 0, 1) := dk_3 (dk_at dksX3_canHome_5 18 rfl rfl)
theorem dX3_canHome_138 : decode cX3_canHome 138 = .ok (.ireturn, 1) := dk_172 (dk_at dksX3_canHome_5 19 rfl rfl)
abbrev cX3_walk : ByteArray := prog_17_method_102_code
def yX3_walk : MethodName := ⟨RX3, "walk", "(I)I"⟩
def dkwX3_walk_2 : List UInt8 := [167, 0, 4, 2, 172]
abbrev dktX3_walk_2 : List UInt8 := dkwX3_walk_2 ++ []
def dkwX3_walk_1 : List UInt8 := [42, 182, 1, 123, 27, 42, 180, 1, 120, 163, 0, 17, 42, 42, 180, 0, 56, 27, 46, 27, 182, 1, 135]
abbrev dktX3_walk_1 : List UInt8 := dkwX3_walk_1 ++ dktX3_walk_2
def dkwX3_walk_0 : List UInt8 := [42, 3, 182, 1, 57, 153, 0, 17, 27, 3, 42, 180, 0, 7, 8, 46, 184, 0, 90, 154, 0, 5, 2, 172]
abbrev dktX3_walk_0 : List UInt8 := dkwX3_walk_0 ++ dktX3_walk_1
theorem dksX3_walk_0 : cX3_walk.data.toList.drop 0 = dktX3_walk_0 := by decide +kernel
theorem dksX3_walk_1 : cX3_walk.data.toList.drop 24 = dktX3_walk_1 := dk_seg dksX3_walk_0 24 rfl rfl
theorem dksX3_walk_2 : cX3_walk.data.toList.drop 47 = dktX3_walk_2 := dk_seg dksX3_walk_1 23 rfl rfl
theorem dX3_walk_0 : decode cX3_walk 0 = .ok (.aload_n 0, 1) := dk_42 (dk_at dksX3_walk_0 0 rfl rfl)
theorem dX3_walk_1 : decode cX3_walk 1 = .ok (.iconst 0, 1) := dk_3 (dk_at dksX3_walk_0 1 rfl rfl)
theorem dX3_walk_2 : decode cX3_walk 2 = .ok (.invokevirtual 313, 3) := dk_182 1 57 (dk_at dksX3_walk_0 2 rfl rfl)
theorem dX3_walk_5 : decode cX3_walk 5 = .ok (.ifCond .eq 17, 3) := dk_153 0 17 (dk_at dksX3_walk_0 5 rfl rfl)
theorem dX3_walk_8 : decode cX3_walk 8 = .ok (.iload_n 1, 1) := dk_27 (dk_at dksX3_walk_0 8 rfl rfl)
theorem dX3_walk_9 : decode cX3_walk 9 = .ok (.iconst 0, 1) := dk_3 (dk_at dksX3_walk_0 9 rfl rfl)
theorem dX3_walk_10 : decode cX3_walk 10 = .ok (.aload_n 0, 1) := dk_42 (dk_at dksX3_walk_0 10 rfl rfl)
theorem dX3_walk_11 : decode cX3_walk 11 = .ok (.getfield 7, 3) := dk_180 0 7 (dk_at dksX3_walk_0 11 rfl rfl)
theorem dX3_walk_14 : decode cX3_walk 14 = .ok (.iconst 5, 1) := dk_8 (dk_at dksX3_walk_0 14 rfl rfl)
theorem dX3_walk_15 : decode cX3_walk 15 = .ok (.iaload, 1) := dk_46 (dk_at dksX3_walk_0 15 rfl rfl)
theorem dX3_walk_16 : decode cX3_walk 16 = .ok (.invokestatic 90, 3) := dk_184 0 90 (dk_at dksX3_walk_0 16 rfl rfl)
theorem dX3_walk_19 : decode cX3_walk 19 = .ok (.ifCond .ne 5, 3) := dk_154 0 5 (dk_at dksX3_walk_0 19 rfl rfl)
theorem dX3_walk_22 : decode cX3_walk 22 = .ok (.iconst (-1), 1) := dk_2 (dk_at dksX3_walk_0 22 rfl rfl)
theorem dX3_walk_23 : decode cX3_walk 23 = .ok (.ireturn, 1) := dk_172 (dk_at dksX3_walk_0 23 rfl rfl)
theorem dX3_walk_24 : decode cX3_walk 24 = .ok (.aload_n 0, 1) := dk_42 (dk_at dksX3_walk_1 0 rfl rfl)
theorem dX3_walk_25 : decode cX3_walk 25 = .ok (.invokevirtual 379, 3) := dk_182 1 123 (dk_at dksX3_walk_1 1 rfl rfl)
theorem dX3_walk_28 : decode cX3_walk 28 = .ok (.iload_n 1, 1) := dk_27 (dk_at dksX3_walk_1 4 rfl rfl)
theorem dX3_walk_29 : decode cX3_walk 29 = .ok (.aload_n 0, 1) := dk_42 (dk_at dksX3_walk_1 5 rfl rfl)
theorem dX3_walk_30 : decode cX3_walk 30 = .ok (.getfield 376, 3) := dk_180 1 120 (dk_at dksX3_walk_1 6 rfl rfl)
theorem dX3_walk_33 : decode cX3_walk 33 = .ok (.if_icmp .gt 17, 3) := dk_163 0 17 (dk_at dksX3_walk_1 9 rfl rfl)
theorem dX3_walk_36 : decode cX3_walk 36 = .ok (.aload_n 0, 1) := dk_42 (dk_at dksX3_walk_1 12 rfl rfl)
theorem dX3_walk_37 : decode cX3_walk 37 = .ok (.aload_n 0, 1) := dk_42 (dk_at dksX3_walk_1 13 rfl rfl)
theorem dX3_walk_38 : decode cX3_walk 38 = .ok (.getfield 56, 3) := dk_180 0 56 (dk_at dksX3_walk_1 14 rfl rfl)
theorem dX3_walk_41 : decode cX3_walk 41 = .ok (.iload_n 1, 1) := dk_27 (dk_at dksX3_walk_1 17 rfl rfl)
theorem dX3_walk_42 : decode cX3_walk 42 = .ok (.iaload, 1) := dk_46 (dk_at dksX3_walk_1 18 rfl rfl)
theorem dX3_walk_43 : decode cX3_walk 43 = .ok (.iload_n 1, 1) := dk_27 (dk_at dksX3_walk_1 19 rfl rfl)
theorem dX3_walk_44 : decode cX3_walk 44 = .ok (.invokevirtual 391, 3) := dk_182 1 135 (dk_at dksX3_walk_1 20 rfl rfl)
theorem dX3_walk_47 : decode cX3_walk 47 = .ok (.goto 4, 3) := dk_167 0 4 (dk_at dksX3_walk_2 0 rfl rfl)
theorem dX3_walk_50 : decode cX3_walk 50 = .ok (.iconst (-1), 1) := dk_2 (dk_at dksX3_walk_2 3 rfl rfl)
theorem dX3_walk_51 : decode cX3_walk 51 = .ok (.ireturn, 1) := dk_172 (dk_at dksX3_walk_2 4 rfl rfl)
abbrev cX3_walkFrom : ByteArray := prog_17_method_101_code
def yX3_walkFrom : MethodName := ⟨RX3, "walkFrom", "(II)I"⟩
def dkwX3_walkFrom_9 : List UInt8 := [96, 172, 132, 4, 1, 167, 255, 214, 132, 3, 1, 167, 255, 84, 2, 172]
abbrev dktX3_walkFrom_9 : List UInt8 := dkwX3_walkFrom_9 ++ []
def dkwX3_walkFrom_8 : List UInt8 := [21, 4, 51, 153, 0, 23, 42, 180, 0, 7, 16, 110, 21, 4, 96, 46, 4, 160, 0, 9, 29, 28, 100, 4]
abbrev dktX3_walkFrom_8 : List UInt8 := dkwX3_walkFrom_8 ++ dktX3_walkFrom_9
def dkwX3_walkFrom_7 : List UInt8 := [4, 84, 132, 4, 1, 167, 255, 212, 3, 54, 4, 21, 4, 42, 180, 0, 83, 162, 0, 39, 42, 180, 0, 68]
abbrev dktX3_walkFrom_7 : List UInt8 := dkwX3_walkFrom_7 ++ dktX3_walkFrom_8
def dkwX3_walkFrom_6 : List UInt8 := [51, 153, 0, 25, 42, 180, 0, 68, 42, 21, 4, 42, 180, 0, 7, 17, 0, 180, 29, 96, 46, 182, 1, 69]
abbrev dktX3_walkFrom_6 : List UInt8 := dkwX3_walkFrom_6 ++ dktX3_walkFrom_7
def dkwX3_walkFrom_5 : List UInt8 := [132, 4, 1, 167, 255, 206, 3, 54, 4, 21, 4, 42, 180, 0, 83, 162, 0, 41, 42, 180, 0, 71, 21, 4]
abbrev dktX3_walkFrom_5 : List UInt8 := dkwX3_walkFrom_5 ++ dktX3_walkFrom_6
def dkwX3_walkFrom_4 : List UInt8 := [16, 110, 21, 4, 96, 46, 4, 160, 0, 9, 29, 28, 100, 4, 96, 172, 42, 180, 0, 68, 21, 4, 3, 84]
abbrev dktX3_walkFrom_4 : List UInt8 := dkwX3_walkFrom_4 ++ dktX3_walkFrom_5
def dkwX3_walkFrom_3 : List UInt8 := [21, 4, 42, 180, 0, 83, 162, 0, 47, 42, 180, 0, 71, 21, 4, 51, 153, 0, 23, 42, 180, 0, 7]
abbrev dktX3_walkFrom_3 : List UInt8 := dkwX3_walkFrom_3 ++ dktX3_walkFrom_4
def dkwX3_walkFrom_2 : List UInt8 := [167, 255, 229, 28, 62, 29, 42, 180, 0, 7, 7, 46, 162, 0, 168, 42, 29, 182, 1, 132, 3, 54, 4]
abbrev dktX3_walkFrom_2 : List UInt8 := dkwX3_walkFrom_2 ++ dktX3_walkFrom_3
def dkwX3_walkFrom_1 : List UInt8 := [162, 0, 25, 42, 180, 0, 68, 29, 29, 27, 160, 0, 7, 4, 167, 0, 4, 3, 84, 132, 3, 1]
abbrev dktX3_walkFrom_1 : List UInt8 := dkwX3_walkFrom_1 ++ dktX3_walkFrom_2
def dkwX3_walkFrom_0 : List UInt8 := [42, 180, 0, 7, 16, 110, 27, 96, 46, 4, 160, 0, 5, 3, 172, 3, 62, 29, 42, 180, 0, 83]
abbrev dktX3_walkFrom_0 : List UInt8 := dkwX3_walkFrom_0 ++ dktX3_walkFrom_1
theorem dksX3_walkFrom_0 : cX3_walkFrom.data.toList.drop 0 = dktX3_walkFrom_0 := by decide +kernel
theorem dksX3_walkFrom_1 : cX3_walkFrom.data.toList.drop 22 = dktX3_walkFrom_1 := dk_seg dksX3_walkFrom_0 22 rfl rfl
theorem dksX3_walkFrom_2 : cX3_walkFrom.data.toList.drop 44 = dktX3_walkFrom_2 := dk_seg dksX3_walkFrom_1 22 rfl rfl
theorem dksX3_walkFrom_3 : cX3_walkFrom.data.toList.drop 67 = dktX3_walkFrom_3 := dk_seg dksX3_walkFrom_2 23 rfl rfl
theorem dksX3_walkFrom_4 : cX3_walkFrom.data.toList.drop 90 = dktX3_walkFrom_4 := dk_seg dksX3_walkFrom_3 23 rfl rfl
theorem dksX3_walkFrom_5 : cX3_walkFrom.data.toList.drop 114 = dktX3_walkFrom_5 := dk_seg dksX3_walkFrom_4 24 rfl rfl
theorem dksX3_walkFrom_6 : cX3_walkFrom.data.toList.drop 138 = dktX3_walkFrom_6 := dk_seg dksX3_walkFrom_5 24 rfl rfl
theorem dksX3_walkFrom_7 : cX3_walkFrom.data.toList.drop 162 = dktX3_walkFrom_7 := dk_seg dksX3_walkFrom_6 24 rfl rfl
theorem dksX3_walkFrom_8 : cX3_walkFrom.data.toList.drop 186 = dktX3_walkFrom_8 := dk_seg dksX3_walkFrom_7 24 rfl rfl
theorem dksX3_walkFrom_9 : cX3_walkFrom.data.toList.drop 210 = dktX3_walkFrom_9 := dk_seg dksX3_walkFrom_8 24 rfl rfl
theorem dX3_walkFrom_0 : decode cX3_walkFrom 0 = .ok (.aload_n 0, 1) := dk_42 (dk_at dksX3_walkFrom_0 0 rfl rfl)
theorem dX3_walkFrom_1 : decode cX3_walkFrom 1 = .ok (.getfield 7, 3) := dk_180 0 7 (dk_at dksX3_walkFrom_0 1 rfl rfl)
theorem dX3_walkFrom_4 : decode cX3_walkFrom 4 = .ok (.bipush 110, 2) := dk_16 110 (dk_at dksX3_walkFrom_0 4 rfl rfl)
theorem dX3_walkFrom_6 : decode cX3_walkFrom 6 = .ok (.iload_n 1, 1) := dk_27 (dk_at dksX3_walkFrom_0 6 rfl rfl)
theorem dX3_walkFrom_7 : decode cX3_walkFrom 7 = .ok (.iadd, 1) := dk_96 (dk_at dksX3_walkFrom_0 7 rfl rfl)
theorem dX3_walkFrom_8 : decode cX3_walkFrom 8 = .ok (.iaload, 1) := dk_46 (dk_at dksX3_walkFrom_0 8 rfl rfl)
theorem dX3_walkFrom_9 : decode cX3_walkFrom 9 = .ok (.iconst 1, 1) := dk_4 (dk_at dksX3_walkFrom_0 9 rfl rfl)
theorem dX3_walkFrom_10 : decode cX3_walkFrom 10 = .ok (.if_icmp .ne 5, 3) := dk_160 0 5 (dk_at dksX3_walkFrom_0 10 rfl rfl)
theorem dX3_walkFrom_13 : decode cX3_walkFrom 13 = .ok (.iconst 0, 1) := dk_3 (dk_at dksX3_walkFrom_0 13 rfl rfl)
theorem dX3_walkFrom_14 : decode cX3_walkFrom 14 = .ok (.ireturn, 1) := dk_172 (dk_at dksX3_walkFrom_0 14 rfl rfl)
theorem dX3_walkFrom_15 : decode cX3_walkFrom 15 = .ok (.iconst 0, 1) := dk_3 (dk_at dksX3_walkFrom_0 15 rfl rfl)
theorem dX3_walkFrom_16 : decode cX3_walkFrom 16 = .ok (.istore_n 3, 1) := dk_62 (dk_at dksX3_walkFrom_0 16 rfl rfl)
theorem dX3_walkFrom_17 : decode cX3_walkFrom 17 = .ok (.iload_n 3, 1) := dk_29 (dk_at dksX3_walkFrom_0 17 rfl rfl)
theorem dX3_walkFrom_18 : decode cX3_walkFrom 18 = .ok (.aload_n 0, 1) := dk_42 (dk_at dksX3_walkFrom_0 18 rfl rfl)
theorem dX3_walkFrom_19 : decode cX3_walkFrom 19 = .ok (.getfield 83, 3) := dk_180 0 83 (dk_at dksX3_walkFrom_0 19 rfl rfl)
theorem dX3_walkFrom_22 : decode cX3_walkFrom 22 = .ok (.if_icmp .ge 25, 3) := dk_162 0 25 (dk_at dksX3_walkFrom_1 0 rfl rfl)
theorem dX3_walkFrom_25 : decode cX3_walkFrom 25 = .ok (.aload_n 0, 1) := dk_42 (dk_at dksX3_walkFrom_1 3 rfl rfl)
theorem dX3_walkFrom_26 : decode cX3_walkFrom 26 = .ok (.getfield 68, 3) := dk_180 0 68 (dk_at dksX3_walkFrom_1 4 rfl rfl)
theorem dX3_walkFrom_29 : decode cX3_walkFrom 29 = .ok (.iload_n 3, 1) := dk_29 (dk_at dksX3_walkFrom_1 7 rfl rfl)
theorem dX3_walkFrom_30 : decode cX3_walkFrom 30 = .ok (.iload_n 3, 1) := dk_29 (dk_at dksX3_walkFrom_1 8 rfl rfl)
theorem dX3_walkFrom_31 : decode cX3_walkFrom 31 = .ok (.iload_n 1, 1) := dk_27 (dk_at dksX3_walkFrom_1 9 rfl rfl)
theorem dX3_walkFrom_32 : decode cX3_walkFrom 32 = .ok (.if_icmp .ne 7, 3) := dk_160 0 7 (dk_at dksX3_walkFrom_1 10 rfl rfl)
theorem dX3_walkFrom_35 : decode cX3_walkFrom 35 = .ok (.iconst 1, 1) := dk_4 (dk_at dksX3_walkFrom_1 13 rfl rfl)
theorem dX3_walkFrom_36 : decode cX3_walkFrom 36 = .ok (.goto 4, 3) := dk_167 0 4 (dk_at dksX3_walkFrom_1 14 rfl rfl)
theorem dX3_walkFrom_39 : decode cX3_walkFrom 39 = .ok (.iconst 0, 1) := dk_3 (dk_at dksX3_walkFrom_1 17 rfl rfl)
theorem dX3_walkFrom_40 : decode cX3_walkFrom 40 = .ok (.bastore, 1) := dk_84 (dk_at dksX3_walkFrom_1 18 rfl rfl)
theorem dX3_walkFrom_41 : decode cX3_walkFrom 41 = .ok (.iinc 3 1, 3) := dk_132 3 1 (dk_at dksX3_walkFrom_1 19 rfl rfl)
theorem dX3_walkFrom_44 : decode cX3_walkFrom 44 = .ok (.goto (-27), 3) := dk_167 255 229 (dk_at dksX3_walkFrom_2 0 rfl rfl)
theorem dX3_walkFrom_47 : decode cX3_walkFrom 47 = .ok (.iload_n 2, 1) := dk_28 (dk_at dksX3_walkFrom_2 3 rfl rfl)
theorem dX3_walkFrom_48 : decode cX3_walkFrom 48 = .ok (.istore_n 3, 1) := dk_62 (dk_at dksX3_walkFrom_2 4 rfl rfl)
theorem dX3_walkFrom_49 : decode cX3_walkFrom 49 = .ok (.iload_n 3, 1) := dk_29 (dk_at dksX3_walkFrom_2 5 rfl rfl)
theorem dX3_walkFrom_50 : decode cX3_walkFrom 50 = .ok (.aload_n 0, 1) := dk_42 (dk_at dksX3_walkFrom_2 6 rfl rfl)
theorem dX3_walkFrom_51 : decode cX3_walkFrom 51 = .ok (.getfield 7, 3) := dk_180 0 7 (dk_at dksX3_walkFrom_2 7 rfl rfl)
theorem dX3_walkFrom_54 : decode cX3_walkFrom 54 = .ok (.iconst 4, 1) := dk_7 (dk_at dksX3_walkFrom_2 10 rfl rfl)
theorem dX3_walkFrom_55 : decode cX3_walkFrom 55 = .ok (.iaload, 1) := dk_46 (dk_at dksX3_walkFrom_2 11 rfl rfl)
theorem dX3_walkFrom_56 : decode cX3_walkFrom 56 = .ok (.if_icmp .ge 168, 3) := dk_162 0 168 (dk_at dksX3_walkFrom_2 12 rfl rfl)
theorem dX3_walkFrom_59 : decode cX3_walkFrom 59 = .ok (.aload_n 0, 1) := dk_42 (dk_at dksX3_walkFrom_2 15 rfl rfl)
theorem dX3_walkFrom_60 : decode cX3_walkFrom 60 = .ok (.iload_n 3, 1) := dk_29 (dk_at dksX3_walkFrom_2 16 rfl rfl)
theorem dX3_walkFrom_61 : decode cX3_walkFrom 61 = .ok (.invokevirtual 388, 3) := dk_182 1 132 (dk_at dksX3_walkFrom_2 17 rfl rfl)
theorem dX3_walkFrom_64 : decode cX3_walkFrom 64 = .ok (.iconst 0, 1) := dk_3 (dk_at dksX3_walkFrom_2 20 rfl rfl)
theorem dX3_walkFrom_65 : decode cX3_walkFrom 65 = .ok (.istore 4, 2) := dk_54 4 (dk_at dksX3_walkFrom_2 21 rfl rfl)
theorem dX3_walkFrom_67 : decode cX3_walkFrom 67 = .ok (.iload 4, 2) := dk_21 4 (dk_at dksX3_walkFrom_3 0 rfl rfl)
theorem dX3_walkFrom_69 : decode cX3_walkFrom 69 = .ok (.aload_n 0, 1) := dk_42 (dk_at dksX3_walkFrom_3 2 rfl rfl)
theorem dX3_walkFrom_70 : decode cX3_walkFrom 70 = .ok (.getfield 83, 3) := dk_180 0 83 (dk_at dksX3_walkFrom_3 3 rfl rfl)
theorem dX3_walkFrom_73 : decode cX3_walkFrom 73 = .ok (.if_icmp .ge 47, 3) := dk_162 0 47 (dk_at dksX3_walkFrom_3 6 rfl rfl)
theorem dX3_walkFrom_76 : decode cX3_walkFrom 76 = .ok (.aload_n 0, 1) := dk_42 (dk_at dksX3_walkFrom_3 9 rfl rfl)
theorem dX3_walkFrom_77 : decode cX3_walkFrom 77 = .ok (.getfield 71, 3) := dk_180 0 71 (dk_at dksX3_walkFrom_3 10 rfl rfl)
theorem dX3_walkFrom_80 : decode cX3_walkFrom 80 = .ok (.iload 4, 2) := dk_21 4 (dk_at dksX3_walkFrom_3 13 rfl rfl)
theorem dX3_walkFrom_82 : decode cX3_walkFrom 82 = .ok (.baload, 1) := dk_51 (dk_at dksX3_walkFrom_3 15 rfl rfl)
theorem dX3_walkFrom_83 : decode cX3_walkFrom 83 = .ok (.ifCond .eq 23, 3) := dk_153 0 23 (dk_at dksX3_walkFrom_3 16 rfl rfl)
theorem dX3_walkFrom_86 : decode cX3_walkFrom 86 = .ok (.aload_n 0, 1) := dk_42 (dk_at dksX3_walkFrom_3 19 rfl rfl)
theorem dX3_walkFrom_87 : decode cX3_walkFrom 87 = .ok (.getfield 7, 3) := dk_180 0 7 (dk_at dksX3_walkFrom_3 20 rfl rfl)
theorem dX3_walkFrom_90 : decode cX3_walkFrom 90 = .ok (.bipush 110, 2) := dk_16 110 (dk_at dksX3_walkFrom_4 0 rfl rfl)
theorem dX3_walkFrom_92 : decode cX3_walkFrom 92 = .ok (.iload 4, 2) := dk_21 4 (dk_at dksX3_walkFrom_4 2 rfl rfl)
theorem dX3_walkFrom_94 : decode cX3_walkFrom 94 = .ok (.iadd, 1) := dk_96 (dk_at dksX3_walkFrom_4 4 rfl rfl)
theorem dX3_walkFrom_95 : decode cX3_walkFrom 95 = .ok (.iaload, 1) := dk_46 (dk_at dksX3_walkFrom_4 5 rfl rfl)
theorem dX3_walkFrom_96 : decode cX3_walkFrom 96 = .ok (.iconst 1, 1) := dk_4 (dk_at dksX3_walkFrom_4 6 rfl rfl)
theorem dX3_walkFrom_97 : decode cX3_walkFrom 97 = .ok (.if_icmp .ne 9, 3) := dk_160 0 9 (dk_at dksX3_walkFrom_4 7 rfl rfl)
theorem dX3_walkFrom_100 : decode cX3_walkFrom 100 = .ok (.iload_n 3, 1) := dk_29 (dk_at dksX3_walkFrom_4 10 rfl rfl)
theorem dX3_walkFrom_101 : decode cX3_walkFrom 101 = .ok (.iload_n 2, 1) := dk_28 (dk_at dksX3_walkFrom_4 11 rfl rfl)
theorem dX3_walkFrom_102 : decode cX3_walkFrom 102 = .ok (.isub, 1) := dk_100 (dk_at dksX3_walkFrom_4 12 rfl rfl)
theorem dX3_walkFrom_103 : decode cX3_walkFrom 103 = .ok (.iconst 1, 1) := dk_4 (dk_at dksX3_walkFrom_4 13 rfl rfl)
theorem dX3_walkFrom_104 : decode cX3_walkFrom 104 = .ok (.iadd, 1) := dk_96 (dk_at dksX3_walkFrom_4 14 rfl rfl)
theorem dX3_walkFrom_105 : decode cX3_walkFrom 105 = .ok (.ireturn, 1) := dk_172 (dk_at dksX3_walkFrom_4 15 rfl rfl)
theorem dX3_walkFrom_106 : decode cX3_walkFrom 106 = .ok (.aload_n 0, 1) := dk_42 (dk_at dksX3_walkFrom_4 16 rfl rfl)
theorem dX3_walkFrom_107 : decode cX3_walkFrom 107 = .ok (.getfield 68, 3) := dk_180 0 68 (dk_at dksX3_walkFrom_4 17 rfl rfl)
theorem dX3_walkFrom_110 : decode cX3_walkFrom 110 = .ok (.iload 4, 2) := dk_21 4 (dk_at dksX3_walkFrom_4 20 rfl rfl)
theorem dX3_walkFrom_112 : decode cX3_walkFrom 112 = .ok (.iconst 0, 1) := dk_3 (dk_at dksX3_walkFrom_4 22 rfl rfl)
theorem dX3_walkFrom_113 : decode cX3_walkFrom 113 = .ok (.bastore, 1) := dk_84 (dk_at dksX3_walkFrom_4 23 rfl rfl)
theorem dX3_walkFrom_114 : decode cX3_walkFrom 114 = .ok (.iinc 4 1, 3) := dk_132 4 1 (dk_at dksX3_walkFrom_5 0 rfl rfl)
theorem dX3_walkFrom_117 : decode cX3_walkFrom 117 = .ok (.goto (-50), 3) := dk_167 255 206 (dk_at dksX3_walkFrom_5 3 rfl rfl)
theorem dX3_walkFrom_120 : decode cX3_walkFrom 120 = .ok (.iconst 0, 1) := dk_3 (dk_at dksX3_walkFrom_5 6 rfl rfl)
theorem dX3_walkFrom_121 : decode cX3_walkFrom 121 = .ok (.istore 4, 2) := dk_54 4 (dk_at dksX3_walkFrom_5 7 rfl rfl)
theorem dX3_walkFrom_123 : decode cX3_walkFrom 123 = .ok (.iload 4, 2) := dk_21 4 (dk_at dksX3_walkFrom_5 9 rfl rfl)
theorem dX3_walkFrom_125 : decode cX3_walkFrom 125 = .ok (.aload_n 0, 1) := dk_42 (dk_at dksX3_walkFrom_5 11 rfl rfl)
theorem dX3_walkFrom_126 : decode cX3_walkFrom 126 = .ok (.getfield 83, 3) := dk_180 0 83 (dk_at dksX3_walkFrom_5 12 rfl rfl)
theorem dX3_walkFrom_129 : decode cX3_walkFrom 129 = .ok (.if_icmp .ge 41, 3) := dk_162 0 41 (dk_at dksX3_walkFrom_5 15 rfl rfl)
theorem dX3_walkFrom_132 : decode cX3_walkFrom 132 = .ok (.aload_n 0, 1) := dk_42 (dk_at dksX3_walkFrom_5 18 rfl rfl)
theorem dX3_walkFrom_133 : decode cX3_walkFrom 133 = .ok (.getfield 71, 3) := dk_180 0 71 (dk_at dksX3_walkFrom_5 19 rfl rfl)
theorem dX3_walkFrom_136 : decode cX3_walkFrom 136 = .ok (.iload 4, 2) := dk_21 4 (dk_at dksX3_walkFrom_5 22 rfl rfl)
theorem dX3_walkFrom_138 : decode cX3_walkFrom 138 = .ok (.baload, 1) := dk_51 (dk_at dksX3_walkFrom_6 0 rfl rfl)
theorem dX3_walkFrom_139 : decode cX3_walkFrom 139 = .ok (.ifCond .eq 25, 3) := dk_153 0 25 (dk_at dksX3_walkFrom_6 1 rfl rfl)
theorem dX3_walkFrom_142 : decode cX3_walkFrom 142 = .ok (.aload_n 0, 1) := dk_42 (dk_at dksX3_walkFrom_6 4 rfl rfl)
theorem dX3_walkFrom_143 : decode cX3_walkFrom 143 = .ok (.getfield 68, 3) := dk_180 0 68 (dk_at dksX3_walkFrom_6 5 rfl rfl)
theorem dX3_walkFrom_146 : decode cX3_walkFrom 146 = .ok (.aload_n 0, 1) := dk_42 (dk_at dksX3_walkFrom_6 8 rfl rfl)
theorem dX3_walkFrom_147 : decode cX3_walkFrom 147 = .ok (.iload 4, 2) := dk_21 4 (dk_at dksX3_walkFrom_6 9 rfl rfl)
theorem dX3_walkFrom_149 : decode cX3_walkFrom 149 = .ok (.aload_n 0, 1) := dk_42 (dk_at dksX3_walkFrom_6 11 rfl rfl)
theorem dX3_walkFrom_150 : decode cX3_walkFrom 150 = .ok (.getfield 7, 3) := dk_180 0 7 (dk_at dksX3_walkFrom_6 12 rfl rfl)
theorem dX3_walkFrom_153 : decode cX3_walkFrom 153 = .ok (.sipush 180, 3) := dk_17 0 180 (dk_at dksX3_walkFrom_6 15 rfl rfl)
theorem dX3_walkFrom_156 : decode cX3_walkFrom 156 = .ok (.iload_n 3, 1) := dk_29 (dk_at dksX3_walkFrom_6 18 rfl rfl)
theorem dX3_walkFrom_157 : decode cX3_walkFrom 157 = .ok (.iadd, 1) := dk_96 (dk_at dksX3_walkFrom_6 19 rfl rfl)
theorem dX3_walkFrom_158 : decode cX3_walkFrom 158 = .ok (.iaload, 1) := dk_46 (dk_at dksX3_walkFrom_6 20 rfl rfl)
theorem dX3_walkFrom_159 : decode cX3_walkFrom 159 = .ok (.invokevirtual 325, 3) := dk_182 1 69 (dk_at dksX3_walkFrom_6 21 rfl rfl)
theorem dX3_walkFrom_162 : decode cX3_walkFrom 162 = .ok (.iconst 1, 1) := dk_4 (dk_at dksX3_walkFrom_7 0 rfl rfl)
theorem dX3_walkFrom_163 : decode cX3_walkFrom 163 = .ok (.bastore, 1) := dk_84 (dk_at dksX3_walkFrom_7 1 rfl rfl)
theorem dX3_walkFrom_164 : decode cX3_walkFrom 164 = .ok (.iinc 4 1, 3) := dk_132 4 1 (dk_at dksX3_walkFrom_7 2 rfl rfl)
theorem dX3_walkFrom_167 : decode cX3_walkFrom 167 = .ok (.goto (-44), 3) := dk_167 255 212 (dk_at dksX3_walkFrom_7 5 rfl rfl)
theorem dX3_walkFrom_170 : decode cX3_walkFrom 170 = .ok (.iconst 0, 1) := dk_3 (dk_at dksX3_walkFrom_7 8 rfl rfl)
theorem dX3_walkFrom_171 : decode cX3_walkFrom 171 = .ok (.istore 4, 2) := dk_54 4 (dk_at dksX3_walkFrom_7 9 rfl rfl)
theorem dX3_walkFrom_173 : decode cX3_walkFrom 173 = .ok (.iload 4, 2) := dk_21 4 (dk_at dksX3_walkFrom_7 11 rfl rfl)
theorem dX3_walkFrom_175 : decode cX3_walkFrom 175 = .ok (.aload_n 0, 1) := dk_42 (dk_at dksX3_walkFrom_7 13 rfl rfl)
theorem dX3_walkFrom_176 : decode cX3_walkFrom 176 = .ok (.getfield 83, 3) := dk_180 0 83 (dk_at dksX3_walkFrom_7 14 rfl rfl)
theorem dX3_walkFrom_179 : decode cX3_walkFrom 179 = .ok (.if_icmp .ge 39, 3) := dk_162 0 39 (dk_at dksX3_walkFrom_7 17 rfl rfl)
theorem dX3_walkFrom_182 : decode cX3_walkFrom 182 = .ok (.aload_n 0, 1) := dk_42 (dk_at dksX3_walkFrom_7 20 rfl rfl)
theorem dX3_walkFrom_183 : decode cX3_walkFrom 183 = .ok (.getfield 68, 3) := dk_180 0 68 (dk_at dksX3_walkFrom_7 21 rfl rfl)
theorem dX3_walkFrom_186 : decode cX3_walkFrom 186 = .ok (.iload 4, 2) := dk_21 4 (dk_at dksX3_walkFrom_8 0 rfl rfl)
theorem dX3_walkFrom_188 : decode cX3_walkFrom 188 = .ok (.baload, 1) := dk_51 (dk_at dksX3_walkFrom_8 2 rfl rfl)
theorem dX3_walkFrom_189 : decode cX3_walkFrom 189 = .ok (.ifCond .eq 23, 3) := dk_153 0 23 (dk_at dksX3_walkFrom_8 3 rfl rfl)
theorem dX3_walkFrom_192 : decode cX3_walkFrom 192 = .ok (.aload_n 0, 1) := dk_42 (dk_at dksX3_walkFrom_8 6 rfl rfl)
theorem dX3_walkFrom_193 : decode cX3_walkFrom 193 = .ok (.getfield 7, 3) := dk_180 0 7 (dk_at dksX3_walkFrom_8 7 rfl rfl)
theorem dX3_walkFrom_196 : decode cX3_walkFrom 196 = .ok (.bipush 110, 2) := dk_16 110 (dk_at dksX3_walkFrom_8 10 rfl rfl)
theorem dX3_walkFrom_198 : decode cX3_walkFrom 198 = .ok (.iload 4, 2) := dk_21 4 (dk_at dksX3_walkFrom_8 12 rfl rfl)
theorem dX3_walkFrom_200 : decode cX3_walkFrom 200 = .ok (.iadd, 1) := dk_96 (dk_at dksX3_walkFrom_8 14 rfl rfl)
theorem dX3_walkFrom_201 : decode cX3_walkFrom 201 = .ok (.iaload, 1) := dk_46 (dk_at dksX3_walkFrom_8 15 rfl rfl)
theorem dX3_walkFrom_202 : decode cX3_walkFrom 202 = .ok (.iconst 1, 1) := dk_4 (dk_at dksX3_walkFrom_8 16 rfl rfl)
theorem dX3_walkFrom_203 : decode cX3_walkFrom 203 = .ok (.if_icmp .ne 9, 3) := dk_160 0 9 (dk_at dksX3_walkFrom_8 17 rfl rfl)
theorem dX3_walkFrom_206 : decode cX3_walkFrom 206 = .ok (.iload_n 3, 1) := dk_29 (dk_at dksX3_walkFrom_8 20 rfl rfl)
theorem dX3_walkFrom_207 : decode cX3_walkFrom 207 = .ok (.iload_n 2, 1) := dk_28 (dk_at dksX3_walkFrom_8 21 rfl rfl)
theorem dX3_walkFrom_208 : decode cX3_walkFrom 208 = .ok (.isub, 1) := dk_100 (dk_at dksX3_walkFrom_8 22 rfl rfl)
theorem dX3_walkFrom_209 : decode cX3_walkFrom 209 = .ok (.iconst 1, 1) := dk_4 (dk_at dksX3_walkFrom_8 23 rfl rfl)
theorem dX3_walkFrom_210 : decode cX3_walkFrom 210 = .ok (.iadd, 1) := dk_96 (dk_at dksX3_walkFrom_9 0 rfl rfl)
theorem dX3_walkFrom_211 : decode cX3_walkFrom 211 = .ok (.ireturn, 1) := dk_172 (dk_at dksX3_walkFrom_9 1 rfl rfl)
theorem dX3_walkFrom_212 : decode cX3_walkFrom 212 = .ok (.iinc 4 1, 3) := dk_132 4 1 (dk_at dksX3_walkFrom_9 2 rfl rfl)
theorem dX3_walkFrom_215 : decode cX3_walkFrom 215 = .ok (.goto (-42), 3) := dk_167 255 214 (dk_at dksX3_walkFrom_9 5 rfl rfl)
theorem dX3_walkFrom_218 : decode cX3_walkFrom 218 = .ok (.iinc 3 1, 3) := dk_132 3 1 (dk_at dksX3_walkFrom_9 8 rfl rfl)
theorem dX3_walkFrom_221 : decode cX3_walkFrom 221 = .ok (.goto (-172), 3) := dk_167 255 84 (dk_at dksX3_walkFrom_9 11 rfl rfl)
theorem dX3_walkFrom_224 : decode cX3_walkFrom 224 = .ok (.iconst (-1), 1) := dk_2 (dk_at dksX3_walkFrom_9 14 rfl rfl)
theorem dX3_walkFrom_225 : decode cX3_walkFrom 225 = .ok (.ireturn, 1) := dk_172 (dk_at dksX3_walkFrom_9 15 rfl rfl)
abbrev cX3_walkOn : ByteArray := prog_17_method_100_code
def yX3_walkOn : MethodName := ⟨RX3, "walkOn", "(I)V"⟩
def dkwX3_walkOn_6 : List UInt8 := [177]
abbrev dktX3_walkOn_6 : List UInt8 := dkwX3_walkOn_6 ++ []
def dkwX3_walkOn_5 : List UInt8 := [21, 4, 51, 153, 0, 7, 4, 167, 0, 4, 3, 84, 132, 3, 1, 167, 255, 205, 132, 2, 1, 167, 255, 152]
abbrev dktX3_walkOn_5 : List UInt8 := dkwX3_walkOn_5 ++ dktX3_walkOn_6
def dkwX3_walkOn_4 : List UInt8 := [42, 180, 0, 71, 28, 42, 180, 0, 71, 28, 51, 154, 0, 18, 21, 4, 155, 0, 17, 42, 180, 0, 68]
abbrev dktX3_walkOn_4 : List UInt8 := dkwX3_walkOn_4 ++ dktX3_walkOn_5
def dkwX3_walkOn_3 : List UInt8 := [182, 1, 129, 154, 0, 6, 167, 0, 59, 3, 62, 29, 7, 162, 0, 52, 42, 28, 29, 182, 1, 15, 54, 4]
abbrev dktX3_walkOn_3 : List UInt8 := dkwX3_walkOn_3 ++ dktX3_walkOn_4
def dkwX3_walkOn_2 : List UInt8 := [154, 0, 87, 42, 16, 36, 27, 104, 28, 42, 27, 182, 1, 86, 42, 180, 0, 7, 3, 46, 27, 96]
abbrev dktX3_walkOn_2 : List UInt8 := dkwX3_walkOn_2 ++ dktX3_walkOn_3
def dkwX3_walkOn_1 : List UInt8 := [132, 2, 1, 167, 255, 233, 3, 61, 28, 42, 180, 0, 83, 162, 0, 102, 42, 180, 0, 68, 28, 51]
abbrev dktX3_walkOn_1 : List UInt8 := dkwX3_walkOn_1 ++ dktX3_walkOn_2
def dkwX3_walkOn_0 : List UInt8 := [3, 61, 28, 42, 180, 0, 83, 162, 0, 21, 42, 180, 0, 71, 28, 42, 180, 0, 68, 28, 51, 84]
abbrev dktX3_walkOn_0 : List UInt8 := dkwX3_walkOn_0 ++ dktX3_walkOn_1
theorem dksX3_walkOn_0 : cX3_walkOn.data.toList.drop 0 = dktX3_walkOn_0 := by decide +kernel
theorem dksX3_walkOn_1 : cX3_walkOn.data.toList.drop 22 = dktX3_walkOn_1 := dk_seg dksX3_walkOn_0 22 rfl rfl
theorem dksX3_walkOn_2 : cX3_walkOn.data.toList.drop 44 = dktX3_walkOn_2 := dk_seg dksX3_walkOn_1 22 rfl rfl
theorem dksX3_walkOn_3 : cX3_walkOn.data.toList.drop 66 = dktX3_walkOn_3 := dk_seg dksX3_walkOn_2 22 rfl rfl
theorem dksX3_walkOn_4 : cX3_walkOn.data.toList.drop 90 = dktX3_walkOn_4 := dk_seg dksX3_walkOn_3 24 rfl rfl
theorem dksX3_walkOn_5 : cX3_walkOn.data.toList.drop 113 = dktX3_walkOn_5 := dk_seg dksX3_walkOn_4 23 rfl rfl
theorem dksX3_walkOn_6 : cX3_walkOn.data.toList.drop 137 = dktX3_walkOn_6 := dk_seg dksX3_walkOn_5 24 rfl rfl
theorem dX3_walkOn_0 : decode cX3_walkOn 0 = .ok (.iconst 0, 1) := dk_3 (dk_at dksX3_walkOn_0 0 rfl rfl)
theorem dX3_walkOn_1 : decode cX3_walkOn 1 = .ok (.istore_n 2, 1) := dk_61 (dk_at dksX3_walkOn_0 1 rfl rfl)
theorem dX3_walkOn_2 : decode cX3_walkOn 2 = .ok (.iload_n 2, 1) := dk_28 (dk_at dksX3_walkOn_0 2 rfl rfl)
theorem dX3_walkOn_3 : decode cX3_walkOn 3 = .ok (.aload_n 0, 1) := dk_42 (dk_at dksX3_walkOn_0 3 rfl rfl)
theorem dX3_walkOn_4 : decode cX3_walkOn 4 = .ok (.getfield 83, 3) := dk_180 0 83 (dk_at dksX3_walkOn_0 4 rfl rfl)
theorem dX3_walkOn_7 : decode cX3_walkOn 7 = .ok (.if_icmp .ge 21, 3) := dk_162 0 21 (dk_at dksX3_walkOn_0 7 rfl rfl)
theorem dX3_walkOn_10 : decode cX3_walkOn 10 = .ok (.aload_n 0, 1) := dk_42 (dk_at dksX3_walkOn_0 10 rfl rfl)
theorem dX3_walkOn_11 : decode cX3_walkOn 11 = .ok (.getfield 71, 3) := dk_180 0 71 (dk_at dksX3_walkOn_0 11 rfl rfl)
theorem dX3_walkOn_14 : decode cX3_walkOn 14 = .ok (.iload_n 2, 1) := dk_28 (dk_at dksX3_walkOn_0 14 rfl rfl)
theorem dX3_walkOn_15 : decode cX3_walkOn 15 = .ok (.aload_n 0, 1) := dk_42 (dk_at dksX3_walkOn_0 15 rfl rfl)
theorem dX3_walkOn_16 : decode cX3_walkOn 16 = .ok (.getfield 68, 3) := dk_180 0 68 (dk_at dksX3_walkOn_0 16 rfl rfl)
theorem dX3_walkOn_19 : decode cX3_walkOn 19 = .ok (.iload_n 2, 1) := dk_28 (dk_at dksX3_walkOn_0 19 rfl rfl)
theorem dX3_walkOn_20 : decode cX3_walkOn 20 = .ok (.baload, 1) := dk_51 (dk_at dksX3_walkOn_0 20 rfl rfl)
theorem dX3_walkOn_21 : decode cX3_walkOn 21 = .ok (.bastore, 1) := dk_84 (dk_at dksX3_walkOn_0 21 rfl rfl)
theorem dX3_walkOn_22 : decode cX3_walkOn 22 = .ok (.iinc 2 1, 3) := dk_132 2 1 (dk_at dksX3_walkOn_1 0 rfl rfl)
theorem dX3_walkOn_25 : decode cX3_walkOn 25 = .ok (.goto (-23), 3) := dk_167 255 233 (dk_at dksX3_walkOn_1 3 rfl rfl)
theorem dX3_walkOn_28 : decode cX3_walkOn 28 = .ok (.iconst 0, 1) := dk_3 (dk_at dksX3_walkOn_1 6 rfl rfl)
theorem dX3_walkOn_29 : decode cX3_walkOn 29 = .ok (.istore_n 2, 1) := dk_61 (dk_at dksX3_walkOn_1 7 rfl rfl)
theorem dX3_walkOn_30 : decode cX3_walkOn 30 = .ok (.iload_n 2, 1) := dk_28 (dk_at dksX3_walkOn_1 8 rfl rfl)
theorem dX3_walkOn_31 : decode cX3_walkOn 31 = .ok (.aload_n 0, 1) := dk_42 (dk_at dksX3_walkOn_1 9 rfl rfl)
theorem dX3_walkOn_32 : decode cX3_walkOn 32 = .ok (.getfield 83, 3) := dk_180 0 83 (dk_at dksX3_walkOn_1 10 rfl rfl)
theorem dX3_walkOn_35 : decode cX3_walkOn 35 = .ok (.if_icmp .ge 102, 3) := dk_162 0 102 (dk_at dksX3_walkOn_1 13 rfl rfl)
theorem dX3_walkOn_38 : decode cX3_walkOn 38 = .ok (.aload_n 0, 1) := dk_42 (dk_at dksX3_walkOn_1 16 rfl rfl)
theorem dX3_walkOn_39 : decode cX3_walkOn 39 = .ok (.getfield 68, 3) := dk_180 0 68 (dk_at dksX3_walkOn_1 17 rfl rfl)
theorem dX3_walkOn_42 : decode cX3_walkOn 42 = .ok (.iload_n 2, 1) := dk_28 (dk_at dksX3_walkOn_1 20 rfl rfl)
theorem dX3_walkOn_43 : decode cX3_walkOn 43 = .ok (.baload, 1) := dk_51 (dk_at dksX3_walkOn_1 21 rfl rfl)
theorem dX3_walkOn_44 : decode cX3_walkOn 44 = .ok (.ifCond .ne 87, 3) := dk_154 0 87 (dk_at dksX3_walkOn_2 0 rfl rfl)
theorem dX3_walkOn_47 : decode cX3_walkOn 47 = .ok (.aload_n 0, 1) := dk_42 (dk_at dksX3_walkOn_2 3 rfl rfl)
theorem dX3_walkOn_48 : decode cX3_walkOn 48 = .ok (.bipush 36, 2) := dk_16 36 (dk_at dksX3_walkOn_2 4 rfl rfl)
theorem dX3_walkOn_50 : decode cX3_walkOn 50 = .ok (.iload_n 1, 1) := dk_27 (dk_at dksX3_walkOn_2 6 rfl rfl)
theorem dX3_walkOn_51 : decode cX3_walkOn 51 = .ok (.imul, 1) := dk_104 (dk_at dksX3_walkOn_2 7 rfl rfl)
theorem dX3_walkOn_52 : decode cX3_walkOn 52 = .ok (.iload_n 2, 1) := dk_28 (dk_at dksX3_walkOn_2 8 rfl rfl)
theorem dX3_walkOn_53 : decode cX3_walkOn 53 = .ok (.aload_n 0, 1) := dk_42 (dk_at dksX3_walkOn_2 9 rfl rfl)
theorem dX3_walkOn_54 : decode cX3_walkOn 54 = .ok (.iload_n 1, 1) := dk_27 (dk_at dksX3_walkOn_2 10 rfl rfl)
theorem dX3_walkOn_55 : decode cX3_walkOn 55 = .ok (.invokevirtual 342, 3) := dk_182 1 86 (dk_at dksX3_walkOn_2 11 rfl rfl)
theorem dX3_walkOn_58 : decode cX3_walkOn 58 = .ok (.aload_n 0, 1) := dk_42 (dk_at dksX3_walkOn_2 14 rfl rfl)
theorem dX3_walkOn_59 : decode cX3_walkOn 59 = .ok (.getfield 7, 3) := dk_180 0 7 (dk_at dksX3_walkOn_2 15 rfl rfl)
theorem dX3_walkOn_62 : decode cX3_walkOn 62 = .ok (.iconst 0, 1) := dk_3 (dk_at dksX3_walkOn_2 18 rfl rfl)
theorem dX3_walkOn_63 : decode cX3_walkOn 63 = .ok (.iaload, 1) := dk_46 (dk_at dksX3_walkOn_2 19 rfl rfl)
theorem dX3_walkOn_64 : decode cX3_walkOn 64 = .ok (.iload_n 1, 1) := dk_27 (dk_at dksX3_walkOn_2 20 rfl rfl)
theorem dX3_walkOn_65 : decode cX3_walkOn 65 = .ok (.iadd, 1) := dk_96 (dk_at dksX3_walkOn_2 21 rfl rfl)
theorem dX3_walkOn_66 : decode cX3_walkOn 66 = .ok (.invokevirtual 385, 3) := dk_182 1 129 (dk_at dksX3_walkOn_3 0 rfl rfl)
theorem dX3_walkOn_69 : decode cX3_walkOn 69 = .ok (.ifCond .ne 6, 3) := dk_154 0 6 (dk_at dksX3_walkOn_3 3 rfl rfl)
theorem dX3_walkOn_72 : decode cX3_walkOn 72 = .ok (.goto 59, 3) := dk_167 0 59 (dk_at dksX3_walkOn_3 6 rfl rfl)
theorem dX3_walkOn_75 : decode cX3_walkOn 75 = .ok (.iconst 0, 1) := dk_3 (dk_at dksX3_walkOn_3 9 rfl rfl)
theorem dX3_walkOn_76 : decode cX3_walkOn 76 = .ok (.istore_n 3, 1) := dk_62 (dk_at dksX3_walkOn_3 10 rfl rfl)
theorem dX3_walkOn_77 : decode cX3_walkOn 77 = .ok (.iload_n 3, 1) := dk_29 (dk_at dksX3_walkOn_3 11 rfl rfl)
theorem dX3_walkOn_78 : decode cX3_walkOn 78 = .ok (.iconst 4, 1) := dk_7 (dk_at dksX3_walkOn_3 12 rfl rfl)
theorem dX3_walkOn_79 : decode cX3_walkOn 79 = .ok (.if_icmp .ge 52, 3) := dk_162 0 52 (dk_at dksX3_walkOn_3 13 rfl rfl)
theorem dX3_walkOn_82 : decode cX3_walkOn 82 = .ok (.aload_n 0, 1) := dk_42 (dk_at dksX3_walkOn_3 16 rfl rfl)
theorem dX3_walkOn_83 : decode cX3_walkOn 83 = .ok (.iload_n 2, 1) := dk_28 (dk_at dksX3_walkOn_3 17 rfl rfl)
theorem dX3_walkOn_84 : decode cX3_walkOn 84 = .ok (.iload_n 3, 1) := dk_29 (dk_at dksX3_walkOn_3 18 rfl rfl)
theorem dX3_walkOn_85 : decode cX3_walkOn 85 = .ok (.invokevirtual 271, 3) := dk_182 1 15 (dk_at dksX3_walkOn_3 19 rfl rfl)
theorem dX3_walkOn_88 : decode cX3_walkOn 88 = .ok (.istore 4, 2) := dk_54 4 (dk_at dksX3_walkOn_3 22 rfl rfl)
theorem dX3_walkOn_90 : decode cX3_walkOn 90 = .ok (.aload_n 0, 1) := dk_42 (dk_at dksX3_walkOn_4 0 rfl rfl)
theorem dX3_walkOn_91 : decode cX3_walkOn 91 = .ok (.getfield 71, 3) := dk_180 0 71 (dk_at dksX3_walkOn_4 1 rfl rfl)
theorem dX3_walkOn_94 : decode cX3_walkOn 94 = .ok (.iload_n 2, 1) := dk_28 (dk_at dksX3_walkOn_4 4 rfl rfl)
theorem dX3_walkOn_95 : decode cX3_walkOn 95 = .ok (.aload_n 0, 1) := dk_42 (dk_at dksX3_walkOn_4 5 rfl rfl)
theorem dX3_walkOn_96 : decode cX3_walkOn 96 = .ok (.getfield 71, 3) := dk_180 0 71 (dk_at dksX3_walkOn_4 6 rfl rfl)
theorem dX3_walkOn_99 : decode cX3_walkOn 99 = .ok (.iload_n 2, 1) := dk_28 (dk_at dksX3_walkOn_4 9 rfl rfl)
theorem dX3_walkOn_100 : decode cX3_walkOn 100 = .ok (.baload, 1) := dk_51 (dk_at dksX3_walkOn_4 10 rfl rfl)
theorem dX3_walkOn_101 : decode cX3_walkOn 101 = .ok (.ifCond .ne 18, 3) := dk_154 0 18 (dk_at dksX3_walkOn_4 11 rfl rfl)
theorem dX3_walkOn_104 : decode cX3_walkOn 104 = .ok (.iload 4, 2) := dk_21 4 (dk_at dksX3_walkOn_4 14 rfl rfl)
theorem dX3_walkOn_106 : decode cX3_walkOn 106 = .ok (.ifCond .lt 17, 3) := dk_155 0 17 (dk_at dksX3_walkOn_4 16 rfl rfl)
theorem dX3_walkOn_109 : decode cX3_walkOn 109 = .ok (.aload_n 0, 1) := dk_42 (dk_at dksX3_walkOn_4 19 rfl rfl)
theorem dX3_walkOn_110 : decode cX3_walkOn 110 = .ok (.getfield 68, 3) := dk_180 0 68 (dk_at dksX3_walkOn_4 20 rfl rfl)
theorem dX3_walkOn_113 : decode cX3_walkOn 113 = .ok (.iload 4, 2) := dk_21 4 (dk_at dksX3_walkOn_5 0 rfl rfl)
theorem dX3_walkOn_115 : decode cX3_walkOn 115 = .ok (.baload, 1) := dk_51 (dk_at dksX3_walkOn_5 2 rfl rfl)
theorem dX3_walkOn_116 : decode cX3_walkOn 116 = .ok (.ifCond .eq 7, 3) := dk_153 0 7 (dk_at dksX3_walkOn_5 3 rfl rfl)
theorem dX3_walkOn_119 : decode cX3_walkOn 119 = .ok (.iconst 1, 1) := dk_4 (dk_at dksX3_walkOn_5 6 rfl rfl)
theorem dX3_walkOn_120 : decode cX3_walkOn 120 = .ok (.goto 4, 3) := dk_167 0 4 (dk_at dksX3_walkOn_5 7 rfl rfl)
theorem dX3_walkOn_123 : decode cX3_walkOn 123 = .ok (.iconst 0, 1) := dk_3 (dk_at dksX3_walkOn_5 10 rfl rfl)
theorem dX3_walkOn_124 : decode cX3_walkOn 124 = .ok (.bastore, 1) := dk_84 (dk_at dksX3_walkOn_5 11 rfl rfl)
theorem dX3_walkOn_125 : decode cX3_walkOn 125 = .ok (.iinc 3 1, 3) := dk_132 3 1 (dk_at dksX3_walkOn_5 12 rfl rfl)
theorem dX3_walkOn_128 : decode cX3_walkOn 128 = .ok (.goto (-51), 3) := dk_167 255 205 (dk_at dksX3_walkOn_5 15 rfl rfl)
theorem dX3_walkOn_131 : decode cX3_walkOn 131 = .ok (.iinc 2 1, 3) := dk_132 2 1 (dk_at dksX3_walkOn_5 18 rfl rfl)
theorem dX3_walkOn_134 : decode cX3_walkOn 134 = .ok (.goto (-104), 3) := dk_167 255 152 (dk_at dksX3_walkOn_5 21 rfl rfl)
theorem dX3_walkOn_137 : decode cX3_walkOn 137 = .ok (.return_, 1) := dk_177 (dk_at dksX3_walkOn_6 0 rfl rfl)
abbrev cX3_walks : ByteArray := prog_17_method_64_code
def yX3_walks : MethodName := ⟨RX3, "walks", "(IIII)Z"⟩
def dkwX3_walks_1 : List UInt8 := [4, 167, 0, 4, 3, 182, 1, 36, 172]
abbrev dktX3_walks_1 : List UInt8 := dkwX3_walks_1 ++ []
def dkwX3_walks_0 : List UInt8 := [42, 27, 28, 29, 21, 4, 182, 1, 32, 42, 6, 42, 180, 0, 43, 27, 28, 96, 46, 16, 10, 161, 0, 7]
abbrev dktX3_walks_0 : List UInt8 := dkwX3_walks_0 ++ dktX3_walks_1
theorem dksX3_walks_0 : cX3_walks.data.toList.drop 0 = dktX3_walks_0 := by decide +kernel
theorem dksX3_walks_1 : cX3_walks.data.toList.drop 24 = dktX3_walks_1 := dk_seg dksX3_walks_0 24 rfl rfl
theorem dX3_walks_0 : decode cX3_walks 0 = .ok (.aload_n 0, 1) := dk_42 (dk_at dksX3_walks_0 0 rfl rfl)
theorem dX3_walks_1 : decode cX3_walks 1 = .ok (.iload_n 1, 1) := dk_27 (dk_at dksX3_walks_0 1 rfl rfl)
theorem dX3_walks_2 : decode cX3_walks 2 = .ok (.iload_n 2, 1) := dk_28 (dk_at dksX3_walks_0 2 rfl rfl)
theorem dX3_walks_3 : decode cX3_walks 3 = .ok (.iload_n 3, 1) := dk_29 (dk_at dksX3_walks_0 3 rfl rfl)
theorem dX3_walks_4 : decode cX3_walks 4 = .ok (.iload 4, 2) := dk_21 4 (dk_at dksX3_walks_0 4 rfl rfl)
theorem dX3_walks_6 : decode cX3_walks 6 = .ok (.invokevirtual 288, 3) := dk_182 1 32 (dk_at dksX3_walks_0 6 rfl rfl)
theorem dX3_walks_9 : decode cX3_walks 9 = .ok (.aload_n 0, 1) := dk_42 (dk_at dksX3_walks_0 9 rfl rfl)
theorem dX3_walks_10 : decode cX3_walks 10 = .ok (.iconst 3, 1) := dk_6 (dk_at dksX3_walks_0 10 rfl rfl)
theorem dX3_walks_11 : decode cX3_walks 11 = .ok (.aload_n 0, 1) := dk_42 (dk_at dksX3_walks_0 11 rfl rfl)
theorem dX3_walks_12 : decode cX3_walks 12 = .ok (.getfield 43, 3) := dk_180 0 43 (dk_at dksX3_walks_0 12 rfl rfl)
theorem dX3_walks_15 : decode cX3_walks 15 = .ok (.iload_n 1, 1) := dk_27 (dk_at dksX3_walks_0 15 rfl rfl)
theorem dX3_walks_16 : decode cX3_walks 16 = .ok (.iload_n 2, 1) := dk_28 (dk_at dksX3_walks_0 16 rfl rfl)
theorem dX3_walks_17 : decode cX3_walks 17 = .ok (.iadd, 1) := dk_96 (dk_at dksX3_walks_0 17 rfl rfl)
theorem dX3_walks_18 : decode cX3_walks 18 = .ok (.iaload, 1) := dk_46 (dk_at dksX3_walks_0 18 rfl rfl)
theorem dX3_walks_19 : decode cX3_walks 19 = .ok (.bipush 10, 2) := dk_16 10 (dk_at dksX3_walks_0 19 rfl rfl)
theorem dX3_walks_21 : decode cX3_walks 21 = .ok (.if_icmp .lt 7, 3) := dk_161 0 7 (dk_at dksX3_walks_0 21 rfl rfl)
theorem dX3_walks_24 : decode cX3_walks 24 = .ok (.iconst 1, 1) := dk_4 (dk_at dksX3_walks_1 0 rfl rfl)
theorem dX3_walks_25 : decode cX3_walks 25 = .ok (.goto 4, 3) := dk_167 0 4 (dk_at dksX3_walks_1 1 rfl rfl)
theorem dX3_walks_28 : decode cX3_walks 28 = .ok (.iconst 0, 1) := dk_3 (dk_at dksX3_walks_1 4 rfl rfl)
theorem dX3_walks_29 : decode cX3_walks 29 = .ok (.invokevirtual 292, 3) := dk_182 1 36 (dk_at dksX3_walks_1 5 rfl rfl)
theorem dX3_walks_32 : decode cX3_walks 32 = .ok (.ireturn, 1) := dk_172 (dk_at dksX3_walks_1 8 rfl rfl)
abbrev cX3_leave : ByteArray := prog_17_method_103_code
def yX3_leave : MethodName := ⟨RX3, "leave", "()I"⟩
def dkwX3_leave_1 : List UInt8 := [42, 180, 0, 56, 27, 46, 27, 182, 1, 135, 155, 0, 5, 27, 172, 132, 1, 255, 167, 255, 233, 2, 172]
abbrev dktX3_leave_1 : List UInt8 := dkwX3_leave_1 ++ []
def dkwX3_leave_0 : List UInt8 := [42, 3, 182, 1, 57, 154, 0, 5, 2, 172, 42, 182, 1, 123, 42, 180, 1, 120, 60, 27, 155, 0, 25, 42]
abbrev dktX3_leave_0 : List UInt8 := dkwX3_leave_0 ++ dktX3_leave_1
theorem dksX3_leave_0 : cX3_leave.data.toList.drop 0 = dktX3_leave_0 := by decide +kernel
theorem dksX3_leave_1 : cX3_leave.data.toList.drop 24 = dktX3_leave_1 := dk_seg dksX3_leave_0 24 rfl rfl
theorem dX3_leave_0 : decode cX3_leave 0 = .ok (.aload_n 0, 1) := dk_42 (dk_at dksX3_leave_0 0 rfl rfl)
theorem dX3_leave_1 : decode cX3_leave 1 = .ok (.iconst 0, 1) := dk_3 (dk_at dksX3_leave_0 1 rfl rfl)
theorem dX3_leave_2 : decode cX3_leave 2 = .ok (.invokevirtual 313, 3) := dk_182 1 57 (dk_at dksX3_leave_0 2 rfl rfl)
theorem dX3_leave_5 : decode cX3_leave 5 = .ok (.ifCond .ne 5, 3) := dk_154 0 5 (dk_at dksX3_leave_0 5 rfl rfl)
theorem dX3_leave_8 : decode cX3_leave 8 = .ok (.iconst (-1), 1) := dk_2 (dk_at dksX3_leave_0 8 rfl rfl)
theorem dX3_leave_9 : decode cX3_leave 9 = .ok (.ireturn, 1) := dk_172 (dk_at dksX3_leave_0 9 rfl rfl)
theorem dX3_leave_10 : decode cX3_leave 10 = .ok (.aload_n 0, 1) := dk_42 (dk_at dksX3_leave_0 10 rfl rfl)
theorem dX3_leave_11 : decode cX3_leave 11 = .ok (.invokevirtual 379, 3) := dk_182 1 123 (dk_at dksX3_leave_0 11 rfl rfl)
theorem dX3_leave_14 : decode cX3_leave 14 = .ok (.aload_n 0, 1) := dk_42 (dk_at dksX3_leave_0 14 rfl rfl)
theorem dX3_leave_15 : decode cX3_leave 15 = .ok (.getfield 376, 3) := dk_180 1 120 (dk_at dksX3_leave_0 15 rfl rfl)
theorem dX3_leave_18 : decode cX3_leave 18 = .ok (.istore_n 1, 1) := dk_60 (dk_at dksX3_leave_0 18 rfl rfl)
theorem dX3_leave_19 : decode cX3_leave 19 = .ok (.iload_n 1, 1) := dk_27 (dk_at dksX3_leave_0 19 rfl rfl)
theorem dX3_leave_20 : decode cX3_leave 20 = .ok (.ifCond .lt 25, 3) := dk_155 0 25 (dk_at dksX3_leave_0 20 rfl rfl)
theorem dX3_leave_23 : decode cX3_leave 23 = .ok (.aload_n 0, 1) := dk_42 (dk_at dksX3_leave_0 23 rfl rfl)
theorem dX3_leave_24 : decode cX3_leave 24 = .ok (.aload_n 0, 1) := dk_42 (dk_at dksX3_leave_1 0 rfl rfl)
theorem dX3_leave_25 : decode cX3_leave 25 = .ok (.getfield 56, 3) := dk_180 0 56 (dk_at dksX3_leave_1 1 rfl rfl)
theorem dX3_leave_28 : decode cX3_leave 28 = .ok (.iload_n 1, 1) := dk_27 (dk_at dksX3_leave_1 4 rfl rfl)
theorem dX3_leave_29 : decode cX3_leave 29 = .ok (.iaload, 1) := dk_46 (dk_at dksX3_leave_1 5 rfl rfl)
theorem dX3_leave_30 : decode cX3_leave 30 = .ok (.iload_n 1, 1) := dk_27 (dk_at dksX3_leave_1 6 rfl rfl)
theorem dX3_leave_31 : decode cX3_leave 31 = .ok (.invokevirtual 391, 3) := dk_182 1 135 (dk_at dksX3_leave_1 7 rfl rfl)
theorem dX3_leave_34 : decode cX3_leave 34 = .ok (.ifCond .lt 5, 3) := dk_155 0 5 (dk_at dksX3_leave_1 10 rfl rfl)
theorem dX3_leave_37 : decode cX3_leave 37 = .ok (.iload_n 1, 1) := dk_27 (dk_at dksX3_leave_1 13 rfl rfl)
theorem dX3_leave_38 : decode cX3_leave 38 = .ok (.ireturn, 1) := dk_172 (dk_at dksX3_leave_1 14 rfl rfl)
theorem dX3_leave_39 : decode cX3_leave 39 = .ok (.iinc 1 (-1), 3) := dk_132 1 255 (dk_at dksX3_leave_1 15 rfl rfl)
theorem dX3_leave_42 : decode cX3_leave 42 = .ok (.goto (-23), 3) := dk_167 255 233 (dk_at dksX3_leave_1 18 rfl rfl)
theorem dX3_leave_45 : decode cX3_leave 45 = .ok (.iconst (-1), 1) := dk_2 (dk_at dksX3_leave_1 21 rfl rfl)
theorem dX3_leave_46 : decode cX3_leave 46 = .ok (.ireturn, 1) := dk_172 (dk_at dksX3_leave_1 22 rfl rfl)
abbrev cX3_winter : ByteArray := prog_17_method_105_code
def yX3_winter : MethodName := ⟨RX3, "winter", "(I)I"⟩
def dkwX3_winter_3 : List UInt8 := [29, 61, 132, 3, 1, 167, 255, 230, 27, 154, 0, 7, 28, 167, 0, 8, 42, 28, 182, 1, 138, 172]
abbrev dktX3_winter_3 : List UInt8 := dkwX3_winter_3 ++ []
def dkwX3_winter_2 : List UInt8 := [61, 4, 62, 29, 42, 180, 0, 83, 162, 0, 24, 42, 29, 182, 1, 138, 42, 28, 182, 1, 138, 162, 0, 5]
abbrev dktX3_winter_2 : List UInt8 := dkwX3_winter_2 ++ dktX3_winter_3
def dkwX3_winter_1 : List UInt8 := [154, 0, 5, 2, 172, 42, 182, 1, 102, 27, 4, 164, 0, 12, 42, 27, 16, 10, 100, 182, 1, 138, 172, 3]
abbrev dktX3_winter_1 : List UInt8 := dkwX3_winter_1 ++ dktX3_winter_2
def dkwX3_winter_0 : List UInt8 := [27, 3, 4, 184, 0, 90, 154, 0, 21, 27, 16, 10, 16, 9, 42, 180, 0, 83, 96, 184, 0, 90]
abbrev dktX3_winter_0 : List UInt8 := dkwX3_winter_0 ++ dktX3_winter_1
theorem dksX3_winter_0 : cX3_winter.data.toList.drop 0 = dktX3_winter_0 := by decide +kernel
theorem dksX3_winter_1 : cX3_winter.data.toList.drop 22 = dktX3_winter_1 := dk_seg dksX3_winter_0 22 rfl rfl
theorem dksX3_winter_2 : cX3_winter.data.toList.drop 46 = dktX3_winter_2 := dk_seg dksX3_winter_1 24 rfl rfl
theorem dksX3_winter_3 : cX3_winter.data.toList.drop 70 = dktX3_winter_3 := dk_seg dksX3_winter_2 24 rfl rfl
theorem dX3_winter_0 : decode cX3_winter 0 = .ok (.iload_n 1, 1) := dk_27 (dk_at dksX3_winter_0 0 rfl rfl)
theorem dX3_winter_1 : decode cX3_winter 1 = .ok (.iconst 0, 1) := dk_3 (dk_at dksX3_winter_0 1 rfl rfl)
theorem dX3_winter_2 : decode cX3_winter 2 = .ok (.iconst 1, 1) := dk_4 (dk_at dksX3_winter_0 2 rfl rfl)
theorem dX3_winter_3 : decode cX3_winter 3 = .ok (.invokestatic 90, 3) := dk_184 0 90 (dk_at dksX3_winter_0 3 rfl rfl)
theorem dX3_winter_6 : decode cX3_winter 6 = .ok (.ifCond .ne 21, 3) := dk_154 0 21 (dk_at dksX3_winter_0 6 rfl rfl)
theorem dX3_winter_9 : decode cX3_winter 9 = .ok (.iload_n 1, 1) := dk_27 (dk_at dksX3_winter_0 9 rfl rfl)
theorem dX3_winter_10 : decode cX3_winter 10 = .ok (.bipush 10, 2) := dk_16 10 (dk_at dksX3_winter_0 10 rfl rfl)
theorem dX3_winter_12 : decode cX3_winter 12 = .ok (.bipush 9, 2) := dk_16 9 (dk_at dksX3_winter_0 12 rfl rfl)
theorem dX3_winter_14 : decode cX3_winter 14 = .ok (.aload_n 0, 1) := dk_42 (dk_at dksX3_winter_0 14 rfl rfl)
theorem dX3_winter_15 : decode cX3_winter 15 = .ok (.getfield 83, 3) := dk_180 0 83 (dk_at dksX3_winter_0 15 rfl rfl)
theorem dX3_winter_18 : decode cX3_winter 18 = .ok (.iadd, 1) := dk_96 (dk_at dksX3_winter_0 18 rfl rfl)
theorem dX3_winter_19 : decode cX3_winter 19 = .ok (.invokestatic 90, 3) := dk_184 0 90 (dk_at dksX3_winter_0 19 rfl rfl)
theorem dX3_winter_22 : decode cX3_winter 22 = .ok (.ifCond .ne 5, 3) := dk_154 0 5 (dk_at dksX3_winter_1 0 rfl rfl)
theorem dX3_winter_25 : decode cX3_winter 25 = .ok (.iconst (-1), 1) := dk_2 (dk_at dksX3_winter_1 3 rfl rfl)
theorem dX3_winter_26 : decode cX3_winter 26 = .ok (.ireturn, 1) := dk_172 (dk_at dksX3_winter_1 4 rfl rfl)
theorem dX3_winter_27 : decode cX3_winter 27 = .ok (.aload_n 0, 1) := dk_42 (dk_at dksX3_winter_1 5 rfl rfl)
theorem dX3_winter_28 : decode cX3_winter 28 = .ok (.invokevirtual 358, 3) := dk_182 1 102 (dk_at dksX3_winter_1 6 rfl rfl)
theorem dX3_winter_31 : decode cX3_winter 31 = .ok (.iload_n 1, 1) := dk_27 (dk_at dksX3_winter_1 9 rfl rfl)
theorem dX3_winter_32 : decode cX3_winter 32 = .ok (.iconst 1, 1) := dk_4 (dk_at dksX3_winter_1 10 rfl rfl)
theorem dX3_winter_33 : decode cX3_winter 33 = .ok (.if_icmp .le 12, 3) := dk_164 0 12 (dk_at dksX3_winter_1 11 rfl rfl)
theorem dX3_winter_36 : decode cX3_winter 36 = .ok (.aload_n 0, 1) := dk_42 (dk_at dksX3_winter_1 14 rfl rfl)
theorem dX3_winter_37 : decode cX3_winter 37 = .ok (.iload_n 1, 1) := dk_27 (dk_at dksX3_winter_1 15 rfl rfl)
theorem dX3_winter_38 : decode cX3_winter 38 = .ok (.bipush 10, 2) := dk_16 10 (dk_at dksX3_winter_1 16 rfl rfl)
theorem dX3_winter_40 : decode cX3_winter 40 = .ok (.isub, 1) := dk_100 (dk_at dksX3_winter_1 18 rfl rfl)
theorem dX3_winter_41 : decode cX3_winter 41 = .ok (.invokevirtual 394, 3) := dk_182 1 138 (dk_at dksX3_winter_1 19 rfl rfl)
theorem dX3_winter_44 : decode cX3_winter 44 = .ok (.ireturn, 1) := dk_172 (dk_at dksX3_winter_1 22 rfl rfl)
theorem dX3_winter_45 : decode cX3_winter 45 = .ok (.iconst 0, 1) := dk_3 (dk_at dksX3_winter_1 23 rfl rfl)
theorem dX3_winter_46 : decode cX3_winter 46 = .ok (.istore_n 2, 1) := dk_61 (dk_at dksX3_winter_2 0 rfl rfl)
theorem dX3_winter_47 : decode cX3_winter 47 = .ok (.iconst 1, 1) := dk_4 (dk_at dksX3_winter_2 1 rfl rfl)
theorem dX3_winter_48 : decode cX3_winter 48 = .ok (.istore_n 3, 1) := dk_62 (dk_at dksX3_winter_2 2 rfl rfl)
theorem dX3_winter_49 : decode cX3_winter 49 = .ok (.iload_n 3, 1) := dk_29 (dk_at dksX3_winter_2 3 rfl rfl)
theorem dX3_winter_50 : decode cX3_winter 50 = .ok (.aload_n 0, 1) := dk_42 (dk_at dksX3_winter_2 4 rfl rfl)
theorem dX3_winter_51 : decode cX3_winter 51 = .ok (.getfield 83, 3) := dk_180 0 83 (dk_at dksX3_winter_2 5 rfl rfl)
theorem dX3_winter_54 : decode cX3_winter 54 = .ok (.if_icmp .ge 24, 3) := dk_162 0 24 (dk_at dksX3_winter_2 8 rfl rfl)
theorem dX3_winter_57 : decode cX3_winter 57 = .ok (.aload_n 0, 1) := dk_42 (dk_at dksX3_winter_2 11 rfl rfl)
theorem dX3_winter_58 : decode cX3_winter 58 = .ok (.iload_n 3, 1) := dk_29 (dk_at dksX3_winter_2 12 rfl rfl)
theorem dX3_winter_59 : decode cX3_winter 59 = .ok (.invokevirtual 394, 3) := dk_182 1 138 (dk_at dksX3_winter_2 13 rfl rfl)
theorem dX3_winter_62 : decode cX3_winter 62 = .ok (.aload_n 0, 1) := dk_42 (dk_at dksX3_winter_2 16 rfl rfl)
theorem dX3_winter_63 : decode cX3_winter 63 = .ok (.iload_n 2, 1) := dk_28 (dk_at dksX3_winter_2 17 rfl rfl)
theorem dX3_winter_64 : decode cX3_winter 64 = .ok (.invokevirtual 394, 3) := dk_182 1 138 (dk_at dksX3_winter_2 18 rfl rfl)
theorem dX3_winter_67 : decode cX3_winter 67 = .ok (.if_icmp .ge 5, 3) := dk_162 0 5 (dk_at dksX3_winter_2 21 rfl rfl)
theorem dX3_winter_70 : decode cX3_winter 70 = .ok (.iload_n 3, 1) := dk_29 (dk_at dksX3_winter_3 0 rfl rfl)
theorem dX3_winter_71 : decode cX3_winter 71 = .ok (.istore_n 2, 1) := dk_61 (dk_at dksX3_winter_3 1 rfl rfl)
theorem dX3_winter_72 : decode cX3_winter 72 = .ok (.iinc 3 1, 3) := dk_132 3 1 (dk_at dksX3_winter_3 2 rfl rfl)
theorem dX3_winter_75 : decode cX3_winter 75 = .ok (.goto (-26), 3) := dk_167 255 230 (dk_at dksX3_winter_3 5 rfl rfl)
theorem dX3_winter_78 : decode cX3_winter 78 = .ok (.iload_n 1, 1) := dk_27 (dk_at dksX3_winter_3 8 rfl rfl)
theorem dX3_winter_79 : decode cX3_winter 79 = .ok (.ifCond .ne 7, 3) := dk_154 0 7 (dk_at dksX3_winter_3 9 rfl rfl)
theorem dX3_winter_82 : decode cX3_winter 82 = .ok (.iload_n 2, 1) := dk_28 (dk_at dksX3_winter_3 12 rfl rfl)
theorem dX3_winter_83 : decode cX3_winter 83 = .ok (.goto 8, 3) := dk_167 0 8 (dk_at dksX3_winter_3 13 rfl rfl)
theorem dX3_winter_86 : decode cX3_winter 86 = .ok (.aload_n 0, 1) := dk_42 (dk_at dksX3_winter_3 16 rfl rfl)
theorem dX3_winter_87 : decode cX3_winter 87 = .ok (.iload_n 2, 1) := dk_28 (dk_at dksX3_winter_3 17 rfl rfl)
theorem dX3_winter_88 : decode cX3_winter 88 = .ok (.invokevirtual 394, 3) := dk_182 1 138 (dk_at dksX3_winter_3 18 rfl rfl)
theorem dX3_winter_91 : decode cX3_winter 91 = .ok (.ireturn, 1) := dk_172 (dk_at dksX3_winter_3 21 rfl rfl)
abbrev cX3_winterAt : ByteArray := prog_17_method_104_code
def yX3_winterAt : MethodName := ⟨RX3, "winterAt", "(I)I"⟩
def dkwX3_winterAt_2 : List UInt8 := [153, 0, 7, 4, 167, 0, 4, 3, 96, 62, 132, 4, 1, 167, 255, 202, 29, 172]
abbrev dktX3_winterAt_2 : List UInt8 := dkwX3_winterAt_2 ++ []
def dkwX3_winterAt_1 : List UInt8 := [17, 0, 180, 21, 4, 96, 46, 182, 1, 69, 61, 29, 42, 180, 0, 49, 16, 36, 21, 4, 104, 28, 96, 51]
abbrev dktX3_winterAt_1 : List UInt8 := dkwX3_winterAt_1 ++ dktX3_winterAt_2
def dkwX3_winterAt_0 : List UInt8 := [27, 61, 3, 62, 3, 54, 4, 21, 4, 42, 180, 0, 7, 7, 46, 162, 0, 49, 42, 28, 42, 180, 0, 7]
abbrev dktX3_winterAt_0 : List UInt8 := dkwX3_winterAt_0 ++ dktX3_winterAt_1
theorem dksX3_winterAt_0 : cX3_winterAt.data.toList.drop 0 = dktX3_winterAt_0 := by decide +kernel
theorem dksX3_winterAt_1 : cX3_winterAt.data.toList.drop 24 = dktX3_winterAt_1 := dk_seg dksX3_winterAt_0 24 rfl rfl
theorem dksX3_winterAt_2 : cX3_winterAt.data.toList.drop 48 = dktX3_winterAt_2 := dk_seg dksX3_winterAt_1 24 rfl rfl
theorem dX3_winterAt_0 : decode cX3_winterAt 0 = .ok (.iload_n 1, 1) := dk_27 (dk_at dksX3_winterAt_0 0 rfl rfl)
theorem dX3_winterAt_1 : decode cX3_winterAt 1 = .ok (.istore_n 2, 1) := dk_61 (dk_at dksX3_winterAt_0 1 rfl rfl)
theorem dX3_winterAt_2 : decode cX3_winterAt 2 = .ok (.iconst 0, 1) := dk_3 (dk_at dksX3_winterAt_0 2 rfl rfl)
theorem dX3_winterAt_3 : decode cX3_winterAt 3 = .ok (.istore_n 3, 1) := dk_62 (dk_at dksX3_winterAt_0 3 rfl rfl)
theorem dX3_winterAt_4 : decode cX3_winterAt 4 = .ok (.iconst 0, 1) := dk_3 (dk_at dksX3_winterAt_0 4 rfl rfl)
theorem dX3_winterAt_5 : decode cX3_winterAt 5 = .ok (.istore 4, 2) := dk_54 4 (dk_at dksX3_winterAt_0 5 rfl rfl)
theorem dX3_winterAt_7 : decode cX3_winterAt 7 = .ok (.iload 4, 2) := dk_21 4 (dk_at dksX3_winterAt_0 7 rfl rfl)
theorem dX3_winterAt_9 : decode cX3_winterAt 9 = .ok (.aload_n 0, 1) := dk_42 (dk_at dksX3_winterAt_0 9 rfl rfl)
theorem dX3_winterAt_10 : decode cX3_winterAt 10 = .ok (.getfield 7, 3) := dk_180 0 7 (dk_at dksX3_winterAt_0 10 rfl rfl)
theorem dX3_winterAt_13 : decode cX3_winterAt 13 = .ok (.iconst 4, 1) := dk_7 (dk_at dksX3_winterAt_0 13 rfl rfl)
theorem dX3_winterAt_14 : decode cX3_winterAt 14 = .ok (.iaload, 1) := dk_46 (dk_at dksX3_winterAt_0 14 rfl rfl)
theorem dX3_winterAt_15 : decode cX3_winterAt 15 = .ok (.if_icmp .ge 49, 3) := dk_162 0 49 (dk_at dksX3_winterAt_0 15 rfl rfl)
theorem dX3_winterAt_18 : decode cX3_winterAt 18 = .ok (.aload_n 0, 1) := dk_42 (dk_at dksX3_winterAt_0 18 rfl rfl)
theorem dX3_winterAt_19 : decode cX3_winterAt 19 = .ok (.iload_n 2, 1) := dk_28 (dk_at dksX3_winterAt_0 19 rfl rfl)
theorem dX3_winterAt_20 : decode cX3_winterAt 20 = .ok (.aload_n 0, 1) := dk_42 (dk_at dksX3_winterAt_0 20 rfl rfl)
theorem dX3_winterAt_21 : decode cX3_winterAt 21 = .ok (.getfield 7, 3) := dk_180 0 7 (dk_at dksX3_winterAt_0 21 rfl rfl)
theorem dX3_winterAt_24 : decode cX3_winterAt 24 = .ok (.sipush 180, 3) := dk_17 0 180 (dk_at dksX3_winterAt_1 0 rfl rfl)
theorem dX3_winterAt_27 : decode cX3_winterAt 27 = .ok (.iload 4, 2) := dk_21 4 (dk_at dksX3_winterAt_1 3 rfl rfl)
theorem dX3_winterAt_29 : decode cX3_winterAt 29 = .ok (.iadd, 1) := dk_96 (dk_at dksX3_winterAt_1 5 rfl rfl)
theorem dX3_winterAt_30 : decode cX3_winterAt 30 = .ok (.iaload, 1) := dk_46 (dk_at dksX3_winterAt_1 6 rfl rfl)
theorem dX3_winterAt_31 : decode cX3_winterAt 31 = .ok (.invokevirtual 325, 3) := dk_182 1 69 (dk_at dksX3_winterAt_1 7 rfl rfl)
theorem dX3_winterAt_34 : decode cX3_winterAt 34 = .ok (.istore_n 2, 1) := dk_61 (dk_at dksX3_winterAt_1 10 rfl rfl)
theorem dX3_winterAt_35 : decode cX3_winterAt 35 = .ok (.iload_n 3, 1) := dk_29 (dk_at dksX3_winterAt_1 11 rfl rfl)
theorem dX3_winterAt_36 : decode cX3_winterAt 36 = .ok (.aload_n 0, 1) := dk_42 (dk_at dksX3_winterAt_1 12 rfl rfl)
theorem dX3_winterAt_37 : decode cX3_winterAt 37 = .ok (.getfield 49, 3) := dk_180 0 49 (dk_at dksX3_winterAt_1 13 rfl rfl)
theorem dX3_winterAt_40 : decode cX3_winterAt 40 = .ok (.bipush 36, 2) := dk_16 36 (dk_at dksX3_winterAt_1 16 rfl rfl)
theorem dX3_winterAt_42 : decode cX3_winterAt 42 = .ok (.iload 4, 2) := dk_21 4 (dk_at dksX3_winterAt_1 18 rfl rfl)
theorem dX3_winterAt_44 : decode cX3_winterAt 44 = .ok (.imul, 1) := dk_104 (dk_at dksX3_winterAt_1 20 rfl rfl)
theorem dX3_winterAt_45 : decode cX3_winterAt 45 = .ok (.iload_n 2, 1) := dk_28 (dk_at dksX3_winterAt_1 21 rfl rfl)
theorem dX3_winterAt_46 : decode cX3_winterAt 46 = .ok (.iadd, 1) := dk_96 (dk_at dksX3_winterAt_1 22 rfl rfl)
theorem dX3_winterAt_47 : decode cX3_winterAt 47 = .ok (.baload, 1) := dk_51 (dk_at dksX3_winterAt_1 23 rfl rfl)
theorem dX3_winterAt_48 : decode cX3_winterAt 48 = .ok (.ifCond .eq 7, 3) := dk_153 0 7 (dk_at dksX3_winterAt_2 0 rfl rfl)
theorem dX3_winterAt_51 : decode cX3_winterAt 51 = .ok (.iconst 1, 1) := dk_4 (dk_at dksX3_winterAt_2 3 rfl rfl)
theorem dX3_winterAt_52 : decode cX3_winterAt 52 = .ok (.goto 4, 3) := dk_167 0 4 (dk_at dksX3_winterAt_2 4 rfl rfl)
theorem dX3_winterAt_55 : decode cX3_winterAt 55 = .ok (.iconst 0, 1) := dk_3 (dk_at dksX3_winterAt_2 7 rfl rfl)
theorem dX3_winterAt_56 : decode cX3_winterAt 56 = .ok (.iadd, 1) := dk_96 (dk_at dksX3_winterAt_2 8 rfl rfl)
theorem dX3_winterAt_57 : decode cX3_winterAt 57 = .ok (.istore_n 3, 1) := dk_62 (dk_at dksX3_winterAt_2 9 rfl rfl)
theorem dX3_winterAt_58 : decode cX3_winterAt 58 = .ok (.iinc 4 1, 3) := dk_132 4 1 (dk_at dksX3_winterAt_2 10 rfl rfl)
theorem dX3_winterAt_61 : decode cX3_winterAt 61 = .ok (.goto (-54), 3) := dk_167 255 202 (dk_at dksX3_winterAt_2 13 rfl rfl)
theorem dX3_winterAt_64 : decode cX3_winterAt 64 = .ok (.iload_n 3, 1) := dk_29 (dk_at dksX3_winterAt_2 16 rfl rfl)
theorem dX3_winterAt_65 : decode cX3_winterAt 65 = .ok (.ireturn, 1) := dk_172 (dk_at dksX3_winterAt_2 17 rfl rfl)
abbrev cX3_surest : ByteArray := prog_17_method_114_code
def yX3_surest : MethodName := ⟨RX3, "surest", "(II)I"⟩
def dkwX3_surest_5 : List UInt8 := [182, 1, 167, 29, 100, 172]
abbrev dktX3_surest_5 : List UInt8 := dkwX3_surest_5 ++ []
def dkwX3_surest_4 : List UInt8 := [54, 4, 28, 154, 0, 7, 29, 167, 0, 20, 28, 4, 160, 0, 8, 21, 4, 167, 0, 10, 42, 27]
abbrev dktX3_surest_4 : List UInt8 := dkwX3_surest_4 ++ dktX3_surest_5
def dkwX3_surest_3 : List UInt8 := [27, 5, 160, 0, 8, 16, 100, 167, 0, 6, 17, 3, 232, 172, 42, 27, 182, 1, 164, 62, 42, 180, 1, 155]
abbrev dktX3_surest_3 : List UInt8 := dkwX3_surest_3 ++ dktX3_surest_4
def dkwX3_surest_2 : List UInt8 := [3, 6, 184, 0, 108, 46, 5, 160, 0, 7, 3, 167, 0, 26, 27, 4, 160, 0, 8, 16, 10, 167, 0, 16]
abbrev dktX3_surest_2 : List UInt8 := dkwX3_surest_2 ++ dktX3_surest_3
def dkwX3_surest_1 : List UInt8 := [182, 1, 57, 154, 0, 59, 28, 4, 160, 0, 7, 2, 167, 0, 49, 28, 5, 159, 0, 17, 42, 180, 0, 7]
abbrev dktX3_surest_1 : List UInt8 := dkwX3_surest_1 ++ dktX3_surest_2
def dkwX3_surest_0 : List UInt8 := [27, 4, 6, 184, 0, 90, 153, 0, 12, 28, 3, 5, 184, 0, 90, 154, 0, 5, 2, 172, 42, 3]
abbrev dktX3_surest_0 : List UInt8 := dkwX3_surest_0 ++ dktX3_surest_1
theorem dksX3_surest_0 : cX3_surest.data.toList.drop 0 = dktX3_surest_0 := by decide +kernel
theorem dksX3_surest_1 : cX3_surest.data.toList.drop 22 = dktX3_surest_1 := dk_seg dksX3_surest_0 22 rfl rfl
theorem dksX3_surest_2 : cX3_surest.data.toList.drop 46 = dktX3_surest_2 := dk_seg dksX3_surest_1 24 rfl rfl
theorem dksX3_surest_3 : cX3_surest.data.toList.drop 70 = dktX3_surest_3 := dk_seg dksX3_surest_2 24 rfl rfl
theorem dksX3_surest_4 : cX3_surest.data.toList.drop 94 = dktX3_surest_4 := dk_seg dksX3_surest_3 24 rfl rfl
theorem dksX3_surest_5 : cX3_surest.data.toList.drop 116 = dktX3_surest_5 := dk_seg dksX3_surest_4 22 rfl rfl
theorem dX3_surest_0 : decode cX3_surest 0 = .ok (.iload_n 1, 1) := dk_27 (dk_at dksX3_surest_0 0 rfl rfl)
theorem dX3_surest_1 : decode cX3_surest 1 = .ok (.iconst 1, 1) := dk_4 (dk_at dksX3_surest_0 1 rfl rfl)
theorem dX3_surest_2 : decode cX3_surest 2 = .ok (.iconst 3, 1) := dk_6 (dk_at dksX3_surest_0 2 rfl rfl)
theorem dX3_surest_3 : decode cX3_surest 3 = .ok (.invokestatic 90, 3) := dk_184 0 90 (dk_at dksX3_surest_0 3 rfl rfl)
theorem dX3_surest_6 : decode cX3_surest 6 = .ok (.ifCond .eq 12, 3) := dk_153 0 12 (dk_at dksX3_surest_0 6 rfl rfl)
theorem dX3_surest_9 : decode cX3_surest 9 = .ok (.iload_n 2, 1) := dk_28 (dk_at dksX3_surest_0 9 rfl rfl)
theorem dX3_surest_10 : decode cX3_surest 10 = .ok (.iconst 0, 1) := dk_3 (dk_at dksX3_surest_0 10 rfl rfl)
theorem dX3_surest_11 : decode cX3_surest 11 = .ok (.iconst 2, 1) := dk_5 (dk_at dksX3_surest_0 11 rfl rfl)
theorem dX3_surest_12 : decode cX3_surest 12 = .ok (.invokestatic 90, 3) := dk_184 0 90 (dk_at dksX3_surest_0 12 rfl rfl)
theorem dX3_surest_15 : decode cX3_surest 15 = .ok (.ifCond .ne 5, 3) := dk_154 0 5 (dk_at dksX3_surest_0 15 rfl rfl)
theorem dX3_surest_18 : decode cX3_surest 18 = .ok (.iconst (-1), 1) := dk_2 (dk_at dksX3_surest_0 18 rfl rfl)
theorem dX3_surest_19 : decode cX3_surest 19 = .ok (.ireturn, 1) := dk_172 (dk_at dksX3_surest_0 19 rfl rfl)
theorem dX3_surest_20 : decode cX3_surest 20 = .ok (.aload_n 0, 1) := dk_42 (dk_at dksX3_surest_0 20 rfl rfl)
theorem dX3_surest_21 : decode cX3_surest 21 = .ok (.iconst 0, 1) := dk_3 (dk_at dksX3_surest_0 21 rfl rfl)
theorem dX3_surest_22 : decode cX3_surest 22 = .ok (.invokevirtual 313, 3) := dk_182 1 57 (dk_at dksX3_surest_1 0 rfl rfl)
theorem dX3_surest_25 : decode cX3_surest 25 = .ok (.ifCond .ne 59, 3) := dk_154 0 59 (dk_at dksX3_surest_1 3 rfl rfl)
theorem dX3_surest_28 : decode cX3_surest 28 = .ok (.iload_n 2, 1) := dk_28 (dk_at dksX3_surest_1 6 rfl rfl)
theorem dX3_surest_29 : decode cX3_surest 29 = .ok (.iconst 1, 1) := dk_4 (dk_at dksX3_surest_1 7 rfl rfl)
theorem dX3_surest_30 : decode cX3_surest 30 = .ok (.if_icmp .ne 7, 3) := dk_160 0 7 (dk_at dksX3_surest_1 8 rfl rfl)
theorem dX3_surest_33 : decode cX3_surest 33 = .ok (.iconst (-1), 1) := dk_2 (dk_at dksX3_surest_1 11 rfl rfl)
theorem dX3_surest_34 : decode cX3_surest 34 = .ok (.goto 49, 3) := dk_167 0 49 (dk_at dksX3_surest_1 12 rfl rfl)
theorem dX3_surest_37 : decode cX3_surest 37 = .ok (.iload_n 2, 1) := dk_28 (dk_at dksX3_surest_1 15 rfl rfl)
theorem dX3_surest_38 : decode cX3_surest 38 = .ok (.iconst 2, 1) := dk_5 (dk_at dksX3_surest_1 16 rfl rfl)
theorem dX3_surest_39 : decode cX3_surest 39 = .ok (.if_icmp .eq 17, 3) := dk_159 0 17 (dk_at dksX3_surest_1 17 rfl rfl)
theorem dX3_surest_42 : decode cX3_surest 42 = .ok (.aload_n 0, 1) := dk_42 (dk_at dksX3_surest_1 20 rfl rfl)
theorem dX3_surest_43 : decode cX3_surest 43 = .ok (.getfield 7, 3) := dk_180 0 7 (dk_at dksX3_surest_1 21 rfl rfl)
theorem dX3_surest_46 : decode cX3_surest 46 = .ok (.iconst 0, 1) := dk_3 (dk_at dksX3_surest_2 0 rfl rfl)
theorem dX3_surest_47 : decode cX3_surest 47 = .ok (.iconst 3, 1) := dk_6 (dk_at dksX3_surest_2 1 rfl rfl)
theorem dX3_surest_48 : decode cX3_surest 48 = .ok (.invokestatic 108, 3) := dk_184 0 108 (dk_at dksX3_surest_2 2 rfl rfl)
theorem dX3_surest_51 : decode cX3_surest 51 = .ok (.iaload, 1) := dk_46 (dk_at dksX3_surest_2 5 rfl rfl)
theorem dX3_surest_52 : decode cX3_surest 52 = .ok (.iconst 2, 1) := dk_5 (dk_at dksX3_surest_2 6 rfl rfl)
theorem dX3_surest_53 : decode cX3_surest 53 = .ok (.if_icmp .ne 7, 3) := dk_160 0 7 (dk_at dksX3_surest_2 7 rfl rfl)
theorem dX3_surest_56 : decode cX3_surest 56 = .ok (.iconst 0, 1) := dk_3 (dk_at dksX3_surest_2 10 rfl rfl)
theorem dX3_surest_57 : decode cX3_surest 57 = .ok (.goto 26, 3) := dk_167 0 26 (dk_at dksX3_surest_2 11 rfl rfl)
theorem dX3_surest_60 : decode cX3_surest 60 = .ok (.iload_n 1, 1) := dk_27 (dk_at dksX3_surest_2 14 rfl rfl)
theorem dX3_surest_61 : decode cX3_surest 61 = .ok (.iconst 1, 1) := dk_4 (dk_at dksX3_surest_2 15 rfl rfl)
theorem dX3_surest_62 : decode cX3_surest 62 = .ok (.if_icmp .ne 8, 3) := dk_160 0 8 (dk_at dksX3_surest_2 16 rfl rfl)
theorem dX3_surest_65 : decode cX3_surest 65 = .ok (.bipush 10, 2) := dk_16 10 (dk_at dksX3_surest_2 19 rfl rfl)
theorem dX3_surest_67 : decode cX3_surest 67 = .ok (.goto 16, 3) := dk_167 0 16 (dk_at dksX3_surest_2 21 rfl rfl)
theorem dX3_surest_70 : decode cX3_surest 70 = .ok (.iload_n 1, 1) := dk_27 (dk_at dksX3_surest_3 0 rfl rfl)
theorem dX3_surest_71 : decode cX3_surest 71 = .ok (.iconst 2, 1) := dk_5 (dk_at dksX3_surest_3 1 rfl rfl)
theorem dX3_surest_72 : decode cX3_surest 72 = .ok (.if_icmp .ne 8, 3) := dk_160 0 8 (dk_at dksX3_surest_3 2 rfl rfl)
theorem dX3_surest_75 : decode cX3_surest 75 = .ok (.bipush 100, 2) := dk_16 100 (dk_at dksX3_surest_3 5 rfl rfl)
theorem dX3_surest_77 : decode cX3_surest 77 = .ok (.goto 6, 3) := dk_167 0 6 (dk_at dksX3_surest_3 7 rfl rfl)
theorem dX3_surest_80 : decode cX3_surest 80 = .ok (.sipush 1000, 3) := dk_17 3 232 (dk_at dksX3_surest_3 10 rfl rfl)
theorem dX3_surest_83 : decode cX3_surest 83 = .ok (.ireturn, 1) := dk_172 (dk_at dksX3_surest_3 13 rfl rfl)
theorem dX3_surest_84 : decode cX3_surest 84 = .ok (.aload_n 0, 1) := dk_42 (dk_at dksX3_surest_3 14 rfl rfl)
theorem dX3_surest_85 : decode cX3_surest 85 = .ok (.iload_n 1, 1) := dk_27 (dk_at dksX3_surest_3 15 rfl rfl)
theorem dX3_surest_86 : decode cX3_surest 86 = .ok (.invokevirtual 420, 3) := dk_182 1 164 (dk_at dksX3_surest_3 16 rfl rfl)
theorem dX3_surest_89 : decode cX3_surest 89 = .ok (.istore_n 3, 1) := dk_62 (dk_at dksX3_surest_3 19 rfl rfl)
theorem dX3_surest_90 : decode cX3_surest 90 = .ok (.aload_n 0, 1) := dk_42 (dk_at dksX3_surest_3 20 rfl rfl)
theorem dX3_surest_91 : decode cX3_surest 91 = .ok (.getfield 411, 3) := dk_180 1 155 (dk_at dksX3_surest_3 21 rfl rfl)
theorem dX3_surest_94 : decode cX3_surest 94 = .ok (.istore 4, 2) := dk_54 4 (dk_at dksX3_surest_4 0 rfl rfl)
theorem dX3_surest_96 : decode cX3_surest 96 = .ok (.iload_n 2, 1) := dk_28 (dk_at dksX3_surest_4 2 rfl rfl)
theorem dX3_surest_97 : decode cX3_surest 97 = .ok (.ifCond .ne 7, 3) := dk_154 0 7 (dk_at dksX3_surest_4 3 rfl rfl)
theorem dX3_surest_100 : decode cX3_surest 100 = .ok (.iload_n 3, 1) := dk_29 (dk_at dksX3_surest_4 6 rfl rfl)
theorem dX3_surest_101 : decode cX3_surest 101 = .ok (.goto 20, 3) := dk_167 0 20 (dk_at dksX3_surest_4 7 rfl rfl)
theorem dX3_surest_104 : decode cX3_surest 104 = .ok (.iload_n 2, 1) := dk_28 (dk_at dksX3_surest_4 10 rfl rfl)
theorem dX3_surest_105 : decode cX3_surest 105 = .ok (.iconst 1, 1) := dk_4 (dk_at dksX3_surest_4 11 rfl rfl)
theorem dX3_surest_106 : decode cX3_surest 106 = .ok (.if_icmp .ne 8, 3) := dk_160 0 8 (dk_at dksX3_surest_4 12 rfl rfl)
theorem dX3_surest_109 : decode cX3_surest 109 = .ok (.iload 4, 2) := dk_21 4 (dk_at dksX3_surest_4 15 rfl rfl)
theorem dX3_surest_111 : decode cX3_surest 111 = .ok (.goto 10, 3) := dk_167 0 10 (dk_at dksX3_surest_4 17 rfl rfl)
theorem dX3_surest_114 : decode cX3_surest 114 = .ok (.aload_n 0, 1) := dk_42 (dk_at dksX3_surest_4 20 rfl rfl)
theorem dX3_surest_115 : decode cX3_surest 115 = .ok (.iload_n 1, 1) := dk_27 (dk_at dksX3_surest_4 21 rfl rfl)
theorem dX3_surest_116 : decode cX3_surest 116 = .ok (.invokevirtual 423, 3) := dk_182 1 167 (dk_at dksX3_surest_5 0 rfl rfl)
theorem dX3_surest_119 : decode cX3_surest 119 = .ok (.iload_n 3, 1) := dk_29 (dk_at dksX3_surest_5 3 rfl rfl)
theorem dX3_surest_120 : decode cX3_surest 120 = .ok (.isub, 1) := dk_100 (dk_at dksX3_surest_5 4 rfl rfl)
theorem dX3_surest_121 : decode cX3_surest 121 = .ok (.ireturn, 1) := dk_172 (dk_at dksX3_surest_5 5 rfl rfl)
abbrev cX3_hope : ByteArray := prog_17_method_111_code
def yX3_hope : MethodName := ⟨RX3, "hope", "(I)I"⟩
def dkwX3_hope_5 : List UInt8 := [156, 0, 7, 3, 167, 0, 4, 28, 172]
abbrev dktX3_hope_5 : List UInt8 := dkwX3_hope_5 ++ []
def dkwX3_hope_4 : List UInt8 := [21, 5, 28, 163, 0, 6, 167, 0, 11, 21, 5, 61, 42, 29, 181, 1, 155, 132, 3, 1, 167, 255, 158, 28]
abbrev dktX3_hope_4 : List UInt8 := dkwX3_hope_4 ++ dktX3_hope_5
def dkwX3_hope_3 : List UInt8 := [167, 0, 22, 17, 3, 232, 167, 0, 16, 42, 27, 29, 42, 182, 1, 114, 21, 4, 100, 182, 1, 158, 54, 5]
abbrev dktX3_hope_3 : List UInt8 := dkwX3_hope_3 ++ dktX3_hope_4
def dkwX3_hope_2 : List UInt8 := [182, 1, 141, 153, 0, 29, 27, 4, 160, 0, 8, 16, 10, 167, 0, 32, 27, 5, 160, 0, 8, 16, 100]
abbrev dktX3_hope_2 : List UInt8 := dkwX3_hope_2 ++ dktX3_hope_3
def dkwX3_hope_1 : List UInt8 := [17, 1, 248, 29, 182, 1, 63, 54, 4, 21, 4, 156, 0, 6, 167, 0, 73, 42, 42, 182, 1, 111, 29]
abbrev dktX3_hope_1 : List UInt8 := dkwX3_hope_1 ++ dktX3_hope_2
def dkwX3_hope_0 : List UInt8 := [2, 61, 42, 2, 181, 1, 155, 42, 17, 1, 248, 182, 1, 60, 3, 62, 29, 16, 8, 162, 0, 98, 42, 3]
abbrev dktX3_hope_0 : List UInt8 := dkwX3_hope_0 ++ dktX3_hope_1
theorem dksX3_hope_0 : cX3_hope.data.toList.drop 0 = dktX3_hope_0 := by decide +kernel
theorem dksX3_hope_1 : cX3_hope.data.toList.drop 24 = dktX3_hope_1 := dk_seg dksX3_hope_0 24 rfl rfl
theorem dksX3_hope_2 : cX3_hope.data.toList.drop 47 = dktX3_hope_2 := dk_seg dksX3_hope_1 23 rfl rfl
theorem dksX3_hope_3 : cX3_hope.data.toList.drop 70 = dktX3_hope_3 := dk_seg dksX3_hope_2 23 rfl rfl
theorem dksX3_hope_4 : cX3_hope.data.toList.drop 94 = dktX3_hope_4 := dk_seg dksX3_hope_3 24 rfl rfl
theorem dksX3_hope_5 : cX3_hope.data.toList.drop 118 = dktX3_hope_5 := dk_seg dksX3_hope_4 24 rfl rfl
theorem dX3_hope_0 : decode cX3_hope 0 = .ok (.iconst (-1), 1) := dk_2 (dk_at dksX3_hope_0 0 rfl rfl)
theorem dX3_hope_1 : decode cX3_hope 1 = .ok (.istore_n 2, 1) := dk_61 (dk_at dksX3_hope_0 1 rfl rfl)
theorem dX3_hope_2 : decode cX3_hope 2 = .ok (.aload_n 0, 1) := dk_42 (dk_at dksX3_hope_0 2 rfl rfl)
theorem dX3_hope_3 : decode cX3_hope 3 = .ok (.iconst (-1), 1) := dk_2 (dk_at dksX3_hope_0 3 rfl rfl)
theorem dX3_hope_4 : decode cX3_hope 4 = .ok (.putfield 411, 3) := dk_181 1 155 (dk_at dksX3_hope_0 4 rfl rfl)
theorem dX3_hope_7 : decode cX3_hope 7 = .ok (.aload_n 0, 1) := dk_42 (dk_at dksX3_hope_0 7 rfl rfl)
theorem dX3_hope_8 : decode cX3_hope 8 = .ok (.sipush 504, 3) := dk_17 1 248 (dk_at dksX3_hope_0 8 rfl rfl)
theorem dX3_hope_11 : decode cX3_hope 11 = .ok (.invokevirtual 316, 3) := dk_182 1 60 (dk_at dksX3_hope_0 11 rfl rfl)
theorem dX3_hope_14 : decode cX3_hope 14 = .ok (.iconst 0, 1) := dk_3 (dk_at dksX3_hope_0 14 rfl rfl)
theorem dX3_hope_15 : decode cX3_hope 15 = .ok (.istore_n 3, 1) := dk_62 (dk_at dksX3_hope_0 15 rfl rfl)
theorem dX3_hope_16 : decode cX3_hope 16 = .ok (.iload_n 3, 1) := dk_29 (dk_at dksX3_hope_0 16 rfl rfl)
theorem dX3_hope_17 : decode cX3_hope 17 = .ok (.bipush 8, 2) := dk_16 8 (dk_at dksX3_hope_0 17 rfl rfl)
theorem dX3_hope_19 : decode cX3_hope 19 = .ok (.if_icmp .ge 98, 3) := dk_162 0 98 (dk_at dksX3_hope_0 19 rfl rfl)
theorem dX3_hope_22 : decode cX3_hope 22 = .ok (.aload_n 0, 1) := dk_42 (dk_at dksX3_hope_0 22 rfl rfl)
theorem dX3_hope_23 : decode cX3_hope 23 = .ok (.iconst 0, 1) := dk_3 (dk_at dksX3_hope_0 23 rfl rfl)
theorem dX3_hope_24 : decode cX3_hope 24 = .ok (.sipush 504, 3) := dk_17 1 248 (dk_at dksX3_hope_1 0 rfl rfl)
theorem dX3_hope_27 : decode cX3_hope 27 = .ok (.iload_n 3, 1) := dk_29 (dk_at dksX3_hope_1 3 rfl rfl)
theorem dX3_hope_28 : decode cX3_hope 28 = .ok (.invokevirtual 319, 3) := dk_182 1 63 (dk_at dksX3_hope_1 4 rfl rfl)
theorem dX3_hope_31 : decode cX3_hope 31 = .ok (.istore 4, 2) := dk_54 4 (dk_at dksX3_hope_1 7 rfl rfl)
theorem dX3_hope_33 : decode cX3_hope 33 = .ok (.iload 4, 2) := dk_21 4 (dk_at dksX3_hope_1 9 rfl rfl)
theorem dX3_hope_35 : decode cX3_hope 35 = .ok (.ifCond .ge 6, 3) := dk_156 0 6 (dk_at dksX3_hope_1 11 rfl rfl)
theorem dX3_hope_38 : decode cX3_hope 38 = .ok (.goto 73, 3) := dk_167 0 73 (dk_at dksX3_hope_1 14 rfl rfl)
theorem dX3_hope_41 : decode cX3_hope 41 = .ok (.aload_n 0, 1) := dk_42 (dk_at dksX3_hope_1 17 rfl rfl)
theorem dX3_hope_42 : decode cX3_hope 42 = .ok (.aload_n 0, 1) := dk_42 (dk_at dksX3_hope_1 18 rfl rfl)
theorem dX3_hope_43 : decode cX3_hope 43 = .ok (.invokevirtual 367, 3) := dk_182 1 111 (dk_at dksX3_hope_1 19 rfl rfl)
theorem dX3_hope_46 : decode cX3_hope 46 = .ok (.iload_n 3, 1) := dk_29 (dk_at dksX3_hope_1 22 rfl rfl)
theorem dX3_hope_47 : decode cX3_hope 47 = .ok (.invokevirtual 397, 3) := dk_182 1 141 (dk_at dksX3_hope_2 0 rfl rfl)
theorem dX3_hope_50 : decode cX3_hope 50 = .ok (.ifCond .eq 29, 3) := dk_153 0 29 (dk_at dksX3_hope_2 3 rfl rfl)
theorem dX3_hope_53 : decode cX3_hope 53 = .ok (.iload_n 1, 1) := dk_27 (dk_at dksX3_hope_2 6 rfl rfl)
theorem dX3_hope_54 : decode cX3_hope 54 = .ok (.iconst 1, 1) := dk_4 (dk_at dksX3_hope_2 7 rfl rfl)
theorem dX3_hope_55 : decode cX3_hope 55 = .ok (.if_icmp .ne 8, 3) := dk_160 0 8 (dk_at dksX3_hope_2 8 rfl rfl)
theorem dX3_hope_58 : decode cX3_hope 58 = .ok (.bipush 10, 2) := dk_16 10 (dk_at dksX3_hope_2 11 rfl rfl)
theorem dX3_hope_60 : decode cX3_hope 60 = .ok (.goto 32, 3) := dk_167 0 32 (dk_at dksX3_hope_2 13 rfl rfl)
theorem dX3_hope_63 : decode cX3_hope 63 = .ok (.iload_n 1, 1) := dk_27 (dk_at dksX3_hope_2 16 rfl rfl)
theorem dX3_hope_64 : decode cX3_hope 64 = .ok (.iconst 2, 1) := dk_5 (dk_at dksX3_hope_2 17 rfl rfl)
theorem dX3_hope_65 : decode cX3_hope 65 = .ok (.if_icmp .ne 8, 3) := dk_160 0 8 (dk_at dksX3_hope_2 18 rfl rfl)
theorem dX3_hope_68 : decode cX3_hope 68 = .ok (.bipush 100, 2) := dk_16 100 (dk_at dksX3_hope_2 21 rfl rfl)
theorem dX3_hope_70 : decode cX3_hope 70 = .ok (.goto 22, 3) := dk_167 0 22 (dk_at dksX3_hope_3 0 rfl rfl)
theorem dX3_hope_73 : decode cX3_hope 73 = .ok (.sipush 1000, 3) := dk_17 3 232 (dk_at dksX3_hope_3 3 rfl rfl)
theorem dX3_hope_76 : decode cX3_hope 76 = .ok (.goto 16, 3) := dk_167 0 16 (dk_at dksX3_hope_3 6 rfl rfl)
theorem dX3_hope_79 : decode cX3_hope 79 = .ok (.aload_n 0, 1) := dk_42 (dk_at dksX3_hope_3 9 rfl rfl)
theorem dX3_hope_80 : decode cX3_hope 80 = .ok (.iload_n 1, 1) := dk_27 (dk_at dksX3_hope_3 10 rfl rfl)
theorem dX3_hope_81 : decode cX3_hope 81 = .ok (.iload_n 3, 1) := dk_29 (dk_at dksX3_hope_3 11 rfl rfl)
theorem dX3_hope_82 : decode cX3_hope 82 = .ok (.aload_n 0, 1) := dk_42 (dk_at dksX3_hope_3 12 rfl rfl)
theorem dX3_hope_83 : decode cX3_hope 83 = .ok (.invokevirtual 370, 3) := dk_182 1 114 (dk_at dksX3_hope_3 13 rfl rfl)
theorem dX3_hope_86 : decode cX3_hope 86 = .ok (.iload 4, 2) := dk_21 4 (dk_at dksX3_hope_3 16 rfl rfl)
theorem dX3_hope_88 : decode cX3_hope 88 = .ok (.isub, 1) := dk_100 (dk_at dksX3_hope_3 18 rfl rfl)
theorem dX3_hope_89 : decode cX3_hope 89 = .ok (.invokevirtual 414, 3) := dk_182 1 158 (dk_at dksX3_hope_3 19 rfl rfl)
theorem dX3_hope_92 : decode cX3_hope 92 = .ok (.istore 5, 2) := dk_54 5 (dk_at dksX3_hope_3 22 rfl rfl)
theorem dX3_hope_94 : decode cX3_hope 94 = .ok (.iload 5, 2) := dk_21 5 (dk_at dksX3_hope_4 0 rfl rfl)
theorem dX3_hope_96 : decode cX3_hope 96 = .ok (.iload_n 2, 1) := dk_28 (dk_at dksX3_hope_4 2 rfl rfl)
theorem dX3_hope_97 : decode cX3_hope 97 = .ok (.if_icmp .gt 6, 3) := dk_163 0 6 (dk_at dksX3_hope_4 3 rfl rfl)
theorem dX3_hope_100 : decode cX3_hope 100 = .ok (.goto 11, 3) := dk_167 0 11 (dk_at dksX3_hope_4 6 rfl rfl)
theorem dX3_hope_103 : decode cX3_hope 103 = .ok (.iload 5, 2) := dk_21 5 (dk_at dksX3_hope_4 9 rfl rfl)
theorem dX3_hope_105 : decode cX3_hope 105 = .ok (.istore_n 2, 1) := dk_61 (dk_at dksX3_hope_4 11 rfl rfl)
theorem dX3_hope_106 : decode cX3_hope 106 = .ok (.aload_n 0, 1) := dk_42 (dk_at dksX3_hope_4 12 rfl rfl)
theorem dX3_hope_107 : decode cX3_hope 107 = .ok (.iload_n 3, 1) := dk_29 (dk_at dksX3_hope_4 13 rfl rfl)
theorem dX3_hope_108 : decode cX3_hope 108 = .ok (.putfield 411, 3) := dk_181 1 155 (dk_at dksX3_hope_4 14 rfl rfl)
theorem dX3_hope_111 : decode cX3_hope 111 = .ok (.iinc 3 1, 3) := dk_132 3 1 (dk_at dksX3_hope_4 17 rfl rfl)
theorem dX3_hope_114 : decode cX3_hope 114 = .ok (.goto (-98), 3) := dk_167 255 158 (dk_at dksX3_hope_4 20 rfl rfl)
theorem dX3_hope_117 : decode cX3_hope 117 = .ok (.iload_n 2, 1) := dk_28 (dk_at dksX3_hope_4 23 rfl rfl)
theorem dX3_hope_118 : decode cX3_hope 118 = .ok (.ifCond .ge 7, 3) := dk_156 0 7 (dk_at dksX3_hope_5 0 rfl rfl)
theorem dX3_hope_121 : decode cX3_hope 121 = .ok (.iconst 0, 1) := dk_3 (dk_at dksX3_hope_5 3 rfl rfl)
theorem dX3_hope_122 : decode cX3_hope 122 = .ok (.goto 4, 3) := dk_167 0 4 (dk_at dksX3_hope_5 4 rfl rfl)
theorem dX3_hope_125 : decode cX3_hope 125 = .ok (.iload_n 2, 1) := dk_28 (dk_at dksX3_hope_5 7 rfl rfl)
theorem dX3_hope_126 : decode cX3_hope 126 = .ok (.ireturn, 1) := dk_172 (dk_at dksX3_hope_5 8 rfl rfl)
abbrev cX3_isWayOut : ByteArray := prog_17_method_108_code
def yX3_isWayOut : MethodName := ⟨RX3, "isWayOut", "(II)Z"⟩
def dkwX3_isWayOut_1 : List UInt8 := [167, 0, 4, 3, 172]
abbrev dktX3_isWayOut_1 : List UInt8 := dkwX3_isWayOut_1 ++ []
def dkwX3_isWayOut_0 : List UInt8 := [28, 7, 162, 0, 25, 42, 180, 0, 7, 16, 70, 42, 27, 28, 182, 1, 15, 96, 46, 4, 160, 0, 7, 4]
abbrev dktX3_isWayOut_0 : List UInt8 := dkwX3_isWayOut_0 ++ dktX3_isWayOut_1
theorem dksX3_isWayOut_0 : cX3_isWayOut.data.toList.drop 0 = dktX3_isWayOut_0 := by decide +kernel
theorem dksX3_isWayOut_1 : cX3_isWayOut.data.toList.drop 24 = dktX3_isWayOut_1 := dk_seg dksX3_isWayOut_0 24 rfl rfl
theorem dX3_isWayOut_0 : decode cX3_isWayOut 0 = .ok (.iload_n 2, 1) := dk_28 (dk_at dksX3_isWayOut_0 0 rfl rfl)
theorem dX3_isWayOut_1 : decode cX3_isWayOut 1 = .ok (.iconst 4, 1) := dk_7 (dk_at dksX3_isWayOut_0 1 rfl rfl)
theorem dX3_isWayOut_2 : decode cX3_isWayOut 2 = .ok (.if_icmp .ge 25, 3) := dk_162 0 25 (dk_at dksX3_isWayOut_0 2 rfl rfl)
theorem dX3_isWayOut_5 : decode cX3_isWayOut 5 = .ok (.aload_n 0, 1) := dk_42 (dk_at dksX3_isWayOut_0 5 rfl rfl)
theorem dX3_isWayOut_6 : decode cX3_isWayOut 6 = .ok (.getfield 7, 3) := dk_180 0 7 (dk_at dksX3_isWayOut_0 6 rfl rfl)
theorem dX3_isWayOut_9 : decode cX3_isWayOut 9 = .ok (.bipush 70, 2) := dk_16 70 (dk_at dksX3_isWayOut_0 9 rfl rfl)
theorem dX3_isWayOut_11 : decode cX3_isWayOut 11 = .ok (.aload_n 0, 1) := dk_42 (dk_at dksX3_isWayOut_0 11 rfl rfl)
theorem dX3_isWayOut_12 : decode cX3_isWayOut 12 = .ok (.iload_n 1, 1) := dk_27 (dk_at dksX3_isWayOut_0 12 rfl rfl)
theorem dX3_isWayOut_13 : decode cX3_isWayOut 13 = .ok (.iload_n 2, 1) := dk_28 (dk_at dksX3_isWayOut_0 13 rfl rfl)
theorem dX3_isWayOut_14 : decode cX3_isWayOut 14 = .ok (.invokevirtual 271, 3) := dk_182 1 15 (dk_at dksX3_isWayOut_0 14 rfl rfl)
theorem dX3_isWayOut_17 : decode cX3_isWayOut 17 = .ok (.iadd, 1) := dk_96 (dk_at dksX3_isWayOut_0 17 rfl rfl)
theorem dX3_isWayOut_18 : decode cX3_isWayOut 18 = .ok (.iaload, 1) := dk_46 (dk_at dksX3_isWayOut_0 18 rfl rfl)
theorem dX3_isWayOut_19 : decode cX3_isWayOut 19 = .ok (.iconst 1, 1) := dk_4 (dk_at dksX3_isWayOut_0 19 rfl rfl)
theorem dX3_isWayOut_20 : decode cX3_isWayOut 20 = .ok (.if_icmp .ne 7, 3) := dk_160 0 7 (dk_at dksX3_isWayOut_0 20 rfl rfl)
theorem dX3_isWayOut_23 : decode cX3_isWayOut 23 = .ok (.iconst 1, 1) := dk_4 (dk_at dksX3_isWayOut_0 23 rfl rfl)
theorem dX3_isWayOut_24 : decode cX3_isWayOut 24 = .ok (.goto 4, 3) := dk_167 0 4 (dk_at dksX3_isWayOut_1 0 rfl rfl)
theorem dX3_isWayOut_27 : decode cX3_isWayOut 27 = .ok (.iconst 0, 1) := dk_3 (dk_at dksX3_isWayOut_1 3 rfl rfl)
theorem dX3_isWayOut_28 : decode cX3_isWayOut 28 = .ok (.ireturn, 1) := dk_172 (dk_at dksX3_isWayOut_1 4 rfl rfl)
abbrev cX3_hopeBehind : ByteArray := prog_17_method_112_code
def yX3_hopeBehind : MethodName := ⟨RX3, "hopeBehind", "(III)I"⟩
def dkwX3_hopeBehind_7 : List UInt8 := [4, 46, 21, 6, 182, 1, 145, 21, 8, 104, 96, 54, 4, 132, 6, 1, 167, 255, 93, 21, 4, 172]
abbrev dktX3_hopeBehind_7 : List UInt8 := dkwX3_hopeBehind_7 ++ []
def dkwX3_hopeBehind_6 : List UInt8 := [21, 5, 21, 6, 42, 180, 0, 7, 3, 46, 4, 96, 182, 1, 161, 54, 8, 21, 4, 42, 42, 180, 0, 7]
abbrev dktX3_hopeBehind_6 : List UInt8 := dkwX3_hopeBehind_6 ++ dktX3_hopeBehind_7
def dkwX3_hopeBehind_5 : List UInt8 := [180, 0, 7, 3, 46, 4, 96, 182, 1, 151, 167, 0, 28, 42, 17, 2, 28, 17, 2, 64, 21, 7, 29]
abbrev dktX3_hopeBehind_5 : List UInt8 := dkwX3_hopeBehind_5 ++ dktX3_hopeBehind_6
def dkwX3_hopeBehind_4 : List UInt8 := [153, 0, 6, 167, 0, 80, 27, 5, 160, 0, 28, 42, 17, 2, 28, 21, 7, 29, 21, 5, 21, 6, 42]
abbrev dktX3_hopeBehind_4 : List UInt8 := dkwX3_hopeBehind_4 ++ dktX3_hopeBehind_5
def dkwX3_hopeBehind_3 : List UInt8 := [21, 6, 182, 1, 148, 54, 7, 42, 17, 2, 28, 21, 7, 21, 6, 42, 180, 0, 7, 3, 46, 182, 1, 72]
abbrev dktX3_hopeBehind_3 : List UInt8 := dkwX3_hopeBehind_3 ++ dktX3_hopeBehind_4
def dkwX3_hopeBehind_2 : List UInt8 := [17, 1, 248, 17, 2, 28, 21, 6, 42, 180, 0, 7, 3, 46, 182, 1, 79, 42, 42, 182, 1, 111, 28]
abbrev dktX3_hopeBehind_2 : List UInt8 := dkwX3_hopeBehind_2 ++ dktX3_hopeBehind_3
def dkwX3_hopeBehind_1 : List UInt8 := [164, 0, 158, 42, 42, 180, 0, 7, 4, 46, 21, 6, 182, 1, 145, 154, 0, 6, 167, 0, 134, 42]
abbrev dktX3_hopeBehind_1 : List UInt8 := dkwX3_hopeBehind_1 ++ dktX3_hopeBehind_2
def dkwX3_hopeBehind_0 : List UInt8 := [3, 54, 4, 28, 42, 182, 1, 117, 184, 1, 66, 54, 5, 3, 54, 6, 21, 6, 7, 162, 0, 163, 27, 4]
abbrev dktX3_hopeBehind_0 : List UInt8 := dkwX3_hopeBehind_0 ++ dktX3_hopeBehind_1
theorem dksX3_hopeBehind_0 : cX3_hopeBehind.data.toList.drop 0 = dktX3_hopeBehind_0 := by decide +kernel
theorem dksX3_hopeBehind_1 : cX3_hopeBehind.data.toList.drop 24 = dktX3_hopeBehind_1 := dk_seg dksX3_hopeBehind_0 24 rfl rfl
theorem dksX3_hopeBehind_2 : cX3_hopeBehind.data.toList.drop 46 = dktX3_hopeBehind_2 := dk_seg dksX3_hopeBehind_1 22 rfl rfl
theorem dksX3_hopeBehind_3 : cX3_hopeBehind.data.toList.drop 69 = dktX3_hopeBehind_3 := dk_seg dksX3_hopeBehind_2 23 rfl rfl
theorem dksX3_hopeBehind_4 : cX3_hopeBehind.data.toList.drop 93 = dktX3_hopeBehind_4 := dk_seg dksX3_hopeBehind_3 24 rfl rfl
theorem dksX3_hopeBehind_5 : cX3_hopeBehind.data.toList.drop 116 = dktX3_hopeBehind_5 := dk_seg dksX3_hopeBehind_4 23 rfl rfl
theorem dksX3_hopeBehind_6 : cX3_hopeBehind.data.toList.drop 139 = dktX3_hopeBehind_6 := dk_seg dksX3_hopeBehind_5 23 rfl rfl
theorem dksX3_hopeBehind_7 : cX3_hopeBehind.data.toList.drop 163 = dktX3_hopeBehind_7 := dk_seg dksX3_hopeBehind_6 24 rfl rfl
theorem dX3_hopeBehind_0 : decode cX3_hopeBehind 0 = .ok (.iconst 0, 1) := dk_3 (dk_at dksX3_hopeBehind_0 0 rfl rfl)
theorem dX3_hopeBehind_1 : decode cX3_hopeBehind 1 = .ok (.istore 4, 2) := dk_54 4 (dk_at dksX3_hopeBehind_0 1 rfl rfl)
theorem dX3_hopeBehind_3 : decode cX3_hopeBehind 3 = .ok (.iload_n 2, 1) := dk_28 (dk_at dksX3_hopeBehind_0 3 rfl rfl)
theorem dX3_hopeBehind_4 : decode cX3_hopeBehind 4 = .ok (.aload_n 0, 1) := dk_42 (dk_at dksX3_hopeBehind_0 4 rfl rfl)
theorem dX3_hopeBehind_5 : decode cX3_hopeBehind 5 = .ok (.invokevirtual 373, 3) := dk_182 1 117 (dk_at dksX3_hopeBehind_0 5 rfl rfl)
theorem dX3_hopeBehind_8 : decode cX3_hopeBehind 8 = .ok (.invokestatic 322, 3) := dk_184 1 66 (dk_at dksX3_hopeBehind_0 8 rfl rfl)
theorem dX3_hopeBehind_11 : decode cX3_hopeBehind 11 = .ok (.istore 5, 2) := dk_54 5 (dk_at dksX3_hopeBehind_0 11 rfl rfl)
theorem dX3_hopeBehind_13 : decode cX3_hopeBehind 13 = .ok (.iconst 0, 1) := dk_3 (dk_at dksX3_hopeBehind_0 13 rfl rfl)
theorem dX3_hopeBehind_14 : decode cX3_hopeBehind 14 = .ok (.istore 6, 2) := dk_54 6 (dk_at dksX3_hopeBehind_0 14 rfl rfl)
theorem dX3_hopeBehind_16 : decode cX3_hopeBehind 16 = .ok (.iload 6, 2) := dk_21 6 (dk_at dksX3_hopeBehind_0 16 rfl rfl)
theorem dX3_hopeBehind_18 : decode cX3_hopeBehind 18 = .ok (.iconst 4, 1) := dk_7 (dk_at dksX3_hopeBehind_0 18 rfl rfl)
theorem dX3_hopeBehind_19 : decode cX3_hopeBehind 19 = .ok (.if_icmp .ge 163, 3) := dk_162 0 163 (dk_at dksX3_hopeBehind_0 19 rfl rfl)
theorem dX3_hopeBehind_22 : decode cX3_hopeBehind 22 = .ok (.iload_n 1, 1) := dk_27 (dk_at dksX3_hopeBehind_0 22 rfl rfl)
theorem dX3_hopeBehind_23 : decode cX3_hopeBehind 23 = .ok (.iconst 1, 1) := dk_4 (dk_at dksX3_hopeBehind_0 23 rfl rfl)
theorem dX3_hopeBehind_24 : decode cX3_hopeBehind 24 = .ok (.if_icmp .le 158, 3) := dk_164 0 158 (dk_at dksX3_hopeBehind_1 0 rfl rfl)
theorem dX3_hopeBehind_27 : decode cX3_hopeBehind 27 = .ok (.aload_n 0, 1) := dk_42 (dk_at dksX3_hopeBehind_1 3 rfl rfl)
theorem dX3_hopeBehind_28 : decode cX3_hopeBehind 28 = .ok (.aload_n 0, 1) := dk_42 (dk_at dksX3_hopeBehind_1 4 rfl rfl)
theorem dX3_hopeBehind_29 : decode cX3_hopeBehind 29 = .ok (.getfield 7, 3) := dk_180 0 7 (dk_at dksX3_hopeBehind_1 5 rfl rfl)
theorem dX3_hopeBehind_32 : decode cX3_hopeBehind 32 = .ok (.iconst 1, 1) := dk_4 (dk_at dksX3_hopeBehind_1 8 rfl rfl)
theorem dX3_hopeBehind_33 : decode cX3_hopeBehind 33 = .ok (.iaload, 1) := dk_46 (dk_at dksX3_hopeBehind_1 9 rfl rfl)
theorem dX3_hopeBehind_34 : decode cX3_hopeBehind 34 = .ok (.iload 6, 2) := dk_21 6 (dk_at dksX3_hopeBehind_1 10 rfl rfl)
theorem dX3_hopeBehind_36 : decode cX3_hopeBehind 36 = .ok (.invokevirtual 401, 3) := dk_182 1 145 (dk_at dksX3_hopeBehind_1 12 rfl rfl)
theorem dX3_hopeBehind_39 : decode cX3_hopeBehind 39 = .ok (.ifCond .ne 6, 3) := dk_154 0 6 (dk_at dksX3_hopeBehind_1 15 rfl rfl)
theorem dX3_hopeBehind_42 : decode cX3_hopeBehind 42 = .ok (.goto 134, 3) := dk_167 0 134 (dk_at dksX3_hopeBehind_1 18 rfl rfl)
theorem dX3_hopeBehind_45 : decode cX3_hopeBehind 45 = .ok (.aload_n 0, 1) := dk_42 (dk_at dksX3_hopeBehind_1 21 rfl rfl)
theorem dX3_hopeBehind_46 : decode cX3_hopeBehind 46 = .ok (.sipush 504, 3) := dk_17 1 248 (dk_at dksX3_hopeBehind_2 0 rfl rfl)
theorem dX3_hopeBehind_49 : decode cX3_hopeBehind 49 = .ok (.sipush 540, 3) := dk_17 2 28 (dk_at dksX3_hopeBehind_2 3 rfl rfl)
theorem dX3_hopeBehind_52 : decode cX3_hopeBehind 52 = .ok (.iload 6, 2) := dk_21 6 (dk_at dksX3_hopeBehind_2 6 rfl rfl)
theorem dX3_hopeBehind_54 : decode cX3_hopeBehind 54 = .ok (.aload_n 0, 1) := dk_42 (dk_at dksX3_hopeBehind_2 8 rfl rfl)
theorem dX3_hopeBehind_55 : decode cX3_hopeBehind 55 = .ok (.getfield 7, 3) := dk_180 0 7 (dk_at dksX3_hopeBehind_2 9 rfl rfl)
theorem dX3_hopeBehind_58 : decode cX3_hopeBehind 58 = .ok (.iconst 0, 1) := dk_3 (dk_at dksX3_hopeBehind_2 12 rfl rfl)
theorem dX3_hopeBehind_59 : decode cX3_hopeBehind 59 = .ok (.iaload, 1) := dk_46 (dk_at dksX3_hopeBehind_2 13 rfl rfl)
theorem dX3_hopeBehind_60 : decode cX3_hopeBehind 60 = .ok (.invokevirtual 335, 3) := dk_182 1 79 (dk_at dksX3_hopeBehind_2 14 rfl rfl)
theorem dX3_hopeBehind_63 : decode cX3_hopeBehind 63 = .ok (.aload_n 0, 1) := dk_42 (dk_at dksX3_hopeBehind_2 17 rfl rfl)
theorem dX3_hopeBehind_64 : decode cX3_hopeBehind 64 = .ok (.aload_n 0, 1) := dk_42 (dk_at dksX3_hopeBehind_2 18 rfl rfl)
theorem dX3_hopeBehind_65 : decode cX3_hopeBehind 65 = .ok (.invokevirtual 367, 3) := dk_182 1 111 (dk_at dksX3_hopeBehind_2 19 rfl rfl)
theorem dX3_hopeBehind_68 : decode cX3_hopeBehind 68 = .ok (.iload_n 2, 1) := dk_28 (dk_at dksX3_hopeBehind_2 22 rfl rfl)
theorem dX3_hopeBehind_69 : decode cX3_hopeBehind 69 = .ok (.iload 6, 2) := dk_21 6 (dk_at dksX3_hopeBehind_3 0 rfl rfl)
theorem dX3_hopeBehind_71 : decode cX3_hopeBehind 71 = .ok (.invokevirtual 404, 3) := dk_182 1 148 (dk_at dksX3_hopeBehind_3 2 rfl rfl)
theorem dX3_hopeBehind_74 : decode cX3_hopeBehind 74 = .ok (.istore 7, 2) := dk_54 7 (dk_at dksX3_hopeBehind_3 5 rfl rfl)
theorem dX3_hopeBehind_76 : decode cX3_hopeBehind 76 = .ok (.aload_n 0, 1) := dk_42 (dk_at dksX3_hopeBehind_3 7 rfl rfl)
theorem dX3_hopeBehind_77 : decode cX3_hopeBehind 77 = .ok (.sipush 540, 3) := dk_17 2 28 (dk_at dksX3_hopeBehind_3 8 rfl rfl)
theorem dX3_hopeBehind_80 : decode cX3_hopeBehind 80 = .ok (.iload 7, 2) := dk_21 7 (dk_at dksX3_hopeBehind_3 11 rfl rfl)
theorem dX3_hopeBehind_82 : decode cX3_hopeBehind 82 = .ok (.iload 6, 2) := dk_21 6 (dk_at dksX3_hopeBehind_3 13 rfl rfl)
theorem dX3_hopeBehind_84 : decode cX3_hopeBehind 84 = .ok (.aload_n 0, 1) := dk_42 (dk_at dksX3_hopeBehind_3 15 rfl rfl)
theorem dX3_hopeBehind_85 : decode cX3_hopeBehind 85 = .ok (.getfield 7, 3) := dk_180 0 7 (dk_at dksX3_hopeBehind_3 16 rfl rfl)
theorem dX3_hopeBehind_88 : decode cX3_hopeBehind 88 = .ok (.iconst 0, 1) := dk_3 (dk_at dksX3_hopeBehind_3 19 rfl rfl)
theorem dX3_hopeBehind_89 : decode cX3_hopeBehind 89 = .ok (.iaload, 1) := dk_46 (dk_at dksX3_hopeBehind_3 20 rfl rfl)
theorem dX3_hopeBehind_90 : decode cX3_hopeBehind 90 = .ok (.invokevirtual 328, 3) := dk_182 1 72 (dk_at dksX3_hopeBehind_3 21 rfl rfl)
theorem dX3_hopeBehind_93 : decode cX3_hopeBehind 93 = .ok (.ifCond .eq 6, 3) := dk_153 0 6 (dk_at dksX3_hopeBehind_4 0 rfl rfl)
theorem dX3_hopeBehind_96 : decode cX3_hopeBehind 96 = .ok (.goto 80, 3) := dk_167 0 80 (dk_at dksX3_hopeBehind_4 3 rfl rfl)
theorem dX3_hopeBehind_99 : decode cX3_hopeBehind 99 = .ok (.iload_n 1, 1) := dk_27 (dk_at dksX3_hopeBehind_4 6 rfl rfl)
theorem dX3_hopeBehind_100 : decode cX3_hopeBehind 100 = .ok (.iconst 2, 1) := dk_5 (dk_at dksX3_hopeBehind_4 7 rfl rfl)
theorem dX3_hopeBehind_101 : decode cX3_hopeBehind 101 = .ok (.if_icmp .ne 28, 3) := dk_160 0 28 (dk_at dksX3_hopeBehind_4 8 rfl rfl)
theorem dX3_hopeBehind_104 : decode cX3_hopeBehind 104 = .ok (.aload_n 0, 1) := dk_42 (dk_at dksX3_hopeBehind_4 11 rfl rfl)
theorem dX3_hopeBehind_105 : decode cX3_hopeBehind 105 = .ok (.sipush 540, 3) := dk_17 2 28 (dk_at dksX3_hopeBehind_4 12 rfl rfl)
theorem dX3_hopeBehind_108 : decode cX3_hopeBehind 108 = .ok (.iload 7, 2) := dk_21 7 (dk_at dksX3_hopeBehind_4 15 rfl rfl)
theorem dX3_hopeBehind_110 : decode cX3_hopeBehind 110 = .ok (.iload_n 3, 1) := dk_29 (dk_at dksX3_hopeBehind_4 17 rfl rfl)
theorem dX3_hopeBehind_111 : decode cX3_hopeBehind 111 = .ok (.iload 5, 2) := dk_21 5 (dk_at dksX3_hopeBehind_4 18 rfl rfl)
theorem dX3_hopeBehind_113 : decode cX3_hopeBehind 113 = .ok (.iload 6, 2) := dk_21 6 (dk_at dksX3_hopeBehind_4 20 rfl rfl)
theorem dX3_hopeBehind_115 : decode cX3_hopeBehind 115 = .ok (.aload_n 0, 1) := dk_42 (dk_at dksX3_hopeBehind_4 22 rfl rfl)
theorem dX3_hopeBehind_116 : decode cX3_hopeBehind 116 = .ok (.getfield 7, 3) := dk_180 0 7 (dk_at dksX3_hopeBehind_5 0 rfl rfl)
theorem dX3_hopeBehind_119 : decode cX3_hopeBehind 119 = .ok (.iconst 0, 1) := dk_3 (dk_at dksX3_hopeBehind_5 3 rfl rfl)
theorem dX3_hopeBehind_120 : decode cX3_hopeBehind 120 = .ok (.iaload, 1) := dk_46 (dk_at dksX3_hopeBehind_5 4 rfl rfl)
theorem dX3_hopeBehind_121 : decode cX3_hopeBehind 121 = .ok (.iconst 1, 1) := dk_4 (dk_at dksX3_hopeBehind_5 5 rfl rfl)
theorem dX3_hopeBehind_122 : decode cX3_hopeBehind 122 = .ok (.iadd, 1) := dk_96 (dk_at dksX3_hopeBehind_5 6 rfl rfl)
theorem dX3_hopeBehind_123 : decode cX3_hopeBehind 123 = .ok (.invokevirtual 407, 3) := dk_182 1 151 (dk_at dksX3_hopeBehind_5 7 rfl rfl)
theorem dX3_hopeBehind_126 : decode cX3_hopeBehind 126 = .ok (.goto 28, 3) := dk_167 0 28 (dk_at dksX3_hopeBehind_5 10 rfl rfl)
theorem dX3_hopeBehind_129 : decode cX3_hopeBehind 129 = .ok (.aload_n 0, 1) := dk_42 (dk_at dksX3_hopeBehind_5 13 rfl rfl)
theorem dX3_hopeBehind_130 : decode cX3_hopeBehind 130 = .ok (.sipush 540, 3) := dk_17 2 28 (dk_at dksX3_hopeBehind_5 14 rfl rfl)
theorem dX3_hopeBehind_133 : decode cX3_hopeBehind 133 = .ok (.sipush 576, 3) := dk_17 2 64 (dk_at dksX3_hopeBehind_5 17 rfl rfl)
theorem dX3_hopeBehind_136 : decode cX3_hopeBehind 136 = .ok (.iload 7, 2) := dk_21 7 (dk_at dksX3_hopeBehind_5 20 rfl rfl)
theorem dX3_hopeBehind_138 : decode cX3_hopeBehind 138 = .ok (.iload_n 3, 1) := dk_29 (dk_at dksX3_hopeBehind_5 22 rfl rfl)
theorem dX3_hopeBehind_139 : decode cX3_hopeBehind 139 = .ok (.iload 5, 2) := dk_21 5 (dk_at dksX3_hopeBehind_6 0 rfl rfl)
theorem dX3_hopeBehind_141 : decode cX3_hopeBehind 141 = .ok (.iload 6, 2) := dk_21 6 (dk_at dksX3_hopeBehind_6 2 rfl rfl)
theorem dX3_hopeBehind_143 : decode cX3_hopeBehind 143 = .ok (.aload_n 0, 1) := dk_42 (dk_at dksX3_hopeBehind_6 4 rfl rfl)
theorem dX3_hopeBehind_144 : decode cX3_hopeBehind 144 = .ok (.getfield 7, 3) := dk_180 0 7 (dk_at dksX3_hopeBehind_6 5 rfl rfl)
theorem dX3_hopeBehind_147 : decode cX3_hopeBehind 147 = .ok (.iconst 0, 1) := dk_3 (dk_at dksX3_hopeBehind_6 8 rfl rfl)
theorem dX3_hopeBehind_148 : decode cX3_hopeBehind 148 = .ok (.iaload, 1) := dk_46 (dk_at dksX3_hopeBehind_6 9 rfl rfl)
theorem dX3_hopeBehind_149 : decode cX3_hopeBehind 149 = .ok (.iconst 1, 1) := dk_4 (dk_at dksX3_hopeBehind_6 10 rfl rfl)
theorem dX3_hopeBehind_150 : decode cX3_hopeBehind 150 = .ok (.iadd, 1) := dk_96 (dk_at dksX3_hopeBehind_6 11 rfl rfl)
theorem dX3_hopeBehind_151 : decode cX3_hopeBehind 151 = .ok (.invokevirtual 417, 3) := dk_182 1 161 (dk_at dksX3_hopeBehind_6 12 rfl rfl)
theorem dX3_hopeBehind_154 : decode cX3_hopeBehind 154 = .ok (.istore 8, 2) := dk_54 8 (dk_at dksX3_hopeBehind_6 15 rfl rfl)
theorem dX3_hopeBehind_156 : decode cX3_hopeBehind 156 = .ok (.iload 4, 2) := dk_21 4 (dk_at dksX3_hopeBehind_6 17 rfl rfl)
theorem dX3_hopeBehind_158 : decode cX3_hopeBehind 158 = .ok (.aload_n 0, 1) := dk_42 (dk_at dksX3_hopeBehind_6 19 rfl rfl)
theorem dX3_hopeBehind_159 : decode cX3_hopeBehind 159 = .ok (.aload_n 0, 1) := dk_42 (dk_at dksX3_hopeBehind_6 20 rfl rfl)
theorem dX3_hopeBehind_160 : decode cX3_hopeBehind 160 = .ok (.getfield 7, 3) := dk_180 0 7 (dk_at dksX3_hopeBehind_6 21 rfl rfl)
theorem dX3_hopeBehind_163 : decode cX3_hopeBehind 163 = .ok (.iconst 1, 1) := dk_4 (dk_at dksX3_hopeBehind_7 0 rfl rfl)
theorem dX3_hopeBehind_164 : decode cX3_hopeBehind 164 = .ok (.iaload, 1) := dk_46 (dk_at dksX3_hopeBehind_7 1 rfl rfl)
theorem dX3_hopeBehind_165 : decode cX3_hopeBehind 165 = .ok (.iload 6, 2) := dk_21 6 (dk_at dksX3_hopeBehind_7 2 rfl rfl)
theorem dX3_hopeBehind_167 : decode cX3_hopeBehind 167 = .ok (.invokevirtual 401, 3) := dk_182 1 145 (dk_at dksX3_hopeBehind_7 4 rfl rfl)
theorem dX3_hopeBehind_170 : decode cX3_hopeBehind 170 = .ok (.iload 8, 2) := dk_21 8 (dk_at dksX3_hopeBehind_7 7 rfl rfl)
theorem dX3_hopeBehind_172 : decode cX3_hopeBehind 172 = .ok (.imul, 1) := dk_104 (dk_at dksX3_hopeBehind_7 9 rfl rfl)
theorem dX3_hopeBehind_173 : decode cX3_hopeBehind 173 = .ok (.iadd, 1) := dk_96 (dk_at dksX3_hopeBehind_7 10 rfl rfl)
theorem dX3_hopeBehind_174 : decode cX3_hopeBehind 174 = .ok (.istore 4, 2) := dk_54 4 (dk_at dksX3_hopeBehind_7 11 rfl rfl)
theorem dX3_hopeBehind_176 : decode cX3_hopeBehind 176 = .ok (.iinc 6 1, 3) := dk_132 6 1 (dk_at dksX3_hopeBehind_7 13 rfl rfl)
theorem dX3_hopeBehind_179 : decode cX3_hopeBehind 179 = .ok (.goto (-163), 3) := dk_167 255 93 (dk_at dksX3_hopeBehind_7 16 rfl rfl)
theorem dX3_hopeBehind_182 : decode cX3_hopeBehind 182 = .ok (.iload 4, 2) := dk_21 4 (dk_at dksX3_hopeBehind_7 19 rfl rfl)
theorem dX3_hopeBehind_184 : decode cX3_hopeBehind 184 = .ok (.ireturn, 1) := dk_172 (dk_at dksX3_hopeBehind_7 21 rfl rfl)
abbrev cX3_chanceOf : ByteArray := prog_17_method_106_code
def yX3_chanceOf : MethodName := ⟨RX3, "chanceOf", "(II)I"⟩
def dkwX3_chanceOf_0 : List UInt8 := [42, 180, 0, 7, 17, 0, 160, 7, 27, 104, 96, 28, 96, 46, 172]
abbrev dktX3_chanceOf_0 : List UInt8 := dkwX3_chanceOf_0 ++ []
theorem dksX3_chanceOf_0 : cX3_chanceOf.data.toList.drop 0 = dktX3_chanceOf_0 := by decide +kernel
theorem dX3_chanceOf_0 : decode cX3_chanceOf 0 = .ok (.aload_n 0, 1) := dk_42 (dk_at dksX3_chanceOf_0 0 rfl rfl)
theorem dX3_chanceOf_1 : decode cX3_chanceOf 1 = .ok (.getfield 7, 3) := dk_180 0 7 (dk_at dksX3_chanceOf_0 1 rfl rfl)
theorem dX3_chanceOf_4 : decode cX3_chanceOf 4 = .ok (.sipush 160, 3) := dk_17 0 160 (dk_at dksX3_chanceOf_0 4 rfl rfl)
theorem dX3_chanceOf_7 : decode cX3_chanceOf 7 = .ok (.iconst 4, 1) := dk_7 (dk_at dksX3_chanceOf_0 7 rfl rfl)
theorem dX3_chanceOf_8 : decode cX3_chanceOf 8 = .ok (.iload_n 1, 1) := dk_27 (dk_at dksX3_chanceOf_0 8 rfl rfl)
theorem dX3_chanceOf_9 : decode cX3_chanceOf 9 = .ok (.imul, 1) := dk_104 (dk_at dksX3_chanceOf_0 9 rfl rfl)
theorem dX3_chanceOf_10 : decode cX3_chanceOf 10 = .ok (.iadd, 1) := dk_96 (dk_at dksX3_chanceOf_0 10 rfl rfl)
theorem dX3_chanceOf_11 : decode cX3_chanceOf 11 = .ok (.iload_n 2, 1) := dk_28 (dk_at dksX3_chanceOf_0 11 rfl rfl)
theorem dX3_chanceOf_12 : decode cX3_chanceOf 12 = .ok (.iadd, 1) := dk_96 (dk_at dksX3_chanceOf_0 12 rfl rfl)
theorem dX3_chanceOf_13 : decode cX3_chanceOf 13 = .ok (.iaload, 1) := dk_46 (dk_at dksX3_chanceOf_0 13 rfl rfl)
theorem dX3_chanceOf_14 : decode cX3_chanceOf 14 = .ok (.ireturn, 1) := dk_172 (dk_at dksX3_chanceOf_0 14 rfl rfl)
abbrev cX3_behind : ByteArray := prog_17_method_107_code
def yX3_behind : MethodName := ⟨RX3, "behind", "(III)I"⟩
def dkwX3_behind_1 : List UInt8 := [27, 29, 182, 1, 69, 172]
abbrev dktX3_behind_1 : List UInt8 := dkwX3_behind_1 ++ []
def dkwX3_behind_0 : List UInt8 := [28, 7, 162, 0, 12, 42, 27, 28, 182, 1, 15, 167, 0, 18, 28, 8, 160, 0, 7, 27, 167, 0, 9, 42]
abbrev dktX3_behind_0 : List UInt8 := dkwX3_behind_0 ++ dktX3_behind_1
theorem dksX3_behind_0 : cX3_behind.data.toList.drop 0 = dktX3_behind_0 := by decide +kernel
theorem dksX3_behind_1 : cX3_behind.data.toList.drop 24 = dktX3_behind_1 := dk_seg dksX3_behind_0 24 rfl rfl
theorem dX3_behind_0 : decode cX3_behind 0 = .ok (.iload_n 2, 1) := dk_28 (dk_at dksX3_behind_0 0 rfl rfl)
theorem dX3_behind_1 : decode cX3_behind 1 = .ok (.iconst 4, 1) := dk_7 (dk_at dksX3_behind_0 1 rfl rfl)
theorem dX3_behind_2 : decode cX3_behind 2 = .ok (.if_icmp .ge 12, 3) := dk_162 0 12 (dk_at dksX3_behind_0 2 rfl rfl)
theorem dX3_behind_5 : decode cX3_behind 5 = .ok (.aload_n 0, 1) := dk_42 (dk_at dksX3_behind_0 5 rfl rfl)
theorem dX3_behind_6 : decode cX3_behind 6 = .ok (.iload_n 1, 1) := dk_27 (dk_at dksX3_behind_0 6 rfl rfl)
theorem dX3_behind_7 : decode cX3_behind 7 = .ok (.iload_n 2, 1) := dk_28 (dk_at dksX3_behind_0 7 rfl rfl)
theorem dX3_behind_8 : decode cX3_behind 8 = .ok (.invokevirtual 271, 3) := dk_182 1 15 (dk_at dksX3_behind_0 8 rfl rfl)
theorem dX3_behind_11 : decode cX3_behind 11 = .ok (.goto 18, 3) := dk_167 0 18 (dk_at dksX3_behind_0 11 rfl rfl)
theorem dX3_behind_14 : decode cX3_behind 14 = .ok (.iload_n 2, 1) := dk_28 (dk_at dksX3_behind_0 14 rfl rfl)
theorem dX3_behind_15 : decode cX3_behind 15 = .ok (.iconst 5, 1) := dk_8 (dk_at dksX3_behind_0 15 rfl rfl)
theorem dX3_behind_16 : decode cX3_behind 16 = .ok (.if_icmp .ne 7, 3) := dk_160 0 7 (dk_at dksX3_behind_0 16 rfl rfl)
theorem dX3_behind_19 : decode cX3_behind 19 = .ok (.iload_n 1, 1) := dk_27 (dk_at dksX3_behind_0 19 rfl rfl)
theorem dX3_behind_20 : decode cX3_behind 20 = .ok (.goto 9, 3) := dk_167 0 9 (dk_at dksX3_behind_0 20 rfl rfl)
theorem dX3_behind_23 : decode cX3_behind 23 = .ok (.aload_n 0, 1) := dk_42 (dk_at dksX3_behind_0 23 rfl rfl)
theorem dX3_behind_24 : decode cX3_behind 24 = .ok (.iload_n 1, 1) := dk_27 (dk_at dksX3_behind_1 0 rfl rfl)
theorem dX3_behind_25 : decode cX3_behind 25 = .ok (.iload_n 3, 1) := dk_29 (dk_at dksX3_behind_1 1 rfl rfl)
theorem dX3_behind_26 : decode cX3_behind 26 = .ok (.invokevirtual 325, 3) := dk_182 1 69 (dk_at dksX3_behind_1 2 rfl rfl)
theorem dX3_behind_29 : decode cX3_behind 29 = .ok (.ireturn, 1) := dk_172 (dk_at dksX3_behind_1 5 rfl rfl)
abbrev cX3_hopeOne : ByteArray := prog_17_method_109_code
def yX3_hopeOne : MethodName := ⟨RX3, "hopeOne", "(IIIIII)I"⟩
def dkwX3_hopeOne_1 : List UInt8 := [155, 0, 16, 42, 28, 21, 7, 182, 1, 141, 153, 0, 6, 16, 10, 172, 132, 7, 1, 167, 255, 216, 3, 172]
abbrev dktX3_hopeOne_1 : List UInt8 := dkwX3_hopeOne_1 ++ []
def dkwX3_hopeOne_0 : List UInt8 := [3, 54, 7, 21, 7, 7, 162, 0, 40, 42, 27, 28, 29, 21, 4, 21, 7, 21, 5, 21, 6, 182, 1, 50]
abbrev dktX3_hopeOne_0 : List UInt8 := dkwX3_hopeOne_0 ++ dktX3_hopeOne_1
theorem dksX3_hopeOne_0 : cX3_hopeOne.data.toList.drop 0 = dktX3_hopeOne_0 := by decide +kernel
theorem dksX3_hopeOne_1 : cX3_hopeOne.data.toList.drop 24 = dktX3_hopeOne_1 := dk_seg dksX3_hopeOne_0 24 rfl rfl
theorem dX3_hopeOne_0 : decode cX3_hopeOne 0 = .ok (.iconst 0, 1) := dk_3 (dk_at dksX3_hopeOne_0 0 rfl rfl)
theorem dX3_hopeOne_1 : decode cX3_hopeOne 1 = .ok (.istore 7, 2) := dk_54 7 (dk_at dksX3_hopeOne_0 1 rfl rfl)
theorem dX3_hopeOne_3 : decode cX3_hopeOne 3 = .ok (.iload 7, 2) := dk_21 7 (dk_at dksX3_hopeOne_0 3 rfl rfl)
theorem dX3_hopeOne_5 : decode cX3_hopeOne 5 = .ok (.iconst 4, 1) := dk_7 (dk_at dksX3_hopeOne_0 5 rfl rfl)
theorem dX3_hopeOne_6 : decode cX3_hopeOne 6 = .ok (.if_icmp .ge 40, 3) := dk_162 0 40 (dk_at dksX3_hopeOne_0 6 rfl rfl)
theorem dX3_hopeOne_9 : decode cX3_hopeOne 9 = .ok (.aload_n 0, 1) := dk_42 (dk_at dksX3_hopeOne_0 9 rfl rfl)
theorem dX3_hopeOne_10 : decode cX3_hopeOne 10 = .ok (.iload_n 1, 1) := dk_27 (dk_at dksX3_hopeOne_0 10 rfl rfl)
theorem dX3_hopeOne_11 : decode cX3_hopeOne 11 = .ok (.iload_n 2, 1) := dk_28 (dk_at dksX3_hopeOne_0 11 rfl rfl)
theorem dX3_hopeOne_12 : decode cX3_hopeOne 12 = .ok (.iload_n 3, 1) := dk_29 (dk_at dksX3_hopeOne_0 12 rfl rfl)
theorem dX3_hopeOne_13 : decode cX3_hopeOne 13 = .ok (.iload 4, 2) := dk_21 4 (dk_at dksX3_hopeOne_0 13 rfl rfl)
theorem dX3_hopeOne_15 : decode cX3_hopeOne 15 = .ok (.iload 7, 2) := dk_21 7 (dk_at dksX3_hopeOne_0 15 rfl rfl)
theorem dX3_hopeOne_17 : decode cX3_hopeOne 17 = .ok (.iload 5, 2) := dk_21 5 (dk_at dksX3_hopeOne_0 17 rfl rfl)
theorem dX3_hopeOne_19 : decode cX3_hopeOne 19 = .ok (.iload 6, 2) := dk_21 6 (dk_at dksX3_hopeOne_0 19 rfl rfl)
theorem dX3_hopeOne_21 : decode cX3_hopeOne 21 = .ok (.invokevirtual 306, 3) := dk_182 1 50 (dk_at dksX3_hopeOne_0 21 rfl rfl)
theorem dX3_hopeOne_24 : decode cX3_hopeOne 24 = .ok (.ifCond .lt 16, 3) := dk_155 0 16 (dk_at dksX3_hopeOne_1 0 rfl rfl)
theorem dX3_hopeOne_27 : decode cX3_hopeOne 27 = .ok (.aload_n 0, 1) := dk_42 (dk_at dksX3_hopeOne_1 3 rfl rfl)
theorem dX3_hopeOne_28 : decode cX3_hopeOne 28 = .ok (.iload_n 2, 1) := dk_28 (dk_at dksX3_hopeOne_1 4 rfl rfl)
theorem dX3_hopeOne_29 : decode cX3_hopeOne 29 = .ok (.iload 7, 2) := dk_21 7 (dk_at dksX3_hopeOne_1 5 rfl rfl)
theorem dX3_hopeOne_31 : decode cX3_hopeOne 31 = .ok (.invokevirtual 397, 3) := dk_182 1 141 (dk_at dksX3_hopeOne_1 7 rfl rfl)
theorem dX3_hopeOne_34 : decode cX3_hopeOne 34 = .ok (.ifCond .eq 6, 3) := dk_153 0 6 (dk_at dksX3_hopeOne_1 10 rfl rfl)
theorem dX3_hopeOne_37 : decode cX3_hopeOne 37 = .ok (.bipush 10, 2) := dk_16 10 (dk_at dksX3_hopeOne_1 13 rfl rfl)
theorem dX3_hopeOne_39 : decode cX3_hopeOne 39 = .ok (.ireturn, 1) := dk_172 (dk_at dksX3_hopeOne_1 15 rfl rfl)
theorem dX3_hopeOne_40 : decode cX3_hopeOne 40 = .ok (.iinc 7 1, 3) := dk_132 7 1 (dk_at dksX3_hopeOne_1 16 rfl rfl)
theorem dX3_hopeOne_43 : decode cX3_hopeOne 43 = .ok (.goto (-40), 3) := dk_167 255 216 (dk_at dksX3_hopeOne_1 19 rfl rfl)
theorem dX3_hopeOne_46 : decode cX3_hopeOne 46 = .ok (.iconst 0, 1) := dk_3 (dk_at dksX3_hopeOne_1 22 rfl rfl)
theorem dX3_hopeOne_47 : decode cX3_hopeOne 47 = .ok (.ireturn, 1) := dk_172 (dk_at dksX3_hopeOne_1 23 rfl rfl)
abbrev cX3_hopeTwo : ByteArray := prog_17_method_110_code
def yX3_hopeTwo : MethodName := ⟨RX3, "hopeTwo", "(IIIIIII)I"⟩
def dkwX3_hopeTwo_7 : List UInt8 := [164, 0, 8, 21, 11, 167, 0, 5, 21, 8, 54, 8, 132, 9, 1, 167, 255, 85, 21, 8, 172]
abbrev dktX3_hopeTwo_7 : List UInt8 := dkwX3_hopeTwo_7 ++ []
def dkwX3_hopeTwo_6 : List UInt8 := [21, 12, 21, 7, 4, 96, 182, 1, 151, 104, 96, 54, 11, 132, 12, 1, 167, 255, 159, 21, 11, 21, 8]
abbrev dktX3_hopeTwo_6 : List UInt8 := dkwX3_hopeTwo_6 ++ dktX3_hopeTwo_7
def dkwX3_hopeTwo_5 : List UInt8 := [21, 6, 21, 12, 182, 1, 145, 42, 28, 21, 13, 21, 4, 21, 10, 100, 21, 9, 21, 5, 184, 1, 66]
abbrev dktX3_hopeTwo_5 : List UInt8 := dkwX3_hopeTwo_5 ++ dktX3_hopeTwo_6
def dkwX3_hopeTwo_4 : List UInt8 := [21, 12, 182, 1, 148, 54, 13, 42, 28, 21, 13, 21, 12, 21, 7, 182, 1, 72, 154, 0, 42, 21, 11, 42]
abbrev dktX3_hopeTwo_4 : List UInt8 := dkwX3_hopeTwo_4 ++ dktX3_hopeTwo_5
def dkwX3_hopeTwo_3 : List UInt8 := [182, 1, 145, 154, 0, 6, 167, 0, 77, 42, 27, 28, 21, 12, 21, 7, 182, 1, 79, 42, 29, 21, 9]
abbrev dktX3_hopeTwo_3 : List UInt8 := dkwX3_hopeTwo_3 ++ dktX3_hopeTwo_4
def dkwX3_hopeTwo_2 : List UInt8 := [153, 0, 6, 16, 100, 172, 3, 54, 11, 3, 54, 12, 21, 12, 7, 162, 0, 97, 42, 21, 6, 21, 12]
abbrev dktX3_hopeTwo_2 : List UInt8 := dkwX3_hopeTwo_2 ++ dktX3_hopeTwo_3
def dkwX3_hopeTwo_1 : List UInt8 := [21, 7, 182, 1, 50, 54, 10, 21, 10, 156, 0, 6, 167, 0, 138, 42, 29, 21, 9, 182, 1, 141]
abbrev dktX3_hopeTwo_1 : List UInt8 := dkwX3_hopeTwo_1 ++ dktX3_hopeTwo_2
def dkwX3_hopeTwo_0 : List UInt8 := [3, 54, 8, 3, 54, 9, 21, 9, 16, 8, 162, 0, 170, 42, 27, 29, 21, 4, 21, 5, 21, 9, 21, 6]
abbrev dktX3_hopeTwo_0 : List UInt8 := dkwX3_hopeTwo_0 ++ dktX3_hopeTwo_1
theorem dksX3_hopeTwo_0 : cX3_hopeTwo.data.toList.drop 0 = dktX3_hopeTwo_0 := by decide +kernel
theorem dksX3_hopeTwo_1 : cX3_hopeTwo.data.toList.drop 24 = dktX3_hopeTwo_1 := dk_seg dksX3_hopeTwo_0 24 rfl rfl
theorem dksX3_hopeTwo_2 : cX3_hopeTwo.data.toList.drop 46 = dktX3_hopeTwo_2 := dk_seg dksX3_hopeTwo_1 22 rfl rfl
theorem dksX3_hopeTwo_3 : cX3_hopeTwo.data.toList.drop 69 = dktX3_hopeTwo_3 := dk_seg dksX3_hopeTwo_2 23 rfl rfl
theorem dksX3_hopeTwo_4 : cX3_hopeTwo.data.toList.drop 92 = dktX3_hopeTwo_4 := dk_seg dksX3_hopeTwo_3 23 rfl rfl
theorem dksX3_hopeTwo_5 : cX3_hopeTwo.data.toList.drop 116 = dktX3_hopeTwo_5 := dk_seg dksX3_hopeTwo_4 24 rfl rfl
theorem dksX3_hopeTwo_6 : cX3_hopeTwo.data.toList.drop 139 = dktX3_hopeTwo_6 := dk_seg dksX3_hopeTwo_5 23 rfl rfl
theorem dksX3_hopeTwo_7 : cX3_hopeTwo.data.toList.drop 162 = dktX3_hopeTwo_7 := dk_seg dksX3_hopeTwo_6 23 rfl rfl
theorem dX3_hopeTwo_0 : decode cX3_hopeTwo 0 = .ok (.iconst 0, 1) := dk_3 (dk_at dksX3_hopeTwo_0 0 rfl rfl)
theorem dX3_hopeTwo_1 : decode cX3_hopeTwo 1 = .ok (.istore 8, 2) := dk_54 8 (dk_at dksX3_hopeTwo_0 1 rfl rfl)
theorem dX3_hopeTwo_3 : decode cX3_hopeTwo 3 = .ok (.iconst 0, 1) := dk_3 (dk_at dksX3_hopeTwo_0 3 rfl rfl)
theorem dX3_hopeTwo_4 : decode cX3_hopeTwo 4 = .ok (.istore 9, 2) := dk_54 9 (dk_at dksX3_hopeTwo_0 4 rfl rfl)
theorem dX3_hopeTwo_6 : decode cX3_hopeTwo 6 = .ok (.iload 9, 2) := dk_21 9 (dk_at dksX3_hopeTwo_0 6 rfl rfl)
theorem dX3_hopeTwo_8 : decode cX3_hopeTwo 8 = .ok (.bipush 8, 2) := dk_16 8 (dk_at dksX3_hopeTwo_0 8 rfl rfl)
theorem dX3_hopeTwo_10 : decode cX3_hopeTwo 10 = .ok (.if_icmp .ge 170, 3) := dk_162 0 170 (dk_at dksX3_hopeTwo_0 10 rfl rfl)
theorem dX3_hopeTwo_13 : decode cX3_hopeTwo 13 = .ok (.aload_n 0, 1) := dk_42 (dk_at dksX3_hopeTwo_0 13 rfl rfl)
theorem dX3_hopeTwo_14 : decode cX3_hopeTwo 14 = .ok (.iload_n 1, 1) := dk_27 (dk_at dksX3_hopeTwo_0 14 rfl rfl)
theorem dX3_hopeTwo_15 : decode cX3_hopeTwo 15 = .ok (.iload_n 3, 1) := dk_29 (dk_at dksX3_hopeTwo_0 15 rfl rfl)
theorem dX3_hopeTwo_16 : decode cX3_hopeTwo 16 = .ok (.iload 4, 2) := dk_21 4 (dk_at dksX3_hopeTwo_0 16 rfl rfl)
theorem dX3_hopeTwo_18 : decode cX3_hopeTwo 18 = .ok (.iload 5, 2) := dk_21 5 (dk_at dksX3_hopeTwo_0 18 rfl rfl)
theorem dX3_hopeTwo_20 : decode cX3_hopeTwo 20 = .ok (.iload 9, 2) := dk_21 9 (dk_at dksX3_hopeTwo_0 20 rfl rfl)
theorem dX3_hopeTwo_22 : decode cX3_hopeTwo 22 = .ok (.iload 6, 2) := dk_21 6 (dk_at dksX3_hopeTwo_0 22 rfl rfl)
theorem dX3_hopeTwo_24 : decode cX3_hopeTwo 24 = .ok (.iload 7, 2) := dk_21 7 (dk_at dksX3_hopeTwo_1 0 rfl rfl)
theorem dX3_hopeTwo_26 : decode cX3_hopeTwo 26 = .ok (.invokevirtual 306, 3) := dk_182 1 50 (dk_at dksX3_hopeTwo_1 2 rfl rfl)
theorem dX3_hopeTwo_29 : decode cX3_hopeTwo 29 = .ok (.istore 10, 2) := dk_54 10 (dk_at dksX3_hopeTwo_1 5 rfl rfl)
theorem dX3_hopeTwo_31 : decode cX3_hopeTwo 31 = .ok (.iload 10, 2) := dk_21 10 (dk_at dksX3_hopeTwo_1 7 rfl rfl)
theorem dX3_hopeTwo_33 : decode cX3_hopeTwo 33 = .ok (.ifCond .ge 6, 3) := dk_156 0 6 (dk_at dksX3_hopeTwo_1 9 rfl rfl)
theorem dX3_hopeTwo_36 : decode cX3_hopeTwo 36 = .ok (.goto 138, 3) := dk_167 0 138 (dk_at dksX3_hopeTwo_1 12 rfl rfl)
theorem dX3_hopeTwo_39 : decode cX3_hopeTwo 39 = .ok (.aload_n 0, 1) := dk_42 (dk_at dksX3_hopeTwo_1 15 rfl rfl)
theorem dX3_hopeTwo_40 : decode cX3_hopeTwo 40 = .ok (.iload_n 3, 1) := dk_29 (dk_at dksX3_hopeTwo_1 16 rfl rfl)
theorem dX3_hopeTwo_41 : decode cX3_hopeTwo 41 = .ok (.iload 9, 2) := dk_21 9 (dk_at dksX3_hopeTwo_1 17 rfl rfl)
theorem dX3_hopeTwo_43 : decode cX3_hopeTwo 43 = .ok (.invokevirtual 397, 3) := dk_182 1 141 (dk_at dksX3_hopeTwo_1 19 rfl rfl)
theorem dX3_hopeTwo_46 : decode cX3_hopeTwo 46 = .ok (.ifCond .eq 6, 3) := dk_153 0 6 (dk_at dksX3_hopeTwo_2 0 rfl rfl)
theorem dX3_hopeTwo_49 : decode cX3_hopeTwo 49 = .ok (.bipush 100, 2) := dk_16 100 (dk_at dksX3_hopeTwo_2 3 rfl rfl)
theorem dX3_hopeTwo_51 : decode cX3_hopeTwo 51 = .ok (.ireturn, 1) := dk_172 (dk_at dksX3_hopeTwo_2 5 rfl rfl)
theorem dX3_hopeTwo_52 : decode cX3_hopeTwo 52 = .ok (.iconst 0, 1) := dk_3 (dk_at dksX3_hopeTwo_2 6 rfl rfl)
theorem dX3_hopeTwo_53 : decode cX3_hopeTwo 53 = .ok (.istore 11, 2) := dk_54 11 (dk_at dksX3_hopeTwo_2 7 rfl rfl)
theorem dX3_hopeTwo_55 : decode cX3_hopeTwo 55 = .ok (.iconst 0, 1) := dk_3 (dk_at dksX3_hopeTwo_2 9 rfl rfl)
theorem dX3_hopeTwo_56 : decode cX3_hopeTwo 56 = .ok (.istore 12, 2) := dk_54 12 (dk_at dksX3_hopeTwo_2 10 rfl rfl)
theorem dX3_hopeTwo_58 : decode cX3_hopeTwo 58 = .ok (.iload 12, 2) := dk_21 12 (dk_at dksX3_hopeTwo_2 12 rfl rfl)
theorem dX3_hopeTwo_60 : decode cX3_hopeTwo 60 = .ok (.iconst 4, 1) := dk_7 (dk_at dksX3_hopeTwo_2 14 rfl rfl)
theorem dX3_hopeTwo_61 : decode cX3_hopeTwo 61 = .ok (.if_icmp .ge 97, 3) := dk_162 0 97 (dk_at dksX3_hopeTwo_2 15 rfl rfl)
theorem dX3_hopeTwo_64 : decode cX3_hopeTwo 64 = .ok (.aload_n 0, 1) := dk_42 (dk_at dksX3_hopeTwo_2 18 rfl rfl)
theorem dX3_hopeTwo_65 : decode cX3_hopeTwo 65 = .ok (.iload 6, 2) := dk_21 6 (dk_at dksX3_hopeTwo_2 19 rfl rfl)
theorem dX3_hopeTwo_67 : decode cX3_hopeTwo 67 = .ok (.iload 12, 2) := dk_21 12 (dk_at dksX3_hopeTwo_2 21 rfl rfl)
theorem dX3_hopeTwo_69 : decode cX3_hopeTwo 69 = .ok (.invokevirtual 401, 3) := dk_182 1 145 (dk_at dksX3_hopeTwo_3 0 rfl rfl)
theorem dX3_hopeTwo_72 : decode cX3_hopeTwo 72 = .ok (.ifCond .ne 6, 3) := dk_154 0 6 (dk_at dksX3_hopeTwo_3 3 rfl rfl)
theorem dX3_hopeTwo_75 : decode cX3_hopeTwo 75 = .ok (.goto 77, 3) := dk_167 0 77 (dk_at dksX3_hopeTwo_3 6 rfl rfl)
theorem dX3_hopeTwo_78 : decode cX3_hopeTwo 78 = .ok (.aload_n 0, 1) := dk_42 (dk_at dksX3_hopeTwo_3 9 rfl rfl)
theorem dX3_hopeTwo_79 : decode cX3_hopeTwo 79 = .ok (.iload_n 1, 1) := dk_27 (dk_at dksX3_hopeTwo_3 10 rfl rfl)
theorem dX3_hopeTwo_80 : decode cX3_hopeTwo 80 = .ok (.iload_n 2, 1) := dk_28 (dk_at dksX3_hopeTwo_3 11 rfl rfl)
theorem dX3_hopeTwo_81 : decode cX3_hopeTwo 81 = .ok (.iload 12, 2) := dk_21 12 (dk_at dksX3_hopeTwo_3 12 rfl rfl)
theorem dX3_hopeTwo_83 : decode cX3_hopeTwo 83 = .ok (.iload 7, 2) := dk_21 7 (dk_at dksX3_hopeTwo_3 14 rfl rfl)
theorem dX3_hopeTwo_85 : decode cX3_hopeTwo 85 = .ok (.invokevirtual 335, 3) := dk_182 1 79 (dk_at dksX3_hopeTwo_3 16 rfl rfl)
theorem dX3_hopeTwo_88 : decode cX3_hopeTwo 88 = .ok (.aload_n 0, 1) := dk_42 (dk_at dksX3_hopeTwo_3 19 rfl rfl)
theorem dX3_hopeTwo_89 : decode cX3_hopeTwo 89 = .ok (.iload_n 3, 1) := dk_29 (dk_at dksX3_hopeTwo_3 20 rfl rfl)
theorem dX3_hopeTwo_90 : decode cX3_hopeTwo 90 = .ok (.iload 9, 2) := dk_21 9 (dk_at dksX3_hopeTwo_3 21 rfl rfl)
theorem dX3_hopeTwo_92 : decode cX3_hopeTwo 92 = .ok (.iload 12, 2) := dk_21 12 (dk_at dksX3_hopeTwo_4 0 rfl rfl)
theorem dX3_hopeTwo_94 : decode cX3_hopeTwo 94 = .ok (.invokevirtual 404, 3) := dk_182 1 148 (dk_at dksX3_hopeTwo_4 2 rfl rfl)
theorem dX3_hopeTwo_97 : decode cX3_hopeTwo 97 = .ok (.istore 13, 2) := dk_54 13 (dk_at dksX3_hopeTwo_4 5 rfl rfl)
theorem dX3_hopeTwo_99 : decode cX3_hopeTwo 99 = .ok (.aload_n 0, 1) := dk_42 (dk_at dksX3_hopeTwo_4 7 rfl rfl)
theorem dX3_hopeTwo_100 : decode cX3_hopeTwo 100 = .ok (.iload_n 2, 1) := dk_28 (dk_at dksX3_hopeTwo_4 8 rfl rfl)
theorem dX3_hopeTwo_101 : decode cX3_hopeTwo 101 = .ok (.iload 13, 2) := dk_21 13 (dk_at dksX3_hopeTwo_4 9 rfl rfl)
theorem dX3_hopeTwo_103 : decode cX3_hopeTwo 103 = .ok (.iload 12, 2) := dk_21 12 (dk_at dksX3_hopeTwo_4 11 rfl rfl)
theorem dX3_hopeTwo_105 : decode cX3_hopeTwo 105 = .ok (.iload 7, 2) := dk_21 7 (dk_at dksX3_hopeTwo_4 13 rfl rfl)
theorem dX3_hopeTwo_107 : decode cX3_hopeTwo 107 = .ok (.invokevirtual 328, 3) := dk_182 1 72 (dk_at dksX3_hopeTwo_4 15 rfl rfl)
theorem dX3_hopeTwo_110 : decode cX3_hopeTwo 110 = .ok (.ifCond .ne 42, 3) := dk_154 0 42 (dk_at dksX3_hopeTwo_4 18 rfl rfl)
theorem dX3_hopeTwo_113 : decode cX3_hopeTwo 113 = .ok (.iload 11, 2) := dk_21 11 (dk_at dksX3_hopeTwo_4 21 rfl rfl)
theorem dX3_hopeTwo_115 : decode cX3_hopeTwo 115 = .ok (.aload_n 0, 1) := dk_42 (dk_at dksX3_hopeTwo_4 23 rfl rfl)
theorem dX3_hopeTwo_116 : decode cX3_hopeTwo 116 = .ok (.iload 6, 2) := dk_21 6 (dk_at dksX3_hopeTwo_5 0 rfl rfl)
theorem dX3_hopeTwo_118 : decode cX3_hopeTwo 118 = .ok (.iload 12, 2) := dk_21 12 (dk_at dksX3_hopeTwo_5 2 rfl rfl)
theorem dX3_hopeTwo_120 : decode cX3_hopeTwo 120 = .ok (.invokevirtual 401, 3) := dk_182 1 145 (dk_at dksX3_hopeTwo_5 4 rfl rfl)
theorem dX3_hopeTwo_123 : decode cX3_hopeTwo 123 = .ok (.aload_n 0, 1) := dk_42 (dk_at dksX3_hopeTwo_5 7 rfl rfl)
theorem dX3_hopeTwo_124 : decode cX3_hopeTwo 124 = .ok (.iload_n 2, 1) := dk_28 (dk_at dksX3_hopeTwo_5 8 rfl rfl)
theorem dX3_hopeTwo_125 : decode cX3_hopeTwo 125 = .ok (.iload 13, 2) := dk_21 13 (dk_at dksX3_hopeTwo_5 9 rfl rfl)
theorem dX3_hopeTwo_127 : decode cX3_hopeTwo 127 = .ok (.iload 4, 2) := dk_21 4 (dk_at dksX3_hopeTwo_5 11 rfl rfl)
theorem dX3_hopeTwo_129 : decode cX3_hopeTwo 129 = .ok (.iload 10, 2) := dk_21 10 (dk_at dksX3_hopeTwo_5 13 rfl rfl)
theorem dX3_hopeTwo_131 : decode cX3_hopeTwo 131 = .ok (.isub, 1) := dk_100 (dk_at dksX3_hopeTwo_5 15 rfl rfl)
theorem dX3_hopeTwo_132 : decode cX3_hopeTwo 132 = .ok (.iload 9, 2) := dk_21 9 (dk_at dksX3_hopeTwo_5 16 rfl rfl)
theorem dX3_hopeTwo_134 : decode cX3_hopeTwo 134 = .ok (.iload 5, 2) := dk_21 5 (dk_at dksX3_hopeTwo_5 18 rfl rfl)
theorem dX3_hopeTwo_136 : decode cX3_hopeTwo 136 = .ok (.invokestatic 322, 3) := dk_184 1 66 (dk_at dksX3_hopeTwo_5 20 rfl rfl)
theorem dX3_hopeTwo_139 : decode cX3_hopeTwo 139 = .ok (.iload 12, 2) := dk_21 12 (dk_at dksX3_hopeTwo_6 0 rfl rfl)
theorem dX3_hopeTwo_141 : decode cX3_hopeTwo 141 = .ok (.iload 7, 2) := dk_21 7 (dk_at dksX3_hopeTwo_6 2 rfl rfl)
theorem dX3_hopeTwo_143 : decode cX3_hopeTwo 143 = .ok (.iconst 1, 1) := dk_4 (dk_at dksX3_hopeTwo_6 4 rfl rfl)
theorem dX3_hopeTwo_144 : decode cX3_hopeTwo 144 = .ok (.iadd, 1) := dk_96 (dk_at dksX3_hopeTwo_6 5 rfl rfl)
theorem dX3_hopeTwo_145 : decode cX3_hopeTwo 145 = .ok (.invokevirtual 407, 3) := dk_182 1 151 (dk_at dksX3_hopeTwo_6 6 rfl rfl)
theorem dX3_hopeTwo_148 : decode cX3_hopeTwo 148 = .ok (.imul, 1) := dk_104 (dk_at dksX3_hopeTwo_6 9 rfl rfl)
theorem dX3_hopeTwo_149 : decode cX3_hopeTwo 149 = .ok (.iadd, 1) := dk_96 (dk_at dksX3_hopeTwo_6 10 rfl rfl)
theorem dX3_hopeTwo_150 : decode cX3_hopeTwo 150 = .ok (.istore 11, 2) := dk_54 11 (dk_at dksX3_hopeTwo_6 11 rfl rfl)
theorem dX3_hopeTwo_152 : decode cX3_hopeTwo 152 = .ok (.iinc 12 1, 3) := dk_132 12 1 (dk_at dksX3_hopeTwo_6 13 rfl rfl)
theorem dX3_hopeTwo_155 : decode cX3_hopeTwo 155 = .ok (.goto (-97), 3) := dk_167 255 159 (dk_at dksX3_hopeTwo_6 16 rfl rfl)
theorem dX3_hopeTwo_158 : decode cX3_hopeTwo 158 = .ok (.iload 11, 2) := dk_21 11 (dk_at dksX3_hopeTwo_6 19 rfl rfl)
theorem dX3_hopeTwo_160 : decode cX3_hopeTwo 160 = .ok (.iload 8, 2) := dk_21 8 (dk_at dksX3_hopeTwo_6 21 rfl rfl)
theorem dX3_hopeTwo_162 : decode cX3_hopeTwo 162 = .ok (.if_icmp .le 8, 3) := dk_164 0 8 (dk_at dksX3_hopeTwo_7 0 rfl rfl)
theorem dX3_hopeTwo_165 : decode cX3_hopeTwo 165 = .ok (.iload 11, 2) := dk_21 11 (dk_at dksX3_hopeTwo_7 3 rfl rfl)
theorem dX3_hopeTwo_167 : decode cX3_hopeTwo 167 = .ok (.goto 5, 3) := dk_167 0 5 (dk_at dksX3_hopeTwo_7 5 rfl rfl)
theorem dX3_hopeTwo_170 : decode cX3_hopeTwo 170 = .ok (.iload 8, 2) := dk_21 8 (dk_at dksX3_hopeTwo_7 8 rfl rfl)
theorem dX3_hopeTwo_172 : decode cX3_hopeTwo 172 = .ok (.istore 8, 2) := dk_54 8 (dk_at dksX3_hopeTwo_7 10 rfl rfl)
theorem dX3_hopeTwo_174 : decode cX3_hopeTwo 174 = .ok (.iinc 9 1, 3) := dk_132 9 1 (dk_at dksX3_hopeTwo_7 12 rfl rfl)
theorem dX3_hopeTwo_177 : decode cX3_hopeTwo 177 = .ok (.goto (-171), 3) := dk_167 255 85 (dk_at dksX3_hopeTwo_7 15 rfl rfl)
theorem dX3_hopeTwo_180 : decode cX3_hopeTwo 180 = .ok (.iload 8, 2) := dk_21 8 (dk_at dksX3_hopeTwo_7 18 rfl rfl)
theorem dX3_hopeTwo_182 : decode cX3_hopeTwo 182 = .ok (.ireturn, 1) := dk_172 (dk_at dksX3_hopeTwo_7 20 rfl rfl)
abbrev cX3_known : ByteArray := prog_17_method_113_code
def yX3_known : MethodName := ⟨RX3, "known", "(I)I"⟩
def dkwX3_known_10 : List UInt8 := [46, 79, 28, 172]
abbrev dktX3_known_10 : List UInt8 := dkwX3_known_10 ++ []
def dkwX3_known_9 : List UInt8 := [180, 0, 74, 21, 4, 46, 79, 132, 4, 1, 167, 255, 228, 42, 180, 0, 7, 7, 42, 180, 0, 74, 16, 12]
abbrev dktX3_known_9 : List UInt8 := dkwX3_known_9 ++ dktX3_known_10
def dkwX3_known_8 : List UInt8 := [167, 255, 144, 3, 54, 4, 21, 4, 16, 12, 162, 0, 27, 42, 180, 0, 7, 17, 0, 180, 21, 4, 96, 42]
abbrev dktX3_known_8 : List UInt8 := dkwX3_known_8 ++ dktX3_known_9
def dkwX3_known_7 : List UInt8 := [42, 182, 1, 114, 42, 182, 1, 117, 184, 1, 96, 46, 155, 0, 8, 28, 21, 6, 96, 61, 132, 4, 1]
abbrev dktX3_known_7 : List UInt8 := dkwX3_known_7 ++ dktX3_known_8
def dkwX3_known_6 : List UInt8 := [167, 255, 207, 21, 6, 154, 0, 6, 167, 0, 36, 42, 182, 1, 108, 42, 180, 0, 53, 3, 42, 182, 1, 111]
abbrev dktX3_known_6 : List UInt8 := dkwX3_known_6 ++ dktX3_known_7
def dkwX3_known_5 : List UInt8 := [21, 7, 182, 1, 86, 21, 5, 7, 112, 182, 1, 145, 104, 54, 6, 21, 5, 7, 108, 54, 5, 132, 7, 1]
abbrev dktX3_known_5 : List UInt8 := dkwX3_known_5 ++ dktX3_known_6
def dkwX3_known_4 : List UInt8 := [27, 162, 0, 49, 42, 180, 0, 7, 17, 0, 180, 21, 7, 96, 21, 5, 7, 112, 79, 21, 6, 42, 42]
abbrev dktX3_known_4 : List UInt8 := dkwX3_known_4 ++ dktX3_known_5
def dkwX3_known_3 : List UInt8 := [16, 64, 62, 3, 54, 4, 21, 4, 29, 162, 0, 112, 21, 4, 54, 5, 4, 54, 6, 3, 54, 7, 21, 7]
abbrev dktX3_known_3 : List UInt8 := dkwX3_known_3 ++ dktX3_known_4
def dkwX3_known_2 : List UInt8 := [27, 79, 3, 61, 27, 4, 160, 0, 7, 7, 167, 0, 15, 27, 5, 160, 0, 8, 16, 16, 167, 0, 5]
abbrev dktX3_known_2 : List UInt8 := dkwX3_known_2 ++ dktX3_known_3
def dkwX3_known_1 : List UInt8 := [132, 2, 1, 167, 255, 231, 42, 180, 0, 74, 16, 12, 42, 180, 0, 7, 7, 46, 79, 42, 180, 0, 7, 7]
abbrev dktX3_known_1 : List UInt8 := dkwX3_known_1 ++ dktX3_known_2
def dkwX3_known_0 : List UInt8 := [3, 61, 28, 16, 12, 162, 0, 25, 42, 180, 0, 74, 28, 42, 180, 0, 7, 17, 0, 180, 28, 96, 46, 79]
abbrev dktX3_known_0 : List UInt8 := dkwX3_known_0 ++ dktX3_known_1
theorem dksX3_known_0 : cX3_known.data.toList.drop 0 = dktX3_known_0 := by decide +kernel
theorem dksX3_known_1 : cX3_known.data.toList.drop 24 = dktX3_known_1 := dk_seg dksX3_known_0 24 rfl rfl
theorem dksX3_known_2 : cX3_known.data.toList.drop 48 = dktX3_known_2 := dk_seg dksX3_known_1 24 rfl rfl
theorem dksX3_known_3 : cX3_known.data.toList.drop 71 = dktX3_known_3 := dk_seg dksX3_known_2 23 rfl rfl
theorem dksX3_known_4 : cX3_known.data.toList.drop 95 = dktX3_known_4 := dk_seg dksX3_known_3 24 rfl rfl
theorem dksX3_known_5 : cX3_known.data.toList.drop 118 = dktX3_known_5 := dk_seg dksX3_known_4 23 rfl rfl
theorem dksX3_known_6 : cX3_known.data.toList.drop 142 = dktX3_known_6 := dk_seg dksX3_known_5 24 rfl rfl
theorem dksX3_known_7 : cX3_known.data.toList.drop 166 = dktX3_known_7 := dk_seg dksX3_known_6 24 rfl rfl
theorem dksX3_known_8 : cX3_known.data.toList.drop 189 = dktX3_known_8 := dk_seg dksX3_known_7 23 rfl rfl
theorem dksX3_known_9 : cX3_known.data.toList.drop 213 = dktX3_known_9 := dk_seg dksX3_known_8 24 rfl rfl
theorem dksX3_known_10 : cX3_known.data.toList.drop 237 = dktX3_known_10 := dk_seg dksX3_known_9 24 rfl rfl
theorem dX3_known_0 : decode cX3_known 0 = .ok (.iconst 0, 1) := dk_3 (dk_at dksX3_known_0 0 rfl rfl)
theorem dX3_known_1 : decode cX3_known 1 = .ok (.istore_n 2, 1) := dk_61 (dk_at dksX3_known_0 1 rfl rfl)
theorem dX3_known_2 : decode cX3_known 2 = .ok (.iload_n 2, 1) := dk_28 (dk_at dksX3_known_0 2 rfl rfl)
theorem dX3_known_3 : decode cX3_known 3 = .ok (.bipush 12, 2) := dk_16 12 (dk_at dksX3_known_0 3 rfl rfl)
theorem dX3_known_5 : decode cX3_known 5 = .ok (.if_icmp .ge 25, 3) := dk_162 0 25 (dk_at dksX3_known_0 5 rfl rfl)
theorem dX3_known_8 : decode cX3_known 8 = .ok (.aload_n 0, 1) := dk_42 (dk_at dksX3_known_0 8 rfl rfl)
theorem dX3_known_9 : decode cX3_known 9 = .ok (.getfield 74, 3) := dk_180 0 74 (dk_at dksX3_known_0 9 rfl rfl)
theorem dX3_known_12 : decode cX3_known 12 = .ok (.iload_n 2, 1) := dk_28 (dk_at dksX3_known_0 12 rfl rfl)
theorem dX3_known_13 : decode cX3_known 13 = .ok (.aload_n 0, 1) := dk_42 (dk_at dksX3_known_0 13 rfl rfl)
theorem dX3_known_14 : decode cX3_known 14 = .ok (.getfield 7, 3) := dk_180 0 7 (dk_at dksX3_known_0 14 rfl rfl)
theorem dX3_known_17 : decode cX3_known 17 = .ok (.sipush 180, 3) := dk_17 0 180 (dk_at dksX3_known_0 17 rfl rfl)
theorem dX3_known_20 : decode cX3_known 20 = .ok (.iload_n 2, 1) := dk_28 (dk_at dksX3_known_0 20 rfl rfl)
theorem dX3_known_21 : decode cX3_known 21 = .ok (.iadd, 1) := dk_96 (dk_at dksX3_known_0 21 rfl rfl)
theorem dX3_known_22 : decode cX3_known 22 = .ok (.iaload, 1) := dk_46 (dk_at dksX3_known_0 22 rfl rfl)
theorem dX3_known_23 : decode cX3_known 23 = .ok (.iastore, 1) := dk_79 (dk_at dksX3_known_0 23 rfl rfl)
theorem dX3_known_24 : decode cX3_known 24 = .ok (.iinc 2 1, 3) := dk_132 2 1 (dk_at dksX3_known_1 0 rfl rfl)
theorem dX3_known_27 : decode cX3_known 27 = .ok (.goto (-25), 3) := dk_167 255 231 (dk_at dksX3_known_1 3 rfl rfl)
theorem dX3_known_30 : decode cX3_known 30 = .ok (.aload_n 0, 1) := dk_42 (dk_at dksX3_known_1 6 rfl rfl)
theorem dX3_known_31 : decode cX3_known 31 = .ok (.getfield 74, 3) := dk_180 0 74 (dk_at dksX3_known_1 7 rfl rfl)
theorem dX3_known_34 : decode cX3_known 34 = .ok (.bipush 12, 2) := dk_16 12 (dk_at dksX3_known_1 10 rfl rfl)
theorem dX3_known_36 : decode cX3_known 36 = .ok (.aload_n 0, 1) := dk_42 (dk_at dksX3_known_1 12 rfl rfl)
theorem dX3_known_37 : decode cX3_known 37 = .ok (.getfield 7, 3) := dk_180 0 7 (dk_at dksX3_known_1 13 rfl rfl)
theorem dX3_known_40 : decode cX3_known 40 = .ok (.iconst 4, 1) := dk_7 (dk_at dksX3_known_1 16 rfl rfl)
theorem dX3_known_41 : decode cX3_known 41 = .ok (.iaload, 1) := dk_46 (dk_at dksX3_known_1 17 rfl rfl)
theorem dX3_known_42 : decode cX3_known 42 = .ok (.iastore, 1) := dk_79 (dk_at dksX3_known_1 18 rfl rfl)
theorem dX3_known_43 : decode cX3_known 43 = .ok (.aload_n 0, 1) := dk_42 (dk_at dksX3_known_1 19 rfl rfl)
theorem dX3_known_44 : decode cX3_known 44 = .ok (.getfield 7, 3) := dk_180 0 7 (dk_at dksX3_known_1 20 rfl rfl)
theorem dX3_known_47 : decode cX3_known 47 = .ok (.iconst 4, 1) := dk_7 (dk_at dksX3_known_1 23 rfl rfl)
theorem dX3_known_48 : decode cX3_known 48 = .ok (.iload_n 1, 1) := dk_27 (dk_at dksX3_known_2 0 rfl rfl)
theorem dX3_known_49 : decode cX3_known 49 = .ok (.iastore, 1) := dk_79 (dk_at dksX3_known_2 1 rfl rfl)
theorem dX3_known_50 : decode cX3_known 50 = .ok (.iconst 0, 1) := dk_3 (dk_at dksX3_known_2 2 rfl rfl)
theorem dX3_known_51 : decode cX3_known 51 = .ok (.istore_n 2, 1) := dk_61 (dk_at dksX3_known_2 3 rfl rfl)
theorem dX3_known_52 : decode cX3_known 52 = .ok (.iload_n 1, 1) := dk_27 (dk_at dksX3_known_2 4 rfl rfl)
theorem dX3_known_53 : decode cX3_known 53 = .ok (.iconst 1, 1) := dk_4 (dk_at dksX3_known_2 5 rfl rfl)
theorem dX3_known_54 : decode cX3_known 54 = .ok (.if_icmp .ne 7, 3) := dk_160 0 7 (dk_at dksX3_known_2 6 rfl rfl)
theorem dX3_known_57 : decode cX3_known 57 = .ok (.iconst 4, 1) := dk_7 (dk_at dksX3_known_2 9 rfl rfl)
theorem dX3_known_58 : decode cX3_known 58 = .ok (.goto 15, 3) := dk_167 0 15 (dk_at dksX3_known_2 10 rfl rfl)
theorem dX3_known_61 : decode cX3_known 61 = .ok (.iload_n 1, 1) := dk_27 (dk_at dksX3_known_2 13 rfl rfl)
theorem dX3_known_62 : decode cX3_known 62 = .ok (.iconst 2, 1) := dk_5 (dk_at dksX3_known_2 14 rfl rfl)
theorem dX3_known_63 : decode cX3_known 63 = .ok (.if_icmp .ne 8, 3) := dk_160 0 8 (dk_at dksX3_known_2 15 rfl rfl)
theorem dX3_known_66 : decode cX3_known 66 = .ok (.bipush 16, 2) := dk_16 16 (dk_at dksX3_known_2 18 rfl rfl)
theorem dX3_known_68 : decode cX3_known 68 = .ok (.goto 5, 3) := dk_167 0 5 (dk_at dksX3_known_2 20 rfl rfl)
theorem dX3_known_71 : decode cX3_known 71 = .ok (.bipush 64, 2) := dk_16 64 (dk_at dksX3_known_3 0 rfl rfl)
theorem dX3_known_73 : decode cX3_known 73 = .ok (.istore_n 3, 1) := dk_62 (dk_at dksX3_known_3 2 rfl rfl)
theorem dX3_known_74 : decode cX3_known 74 = .ok (.iconst 0, 1) := dk_3 (dk_at dksX3_known_3 3 rfl rfl)
theorem dX3_known_75 : decode cX3_known 75 = .ok (.istore 4, 2) := dk_54 4 (dk_at dksX3_known_3 4 rfl rfl)
theorem dX3_known_77 : decode cX3_known 77 = .ok (.iload 4, 2) := dk_21 4 (dk_at dksX3_known_3 6 rfl rfl)
theorem dX3_known_79 : decode cX3_known 79 = .ok (.iload_n 3, 1) := dk_29 (dk_at dksX3_known_3 8 rfl rfl)
theorem dX3_known_80 : decode cX3_known 80 = .ok (.if_icmp .ge 112, 3) := dk_162 0 112 (dk_at dksX3_known_3 9 rfl rfl)
theorem dX3_known_83 : decode cX3_known 83 = .ok (.iload 4, 2) := dk_21 4 (dk_at dksX3_known_3 12 rfl rfl)
theorem dX3_known_85 : decode cX3_known 85 = .ok (.istore 5, 2) := dk_54 5 (dk_at dksX3_known_3 14 rfl rfl)
theorem dX3_known_87 : decode cX3_known 87 = .ok (.iconst 1, 1) := dk_4 (dk_at dksX3_known_3 16 rfl rfl)
theorem dX3_known_88 : decode cX3_known 88 = .ok (.istore 6, 2) := dk_54 6 (dk_at dksX3_known_3 17 rfl rfl)
theorem dX3_known_90 : decode cX3_known 90 = .ok (.iconst 0, 1) := dk_3 (dk_at dksX3_known_3 19 rfl rfl)
theorem dX3_known_91 : decode cX3_known 91 = .ok (.istore 7, 2) := dk_54 7 (dk_at dksX3_known_3 20 rfl rfl)
theorem dX3_known_93 : decode cX3_known 93 = .ok (.iload 7, 2) := dk_21 7 (dk_at dksX3_known_3 22 rfl rfl)
theorem dX3_known_95 : decode cX3_known 95 = .ok (.iload_n 1, 1) := dk_27 (dk_at dksX3_known_4 0 rfl rfl)
theorem dX3_known_96 : decode cX3_known 96 = .ok (.if_icmp .ge 49, 3) := dk_162 0 49 (dk_at dksX3_known_4 1 rfl rfl)
theorem dX3_known_99 : decode cX3_known 99 = .ok (.aload_n 0, 1) := dk_42 (dk_at dksX3_known_4 4 rfl rfl)
theorem dX3_known_100 : decode cX3_known 100 = .ok (.getfield 7, 3) := dk_180 0 7 (dk_at dksX3_known_4 5 rfl rfl)
theorem dX3_known_103 : decode cX3_known 103 = .ok (.sipush 180, 3) := dk_17 0 180 (dk_at dksX3_known_4 8 rfl rfl)
theorem dX3_known_106 : decode cX3_known 106 = .ok (.iload 7, 2) := dk_21 7 (dk_at dksX3_known_4 11 rfl rfl)
theorem dX3_known_108 : decode cX3_known 108 = .ok (.iadd, 1) := dk_96 (dk_at dksX3_known_4 13 rfl rfl)
theorem dX3_known_109 : decode cX3_known 109 = .ok (.iload 5, 2) := dk_21 5 (dk_at dksX3_known_4 14 rfl rfl)
theorem dX3_known_111 : decode cX3_known 111 = .ok (.iconst 4, 1) := dk_7 (dk_at dksX3_known_4 16 rfl rfl)
theorem dX3_known_112 : decode cX3_known 112 = .ok (.irem, 1) := dk_112 (dk_at dksX3_known_4 17 rfl rfl)
theorem dX3_known_113 : decode cX3_known 113 = .ok (.iastore, 1) := dk_79 (dk_at dksX3_known_4 18 rfl rfl)
theorem dX3_known_114 : decode cX3_known 114 = .ok (.iload 6, 2) := dk_21 6 (dk_at dksX3_known_4 19 rfl rfl)
theorem dX3_known_116 : decode cX3_known 116 = .ok (.aload_n 0, 1) := dk_42 (dk_at dksX3_known_4 21 rfl rfl)
theorem dX3_known_117 : decode cX3_known 117 = .ok (.aload_n 0, 1) := dk_42 (dk_at dksX3_known_4 22 rfl rfl)
theorem dX3_known_118 : decode cX3_known 118 = .ok (.iload 7, 2) := dk_21 7 (dk_at dksX3_known_5 0 rfl rfl)
theorem dX3_known_120 : decode cX3_known 120 = .ok (.invokevirtual 342, 3) := dk_182 1 86 (dk_at dksX3_known_5 2 rfl rfl)
theorem dX3_known_123 : decode cX3_known 123 = .ok (.iload 5, 2) := dk_21 5 (dk_at dksX3_known_5 5 rfl rfl)
theorem dX3_known_125 : decode cX3_known 125 = .ok (.iconst 4, 1) := dk_7 (dk_at dksX3_known_5 7 rfl rfl)
theorem dX3_known_126 : decode cX3_known 126 = .ok (.irem, 1) := dk_112 (dk_at dksX3_known_5 8 rfl rfl)
theorem dX3_known_127 : decode cX3_known 127 = .ok (.invokevirtual 401, 3) := dk_182 1 145 (dk_at dksX3_known_5 9 rfl rfl)
theorem dX3_known_130 : decode cX3_known 130 = .ok (.imul, 1) := dk_104 (dk_at dksX3_known_5 12 rfl rfl)
theorem dX3_known_131 : decode cX3_known 131 = .ok (.istore 6, 2) := dk_54 6 (dk_at dksX3_known_5 13 rfl rfl)
theorem dX3_known_133 : decode cX3_known 133 = .ok (.iload 5, 2) := dk_21 5 (dk_at dksX3_known_5 15 rfl rfl)
theorem dX3_known_135 : decode cX3_known 135 = .ok (.iconst 4, 1) := dk_7 (dk_at dksX3_known_5 17 rfl rfl)
theorem dX3_known_136 : decode cX3_known 136 = .ok (.idiv, 1) := dk_108 (dk_at dksX3_known_5 18 rfl rfl)
theorem dX3_known_137 : decode cX3_known 137 = .ok (.istore 5, 2) := dk_54 5 (dk_at dksX3_known_5 19 rfl rfl)
theorem dX3_known_139 : decode cX3_known 139 = .ok (.iinc 7 1, 3) := dk_132 7 1 (dk_at dksX3_known_5 21 rfl rfl)
theorem dX3_known_142 : decode cX3_known 142 = .ok (.goto (-49), 3) := dk_167 255 207 (dk_at dksX3_known_6 0 rfl rfl)
theorem dX3_known_145 : decode cX3_known 145 = .ok (.iload 6, 2) := dk_21 6 (dk_at dksX3_known_6 3 rfl rfl)
theorem dX3_known_147 : decode cX3_known 147 = .ok (.ifCond .ne 6, 3) := dk_154 0 6 (dk_at dksX3_known_6 5 rfl rfl)
theorem dX3_known_150 : decode cX3_known 150 = .ok (.goto 36, 3) := dk_167 0 36 (dk_at dksX3_known_6 8 rfl rfl)
theorem dX3_known_153 : decode cX3_known 153 = .ok (.aload_n 0, 1) := dk_42 (dk_at dksX3_known_6 11 rfl rfl)
theorem dX3_known_154 : decode cX3_known 154 = .ok (.invokevirtual 364, 3) := dk_182 1 108 (dk_at dksX3_known_6 12 rfl rfl)
theorem dX3_known_157 : decode cX3_known 157 = .ok (.aload_n 0, 1) := dk_42 (dk_at dksX3_known_6 15 rfl rfl)
theorem dX3_known_158 : decode cX3_known 158 = .ok (.getfield 53, 3) := dk_180 0 53 (dk_at dksX3_known_6 16 rfl rfl)
theorem dX3_known_161 : decode cX3_known 161 = .ok (.iconst 0, 1) := dk_3 (dk_at dksX3_known_6 19 rfl rfl)
theorem dX3_known_162 : decode cX3_known 162 = .ok (.aload_n 0, 1) := dk_42 (dk_at dksX3_known_6 20 rfl rfl)
theorem dX3_known_163 : decode cX3_known 163 = .ok (.invokevirtual 367, 3) := dk_182 1 111 (dk_at dksX3_known_6 21 rfl rfl)
theorem dX3_known_166 : decode cX3_known 166 = .ok (.aload_n 0, 1) := dk_42 (dk_at dksX3_known_7 0 rfl rfl)
theorem dX3_known_167 : decode cX3_known 167 = .ok (.invokevirtual 370, 3) := dk_182 1 114 (dk_at dksX3_known_7 1 rfl rfl)
theorem dX3_known_170 : decode cX3_known 170 = .ok (.aload_n 0, 1) := dk_42 (dk_at dksX3_known_7 4 rfl rfl)
theorem dX3_known_171 : decode cX3_known 171 = .ok (.invokevirtual 373, 3) := dk_182 1 117 (dk_at dksX3_known_7 5 rfl rfl)
theorem dX3_known_174 : decode cX3_known 174 = .ok (.invokestatic 352, 3) := dk_184 1 96 (dk_at dksX3_known_7 8 rfl rfl)
theorem dX3_known_177 : decode cX3_known 177 = .ok (.iaload, 1) := dk_46 (dk_at dksX3_known_7 11 rfl rfl)
theorem dX3_known_178 : decode cX3_known 178 = .ok (.ifCond .lt 8, 3) := dk_155 0 8 (dk_at dksX3_known_7 12 rfl rfl)
theorem dX3_known_181 : decode cX3_known 181 = .ok (.iload_n 2, 1) := dk_28 (dk_at dksX3_known_7 15 rfl rfl)
theorem dX3_known_182 : decode cX3_known 182 = .ok (.iload 6, 2) := dk_21 6 (dk_at dksX3_known_7 16 rfl rfl)
theorem dX3_known_184 : decode cX3_known 184 = .ok (.iadd, 1) := dk_96 (dk_at dksX3_known_7 18 rfl rfl)
theorem dX3_known_185 : decode cX3_known 185 = .ok (.istore_n 2, 1) := dk_61 (dk_at dksX3_known_7 19 rfl rfl)
theorem dX3_known_186 : decode cX3_known 186 = .ok (.iinc 4 1, 3) := dk_132 4 1 (dk_at dksX3_known_7 20 rfl rfl)
theorem dX3_known_189 : decode cX3_known 189 = .ok (.goto (-112), 3) := dk_167 255 144 (dk_at dksX3_known_8 0 rfl rfl)
theorem dX3_known_192 : decode cX3_known 192 = .ok (.iconst 0, 1) := dk_3 (dk_at dksX3_known_8 3 rfl rfl)
theorem dX3_known_193 : decode cX3_known 193 = .ok (.istore 4, 2) := dk_54 4 (dk_at dksX3_known_8 4 rfl rfl)
theorem dX3_known_195 : decode cX3_known 195 = .ok (.iload 4, 2) := dk_21 4 (dk_at dksX3_known_8 6 rfl rfl)
theorem dX3_known_197 : decode cX3_known 197 = .ok (.bipush 12, 2) := dk_16 12 (dk_at dksX3_known_8 8 rfl rfl)
theorem dX3_known_199 : decode cX3_known 199 = .ok (.if_icmp .ge 27, 3) := dk_162 0 27 (dk_at dksX3_known_8 10 rfl rfl)
theorem dX3_known_202 : decode cX3_known 202 = .ok (.aload_n 0, 1) := dk_42 (dk_at dksX3_known_8 13 rfl rfl)
theorem dX3_known_203 : decode cX3_known 203 = .ok (.getfield 7, 3) := dk_180 0 7 (dk_at dksX3_known_8 14 rfl rfl)
theorem dX3_known_206 : decode cX3_known 206 = .ok (.sipush 180, 3) := dk_17 0 180 (dk_at dksX3_known_8 17 rfl rfl)
theorem dX3_known_209 : decode cX3_known 209 = .ok (.iload 4, 2) := dk_21 4 (dk_at dksX3_known_8 20 rfl rfl)
theorem dX3_known_211 : decode cX3_known 211 = .ok (.iadd, 1) := dk_96 (dk_at dksX3_known_8 22 rfl rfl)
theorem dX3_known_212 : decode cX3_known 212 = .ok (.aload_n 0, 1) := dk_42 (dk_at dksX3_known_8 23 rfl rfl)
theorem dX3_known_213 : decode cX3_known 213 = .ok (.getfield 74, 3) := dk_180 0 74 (dk_at dksX3_known_9 0 rfl rfl)
theorem dX3_known_216 : decode cX3_known 216 = .ok (.iload 4, 2) := dk_21 4 (dk_at dksX3_known_9 3 rfl rfl)
theorem dX3_known_218 : decode cX3_known 218 = .ok (.iaload, 1) := dk_46 (dk_at dksX3_known_9 5 rfl rfl)
theorem dX3_known_219 : decode cX3_known 219 = .ok (.iastore, 1) := dk_79 (dk_at dksX3_known_9 6 rfl rfl)
theorem dX3_known_220 : decode cX3_known 220 = .ok (.iinc 4 1, 3) := dk_132 4 1 (dk_at dksX3_known_9 7 rfl rfl)
theorem dX3_known_223 : decode cX3_known 223 = .ok (.goto (-28), 3) := dk_167 255 228 (dk_at dksX3_known_9 10 rfl rfl)
theorem dX3_known_226 : decode cX3_known 226 = .ok (.aload_n 0, 1) := dk_42 (dk_at dksX3_known_9 13 rfl rfl)
theorem dX3_known_227 : decode cX3_known 227 = .ok (.getfield 7, 3) := dk_180 0 7 (dk_at dksX3_known_9 14 rfl rfl)
theorem dX3_known_230 : decode cX3_known 230 = .ok (.iconst 4, 1) := dk_7 (dk_at dksX3_known_9 17 rfl rfl)
theorem dX3_known_231 : decode cX3_known 231 = .ok (.aload_n 0, 1) := dk_42 (dk_at dksX3_known_9 18 rfl rfl)
theorem dX3_known_232 : decode cX3_known 232 = .ok (.getfield 74, 3) := dk_180 0 74 (dk_at dksX3_known_9 19 rfl rfl)
theorem dX3_known_235 : decode cX3_known 235 = .ok (.bipush 12, 2) := dk_16 12 (dk_at dksX3_known_9 22 rfl rfl)
theorem dX3_known_237 : decode cX3_known 237 = .ok (.iaload, 1) := dk_46 (dk_at dksX3_known_10 0 rfl rfl)
theorem dX3_known_238 : decode cX3_known 238 = .ok (.iastore, 1) := dk_79 (dk_at dksX3_known_10 1 rfl rfl)
theorem dX3_known_239 : decode cX3_known 239 = .ok (.iload_n 2, 1) := dk_28 (dk_at dksX3_known_10 2 rfl rfl)
theorem dX3_known_240 : decode cX3_known 240 = .ok (.ireturn, 1) := dk_172 (dk_at dksX3_known_10 3 rfl rfl)
abbrev cX3_leads : ByteArray := prog_17_method_115_code
def yX3_leads : MethodName := ⟨RX3, "leads", "(I)I"⟩
def dkwX3_leads_10 : List UInt8 := [167, 0, 4, 3, 96, 62, 132, 4, 1, 167, 255, 226, 29, 172]
abbrev dktX3_leads_10 : List UInt8 := dkwX3_leads_10 ++ []
def dkwX3_leads_9 : List UInt8 := [54, 4, 21, 4, 42, 180, 0, 83, 162, 0, 27, 29, 42, 180, 0, 53, 21, 4, 46, 155, 0, 7, 4]
abbrev dktX3_leads_9 : List UInt8 := dkwX3_leads_9 ++ dktX3_leads_10
def dkwX3_leads_8 : List UInt8 := [167, 255, 137, 132, 3, 1, 167, 255, 122, 27, 155, 0, 10, 42, 180, 0, 53, 27, 46, 172, 3, 62, 3]
abbrev dktX3_leads_8 : List UInt8 := dkwX3_leads_8 ++ dktX3_leads_9
def dkwX3_leads_7 : List UInt8 := [167, 0, 15, 42, 180, 0, 53, 21, 6, 29, 4, 96, 79, 4, 61, 132, 5, 1, 167, 255, 155, 132, 4, 1]
abbrev dktX3_leads_7 : List UInt8 := dkwX3_leads_7 ++ dktX3_leads_8
def dkwX3_leads_6 : List UInt8 := [42, 17, 1, 248, 21, 6, 42, 180, 0, 7, 4, 46, 42, 180, 0, 7, 3, 46, 182, 1, 46, 156, 0, 6]
abbrev dktX3_leads_6 : List UInt8 := dkwX3_leads_6 ++ dktX3_leads_7
def dkwX3_leads_5 : List UInt8 := [21, 4, 21, 5, 182, 1, 15, 54, 6, 21, 6, 155, 0, 52, 42, 180, 0, 53, 21, 6, 46, 156, 0, 42]
abbrev dktX3_leads_5 : List UInt8 := dkwX3_leads_5 ++ dktX3_leads_6
def dkwX3_leads_4 : List UInt8 := [46, 29, 160, 0, 90, 29, 153, 0, 16, 42, 180, 0, 7, 16, 70, 21, 4, 96, 46, 154, 0, 73, 42]
abbrev dktX3_leads_4 : List UInt8 := dkwX3_leads_4 ++ dktX3_leads_5
def dkwX3_leads_3 : List UInt8 := [21, 4, 42, 180, 0, 83, 162, 0, 116, 3, 54, 5, 21, 5, 7, 162, 0, 101, 42, 180, 0, 53, 21, 4]
abbrev dktX3_leads_3 : List UInt8 := dkwX3_leads_3 ++ dktX3_leads_4
def dkwX3_leads_2 : List UInt8 := [167, 0, 4, 2, 79, 132, 2, 1, 167, 255, 226, 4, 61, 3, 62, 28, 153, 0, 136, 3, 61, 3, 54, 4]
abbrev dktX3_leads_2 : List UInt8 := dkwX3_leads_2 ++ dktX3_leads_3
def dkwX3_leads_1 : List UInt8 := [28, 42, 180, 0, 83, 162, 0, 28, 42, 180, 0, 53, 28, 28, 42, 182, 1, 111, 160, 0, 7, 3]
abbrev dktX3_leads_1 : List UInt8 := dkwX3_leads_1 ++ dktX3_leads_2
def dkwX3_leads_0 : List UInt8 := [27, 2, 159, 0, 13, 42, 27, 182, 0, 98, 154, 0, 5, 2, 172, 42, 17, 1, 248, 182, 1, 60, 3, 61]
abbrev dktX3_leads_0 : List UInt8 := dkwX3_leads_0 ++ dktX3_leads_1
theorem dksX3_leads_0 : cX3_leads.data.toList.drop 0 = dktX3_leads_0 := by decide +kernel
theorem dksX3_leads_1 : cX3_leads.data.toList.drop 24 = dktX3_leads_1 := dk_seg dksX3_leads_0 24 rfl rfl
theorem dksX3_leads_2 : cX3_leads.data.toList.drop 46 = dktX3_leads_2 := dk_seg dksX3_leads_1 22 rfl rfl
theorem dksX3_leads_3 : cX3_leads.data.toList.drop 70 = dktX3_leads_3 := dk_seg dksX3_leads_2 24 rfl rfl
theorem dksX3_leads_4 : cX3_leads.data.toList.drop 94 = dktX3_leads_4 := dk_seg dksX3_leads_3 24 rfl rfl
theorem dksX3_leads_5 : cX3_leads.data.toList.drop 117 = dktX3_leads_5 := dk_seg dksX3_leads_4 23 rfl rfl
theorem dksX3_leads_6 : cX3_leads.data.toList.drop 141 = dktX3_leads_6 := dk_seg dksX3_leads_5 24 rfl rfl
theorem dksX3_leads_7 : cX3_leads.data.toList.drop 165 = dktX3_leads_7 := dk_seg dksX3_leads_6 24 rfl rfl
theorem dksX3_leads_8 : cX3_leads.data.toList.drop 189 = dktX3_leads_8 := dk_seg dksX3_leads_7 24 rfl rfl
theorem dksX3_leads_9 : cX3_leads.data.toList.drop 212 = dktX3_leads_9 := dk_seg dksX3_leads_8 23 rfl rfl
theorem dksX3_leads_10 : cX3_leads.data.toList.drop 235 = dktX3_leads_10 := dk_seg dksX3_leads_9 23 rfl rfl
theorem dX3_leads_0 : decode cX3_leads 0 = .ok (.iload_n 1, 1) := dk_27 (dk_at dksX3_leads_0 0 rfl rfl)
theorem dX3_leads_1 : decode cX3_leads 1 = .ok (.iconst (-1), 1) := dk_2 (dk_at dksX3_leads_0 1 rfl rfl)
theorem dX3_leads_2 : decode cX3_leads 2 = .ok (.if_icmp .eq 13, 3) := dk_159 0 13 (dk_at dksX3_leads_0 2 rfl rfl)
theorem dX3_leads_5 : decode cX3_leads 5 = .ok (.aload_n 0, 1) := dk_42 (dk_at dksX3_leads_0 5 rfl rfl)
theorem dX3_leads_6 : decode cX3_leads 6 = .ok (.iload_n 1, 1) := dk_27 (dk_at dksX3_leads_0 6 rfl rfl)
theorem dX3_leads_7 : decode cX3_leads 7 = .ok (.invokevirtual 98, 3) := dk_182 0 98 (dk_at dksX3_leads_0 7 rfl rfl)
theorem dX3_leads_10 : decode cX3_leads 10 = .ok (.ifCond .ne 5, 3) := dk_154 0 5 (dk_at dksX3_leads_0 10 rfl rfl)
theorem dX3_leads_13 : decode cX3_leads 13 = .ok (.iconst (-1), 1) := dk_2 (dk_at dksX3_leads_0 13 rfl rfl)
theorem dX3_leads_14 : decode cX3_leads 14 = .ok (.ireturn, 1) := dk_172 (dk_at dksX3_leads_0 14 rfl rfl)
theorem dX3_leads_15 : decode cX3_leads 15 = .ok (.aload_n 0, 1) := dk_42 (dk_at dksX3_leads_0 15 rfl rfl)
theorem dX3_leads_16 : decode cX3_leads 16 = .ok (.sipush 504, 3) := dk_17 1 248 (dk_at dksX3_leads_0 16 rfl rfl)
theorem dX3_leads_19 : decode cX3_leads 19 = .ok (.invokevirtual 316, 3) := dk_182 1 60 (dk_at dksX3_leads_0 19 rfl rfl)
theorem dX3_leads_22 : decode cX3_leads 22 = .ok (.iconst 0, 1) := dk_3 (dk_at dksX3_leads_0 22 rfl rfl)
theorem dX3_leads_23 : decode cX3_leads 23 = .ok (.istore_n 2, 1) := dk_61 (dk_at dksX3_leads_0 23 rfl rfl)
theorem dX3_leads_24 : decode cX3_leads 24 = .ok (.iload_n 2, 1) := dk_28 (dk_at dksX3_leads_1 0 rfl rfl)
theorem dX3_leads_25 : decode cX3_leads 25 = .ok (.aload_n 0, 1) := dk_42 (dk_at dksX3_leads_1 1 rfl rfl)
theorem dX3_leads_26 : decode cX3_leads 26 = .ok (.getfield 83, 3) := dk_180 0 83 (dk_at dksX3_leads_1 2 rfl rfl)
theorem dX3_leads_29 : decode cX3_leads 29 = .ok (.if_icmp .ge 28, 3) := dk_162 0 28 (dk_at dksX3_leads_1 5 rfl rfl)
theorem dX3_leads_32 : decode cX3_leads 32 = .ok (.aload_n 0, 1) := dk_42 (dk_at dksX3_leads_1 8 rfl rfl)
theorem dX3_leads_33 : decode cX3_leads 33 = .ok (.getfield 53, 3) := dk_180 0 53 (dk_at dksX3_leads_1 9 rfl rfl)
theorem dX3_leads_36 : decode cX3_leads 36 = .ok (.iload_n 2, 1) := dk_28 (dk_at dksX3_leads_1 12 rfl rfl)
theorem dX3_leads_37 : decode cX3_leads 37 = .ok (.iload_n 2, 1) := dk_28 (dk_at dksX3_leads_1 13 rfl rfl)
theorem dX3_leads_38 : decode cX3_leads 38 = .ok (.aload_n 0, 1) := dk_42 (dk_at dksX3_leads_1 14 rfl rfl)
theorem dX3_leads_39 : decode cX3_leads 39 = .ok (.invokevirtual 367, 3) := dk_182 1 111 (dk_at dksX3_leads_1 15 rfl rfl)
theorem dX3_leads_42 : decode cX3_leads 42 = .ok (.if_icmp .ne 7, 3) := dk_160 0 7 (dk_at dksX3_leads_1 18 rfl rfl)
theorem dX3_leads_45 : decode cX3_leads 45 = .ok (.iconst 0, 1) := dk_3 (dk_at dksX3_leads_1 21 rfl rfl)
theorem dX3_leads_46 : decode cX3_leads 46 = .ok (.goto 4, 3) := dk_167 0 4 (dk_at dksX3_leads_2 0 rfl rfl)
theorem dX3_leads_49 : decode cX3_leads 49 = .ok (.iconst (-1), 1) := dk_2 (dk_at dksX3_leads_2 3 rfl rfl)
theorem dX3_leads_50 : decode cX3_leads 50 = .ok (.iastore, 1) := dk_79 (dk_at dksX3_leads_2 4 rfl rfl)
theorem dX3_leads_51 : decode cX3_leads 51 = .ok (.iinc 2 1, 3) := dk_132 2 1 (dk_at dksX3_leads_2 5 rfl rfl)
theorem dX3_leads_54 : decode cX3_leads 54 = .ok (.goto (-30), 3) := dk_167 255 226 (dk_at dksX3_leads_2 8 rfl rfl)
theorem dX3_leads_57 : decode cX3_leads 57 = .ok (.iconst 1, 1) := dk_4 (dk_at dksX3_leads_2 11 rfl rfl)
theorem dX3_leads_58 : decode cX3_leads 58 = .ok (.istore_n 2, 1) := dk_61 (dk_at dksX3_leads_2 12 rfl rfl)
theorem dX3_leads_59 : decode cX3_leads 59 = .ok (.iconst 0, 1) := dk_3 (dk_at dksX3_leads_2 13 rfl rfl)
theorem dX3_leads_60 : decode cX3_leads 60 = .ok (.istore_n 3, 1) := dk_62 (dk_at dksX3_leads_2 14 rfl rfl)
theorem dX3_leads_61 : decode cX3_leads 61 = .ok (.iload_n 2, 1) := dk_28 (dk_at dksX3_leads_2 15 rfl rfl)
theorem dX3_leads_62 : decode cX3_leads 62 = .ok (.ifCond .eq 136, 3) := dk_153 0 136 (dk_at dksX3_leads_2 16 rfl rfl)
theorem dX3_leads_65 : decode cX3_leads 65 = .ok (.iconst 0, 1) := dk_3 (dk_at dksX3_leads_2 19 rfl rfl)
theorem dX3_leads_66 : decode cX3_leads 66 = .ok (.istore_n 2, 1) := dk_61 (dk_at dksX3_leads_2 20 rfl rfl)
theorem dX3_leads_67 : decode cX3_leads 67 = .ok (.iconst 0, 1) := dk_3 (dk_at dksX3_leads_2 21 rfl rfl)
theorem dX3_leads_68 : decode cX3_leads 68 = .ok (.istore 4, 2) := dk_54 4 (dk_at dksX3_leads_2 22 rfl rfl)
theorem dX3_leads_70 : decode cX3_leads 70 = .ok (.iload 4, 2) := dk_21 4 (dk_at dksX3_leads_3 0 rfl rfl)
theorem dX3_leads_72 : decode cX3_leads 72 = .ok (.aload_n 0, 1) := dk_42 (dk_at dksX3_leads_3 2 rfl rfl)
theorem dX3_leads_73 : decode cX3_leads 73 = .ok (.getfield 83, 3) := dk_180 0 83 (dk_at dksX3_leads_3 3 rfl rfl)
theorem dX3_leads_76 : decode cX3_leads 76 = .ok (.if_icmp .ge 116, 3) := dk_162 0 116 (dk_at dksX3_leads_3 6 rfl rfl)
theorem dX3_leads_79 : decode cX3_leads 79 = .ok (.iconst 0, 1) := dk_3 (dk_at dksX3_leads_3 9 rfl rfl)
theorem dX3_leads_80 : decode cX3_leads 80 = .ok (.istore 5, 2) := dk_54 5 (dk_at dksX3_leads_3 10 rfl rfl)
theorem dX3_leads_82 : decode cX3_leads 82 = .ok (.iload 5, 2) := dk_21 5 (dk_at dksX3_leads_3 12 rfl rfl)
theorem dX3_leads_84 : decode cX3_leads 84 = .ok (.iconst 4, 1) := dk_7 (dk_at dksX3_leads_3 14 rfl rfl)
theorem dX3_leads_85 : decode cX3_leads 85 = .ok (.if_icmp .ge 101, 3) := dk_162 0 101 (dk_at dksX3_leads_3 15 rfl rfl)
theorem dX3_leads_88 : decode cX3_leads 88 = .ok (.aload_n 0, 1) := dk_42 (dk_at dksX3_leads_3 18 rfl rfl)
theorem dX3_leads_89 : decode cX3_leads 89 = .ok (.getfield 53, 3) := dk_180 0 53 (dk_at dksX3_leads_3 19 rfl rfl)
theorem dX3_leads_92 : decode cX3_leads 92 = .ok (.iload 4, 2) := dk_21 4 (dk_at dksX3_leads_3 22 rfl rfl)
theorem dX3_leads_94 : decode cX3_leads 94 = .ok (.iaload, 1) := dk_46 (dk_at dksX3_leads_4 0 rfl rfl)
theorem dX3_leads_95 : decode cX3_leads 95 = .ok (.iload_n 3, 1) := dk_29 (dk_at dksX3_leads_4 1 rfl rfl)
theorem dX3_leads_96 : decode cX3_leads 96 = .ok (.if_icmp .ne 90, 3) := dk_160 0 90 (dk_at dksX3_leads_4 2 rfl rfl)
theorem dX3_leads_99 : decode cX3_leads 99 = .ok (.iload_n 3, 1) := dk_29 (dk_at dksX3_leads_4 5 rfl rfl)
theorem dX3_leads_100 : decode cX3_leads 100 = .ok (.ifCond .eq 16, 3) := dk_153 0 16 (dk_at dksX3_leads_4 6 rfl rfl)
theorem dX3_leads_103 : decode cX3_leads 103 = .ok (.aload_n 0, 1) := dk_42 (dk_at dksX3_leads_4 9 rfl rfl)
theorem dX3_leads_104 : decode cX3_leads 104 = .ok (.getfield 7, 3) := dk_180 0 7 (dk_at dksX3_leads_4 10 rfl rfl)
theorem dX3_leads_107 : decode cX3_leads 107 = .ok (.bipush 70, 2) := dk_16 70 (dk_at dksX3_leads_4 13 rfl rfl)
theorem dX3_leads_109 : decode cX3_leads 109 = .ok (.iload 4, 2) := dk_21 4 (dk_at dksX3_leads_4 15 rfl rfl)
theorem dX3_leads_111 : decode cX3_leads 111 = .ok (.iadd, 1) := dk_96 (dk_at dksX3_leads_4 17 rfl rfl)
theorem dX3_leads_112 : decode cX3_leads 112 = .ok (.iaload, 1) := dk_46 (dk_at dksX3_leads_4 18 rfl rfl)
theorem dX3_leads_113 : decode cX3_leads 113 = .ok (.ifCond .ne 73, 3) := dk_154 0 73 (dk_at dksX3_leads_4 19 rfl rfl)
theorem dX3_leads_116 : decode cX3_leads 116 = .ok (.aload_n 0, 1) := dk_42 (dk_at dksX3_leads_4 22 rfl rfl)
theorem dX3_leads_117 : decode cX3_leads 117 = .ok (.iload 4, 2) := dk_21 4 (dk_at dksX3_leads_5 0 rfl rfl)
theorem dX3_leads_119 : decode cX3_leads 119 = .ok (.iload 5, 2) := dk_21 5 (dk_at dksX3_leads_5 2 rfl rfl)
theorem dX3_leads_121 : decode cX3_leads 121 = .ok (.invokevirtual 271, 3) := dk_182 1 15 (dk_at dksX3_leads_5 4 rfl rfl)
theorem dX3_leads_124 : decode cX3_leads 124 = .ok (.istore 6, 2) := dk_54 6 (dk_at dksX3_leads_5 7 rfl rfl)
theorem dX3_leads_126 : decode cX3_leads 126 = .ok (.iload 6, 2) := dk_21 6 (dk_at dksX3_leads_5 9 rfl rfl)
theorem dX3_leads_128 : decode cX3_leads 128 = .ok (.ifCond .lt 52, 3) := dk_155 0 52 (dk_at dksX3_leads_5 11 rfl rfl)
theorem dX3_leads_131 : decode cX3_leads 131 = .ok (.aload_n 0, 1) := dk_42 (dk_at dksX3_leads_5 14 rfl rfl)
theorem dX3_leads_132 : decode cX3_leads 132 = .ok (.getfield 53, 3) := dk_180 0 53 (dk_at dksX3_leads_5 15 rfl rfl)
theorem dX3_leads_135 : decode cX3_leads 135 = .ok (.iload 6, 2) := dk_21 6 (dk_at dksX3_leads_5 18 rfl rfl)
theorem dX3_leads_137 : decode cX3_leads 137 = .ok (.iaload, 1) := dk_46 (dk_at dksX3_leads_5 20 rfl rfl)
theorem dX3_leads_138 : decode cX3_leads 138 = .ok (.ifCond .ge 42, 3) := dk_156 0 42 (dk_at dksX3_leads_5 21 rfl rfl)
theorem dX3_leads_141 : decode cX3_leads 141 = .ok (.aload_n 0, 1) := dk_42 (dk_at dksX3_leads_6 0 rfl rfl)
theorem dX3_leads_142 : decode cX3_leads 142 = .ok (.sipush 504, 3) := dk_17 1 248 (dk_at dksX3_leads_6 1 rfl rfl)
theorem dX3_leads_145 : decode cX3_leads 145 = .ok (.iload 6, 2) := dk_21 6 (dk_at dksX3_leads_6 4 rfl rfl)
theorem dX3_leads_147 : decode cX3_leads 147 = .ok (.aload_n 0, 1) := dk_42 (dk_at dksX3_leads_6 6 rfl rfl)
theorem dX3_leads_148 : decode cX3_leads 148 = .ok (.getfield 7, 3) := dk_180 0 7 (dk_at dksX3_leads_6 7 rfl rfl)
theorem dX3_leads_151 : decode cX3_leads 151 = .ok (.iconst 1, 1) := dk_4 (dk_at dksX3_leads_6 10 rfl rfl)
theorem dX3_leads_152 : decode cX3_leads 152 = .ok (.iaload, 1) := dk_46 (dk_at dksX3_leads_6 11 rfl rfl)
theorem dX3_leads_153 : decode cX3_leads 153 = .ok (.aload_n 0, 1) := dk_42 (dk_at dksX3_leads_6 12 rfl rfl)
theorem dX3_leads_154 : decode cX3_leads 154 = .ok (.getfield 7, 3) := dk_180 0 7 (dk_at dksX3_leads_6 13 rfl rfl)
theorem dX3_leads_157 : decode cX3_leads 157 = .ok (.iconst 0, 1) := dk_3 (dk_at dksX3_leads_6 16 rfl rfl)
theorem dX3_leads_158 : decode cX3_leads 158 = .ok (.iaload, 1) := dk_46 (dk_at dksX3_leads_6 17 rfl rfl)
theorem dX3_leads_159 : decode cX3_leads 159 = .ok (.invokevirtual 302, 3) := dk_182 1 46 (dk_at dksX3_leads_6 18 rfl rfl)
theorem dX3_leads_162 : decode cX3_leads 162 = .ok (.ifCond .ge 6, 3) := dk_156 0 6 (dk_at dksX3_leads_6 21 rfl rfl)
theorem dX3_leads_165 : decode cX3_leads 165 = .ok (.goto 15, 3) := dk_167 0 15 (dk_at dksX3_leads_7 0 rfl rfl)
theorem dX3_leads_168 : decode cX3_leads 168 = .ok (.aload_n 0, 1) := dk_42 (dk_at dksX3_leads_7 3 rfl rfl)
theorem dX3_leads_169 : decode cX3_leads 169 = .ok (.getfield 53, 3) := dk_180 0 53 (dk_at dksX3_leads_7 4 rfl rfl)
theorem dX3_leads_172 : decode cX3_leads 172 = .ok (.iload 6, 2) := dk_21 6 (dk_at dksX3_leads_7 7 rfl rfl)
theorem dX3_leads_174 : decode cX3_leads 174 = .ok (.iload_n 3, 1) := dk_29 (dk_at dksX3_leads_7 9 rfl rfl)
theorem dX3_leads_175 : decode cX3_leads 175 = .ok (.iconst 1, 1) := dk_4 (dk_at dksX3_leads_7 10 rfl rfl)
theorem dX3_leads_176 : decode cX3_leads 176 = .ok (.iadd, 1) := dk_96 (dk_at dksX3_leads_7 11 rfl rfl)
theorem dX3_leads_177 : decode cX3_leads 177 = .ok (.iastore, 1) := dk_79 (dk_at dksX3_leads_7 12 rfl rfl)
theorem dX3_leads_178 : decode cX3_leads 178 = .ok (.iconst 1, 1) := dk_4 (dk_at dksX3_leads_7 13 rfl rfl)
theorem dX3_leads_179 : decode cX3_leads 179 = .ok (.istore_n 2, 1) := dk_61 (dk_at dksX3_leads_7 14 rfl rfl)
theorem dX3_leads_180 : decode cX3_leads 180 = .ok (.iinc 5 1, 3) := dk_132 5 1 (dk_at dksX3_leads_7 15 rfl rfl)
theorem dX3_leads_183 : decode cX3_leads 183 = .ok (.goto (-101), 3) := dk_167 255 155 (dk_at dksX3_leads_7 18 rfl rfl)
theorem dX3_leads_186 : decode cX3_leads 186 = .ok (.iinc 4 1, 3) := dk_132 4 1 (dk_at dksX3_leads_7 21 rfl rfl)
theorem dX3_leads_189 : decode cX3_leads 189 = .ok (.goto (-119), 3) := dk_167 255 137 (dk_at dksX3_leads_8 0 rfl rfl)
theorem dX3_leads_192 : decode cX3_leads 192 = .ok (.iinc 3 1, 3) := dk_132 3 1 (dk_at dksX3_leads_8 3 rfl rfl)
theorem dX3_leads_195 : decode cX3_leads 195 = .ok (.goto (-134), 3) := dk_167 255 122 (dk_at dksX3_leads_8 6 rfl rfl)
theorem dX3_leads_198 : decode cX3_leads 198 = .ok (.iload_n 1, 1) := dk_27 (dk_at dksX3_leads_8 9 rfl rfl)
theorem dX3_leads_199 : decode cX3_leads 199 = .ok (.ifCond .lt 10, 3) := dk_155 0 10 (dk_at dksX3_leads_8 10 rfl rfl)
theorem dX3_leads_202 : decode cX3_leads 202 = .ok (.aload_n 0, 1) := dk_42 (dk_at dksX3_leads_8 13 rfl rfl)
theorem dX3_leads_203 : decode cX3_leads 203 = .ok (.getfield 53, 3) := dk_180 0 53 (dk_at dksX3_leads_8 14 rfl rfl)
theorem dX3_leads_206 : decode cX3_leads 206 = .ok (.iload_n 1, 1) := dk_27 (dk_at dksX3_leads_8 17 rfl rfl)
theorem dX3_leads_207 : decode cX3_leads 207 = .ok (.iaload, 1) := dk_46 (dk_at dksX3_leads_8 18 rfl rfl)
theorem dX3_leads_208 : decode cX3_leads 208 = .ok (.ireturn, 1) := dk_172 (dk_at dksX3_leads_8 19 rfl rfl)
theorem dX3_leads_209 : decode cX3_leads 209 = .ok (.iconst 0, 1) := dk_3 (dk_at dksX3_leads_8 20 rfl rfl)
theorem dX3_leads_210 : decode cX3_leads 210 = .ok (.istore_n 3, 1) := dk_62 (dk_at dksX3_leads_8 21 rfl rfl)
theorem dX3_leads_211 : decode cX3_leads 211 = .ok (.iconst 0, 1) := dk_3 (dk_at dksX3_leads_8 22 rfl rfl)
theorem dX3_leads_212 : decode cX3_leads 212 = .ok (.istore 4, 2) := dk_54 4 (dk_at dksX3_leads_9 0 rfl rfl)
theorem dX3_leads_214 : decode cX3_leads 214 = .ok (.iload 4, 2) := dk_21 4 (dk_at dksX3_leads_9 2 rfl rfl)
theorem dX3_leads_216 : decode cX3_leads 216 = .ok (.aload_n 0, 1) := dk_42 (dk_at dksX3_leads_9 4 rfl rfl)
theorem dX3_leads_217 : decode cX3_leads 217 = .ok (.getfield 83, 3) := dk_180 0 83 (dk_at dksX3_leads_9 5 rfl rfl)
theorem dX3_leads_220 : decode cX3_leads 220 = .ok (.if_icmp .ge 27, 3) := dk_162 0 27 (dk_at dksX3_leads_9 8 rfl rfl)
theorem dX3_leads_223 : decode cX3_leads 223 = .ok (.iload_n 3, 1) := dk_29 (dk_at dksX3_leads_9 11 rfl rfl)
theorem dX3_leads_224 : decode cX3_leads 224 = .ok (.aload_n 0, 1) := dk_42 (dk_at dksX3_leads_9 12 rfl rfl)
theorem dX3_leads_225 : decode cX3_leads 225 = .ok (.getfield 53, 3) := dk_180 0 53 (dk_at dksX3_leads_9 13 rfl rfl)
theorem dX3_leads_228 : decode cX3_leads 228 = .ok (.iload 4, 2) := dk_21 4 (dk_at dksX3_leads_9 16 rfl rfl)
theorem dX3_leads_230 : decode cX3_leads 230 = .ok (.iaload, 1) := dk_46 (dk_at dksX3_leads_9 18 rfl rfl)
theorem dX3_leads_231 : decode cX3_leads 231 = .ok (.ifCond .lt 7, 3) := dk_155 0 7 (dk_at dksX3_leads_9 19 rfl rfl)
theorem dX3_leads_234 : decode cX3_leads 234 = .ok (.iconst 1, 1) := dk_4 (dk_at dksX3_leads_9 22 rfl rfl)
theorem dX3_leads_235 : decode cX3_leads 235 = .ok (.goto 4, 3) := dk_167 0 4 (dk_at dksX3_leads_10 0 rfl rfl)
theorem dX3_leads_238 : decode cX3_leads 238 = .ok (.iconst 0, 1) := dk_3 (dk_at dksX3_leads_10 3 rfl rfl)
theorem dX3_leads_239 : decode cX3_leads 239 = .ok (.iadd, 1) := dk_96 (dk_at dksX3_leads_10 4 rfl rfl)
theorem dX3_leads_240 : decode cX3_leads 240 = .ok (.istore_n 3, 1) := dk_62 (dk_at dksX3_leads_10 5 rfl rfl)
theorem dX3_leads_241 : decode cX3_leads 241 = .ok (.iinc 4 1, 3) := dk_132 4 1 (dk_at dksX3_leads_10 6 rfl rfl)
theorem dX3_leads_244 : decode cX3_leads 244 = .ok (.goto (-30), 3) := dk_167 255 226 (dk_at dksX3_leads_10 9 rfl rfl)
theorem dX3_leads_247 : decode cX3_leads 247 = .ok (.iload_n 3, 1) := dk_29 (dk_at dksX3_leads_10 12 rfl rfl)
theorem dX3_leads_248 : decode cX3_leads 248 = .ok (.ireturn, 1) := dk_172 (dk_at dksX3_leads_10 13 rfl rfl)
abbrev cX3_prior : ByteArray := prog_17_method_116_code
def yX3_prior : MethodName := ⟨RX3, "prior", "(II)Z"⟩
def dkwX3_prior_1 : List UInt8 := [180, 0, 7, 17, 0, 210, 27, 96, 28, 79, 4, 172]
abbrev dktX3_prior_1 : List UInt8 := dkwX3_prior_1 ++ []
def dkwX3_prior_0 : List UInt8 := [27, 3, 8, 184, 0, 90, 153, 0, 13, 28, 3, 16, 9, 184, 0, 90, 154, 0, 5, 3, 172, 42]
abbrev dktX3_prior_0 : List UInt8 := dkwX3_prior_0 ++ dktX3_prior_1
theorem dksX3_prior_0 : cX3_prior.data.toList.drop 0 = dktX3_prior_0 := by decide +kernel
theorem dksX3_prior_1 : cX3_prior.data.toList.drop 22 = dktX3_prior_1 := dk_seg dksX3_prior_0 22 rfl rfl
theorem dX3_prior_0 : decode cX3_prior 0 = .ok (.iload_n 1, 1) := dk_27 (dk_at dksX3_prior_0 0 rfl rfl)
theorem dX3_prior_1 : decode cX3_prior 1 = .ok (.iconst 0, 1) := dk_3 (dk_at dksX3_prior_0 1 rfl rfl)
theorem dX3_prior_2 : decode cX3_prior 2 = .ok (.iconst 5, 1) := dk_8 (dk_at dksX3_prior_0 2 rfl rfl)
theorem dX3_prior_3 : decode cX3_prior 3 = .ok (.invokestatic 90, 3) := dk_184 0 90 (dk_at dksX3_prior_0 3 rfl rfl)
theorem dX3_prior_6 : decode cX3_prior 6 = .ok (.ifCond .eq 13, 3) := dk_153 0 13 (dk_at dksX3_prior_0 6 rfl rfl)
theorem dX3_prior_9 : decode cX3_prior 9 = .ok (.iload_n 2, 1) := dk_28 (dk_at dksX3_prior_0 9 rfl rfl)
theorem dX3_prior_10 : decode cX3_prior 10 = .ok (.iconst 0, 1) := dk_3 (dk_at dksX3_prior_0 10 rfl rfl)
theorem dX3_prior_11 : decode cX3_prior 11 = .ok (.bipush 9, 2) := dk_16 9 (dk_at dksX3_prior_0 11 rfl rfl)
theorem dX3_prior_13 : decode cX3_prior 13 = .ok (.invokestatic 90, 3) := dk_184 0 90 (dk_at dksX3_prior_0 13 rfl rfl)
theorem dX3_prior_16 : decode cX3_prior 16 = .ok (.ifCond .ne 5, 3) := dk_154 0 5 (dk_at dksX3_prior_0 16 rfl rfl)
theorem dX3_prior_19 : decode cX3_prior 19 = .ok (.iconst 0, 1) := dk_3 (dk_at dksX3_prior_0 19 rfl rfl)
theorem dX3_prior_20 : decode cX3_prior 20 = .ok (.ireturn, 1) := dk_172 (dk_at dksX3_prior_0 20 rfl rfl)
theorem dX3_prior_21 : decode cX3_prior 21 = .ok (.aload_n 0, 1) := dk_42 (dk_at dksX3_prior_0 21 rfl rfl)
theorem dX3_prior_22 : decode cX3_prior 22 = .ok (.getfield 7, 3) := dk_180 0 7 (dk_at dksX3_prior_1 0 rfl rfl)
theorem dX3_prior_25 : decode cX3_prior 25 = .ok (.sipush 210, 3) := dk_17 0 210 (dk_at dksX3_prior_1 3 rfl rfl)
theorem dX3_prior_28 : decode cX3_prior 28 = .ok (.iload_n 1, 1) := dk_27 (dk_at dksX3_prior_1 6 rfl rfl)
theorem dX3_prior_29 : decode cX3_prior 29 = .ok (.iadd, 1) := dk_96 (dk_at dksX3_prior_1 7 rfl rfl)
theorem dX3_prior_30 : decode cX3_prior 30 = .ok (.iload_n 2, 1) := dk_28 (dk_at dksX3_prior_1 8 rfl rfl)
theorem dX3_prior_31 : decode cX3_prior 31 = .ok (.iastore, 1) := dk_79 (dk_at dksX3_prior_1 9 rfl rfl)
theorem dX3_prior_32 : decode cX3_prior 32 = .ok (.iconst 1, 1) := dk_4 (dk_at dksX3_prior_1 10 rfl rfl)
theorem dX3_prior_33 : decode cX3_prior 33 = .ok (.ireturn, 1) := dk_172 (dk_at dksX3_prior_1 11 rfl rfl)
abbrev cX3_look_2 : ByteArray := prog_17_method_117_code
def yX3_look_2 : MethodName := ⟨RX3, "look", "(II)I"⟩
def dkwX3_look_2_3 : List UInt8 := [180, 0, 7, 16, 7, 92, 46, 4, 96, 79, 42, 180, 0, 7, 16, 7, 46, 172]
abbrev dktX3_look_2_3 : List UInt8 := dkwX3_look_2_3 ++ []
def dkwX3_look_2_2 : List UInt8 := [27, 79, 42, 180, 0, 7, 17, 0, 220, 5, 42, 180, 0, 7, 16, 7, 46, 104, 96, 4, 96, 28, 79, 42]
abbrev dktX3_look_2_2 : List UInt8 := dkwX3_look_2_2 ++ dktX3_look_2_3
def dkwX3_look_2_1 : List UInt8 := [16, 30, 160, 0, 5, 2, 172, 42, 180, 0, 7, 17, 0, 220, 5, 42, 180, 0, 7, 16, 7, 46, 104, 96]
abbrev dktX3_look_2_1 : List UInt8 := dkwX3_look_2_1 ++ dktX3_look_2_2
def dkwX3_look_2_0 : List UInt8 := [42, 27, 182, 0, 98, 153, 0, 24, 28, 3, 8, 184, 0, 90, 153, 0, 15, 42, 180, 0, 7, 16, 7, 46]
abbrev dktX3_look_2_0 : List UInt8 := dkwX3_look_2_0 ++ dktX3_look_2_1
theorem dksX3_look_2_0 : cX3_look_2.data.toList.drop 0 = dktX3_look_2_0 := by decide +kernel
theorem dksX3_look_2_1 : cX3_look_2.data.toList.drop 24 = dktX3_look_2_1 := dk_seg dksX3_look_2_0 24 rfl rfl
theorem dksX3_look_2_2 : cX3_look_2.data.toList.drop 48 = dktX3_look_2_2 := dk_seg dksX3_look_2_1 24 rfl rfl
theorem dksX3_look_2_3 : cX3_look_2.data.toList.drop 72 = dktX3_look_2_3 := dk_seg dksX3_look_2_2 24 rfl rfl
theorem dX3_look_2_0 : decode cX3_look_2 0 = .ok (.aload_n 0, 1) := dk_42 (dk_at dksX3_look_2_0 0 rfl rfl)
theorem dX3_look_2_1 : decode cX3_look_2 1 = .ok (.iload_n 1, 1) := dk_27 (dk_at dksX3_look_2_0 1 rfl rfl)
theorem dX3_look_2_2 : decode cX3_look_2 2 = .ok (.invokevirtual 98, 3) := dk_182 0 98 (dk_at dksX3_look_2_0 2 rfl rfl)
theorem dX3_look_2_5 : decode cX3_look_2 5 = .ok (.ifCond .eq 24, 3) := dk_153 0 24 (dk_at dksX3_look_2_0 5 rfl rfl)
theorem dX3_look_2_8 : decode cX3_look_2 8 = .ok (.iload_n 2, 1) := dk_28 (dk_at dksX3_look_2_0 8 rfl rfl)
theorem dX3_look_2_9 : decode cX3_look_2 9 = .ok (.iconst 0, 1) := dk_3 (dk_at dksX3_look_2_0 9 rfl rfl)
theorem dX3_look_2_10 : decode cX3_look_2 10 = .ok (.iconst 5, 1) := dk_8 (dk_at dksX3_look_2_0 10 rfl rfl)
theorem dX3_look_2_11 : decode cX3_look_2 11 = .ok (.invokestatic 90, 3) := dk_184 0 90 (dk_at dksX3_look_2_0 11 rfl rfl)
theorem dX3_look_2_14 : decode cX3_look_2 14 = .ok (.ifCond .eq 15, 3) := dk_153 0 15 (dk_at dksX3_look_2_0 14 rfl rfl)
theorem dX3_look_2_17 : decode cX3_look_2 17 = .ok (.aload_n 0, 1) := dk_42 (dk_at dksX3_look_2_0 17 rfl rfl)
theorem dX3_look_2_18 : decode cX3_look_2 18 = .ok (.getfield 7, 3) := dk_180 0 7 (dk_at dksX3_look_2_0 18 rfl rfl)
theorem dX3_look_2_21 : decode cX3_look_2 21 = .ok (.bipush 7, 2) := dk_16 7 (dk_at dksX3_look_2_0 21 rfl rfl)
theorem dX3_look_2_23 : decode cX3_look_2 23 = .ok (.iaload, 1) := dk_46 (dk_at dksX3_look_2_0 23 rfl rfl)
theorem dX3_look_2_24 : decode cX3_look_2 24 = .ok (.bipush 30, 2) := dk_16 30 (dk_at dksX3_look_2_1 0 rfl rfl)
theorem dX3_look_2_26 : decode cX3_look_2 26 = .ok (.if_icmp .ne 5, 3) := dk_160 0 5 (dk_at dksX3_look_2_1 2 rfl rfl)
theorem dX3_look_2_29 : decode cX3_look_2 29 = .ok (.iconst (-1), 1) := dk_2 (dk_at dksX3_look_2_1 5 rfl rfl)
theorem dX3_look_2_30 : decode cX3_look_2 30 = .ok (.ireturn, 1) := dk_172 (dk_at dksX3_look_2_1 6 rfl rfl)
theorem dX3_look_2_31 : decode cX3_look_2 31 = .ok (.aload_n 0, 1) := dk_42 (dk_at dksX3_look_2_1 7 rfl rfl)
theorem dX3_look_2_32 : decode cX3_look_2 32 = .ok (.getfield 7, 3) := dk_180 0 7 (dk_at dksX3_look_2_1 8 rfl rfl)
theorem dX3_look_2_35 : decode cX3_look_2 35 = .ok (.sipush 220, 3) := dk_17 0 220 (dk_at dksX3_look_2_1 11 rfl rfl)
theorem dX3_look_2_38 : decode cX3_look_2 38 = .ok (.iconst 2, 1) := dk_5 (dk_at dksX3_look_2_1 14 rfl rfl)
theorem dX3_look_2_39 : decode cX3_look_2 39 = .ok (.aload_n 0, 1) := dk_42 (dk_at dksX3_look_2_1 15 rfl rfl)
theorem dX3_look_2_40 : decode cX3_look_2 40 = .ok (.getfield 7, 3) := dk_180 0 7 (dk_at dksX3_look_2_1 16 rfl rfl)
theorem dX3_look_2_43 : decode cX3_look_2 43 = .ok (.bipush 7, 2) := dk_16 7 (dk_at dksX3_look_2_1 19 rfl rfl)
theorem dX3_look_2_45 : decode cX3_look_2 45 = .ok (.iaload, 1) := dk_46 (dk_at dksX3_look_2_1 21 rfl rfl)
theorem dX3_look_2_46 : decode cX3_look_2 46 = .ok (.imul, 1) := dk_104 (dk_at dksX3_look_2_1 22 rfl rfl)
theorem dX3_look_2_47 : decode cX3_look_2 47 = .ok (.iadd, 1) := dk_96 (dk_at dksX3_look_2_1 23 rfl rfl)
theorem dX3_look_2_48 : decode cX3_look_2 48 = .ok (.iload_n 1, 1) := dk_27 (dk_at dksX3_look_2_2 0 rfl rfl)
theorem dX3_look_2_49 : decode cX3_look_2 49 = .ok (.iastore, 1) := dk_79 (dk_at dksX3_look_2_2 1 rfl rfl)
theorem dX3_look_2_50 : decode cX3_look_2 50 = .ok (.aload_n 0, 1) := dk_42 (dk_at dksX3_look_2_2 2 rfl rfl)
theorem dX3_look_2_51 : decode cX3_look_2 51 = .ok (.getfield 7, 3) := dk_180 0 7 (dk_at dksX3_look_2_2 3 rfl rfl)
theorem dX3_look_2_54 : decode cX3_look_2 54 = .ok (.sipush 220, 3) := dk_17 0 220 (dk_at dksX3_look_2_2 6 rfl rfl)
theorem dX3_look_2_57 : decode cX3_look_2 57 = .ok (.iconst 2, 1) := dk_5 (dk_at dksX3_look_2_2 9 rfl rfl)
theorem dX3_look_2_58 : decode cX3_look_2 58 = .ok (.aload_n 0, 1) := dk_42 (dk_at dksX3_look_2_2 10 rfl rfl)
theorem dX3_look_2_59 : decode cX3_look_2 59 = .ok (.getfield 7, 3) := dk_180 0 7 (dk_at dksX3_look_2_2 11 rfl rfl)
theorem dX3_look_2_62 : decode cX3_look_2 62 = .ok (.bipush 7, 2) := dk_16 7 (dk_at dksX3_look_2_2 14 rfl rfl)
theorem dX3_look_2_64 : decode cX3_look_2 64 = .ok (.iaload, 1) := dk_46 (dk_at dksX3_look_2_2 16 rfl rfl)
theorem dX3_look_2_65 : decode cX3_look_2 65 = .ok (.imul, 1) := dk_104 (dk_at dksX3_look_2_2 17 rfl rfl)
theorem dX3_look_2_66 : decode cX3_look_2 66 = .ok (.iadd, 1) := dk_96 (dk_at dksX3_look_2_2 18 rfl rfl)
theorem dX3_look_2_67 : decode cX3_look_2 67 = .ok (.iconst 1, 1) := dk_4 (dk_at dksX3_look_2_2 19 rfl rfl)
theorem dX3_look_2_68 : decode cX3_look_2 68 = .ok (.iadd, 1) := dk_96 (dk_at dksX3_look_2_2 20 rfl rfl)
theorem dX3_look_2_69 : decode cX3_look_2 69 = .ok (.iload_n 2, 1) := dk_28 (dk_at dksX3_look_2_2 21 rfl rfl)
theorem dX3_look_2_70 : decode cX3_look_2 70 = .ok (.iastore, 1) := dk_79 (dk_at dksX3_look_2_2 22 rfl rfl)
theorem dX3_look_2_71 : decode cX3_look_2 71 = .ok (.aload_n 0, 1) := dk_42 (dk_at dksX3_look_2_2 23 rfl rfl)
theorem dX3_look_2_72 : decode cX3_look_2 72 = .ok (.getfield 7, 3) := dk_180 0 7 (dk_at dksX3_look_2_3 0 rfl rfl)
theorem dX3_look_2_75 : decode cX3_look_2 75 = .ok (.bipush 7, 2) := dk_16 7 (dk_at dksX3_look_2_3 3 rfl rfl)
theorem dX3_look_2_77 : decode cX3_look_2 77 = .ok (.dup2, 1) := dk_92 (dk_at dksX3_look_2_3 5 rfl rfl)
theorem dX3_look_2_78 : decode cX3_look_2 78 = .ok (.iaload, 1) := dk_46 (dk_at dksX3_look_2_3 6 rfl rfl)
theorem dX3_look_2_79 : decode cX3_look_2 79 = .ok (.iconst 1, 1) := dk_4 (dk_at dksX3_look_2_3 7 rfl rfl)
theorem dX3_look_2_80 : decode cX3_look_2 80 = .ok (.iadd, 1) := dk_96 (dk_at dksX3_look_2_3 8 rfl rfl)
theorem dX3_look_2_81 : decode cX3_look_2 81 = .ok (.iastore, 1) := dk_79 (dk_at dksX3_look_2_3 9 rfl rfl)
theorem dX3_look_2_82 : decode cX3_look_2 82 = .ok (.aload_n 0, 1) := dk_42 (dk_at dksX3_look_2_3 10 rfl rfl)
theorem dX3_look_2_83 : decode cX3_look_2 83 = .ok (.getfield 7, 3) := dk_180 0 7 (dk_at dksX3_look_2_3 11 rfl rfl)
theorem dX3_look_2_86 : decode cX3_look_2 86 = .ok (.bipush 7, 2) := dk_16 7 (dk_at dksX3_look_2_3 14 rfl rfl)
theorem dX3_look_2_88 : decode cX3_look_2 88 = .ok (.iaload, 1) := dk_46 (dk_at dksX3_look_2_3 16 rfl rfl)
theorem dX3_look_2_89 : decode cX3_look_2 89 = .ok (.ireturn, 1) := dk_172 (dk_at dksX3_look_2_3 17 rfl rfl)
abbrev cX3_think : ByteArray := prog_17_method_119_code
def yX3_think : MethodName := ⟨RX3, "think", "(II)I"⟩
def dkwX3_think_5 : List UInt8 := [28, 182, 1, 172, 105, 22, 4, 109, 136, 172]
abbrev dktX3_think_5 : List UInt8 := dkwX3_think_5 ++ []
def dkwX3_think_4 : List UInt8 := [55, 4, 132, 6, 1, 167, 255, 234, 22, 4, 9, 148, 154, 0, 7, 2, 167, 0, 17, 20, 1, 176, 42, 27]
abbrev dktX3_think_4 : List UInt8 := dkwX3_think_4 ++ dktX3_think_5
def dkwX3_think_3 : List UInt8 := [172, 9, 55, 4, 3, 54, 6, 21, 6, 16, 6, 162, 0, 21, 22, 4, 42, 27, 21, 6, 182, 1, 172, 97]
abbrev dktX3_think_3 : List UInt8 := dkwX3_think_3 ++ dktX3_think_4
def dkwX3_think_2 : List UInt8 := [96, 46, 27, 160, 0, 7, 4, 167, 0, 4, 3, 96, 62, 132, 4, 1, 167, 255, 216, 28, 156, 0, 5, 29]
abbrev dktX3_think_2 : List UInt8 := dkwX3_think_2 ++ dktX3_think_3
def dkwX3_think_1 : List UInt8 := [21, 4, 42, 180, 0, 7, 16, 7, 46, 162, 0, 34, 29, 42, 180, 0, 7, 17, 0, 220, 5, 21, 4, 104]
abbrev dktX3_think_1 : List UInt8 := dkwX3_think_1 ++ dktX3_think_2
def dkwX3_think_0 : List UInt8 := [42, 27, 182, 0, 98, 153, 0, 12, 28, 2, 8, 184, 0, 90, 154, 0, 5, 2, 172, 3, 62, 3, 54, 4]
abbrev dktX3_think_0 : List UInt8 := dkwX3_think_0 ++ dktX3_think_1
theorem dksX3_think_0 : cX3_think.data.toList.drop 0 = dktX3_think_0 := by decide +kernel
theorem dksX3_think_1 : cX3_think.data.toList.drop 24 = dktX3_think_1 := dk_seg dksX3_think_0 24 rfl rfl
theorem dksX3_think_2 : cX3_think.data.toList.drop 48 = dktX3_think_2 := dk_seg dksX3_think_1 24 rfl rfl
theorem dksX3_think_3 : cX3_think.data.toList.drop 72 = dktX3_think_3 := dk_seg dksX3_think_2 24 rfl rfl
theorem dksX3_think_4 : cX3_think.data.toList.drop 96 = dktX3_think_4 := dk_seg dksX3_think_3 24 rfl rfl
theorem dksX3_think_5 : cX3_think.data.toList.drop 120 = dktX3_think_5 := dk_seg dksX3_think_4 24 rfl rfl
theorem dX3_think_0 : decode cX3_think 0 = .ok (.aload_n 0, 1) := dk_42 (dk_at dksX3_think_0 0 rfl rfl)
theorem dX3_think_1 : decode cX3_think 1 = .ok (.iload_n 1, 1) := dk_27 (dk_at dksX3_think_0 1 rfl rfl)
theorem dX3_think_2 : decode cX3_think 2 = .ok (.invokevirtual 98, 3) := dk_182 0 98 (dk_at dksX3_think_0 2 rfl rfl)
theorem dX3_think_5 : decode cX3_think 5 = .ok (.ifCond .eq 12, 3) := dk_153 0 12 (dk_at dksX3_think_0 5 rfl rfl)
theorem dX3_think_8 : decode cX3_think 8 = .ok (.iload_n 2, 1) := dk_28 (dk_at dksX3_think_0 8 rfl rfl)
theorem dX3_think_9 : decode cX3_think 9 = .ok (.iconst (-1), 1) := dk_2 (dk_at dksX3_think_0 9 rfl rfl)
theorem dX3_think_10 : decode cX3_think 10 = .ok (.iconst 5, 1) := dk_8 (dk_at dksX3_think_0 10 rfl rfl)
theorem dX3_think_11 : decode cX3_think 11 = .ok (.invokestatic 90, 3) := dk_184 0 90 (dk_at dksX3_think_0 11 rfl rfl)
theorem dX3_think_14 : decode cX3_think 14 = .ok (.ifCond .ne 5, 3) := dk_154 0 5 (dk_at dksX3_think_0 14 rfl rfl)
theorem dX3_think_17 : decode cX3_think 17 = .ok (.iconst (-1), 1) := dk_2 (dk_at dksX3_think_0 17 rfl rfl)
theorem dX3_think_18 : decode cX3_think 18 = .ok (.ireturn, 1) := dk_172 (dk_at dksX3_think_0 18 rfl rfl)
theorem dX3_think_19 : decode cX3_think 19 = .ok (.iconst 0, 1) := dk_3 (dk_at dksX3_think_0 19 rfl rfl)
theorem dX3_think_20 : decode cX3_think 20 = .ok (.istore_n 3, 1) := dk_62 (dk_at dksX3_think_0 20 rfl rfl)
theorem dX3_think_21 : decode cX3_think 21 = .ok (.iconst 0, 1) := dk_3 (dk_at dksX3_think_0 21 rfl rfl)
theorem dX3_think_22 : decode cX3_think 22 = .ok (.istore 4, 2) := dk_54 4 (dk_at dksX3_think_0 22 rfl rfl)
theorem dX3_think_24 : decode cX3_think 24 = .ok (.iload 4, 2) := dk_21 4 (dk_at dksX3_think_1 0 rfl rfl)
theorem dX3_think_26 : decode cX3_think 26 = .ok (.aload_n 0, 1) := dk_42 (dk_at dksX3_think_1 2 rfl rfl)
theorem dX3_think_27 : decode cX3_think 27 = .ok (.getfield 7, 3) := dk_180 0 7 (dk_at dksX3_think_1 3 rfl rfl)
theorem dX3_think_30 : decode cX3_think 30 = .ok (.bipush 7, 2) := dk_16 7 (dk_at dksX3_think_1 6 rfl rfl)
theorem dX3_think_32 : decode cX3_think 32 = .ok (.iaload, 1) := dk_46 (dk_at dksX3_think_1 8 rfl rfl)
theorem dX3_think_33 : decode cX3_think 33 = .ok (.if_icmp .ge 34, 3) := dk_162 0 34 (dk_at dksX3_think_1 9 rfl rfl)
theorem dX3_think_36 : decode cX3_think 36 = .ok (.iload_n 3, 1) := dk_29 (dk_at dksX3_think_1 12 rfl rfl)
theorem dX3_think_37 : decode cX3_think 37 = .ok (.aload_n 0, 1) := dk_42 (dk_at dksX3_think_1 13 rfl rfl)
theorem dX3_think_38 : decode cX3_think 38 = .ok (.getfield 7, 3) := dk_180 0 7 (dk_at dksX3_think_1 14 rfl rfl)
theorem dX3_think_41 : decode cX3_think 41 = .ok (.sipush 220, 3) := dk_17 0 220 (dk_at dksX3_think_1 17 rfl rfl)
theorem dX3_think_44 : decode cX3_think 44 = .ok (.iconst 2, 1) := dk_5 (dk_at dksX3_think_1 20 rfl rfl)
theorem dX3_think_45 : decode cX3_think 45 = .ok (.iload 4, 2) := dk_21 4 (dk_at dksX3_think_1 21 rfl rfl)
theorem dX3_think_47 : decode cX3_think 47 = .ok (.imul, 1) := dk_104 (dk_at dksX3_think_1 23 rfl rfl)
theorem dX3_think_48 : decode cX3_think 48 = .ok (.iadd, 1) := dk_96 (dk_at dksX3_think_2 0 rfl rfl)
theorem dX3_think_49 : decode cX3_think 49 = .ok (.iaload, 1) := dk_46 (dk_at dksX3_think_2 1 rfl rfl)
theorem dX3_think_50 : decode cX3_think 50 = .ok (.iload_n 1, 1) := dk_27 (dk_at dksX3_think_2 2 rfl rfl)
theorem dX3_think_51 : decode cX3_think 51 = .ok (.if_icmp .ne 7, 3) := dk_160 0 7 (dk_at dksX3_think_2 3 rfl rfl)
theorem dX3_think_54 : decode cX3_think 54 = .ok (.iconst 1, 1) := dk_4 (dk_at dksX3_think_2 6 rfl rfl)
theorem dX3_think_55 : decode cX3_think 55 = .ok (.goto 4, 3) := dk_167 0 4 (dk_at dksX3_think_2 7 rfl rfl)
theorem dX3_think_58 : decode cX3_think 58 = .ok (.iconst 0, 1) := dk_3 (dk_at dksX3_think_2 10 rfl rfl)
theorem dX3_think_59 : decode cX3_think 59 = .ok (.iadd, 1) := dk_96 (dk_at dksX3_think_2 11 rfl rfl)
theorem dX3_think_60 : decode cX3_think 60 = .ok (.istore_n 3, 1) := dk_62 (dk_at dksX3_think_2 12 rfl rfl)
theorem dX3_think_61 : decode cX3_think 61 = .ok (.iinc 4 1, 3) := dk_132 4 1 (dk_at dksX3_think_2 13 rfl rfl)
theorem dX3_think_64 : decode cX3_think 64 = .ok (.goto (-40), 3) := dk_167 255 216 (dk_at dksX3_think_2 16 rfl rfl)
theorem dX3_think_67 : decode cX3_think 67 = .ok (.iload_n 2, 1) := dk_28 (dk_at dksX3_think_2 19 rfl rfl)
theorem dX3_think_68 : decode cX3_think 68 = .ok (.ifCond .ge 5, 3) := dk_156 0 5 (dk_at dksX3_think_2 20 rfl rfl)
theorem dX3_think_71 : decode cX3_think 71 = .ok (.iload_n 3, 1) := dk_29 (dk_at dksX3_think_2 23 rfl rfl)
theorem dX3_think_72 : decode cX3_think 72 = .ok (.ireturn, 1) := dk_172 (dk_at dksX3_think_3 0 rfl rfl)
theorem dX3_think_73 : decode cX3_think 73 = .ok (.lconst 0, 1) := dk_9 (dk_at dksX3_think_3 1 rfl rfl)
theorem dX3_think_74 : decode cX3_think 74 = .ok (.lstore 4, 2) := dk_55 4 (dk_at dksX3_think_3 2 rfl rfl)
theorem dX3_think_76 : decode cX3_think 76 = .ok (.iconst 0, 1) := dk_3 (dk_at dksX3_think_3 4 rfl rfl)
theorem dX3_think_77 : decode cX3_think 77 = .ok (.istore 6, 2) := dk_54 6 (dk_at dksX3_think_3 5 rfl rfl)
theorem dX3_think_79 : decode cX3_think 79 = .ok (.iload 6, 2) := dk_21 6 (dk_at dksX3_think_3 7 rfl rfl)
theorem dX3_think_81 : decode cX3_think 81 = .ok (.bipush 6, 2) := dk_16 6 (dk_at dksX3_think_3 9 rfl rfl)
theorem dX3_think_83 : decode cX3_think 83 = .ok (.if_icmp .ge 21, 3) := dk_162 0 21 (dk_at dksX3_think_3 11 rfl rfl)
theorem dX3_think_86 : decode cX3_think 86 = .ok (.lload 4, 2) := dk_22 4 (dk_at dksX3_think_3 14 rfl rfl)
theorem dX3_think_88 : decode cX3_think 88 = .ok (.aload_n 0, 1) := dk_42 (dk_at dksX3_think_3 16 rfl rfl)
theorem dX3_think_89 : decode cX3_think 89 = .ok (.iload_n 1, 1) := dk_27 (dk_at dksX3_think_3 17 rfl rfl)
theorem dX3_think_90 : decode cX3_think 90 = .ok (.iload 6, 2) := dk_21 6 (dk_at dksX3_think_3 18 rfl rfl)
theorem dX3_think_92 : decode cX3_think 92 = .ok (.invokevirtual 428, 3) := dk_182 1 172 (dk_at dksX3_think_3 20 rfl rfl)
theorem dX3_think_95 : decode cX3_think 95 = .ok (.ladd, 1) := dk_97 (dk_at dksX3_think_3 23 rfl rfl)
theorem dX3_think_96 : decode cX3_think 96 = .ok (.lstore 4, 2) := dk_55 4 (dk_at dksX3_think_4 0 rfl rfl)
theorem dX3_think_98 : decode cX3_think 98 = .ok (.iinc 6 1, 3) := dk_132 6 1 (dk_at dksX3_think_4 2 rfl rfl)
theorem dX3_think_101 : decode cX3_think 101 = .ok (.goto (-22), 3) := dk_167 255 234 (dk_at dksX3_think_4 5 rfl rfl)
theorem dX3_think_104 : decode cX3_think 104 = .ok (.lload 4, 2) := dk_22 4 (dk_at dksX3_think_4 8 rfl rfl)
theorem dX3_think_106 : decode cX3_think 106 = .ok (.lconst 0, 1) := dk_9 (dk_at dksX3_think_4 10 rfl rfl)
theorem dX3_think_107 : decode cX3_think 107 = .ok (.lcmp, 1) := dk_148 (dk_at dksX3_think_4 11 rfl rfl)
theorem dX3_think_108 : decode cX3_think 108 = .ok (.ifCond .ne 7, 3) := dk_154 0 7 (dk_at dksX3_think_4 12 rfl rfl)
theorem dX3_think_111 : decode cX3_think 111 = .ok (.iconst (-1), 1) := dk_2 (dk_at dksX3_think_4 15 rfl rfl)
theorem dX3_think_112 : decode cX3_think 112 = .ok (.goto 17, 3) := dk_167 0 17 (dk_at dksX3_think_4 16 rfl rfl)
theorem dX3_think_115 : decode cX3_think 115 = .ok (.ldc2_w 432, 3) := dk_20 1 176 (dk_at dksX3_think_4 19 rfl rfl)
theorem dX3_think_118 : decode cX3_think 118 = .ok (.aload_n 0, 1) := dk_42 (dk_at dksX3_think_4 22 rfl rfl)
theorem dX3_think_119 : decode cX3_think 119 = .ok (.iload_n 1, 1) := dk_27 (dk_at dksX3_think_4 23 rfl rfl)
theorem dX3_think_120 : decode cX3_think 120 = .ok (.iload_n 2, 1) := dk_28 (dk_at dksX3_think_5 0 rfl rfl)
theorem dX3_think_121 : decode cX3_think 121 = .ok (.invokevirtual 428, 3) := dk_182 1 172 (dk_at dksX3_think_5 1 rfl rfl)
theorem dX3_think_124 : decode cX3_think 124 = .ok (.lmul, 1) := dk_105 (dk_at dksX3_think_5 4 rfl rfl)
theorem dX3_think_125 : decode cX3_think 125 = .ok (.lload 4, 2) := dk_22 4 (dk_at dksX3_think_5 5 rfl rfl)
theorem dX3_think_127 : decode cX3_think 127 = .ok (.ldiv, 1) := dk_109 (dk_at dksX3_think_5 7 rfl rfl)
theorem dX3_think_128 : decode cX3_think 128 = .ok (.l2i, 1) := dk_136 (dk_at dksX3_think_5 8 rfl rfl)
theorem dX3_think_129 : decode cX3_think 129 = .ok (.ireturn, 1) := dk_172 (dk_at dksX3_think_5 9 rfl rfl)
abbrev cX3_weigh : ByteArray := prog_17_method_118_code
def yX3_weigh : MethodName := ⟨RX3, "weigh", "(II)J"⟩
def dkwX3_weigh_4 : List UInt8 := [159, 0, 9, 21, 7, 2, 160, 0, 7, 10, 167, 0, 4, 9, 105, 66, 132, 6, 255, 167, 255, 168, 33, 173]
abbrev dktX3_weigh_4 : List UInt8 := dkwX3_weigh_4 ++ []
def dkwX3_weigh_3 : List UInt8 := [96, 4, 96, 46, 28, 100, 54, 7, 33, 21, 7, 154, 0, 9, 20, 1, 170, 167, 0, 20, 21, 7, 4]
abbrev dktX3_weigh_3 : List UInt8 := dkwX3_weigh_3 ++ dktX3_weigh_4
def dkwX3_weigh_2 : List UInt8 := [104, 96, 46, 27, 159, 0, 6, 167, 0, 56, 132, 5, 1, 42, 180, 0, 7, 17, 0, 220, 5, 21, 6, 104]
abbrev dktX3_weigh_2 : List UInt8 := dkwX3_weigh_2 ++ dktX3_weigh_3
def dkwX3_weigh_1 : List UInt8 := [54, 6, 21, 6, 155, 0, 89, 21, 5, 16, 12, 162, 0, 82, 42, 180, 0, 7, 17, 0, 220, 5, 21, 6]
abbrev dktX3_weigh_1 : List UInt8 := dkwX3_weigh_1 ++ dktX3_weigh_2
def dkwX3_weigh_0 : List UInt8 := [42, 180, 0, 7, 17, 0, 210, 28, 96, 46, 133, 66, 3, 54, 5, 42, 180, 0, 7, 16, 7, 46, 4, 100]
abbrev dktX3_weigh_0 : List UInt8 := dkwX3_weigh_0 ++ dktX3_weigh_1
theorem dksX3_weigh_0 : cX3_weigh.data.toList.drop 0 = dktX3_weigh_0 := by decide +kernel
theorem dksX3_weigh_1 : cX3_weigh.data.toList.drop 24 = dktX3_weigh_1 := dk_seg dksX3_weigh_0 24 rfl rfl
theorem dksX3_weigh_2 : cX3_weigh.data.toList.drop 48 = dktX3_weigh_2 := dk_seg dksX3_weigh_1 24 rfl rfl
theorem dksX3_weigh_3 : cX3_weigh.data.toList.drop 72 = dktX3_weigh_3 := dk_seg dksX3_weigh_2 24 rfl rfl
theorem dksX3_weigh_4 : cX3_weigh.data.toList.drop 95 = dktX3_weigh_4 := dk_seg dksX3_weigh_3 23 rfl rfl
theorem dX3_weigh_0 : decode cX3_weigh 0 = .ok (.aload_n 0, 1) := dk_42 (dk_at dksX3_weigh_0 0 rfl rfl)
theorem dX3_weigh_1 : decode cX3_weigh 1 = .ok (.getfield 7, 3) := dk_180 0 7 (dk_at dksX3_weigh_0 1 rfl rfl)
theorem dX3_weigh_4 : decode cX3_weigh 4 = .ok (.sipush 210, 3) := dk_17 0 210 (dk_at dksX3_weigh_0 4 rfl rfl)
theorem dX3_weigh_7 : decode cX3_weigh 7 = .ok (.iload_n 2, 1) := dk_28 (dk_at dksX3_weigh_0 7 rfl rfl)
theorem dX3_weigh_8 : decode cX3_weigh 8 = .ok (.iadd, 1) := dk_96 (dk_at dksX3_weigh_0 8 rfl rfl)
theorem dX3_weigh_9 : decode cX3_weigh 9 = .ok (.iaload, 1) := dk_46 (dk_at dksX3_weigh_0 9 rfl rfl)
theorem dX3_weigh_10 : decode cX3_weigh 10 = .ok (.i2l, 1) := dk_133 (dk_at dksX3_weigh_0 10 rfl rfl)
theorem dX3_weigh_11 : decode cX3_weigh 11 = .ok (.lstore_n 3, 1) := dk_66 (dk_at dksX3_weigh_0 11 rfl rfl)
theorem dX3_weigh_12 : decode cX3_weigh 12 = .ok (.iconst 0, 1) := dk_3 (dk_at dksX3_weigh_0 12 rfl rfl)
theorem dX3_weigh_13 : decode cX3_weigh 13 = .ok (.istore 5, 2) := dk_54 5 (dk_at dksX3_weigh_0 13 rfl rfl)
theorem dX3_weigh_15 : decode cX3_weigh 15 = .ok (.aload_n 0, 1) := dk_42 (dk_at dksX3_weigh_0 15 rfl rfl)
theorem dX3_weigh_16 : decode cX3_weigh 16 = .ok (.getfield 7, 3) := dk_180 0 7 (dk_at dksX3_weigh_0 16 rfl rfl)
theorem dX3_weigh_19 : decode cX3_weigh 19 = .ok (.bipush 7, 2) := dk_16 7 (dk_at dksX3_weigh_0 19 rfl rfl)
theorem dX3_weigh_21 : decode cX3_weigh 21 = .ok (.iaload, 1) := dk_46 (dk_at dksX3_weigh_0 21 rfl rfl)
theorem dX3_weigh_22 : decode cX3_weigh 22 = .ok (.iconst 1, 1) := dk_4 (dk_at dksX3_weigh_0 22 rfl rfl)
theorem dX3_weigh_23 : decode cX3_weigh 23 = .ok (.isub, 1) := dk_100 (dk_at dksX3_weigh_0 23 rfl rfl)
theorem dX3_weigh_24 : decode cX3_weigh 24 = .ok (.istore 6, 2) := dk_54 6 (dk_at dksX3_weigh_1 0 rfl rfl)
theorem dX3_weigh_26 : decode cX3_weigh 26 = .ok (.iload 6, 2) := dk_21 6 (dk_at dksX3_weigh_1 2 rfl rfl)
theorem dX3_weigh_28 : decode cX3_weigh 28 = .ok (.ifCond .lt 89, 3) := dk_155 0 89 (dk_at dksX3_weigh_1 4 rfl rfl)
theorem dX3_weigh_31 : decode cX3_weigh 31 = .ok (.iload 5, 2) := dk_21 5 (dk_at dksX3_weigh_1 7 rfl rfl)
theorem dX3_weigh_33 : decode cX3_weigh 33 = .ok (.bipush 12, 2) := dk_16 12 (dk_at dksX3_weigh_1 9 rfl rfl)
theorem dX3_weigh_35 : decode cX3_weigh 35 = .ok (.if_icmp .ge 82, 3) := dk_162 0 82 (dk_at dksX3_weigh_1 11 rfl rfl)
theorem dX3_weigh_38 : decode cX3_weigh 38 = .ok (.aload_n 0, 1) := dk_42 (dk_at dksX3_weigh_1 14 rfl rfl)
theorem dX3_weigh_39 : decode cX3_weigh 39 = .ok (.getfield 7, 3) := dk_180 0 7 (dk_at dksX3_weigh_1 15 rfl rfl)
theorem dX3_weigh_42 : decode cX3_weigh 42 = .ok (.sipush 220, 3) := dk_17 0 220 (dk_at dksX3_weigh_1 18 rfl rfl)
theorem dX3_weigh_45 : decode cX3_weigh 45 = .ok (.iconst 2, 1) := dk_5 (dk_at dksX3_weigh_1 21 rfl rfl)
theorem dX3_weigh_46 : decode cX3_weigh 46 = .ok (.iload 6, 2) := dk_21 6 (dk_at dksX3_weigh_1 22 rfl rfl)
theorem dX3_weigh_48 : decode cX3_weigh 48 = .ok (.imul, 1) := dk_104 (dk_at dksX3_weigh_2 0 rfl rfl)
theorem dX3_weigh_49 : decode cX3_weigh 49 = .ok (.iadd, 1) := dk_96 (dk_at dksX3_weigh_2 1 rfl rfl)
theorem dX3_weigh_50 : decode cX3_weigh 50 = .ok (.iaload, 1) := dk_46 (dk_at dksX3_weigh_2 2 rfl rfl)
theorem dX3_weigh_51 : decode cX3_weigh 51 = .ok (.iload_n 1, 1) := dk_27 (dk_at dksX3_weigh_2 3 rfl rfl)
theorem dX3_weigh_52 : decode cX3_weigh 52 = .ok (.if_icmp .eq 6, 3) := dk_159 0 6 (dk_at dksX3_weigh_2 4 rfl rfl)
theorem dX3_weigh_55 : decode cX3_weigh 55 = .ok (.goto 56, 3) := dk_167 0 56 (dk_at dksX3_weigh_2 7 rfl rfl)
theorem dX3_weigh_58 : decode cX3_weigh 58 = .ok (.iinc 5 1, 3) := dk_132 5 1 (dk_at dksX3_weigh_2 10 rfl rfl)
theorem dX3_weigh_61 : decode cX3_weigh 61 = .ok (.aload_n 0, 1) := dk_42 (dk_at dksX3_weigh_2 13 rfl rfl)
theorem dX3_weigh_62 : decode cX3_weigh 62 = .ok (.getfield 7, 3) := dk_180 0 7 (dk_at dksX3_weigh_2 14 rfl rfl)
theorem dX3_weigh_65 : decode cX3_weigh 65 = .ok (.sipush 220, 3) := dk_17 0 220 (dk_at dksX3_weigh_2 17 rfl rfl)
theorem dX3_weigh_68 : decode cX3_weigh 68 = .ok (.iconst 2, 1) := dk_5 (dk_at dksX3_weigh_2 20 rfl rfl)
theorem dX3_weigh_69 : decode cX3_weigh 69 = .ok (.iload 6, 2) := dk_21 6 (dk_at dksX3_weigh_2 21 rfl rfl)
theorem dX3_weigh_71 : decode cX3_weigh 71 = .ok (.imul, 1) := dk_104 (dk_at dksX3_weigh_2 23 rfl rfl)
theorem dX3_weigh_72 : decode cX3_weigh 72 = .ok (.iadd, 1) := dk_96 (dk_at dksX3_weigh_3 0 rfl rfl)
theorem dX3_weigh_73 : decode cX3_weigh 73 = .ok (.iconst 1, 1) := dk_4 (dk_at dksX3_weigh_3 1 rfl rfl)
theorem dX3_weigh_74 : decode cX3_weigh 74 = .ok (.iadd, 1) := dk_96 (dk_at dksX3_weigh_3 2 rfl rfl)
theorem dX3_weigh_75 : decode cX3_weigh 75 = .ok (.iaload, 1) := dk_46 (dk_at dksX3_weigh_3 3 rfl rfl)
theorem dX3_weigh_76 : decode cX3_weigh 76 = .ok (.iload_n 2, 1) := dk_28 (dk_at dksX3_weigh_3 4 rfl rfl)
theorem dX3_weigh_77 : decode cX3_weigh 77 = .ok (.isub, 1) := dk_100 (dk_at dksX3_weigh_3 5 rfl rfl)
theorem dX3_weigh_78 : decode cX3_weigh 78 = .ok (.istore 7, 2) := dk_54 7 (dk_at dksX3_weigh_3 6 rfl rfl)
theorem dX3_weigh_80 : decode cX3_weigh 80 = .ok (.lload_n 3, 1) := dk_33 (dk_at dksX3_weigh_3 8 rfl rfl)
theorem dX3_weigh_81 : decode cX3_weigh 81 = .ok (.iload 7, 2) := dk_21 7 (dk_at dksX3_weigh_3 9 rfl rfl)
theorem dX3_weigh_83 : decode cX3_weigh 83 = .ok (.ifCond .ne 9, 3) := dk_154 0 9 (dk_at dksX3_weigh_3 11 rfl rfl)
theorem dX3_weigh_86 : decode cX3_weigh 86 = .ok (.ldc2_w 426, 3) := dk_20 1 170 (dk_at dksX3_weigh_3 14 rfl rfl)
theorem dX3_weigh_89 : decode cX3_weigh 89 = .ok (.goto 20, 3) := dk_167 0 20 (dk_at dksX3_weigh_3 17 rfl rfl)
theorem dX3_weigh_92 : decode cX3_weigh 92 = .ok (.iload 7, 2) := dk_21 7 (dk_at dksX3_weigh_3 20 rfl rfl)
theorem dX3_weigh_94 : decode cX3_weigh 94 = .ok (.iconst 1, 1) := dk_4 (dk_at dksX3_weigh_3 22 rfl rfl)
theorem dX3_weigh_95 : decode cX3_weigh 95 = .ok (.if_icmp .eq 9, 3) := dk_159 0 9 (dk_at dksX3_weigh_4 0 rfl rfl)
theorem dX3_weigh_98 : decode cX3_weigh 98 = .ok (.iload 7, 2) := dk_21 7 (dk_at dksX3_weigh_4 3 rfl rfl)
theorem dX3_weigh_100 : decode cX3_weigh 100 = .ok (.iconst (-1), 1) := dk_2 (dk_at dksX3_weigh_4 5 rfl rfl)
theorem dX3_weigh_101 : decode cX3_weigh 101 = .ok (.if_icmp .ne 7, 3) := dk_160 0 7 (dk_at dksX3_weigh_4 6 rfl rfl)
theorem dX3_weigh_104 : decode cX3_weigh 104 = .ok (.lconst 1, 1) := dk_10 (dk_at dksX3_weigh_4 9 rfl rfl)
theorem dX3_weigh_105 : decode cX3_weigh 105 = .ok (.goto 4, 3) := dk_167 0 4 (dk_at dksX3_weigh_4 10 rfl rfl)
theorem dX3_weigh_108 : decode cX3_weigh 108 = .ok (.lconst 0, 1) := dk_9 (dk_at dksX3_weigh_4 13 rfl rfl)
theorem dX3_weigh_109 : decode cX3_weigh 109 = .ok (.lmul, 1) := dk_105 (dk_at dksX3_weigh_4 14 rfl rfl)
theorem dX3_weigh_110 : decode cX3_weigh 110 = .ok (.lstore_n 3, 1) := dk_66 (dk_at dksX3_weigh_4 15 rfl rfl)
theorem dX3_weigh_111 : decode cX3_weigh 111 = .ok (.iinc 6 (-1), 3) := dk_132 6 255 (dk_at dksX3_weigh_4 16 rfl rfl)
theorem dX3_weigh_114 : decode cX3_weigh 114 = .ok (.goto (-88), 3) := dk_167 255 168 (dk_at dksX3_weigh_4 19 rfl rfl)
theorem dX3_weigh_117 : decode cX3_weigh 117 = .ok (.lload_n 3, 1) := dk_33 (dk_at dksX3_weigh_4 22 rfl rfl)
theorem dX3_weigh_118 : decode cX3_weigh 118 = .ok (.lreturn, 1) := dk_173 (dk_at dksX3_weigh_4 23 rfl rfl)
abbrev cX3_run : ByteArray := prog_17_method_126_code
def yX3_run : MethodName := ⟨RX3, "run", "(IIII)I"⟩
def dkwX3_run_4 : List UInt8 := [180, 1, 181, 172]
abbrev dktX3_run_4 : List UInt8 := dkwX3_run_4 ++ []
def dkwX3_run_3 : List UInt8 := [160, 0, 10, 42, 180, 1, 190, 167, 0, 20, 21, 4, 5, 160, 0, 10, 42, 180, 1, 178, 167, 0, 7, 42]
abbrev dktX3_run_3 : List UInt8 := dkwX3_run_3 ++ dktX3_run_4
def dkwX3_run_2 : List UInt8 := [2, 172, 42, 27, 28, 29, 182, 1, 211, 21, 4, 154, 0, 10, 42, 180, 1, 196, 167, 0, 33, 21, 4, 4]
abbrev dktX3_run_2 : List UInt8 := dkwX3_run_2 ++ dktX3_run_3
def dkwX3_run_1 : List UInt8 := [184, 0, 90, 153, 0, 21, 21, 4, 3, 6, 184, 0, 90, 153, 0, 11, 42, 3, 182, 1, 57, 154, 0, 5]
abbrev dktX3_run_1 : List UInt8 := dkwX3_run_1 ++ dktX3_run_2
def dkwX3_run_0 : List UInt8 := [42, 27, 182, 1, 208, 153, 0, 42, 28, 3, 17, 39, 15, 184, 0, 90, 153, 0, 31, 29, 4, 16, 40]
abbrev dktX3_run_0 : List UInt8 := dkwX3_run_0 ++ dktX3_run_1
theorem dksX3_run_0 : cX3_run.data.toList.drop 0 = dktX3_run_0 := by decide +kernel
theorem dksX3_run_1 : cX3_run.data.toList.drop 23 = dktX3_run_1 := dk_seg dksX3_run_0 23 rfl rfl
theorem dksX3_run_2 : cX3_run.data.toList.drop 47 = dktX3_run_2 := dk_seg dksX3_run_1 24 rfl rfl
theorem dksX3_run_3 : cX3_run.data.toList.drop 71 = dktX3_run_3 := dk_seg dksX3_run_2 24 rfl rfl
theorem dksX3_run_4 : cX3_run.data.toList.drop 95 = dktX3_run_4 := dk_seg dksX3_run_3 24 rfl rfl
theorem dX3_run_0 : decode cX3_run 0 = .ok (.aload_n 0, 1) := dk_42 (dk_at dksX3_run_0 0 rfl rfl)
theorem dX3_run_1 : decode cX3_run 1 = .ok (.iload_n 1, 1) := dk_27 (dk_at dksX3_run_0 1 rfl rfl)
theorem dX3_run_2 : decode cX3_run 2 = .ok (.invokevirtual 464, 3) := dk_182 1 208 (dk_at dksX3_run_0 2 rfl rfl)
theorem dX3_run_5 : decode cX3_run 5 = .ok (.ifCond .eq 42, 3) := dk_153 0 42 (dk_at dksX3_run_0 5 rfl rfl)
theorem dX3_run_8 : decode cX3_run 8 = .ok (.iload_n 2, 1) := dk_28 (dk_at dksX3_run_0 8 rfl rfl)
theorem dX3_run_9 : decode cX3_run 9 = .ok (.iconst 0, 1) := dk_3 (dk_at dksX3_run_0 9 rfl rfl)
theorem dX3_run_10 : decode cX3_run 10 = .ok (.sipush 9999, 3) := dk_17 39 15 (dk_at dksX3_run_0 10 rfl rfl)
theorem dX3_run_13 : decode cX3_run 13 = .ok (.invokestatic 90, 3) := dk_184 0 90 (dk_at dksX3_run_0 13 rfl rfl)
theorem dX3_run_16 : decode cX3_run 16 = .ok (.ifCond .eq 31, 3) := dk_153 0 31 (dk_at dksX3_run_0 16 rfl rfl)
theorem dX3_run_19 : decode cX3_run 19 = .ok (.iload_n 3, 1) := dk_29 (dk_at dksX3_run_0 19 rfl rfl)
theorem dX3_run_20 : decode cX3_run 20 = .ok (.iconst 1, 1) := dk_4 (dk_at dksX3_run_0 20 rfl rfl)
theorem dX3_run_21 : decode cX3_run 21 = .ok (.bipush 40, 2) := dk_16 40 (dk_at dksX3_run_0 21 rfl rfl)
theorem dX3_run_23 : decode cX3_run 23 = .ok (.invokestatic 90, 3) := dk_184 0 90 (dk_at dksX3_run_1 0 rfl rfl)
theorem dX3_run_26 : decode cX3_run 26 = .ok (.ifCond .eq 21, 3) := dk_153 0 21 (dk_at dksX3_run_1 3 rfl rfl)
theorem dX3_run_29 : decode cX3_run 29 = .ok (.iload 4, 2) := dk_21 4 (dk_at dksX3_run_1 6 rfl rfl)
theorem dX3_run_31 : decode cX3_run 31 = .ok (.iconst 0, 1) := dk_3 (dk_at dksX3_run_1 8 rfl rfl)
theorem dX3_run_32 : decode cX3_run 32 = .ok (.iconst 3, 1) := dk_6 (dk_at dksX3_run_1 9 rfl rfl)
theorem dX3_run_33 : decode cX3_run 33 = .ok (.invokestatic 90, 3) := dk_184 0 90 (dk_at dksX3_run_1 10 rfl rfl)
theorem dX3_run_36 : decode cX3_run 36 = .ok (.ifCond .eq 11, 3) := dk_153 0 11 (dk_at dksX3_run_1 13 rfl rfl)
theorem dX3_run_39 : decode cX3_run 39 = .ok (.aload_n 0, 1) := dk_42 (dk_at dksX3_run_1 16 rfl rfl)
theorem dX3_run_40 : decode cX3_run 40 = .ok (.iconst 0, 1) := dk_3 (dk_at dksX3_run_1 17 rfl rfl)
theorem dX3_run_41 : decode cX3_run 41 = .ok (.invokevirtual 313, 3) := dk_182 1 57 (dk_at dksX3_run_1 18 rfl rfl)
theorem dX3_run_44 : decode cX3_run 44 = .ok (.ifCond .ne 5, 3) := dk_154 0 5 (dk_at dksX3_run_1 21 rfl rfl)
theorem dX3_run_47 : decode cX3_run 47 = .ok (.iconst (-1), 1) := dk_2 (dk_at dksX3_run_2 0 rfl rfl)
theorem dX3_run_48 : decode cX3_run 48 = .ok (.ireturn, 1) := dk_172 (dk_at dksX3_run_2 1 rfl rfl)
theorem dX3_run_49 : decode cX3_run 49 = .ok (.aload_n 0, 1) := dk_42 (dk_at dksX3_run_2 2 rfl rfl)
theorem dX3_run_50 : decode cX3_run 50 = .ok (.iload_n 1, 1) := dk_27 (dk_at dksX3_run_2 3 rfl rfl)
theorem dX3_run_51 : decode cX3_run 51 = .ok (.iload_n 2, 1) := dk_28 (dk_at dksX3_run_2 4 rfl rfl)
theorem dX3_run_52 : decode cX3_run 52 = .ok (.iload_n 3, 1) := dk_29 (dk_at dksX3_run_2 5 rfl rfl)
theorem dX3_run_53 : decode cX3_run 53 = .ok (.invokevirtual 467, 3) := dk_182 1 211 (dk_at dksX3_run_2 6 rfl rfl)
theorem dX3_run_56 : decode cX3_run 56 = .ok (.iload 4, 2) := dk_21 4 (dk_at dksX3_run_2 9 rfl rfl)
theorem dX3_run_58 : decode cX3_run 58 = .ok (.ifCond .ne 10, 3) := dk_154 0 10 (dk_at dksX3_run_2 11 rfl rfl)
theorem dX3_run_61 : decode cX3_run 61 = .ok (.aload_n 0, 1) := dk_42 (dk_at dksX3_run_2 14 rfl rfl)
theorem dX3_run_62 : decode cX3_run 62 = .ok (.getfield 452, 3) := dk_180 1 196 (dk_at dksX3_run_2 15 rfl rfl)
theorem dX3_run_65 : decode cX3_run 65 = .ok (.goto 33, 3) := dk_167 0 33 (dk_at dksX3_run_2 18 rfl rfl)
theorem dX3_run_68 : decode cX3_run 68 = .ok (.iload 4, 2) := dk_21 4 (dk_at dksX3_run_2 21 rfl rfl)
theorem dX3_run_70 : decode cX3_run 70 = .ok (.iconst 1, 1) := dk_4 (dk_at dksX3_run_2 23 rfl rfl)
theorem dX3_run_71 : decode cX3_run 71 = .ok (.if_icmp .ne 10, 3) := dk_160 0 10 (dk_at dksX3_run_3 0 rfl rfl)
theorem dX3_run_74 : decode cX3_run 74 = .ok (.aload_n 0, 1) := dk_42 (dk_at dksX3_run_3 3 rfl rfl)
theorem dX3_run_75 : decode cX3_run 75 = .ok (.getfield 446, 3) := dk_180 1 190 (dk_at dksX3_run_3 4 rfl rfl)
theorem dX3_run_78 : decode cX3_run 78 = .ok (.goto 20, 3) := dk_167 0 20 (dk_at dksX3_run_3 7 rfl rfl)
theorem dX3_run_81 : decode cX3_run 81 = .ok (.iload 4, 2) := dk_21 4 (dk_at dksX3_run_3 10 rfl rfl)
theorem dX3_run_83 : decode cX3_run 83 = .ok (.iconst 2, 1) := dk_5 (dk_at dksX3_run_3 12 rfl rfl)
theorem dX3_run_84 : decode cX3_run 84 = .ok (.if_icmp .ne 10, 3) := dk_160 0 10 (dk_at dksX3_run_3 13 rfl rfl)
theorem dX3_run_87 : decode cX3_run 87 = .ok (.aload_n 0, 1) := dk_42 (dk_at dksX3_run_3 16 rfl rfl)
theorem dX3_run_88 : decode cX3_run 88 = .ok (.getfield 434, 3) := dk_180 1 178 (dk_at dksX3_run_3 17 rfl rfl)
theorem dX3_run_91 : decode cX3_run 91 = .ok (.goto 7, 3) := dk_167 0 7 (dk_at dksX3_run_3 20 rfl rfl)
theorem dX3_run_94 : decode cX3_run 94 = .ok (.aload_n 0, 1) := dk_42 (dk_at dksX3_run_3 23 rfl rfl)
theorem dX3_run_95 : decode cX3_run 95 = .ok (.getfield 437, 3) := dk_180 1 181 (dk_at dksX3_run_4 0 rfl rfl)
theorem dX3_run_98 : decode cX3_run 98 = .ok (.ireturn, 1) := dk_172 (dk_at dksX3_run_4 3 rfl rfl)
abbrev cX3_isText : ByteArray := prog_17_method_120_code
def yX3_isText : MethodName := ⟨RX3, "isText", "(I)Z"⟩
def dkwX3_isText_0 : List UInt8 := [27, 3, 42, 180, 0, 7, 5, 46, 4, 100, 184, 0, 90, 172]
abbrev dktX3_isText_0 : List UInt8 := dkwX3_isText_0 ++ []
theorem dksX3_isText_0 : cX3_isText.data.toList.drop 0 = dktX3_isText_0 := by decide +kernel
theorem dX3_isText_0 : decode cX3_isText 0 = .ok (.iload_n 1, 1) := dk_27 (dk_at dksX3_isText_0 0 rfl rfl)
theorem dX3_isText_1 : decode cX3_isText 1 = .ok (.iconst 0, 1) := dk_3 (dk_at dksX3_isText_0 1 rfl rfl)
theorem dX3_isText_2 : decode cX3_isText 2 = .ok (.aload_n 0, 1) := dk_42 (dk_at dksX3_isText_0 2 rfl rfl)
theorem dX3_isText_3 : decode cX3_isText 3 = .ok (.getfield 7, 3) := dk_180 0 7 (dk_at dksX3_isText_0 3 rfl rfl)
theorem dX3_isText_6 : decode cX3_isText 6 = .ok (.iconst 2, 1) := dk_5 (dk_at dksX3_isText_0 6 rfl rfl)
theorem dX3_isText_7 : decode cX3_isText 7 = .ok (.iaload, 1) := dk_46 (dk_at dksX3_isText_0 7 rfl rfl)
theorem dX3_isText_8 : decode cX3_isText 8 = .ok (.iconst 1, 1) := dk_4 (dk_at dksX3_isText_0 8 rfl rfl)
theorem dX3_isText_9 : decode cX3_isText 9 = .ok (.isub, 1) := dk_100 (dk_at dksX3_isText_0 9 rfl rfl)
theorem dX3_isText_10 : decode cX3_isText 10 = .ok (.invokestatic 90, 3) := dk_184 0 90 (dk_at dksX3_isText_0 10 rfl rfl)
theorem dX3_isText_13 : decode cX3_isText 13 = .ok (.ireturn, 1) := dk_172 (dk_at dksX3_isText_0 13 rfl rfl)
abbrev cX3_runAll : ByteArray := prog_17_method_125_code
def yX3_runAll : MethodName := ⟨RX3, "runAll", "(III)V"⟩
def dkwX3_runAll_4 : List UInt8 := [17, 0, 173, 104, 16, 11, 96, 17, 117, 151, 112, 54, 4, 167, 255, 207, 177]
abbrev dktX3_runAll_4 : List UInt8 := dkwX3_runAll_4 ++ []
def dkwX3_runAll_3 : List UInt8 := [154, 0, 40, 42, 27, 182, 1, 199, 54, 5, 42, 21, 5, 42, 21, 4, 182, 1, 202, 182, 1, 205, 21, 4]
abbrev dktX3_runAll_3 : List UInt8 := dkwX3_runAll_3 ++ dktX3_runAll_4
def dkwX3_runAll_2 : List UInt8 := [182, 1, 60, 28, 16, 7, 104, 6, 96, 54, 4, 42, 180, 1, 190, 29, 162, 0, 47, 42, 180, 1, 196]
abbrev dktX3_runAll_2 : List UInt8 := dkwX3_runAll_2 ++ dktX3_runAll_3
def dkwX3_runAll_1 : List UInt8 := [42, 3, 181, 1, 196, 42, 3, 181, 1, 190, 42, 42, 180, 0, 7, 4, 46, 181, 1, 187, 42, 17, 2, 100]
abbrev dktX3_runAll_1 : List UInt8 := dkwX3_runAll_1 ++ dktX3_runAll_2
def dkwX3_runAll_0 : List UInt8 := [42, 42, 182, 1, 111, 181, 1, 178, 42, 42, 182, 1, 114, 181, 1, 181, 42, 42, 182, 1, 117, 181, 1, 184]
abbrev dktX3_runAll_0 : List UInt8 := dkwX3_runAll_0 ++ dktX3_runAll_1
theorem dksX3_runAll_0 : cX3_runAll.data.toList.drop 0 = dktX3_runAll_0 := by decide +kernel
theorem dksX3_runAll_1 : cX3_runAll.data.toList.drop 24 = dktX3_runAll_1 := dk_seg dksX3_runAll_0 24 rfl rfl
theorem dksX3_runAll_2 : cX3_runAll.data.toList.drop 48 = dktX3_runAll_2 := dk_seg dksX3_runAll_1 24 rfl rfl
theorem dksX3_runAll_3 : cX3_runAll.data.toList.drop 71 = dktX3_runAll_3 := dk_seg dksX3_runAll_2 23 rfl rfl
theorem dksX3_runAll_4 : cX3_runAll.data.toList.drop 95 = dktX3_runAll_4 := dk_seg dksX3_runAll_3 24 rfl rfl
theorem dX3_runAll_0 : decode cX3_runAll 0 = .ok (.aload_n 0, 1) := dk_42 (dk_at dksX3_runAll_0 0 rfl rfl)
theorem dX3_runAll_1 : decode cX3_runAll 1 = .ok (.aload_n 0, 1) := dk_42 (dk_at dksX3_runAll_0 1 rfl rfl)
theorem dX3_runAll_2 : decode cX3_runAll 2 = .ok (.invokevirtual 367, 3) := dk_182 1 111 (dk_at dksX3_runAll_0 2 rfl rfl)
theorem dX3_runAll_5 : decode cX3_runAll 5 = .ok (.putfield 434, 3) := dk_181 1 178 (dk_at dksX3_runAll_0 5 rfl rfl)
theorem dX3_runAll_8 : decode cX3_runAll 8 = .ok (.aload_n 0, 1) := dk_42 (dk_at dksX3_runAll_0 8 rfl rfl)
theorem dX3_runAll_9 : decode cX3_runAll 9 = .ok (.aload_n 0, 1) := dk_42 (dk_at dksX3_runAll_0 9 rfl rfl)
theorem dX3_runAll_10 : decode cX3_runAll 10 = .ok (.invokevirtual 370, 3) := dk_182 1 114 (dk_at dksX3_runAll_0 10 rfl rfl)
theorem dX3_runAll_13 : decode cX3_runAll 13 = .ok (.putfield 437, 3) := dk_181 1 181 (dk_at dksX3_runAll_0 13 rfl rfl)
theorem dX3_runAll_16 : decode cX3_runAll 16 = .ok (.aload_n 0, 1) := dk_42 (dk_at dksX3_runAll_0 16 rfl rfl)
theorem dX3_runAll_17 : decode cX3_runAll 17 = .ok (.aload_n 0, 1) := dk_42 (dk_at dksX3_runAll_0 17 rfl rfl)
theorem dX3_runAll_18 : decode cX3_runAll 18 = .ok (.invokevirtual 373, 3) := dk_182 1 117 (dk_at dksX3_runAll_0 18 rfl rfl)
theorem dX3_runAll_21 : decode cX3_runAll 21 = .ok (.putfield 440, 3) := dk_181 1 184 (dk_at dksX3_runAll_0 21 rfl rfl)
theorem dX3_runAll_24 : decode cX3_runAll 24 = .ok (.aload_n 0, 1) := dk_42 (dk_at dksX3_runAll_1 0 rfl rfl)
theorem dX3_runAll_25 : decode cX3_runAll 25 = .ok (.iconst 0, 1) := dk_3 (dk_at dksX3_runAll_1 1 rfl rfl)
theorem dX3_runAll_26 : decode cX3_runAll 26 = .ok (.putfield 452, 3) := dk_181 1 196 (dk_at dksX3_runAll_1 2 rfl rfl)
theorem dX3_runAll_29 : decode cX3_runAll 29 = .ok (.aload_n 0, 1) := dk_42 (dk_at dksX3_runAll_1 5 rfl rfl)
theorem dX3_runAll_30 : decode cX3_runAll 30 = .ok (.iconst 0, 1) := dk_3 (dk_at dksX3_runAll_1 6 rfl rfl)
theorem dX3_runAll_31 : decode cX3_runAll 31 = .ok (.putfield 446, 3) := dk_181 1 190 (dk_at dksX3_runAll_1 7 rfl rfl)
theorem dX3_runAll_34 : decode cX3_runAll 34 = .ok (.aload_n 0, 1) := dk_42 (dk_at dksX3_runAll_1 10 rfl rfl)
theorem dX3_runAll_35 : decode cX3_runAll 35 = .ok (.aload_n 0, 1) := dk_42 (dk_at dksX3_runAll_1 11 rfl rfl)
theorem dX3_runAll_36 : decode cX3_runAll 36 = .ok (.getfield 7, 3) := dk_180 0 7 (dk_at dksX3_runAll_1 12 rfl rfl)
theorem dX3_runAll_39 : decode cX3_runAll 39 = .ok (.iconst 1, 1) := dk_4 (dk_at dksX3_runAll_1 15 rfl rfl)
theorem dX3_runAll_40 : decode cX3_runAll 40 = .ok (.iaload, 1) := dk_46 (dk_at dksX3_runAll_1 16 rfl rfl)
theorem dX3_runAll_41 : decode cX3_runAll 41 = .ok (.putfield 443, 3) := dk_181 1 187 (dk_at dksX3_runAll_1 17 rfl rfl)
theorem dX3_runAll_44 : decode cX3_runAll 44 = .ok (.aload_n 0, 1) := dk_42 (dk_at dksX3_runAll_1 20 rfl rfl)
theorem dX3_runAll_45 : decode cX3_runAll 45 = .ok (.sipush 612, 3) := dk_17 2 100 (dk_at dksX3_runAll_1 21 rfl rfl)
theorem dX3_runAll_48 : decode cX3_runAll 48 = .ok (.invokevirtual 316, 3) := dk_182 1 60 (dk_at dksX3_runAll_2 0 rfl rfl)
theorem dX3_runAll_51 : decode cX3_runAll 51 = .ok (.iload_n 2, 1) := dk_28 (dk_at dksX3_runAll_2 3 rfl rfl)
theorem dX3_runAll_52 : decode cX3_runAll 52 = .ok (.bipush 7, 2) := dk_16 7 (dk_at dksX3_runAll_2 4 rfl rfl)
theorem dX3_runAll_54 : decode cX3_runAll 54 = .ok (.imul, 1) := dk_104 (dk_at dksX3_runAll_2 6 rfl rfl)
theorem dX3_runAll_55 : decode cX3_runAll 55 = .ok (.iconst 3, 1) := dk_6 (dk_at dksX3_runAll_2 7 rfl rfl)
theorem dX3_runAll_56 : decode cX3_runAll 56 = .ok (.iadd, 1) := dk_96 (dk_at dksX3_runAll_2 8 rfl rfl)
theorem dX3_runAll_57 : decode cX3_runAll 57 = .ok (.istore 4, 2) := dk_54 4 (dk_at dksX3_runAll_2 9 rfl rfl)
theorem dX3_runAll_59 : decode cX3_runAll 59 = .ok (.aload_n 0, 1) := dk_42 (dk_at dksX3_runAll_2 11 rfl rfl)
theorem dX3_runAll_60 : decode cX3_runAll 60 = .ok (.getfield 446, 3) := dk_180 1 190 (dk_at dksX3_runAll_2 12 rfl rfl)
theorem dX3_runAll_63 : decode cX3_runAll 63 = .ok (.iload_n 3, 1) := dk_29 (dk_at dksX3_runAll_2 15 rfl rfl)
theorem dX3_runAll_64 : decode cX3_runAll 64 = .ok (.if_icmp .ge 47, 3) := dk_162 0 47 (dk_at dksX3_runAll_2 16 rfl rfl)
theorem dX3_runAll_67 : decode cX3_runAll 67 = .ok (.aload_n 0, 1) := dk_42 (dk_at dksX3_runAll_2 19 rfl rfl)
theorem dX3_runAll_68 : decode cX3_runAll 68 = .ok (.getfield 452, 3) := dk_180 1 196 (dk_at dksX3_runAll_2 20 rfl rfl)
theorem dX3_runAll_71 : decode cX3_runAll 71 = .ok (.ifCond .ne 40, 3) := dk_154 0 40 (dk_at dksX3_runAll_3 0 rfl rfl)
theorem dX3_runAll_74 : decode cX3_runAll 74 = .ok (.aload_n 0, 1) := dk_42 (dk_at dksX3_runAll_3 3 rfl rfl)
theorem dX3_runAll_75 : decode cX3_runAll 75 = .ok (.iload_n 1, 1) := dk_27 (dk_at dksX3_runAll_3 4 rfl rfl)
theorem dX3_runAll_76 : decode cX3_runAll 76 = .ok (.invokevirtual 455, 3) := dk_182 1 199 (dk_at dksX3_runAll_3 5 rfl rfl)
theorem dX3_runAll_79 : decode cX3_runAll 79 = .ok (.istore 5, 2) := dk_54 5 (dk_at dksX3_runAll_3 8 rfl rfl)
theorem dX3_runAll_81 : decode cX3_runAll 81 = .ok (.aload_n 0, 1) := dk_42 (dk_at dksX3_runAll_3 10 rfl rfl)
theorem dX3_runAll_82 : decode cX3_runAll 82 = .ok (.iload 5, 2) := dk_21 5 (dk_at dksX3_runAll_3 11 rfl rfl)
theorem dX3_runAll_84 : decode cX3_runAll 84 = .ok (.aload_n 0, 1) := dk_42 (dk_at dksX3_runAll_3 13 rfl rfl)
theorem dX3_runAll_85 : decode cX3_runAll 85 = .ok (.iload 4, 2) := dk_21 4 (dk_at dksX3_runAll_3 14 rfl rfl)
theorem dX3_runAll_87 : decode cX3_runAll 87 = .ok (.invokevirtual 458, 3) := dk_182 1 202 (dk_at dksX3_runAll_3 16 rfl rfl)
theorem dX3_runAll_90 : decode cX3_runAll 90 = .ok (.invokevirtual 461, 3) := dk_182 1 205 (dk_at dksX3_runAll_3 19 rfl rfl)
theorem dX3_runAll_93 : decode cX3_runAll 93 = .ok (.iload 4, 2) := dk_21 4 (dk_at dksX3_runAll_3 22 rfl rfl)
theorem dX3_runAll_95 : decode cX3_runAll 95 = .ok (.sipush 173, 3) := dk_17 0 173 (dk_at dksX3_runAll_4 0 rfl rfl)
theorem dX3_runAll_98 : decode cX3_runAll 98 = .ok (.imul, 1) := dk_104 (dk_at dksX3_runAll_4 3 rfl rfl)
theorem dX3_runAll_99 : decode cX3_runAll 99 = .ok (.bipush 11, 2) := dk_16 11 (dk_at dksX3_runAll_4 4 rfl rfl)
theorem dX3_runAll_101 : decode cX3_runAll 101 = .ok (.iadd, 1) := dk_96 (dk_at dksX3_runAll_4 6 rfl rfl)
theorem dX3_runAll_102 : decode cX3_runAll 102 = .ok (.sipush 30103, 3) := dk_17 117 151 (dk_at dksX3_runAll_4 7 rfl rfl)
theorem dX3_runAll_105 : decode cX3_runAll 105 = .ok (.irem, 1) := dk_112 (dk_at dksX3_runAll_4 10 rfl rfl)
theorem dX3_runAll_106 : decode cX3_runAll 106 = .ok (.istore 4, 2) := dk_54 4 (dk_at dksX3_runAll_4 11 rfl rfl)
theorem dX3_runAll_108 : decode cX3_runAll 108 = .ok (.goto (-49), 3) := dk_167 255 207 (dk_at dksX3_runAll_4 13 rfl rfl)
theorem dX3_runAll_111 : decode cX3_runAll 111 = .ok (.return_, 1) := dk_177 (dk_at dksX3_runAll_4 16 rfl rfl)
abbrev cX3_orderBy : ByteArray := prog_17_method_122_code
def yX3_orderBy : MethodName := ⟨RX3, "orderBy", "(I)I"⟩
def dkwX3_orderBy_5 : List UInt8 := [167, 255, 141, 42, 7, 182, 1, 193, 153, 0, 7, 7, 167, 0, 5, 16, 6, 172]
abbrev dktX3_orderBy_5 : List UInt8 := dkwX3_orderBy_5 ++ []
def dkwX3_orderBy_4 : List UInt8 := [42, 180, 0, 39, 3, 51, 153, 0, 13, 42, 29, 182, 1, 193, 153, 0, 5, 29, 172, 132, 2, 1]
abbrev dktX3_orderBy_4 : List UInt8 := dkwX3_orderBy_4 ++ dktX3_orderBy_5
def dkwX3_orderBy_3 : List UInt8 := [79, 42, 27, 28, 182, 1, 27, 42, 180, 0, 16, 17, 3, 32, 27, 104, 5, 96, 7, 28, 104, 96, 46, 62]
abbrev dktX3_orderBy_3 : List UInt8 := dkwX3_orderBy_3 ++ dktX3_orderBy_4
def dkwX3_orderBy_2 : List UInt8 := [182, 1, 32, 42, 180, 0, 32, 16, 9, 42, 180, 1, 181, 79, 42, 180, 0, 32, 16, 10, 42, 180, 1, 184]
abbrev dktX3_orderBy_2 : List UInt8 := dkwX3_orderBy_2 ++ dktX3_orderBy_3
def dkwX3_orderBy_1 : List UInt8 := [42, 17, 2, 100, 42, 180, 1, 178, 42, 180, 1, 187, 42, 180, 0, 7, 3, 46, 42, 180, 1, 190, 96]
abbrev dktX3_orderBy_1 : List UInt8 := dkwX3_orderBy_1 ++ dktX3_orderBy_2
def dkwX3_orderBy_0 : List UInt8 := [3, 61, 28, 42, 27, 182, 1, 21, 162, 0, 112, 42, 27, 28, 182, 1, 24, 7, 159, 0, 6, 167, 0, 93]
abbrev dktX3_orderBy_0 : List UInt8 := dkwX3_orderBy_0 ++ dktX3_orderBy_1
theorem dksX3_orderBy_0 : cX3_orderBy.data.toList.drop 0 = dktX3_orderBy_0 := by decide +kernel
theorem dksX3_orderBy_1 : cX3_orderBy.data.toList.drop 24 = dktX3_orderBy_1 := dk_seg dksX3_orderBy_0 24 rfl rfl
theorem dksX3_orderBy_2 : cX3_orderBy.data.toList.drop 47 = dktX3_orderBy_2 := dk_seg dksX3_orderBy_1 23 rfl rfl
theorem dksX3_orderBy_3 : cX3_orderBy.data.toList.drop 71 = dktX3_orderBy_3 := dk_seg dksX3_orderBy_2 24 rfl rfl
theorem dksX3_orderBy_4 : cX3_orderBy.data.toList.drop 95 = dktX3_orderBy_4 := dk_seg dksX3_orderBy_3 24 rfl rfl
theorem dksX3_orderBy_5 : cX3_orderBy.data.toList.drop 117 = dktX3_orderBy_5 := dk_seg dksX3_orderBy_4 22 rfl rfl
theorem dX3_orderBy_0 : decode cX3_orderBy 0 = .ok (.iconst 0, 1) := dk_3 (dk_at dksX3_orderBy_0 0 rfl rfl)
theorem dX3_orderBy_1 : decode cX3_orderBy 1 = .ok (.istore_n 2, 1) := dk_61 (dk_at dksX3_orderBy_0 1 rfl rfl)
theorem dX3_orderBy_2 : decode cX3_orderBy 2 = .ok (.iload_n 2, 1) := dk_28 (dk_at dksX3_orderBy_0 2 rfl rfl)
theorem dX3_orderBy_3 : decode cX3_orderBy 3 = .ok (.aload_n 0, 1) := dk_42 (dk_at dksX3_orderBy_0 3 rfl rfl)
theorem dX3_orderBy_4 : decode cX3_orderBy 4 = .ok (.iload_n 1, 1) := dk_27 (dk_at dksX3_orderBy_0 4 rfl rfl)
theorem dX3_orderBy_5 : decode cX3_orderBy 5 = .ok (.invokevirtual 277, 3) := dk_182 1 21 (dk_at dksX3_orderBy_0 5 rfl rfl)
theorem dX3_orderBy_8 : decode cX3_orderBy 8 = .ok (.if_icmp .ge 112, 3) := dk_162 0 112 (dk_at dksX3_orderBy_0 8 rfl rfl)
theorem dX3_orderBy_11 : decode cX3_orderBy 11 = .ok (.aload_n 0, 1) := dk_42 (dk_at dksX3_orderBy_0 11 rfl rfl)
theorem dX3_orderBy_12 : decode cX3_orderBy 12 = .ok (.iload_n 1, 1) := dk_27 (dk_at dksX3_orderBy_0 12 rfl rfl)
theorem dX3_orderBy_13 : decode cX3_orderBy 13 = .ok (.iload_n 2, 1) := dk_28 (dk_at dksX3_orderBy_0 13 rfl rfl)
theorem dX3_orderBy_14 : decode cX3_orderBy 14 = .ok (.invokevirtual 280, 3) := dk_182 1 24 (dk_at dksX3_orderBy_0 14 rfl rfl)
theorem dX3_orderBy_17 : decode cX3_orderBy 17 = .ok (.iconst 4, 1) := dk_7 (dk_at dksX3_orderBy_0 17 rfl rfl)
theorem dX3_orderBy_18 : decode cX3_orderBy 18 = .ok (.if_icmp .eq 6, 3) := dk_159 0 6 (dk_at dksX3_orderBy_0 18 rfl rfl)
theorem dX3_orderBy_21 : decode cX3_orderBy 21 = .ok (.goto 93, 3) := dk_167 0 93 (dk_at dksX3_orderBy_0 21 rfl rfl)
theorem dX3_orderBy_24 : decode cX3_orderBy 24 = .ok (.aload_n 0, 1) := dk_42 (dk_at dksX3_orderBy_1 0 rfl rfl)
theorem dX3_orderBy_25 : decode cX3_orderBy 25 = .ok (.sipush 612, 3) := dk_17 2 100 (dk_at dksX3_orderBy_1 1 rfl rfl)
theorem dX3_orderBy_28 : decode cX3_orderBy 28 = .ok (.aload_n 0, 1) := dk_42 (dk_at dksX3_orderBy_1 4 rfl rfl)
theorem dX3_orderBy_29 : decode cX3_orderBy 29 = .ok (.getfield 434, 3) := dk_180 1 178 (dk_at dksX3_orderBy_1 5 rfl rfl)
theorem dX3_orderBy_32 : decode cX3_orderBy 32 = .ok (.aload_n 0, 1) := dk_42 (dk_at dksX3_orderBy_1 8 rfl rfl)
theorem dX3_orderBy_33 : decode cX3_orderBy 33 = .ok (.getfield 443, 3) := dk_180 1 187 (dk_at dksX3_orderBy_1 9 rfl rfl)
theorem dX3_orderBy_36 : decode cX3_orderBy 36 = .ok (.aload_n 0, 1) := dk_42 (dk_at dksX3_orderBy_1 12 rfl rfl)
theorem dX3_orderBy_37 : decode cX3_orderBy 37 = .ok (.getfield 7, 3) := dk_180 0 7 (dk_at dksX3_orderBy_1 13 rfl rfl)
theorem dX3_orderBy_40 : decode cX3_orderBy 40 = .ok (.iconst 0, 1) := dk_3 (dk_at dksX3_orderBy_1 16 rfl rfl)
theorem dX3_orderBy_41 : decode cX3_orderBy 41 = .ok (.iaload, 1) := dk_46 (dk_at dksX3_orderBy_1 17 rfl rfl)
theorem dX3_orderBy_42 : decode cX3_orderBy 42 = .ok (.aload_n 0, 1) := dk_42 (dk_at dksX3_orderBy_1 18 rfl rfl)
theorem dX3_orderBy_43 : decode cX3_orderBy 43 = .ok (.getfield 446, 3) := dk_180 1 190 (dk_at dksX3_orderBy_1 19 rfl rfl)
theorem dX3_orderBy_46 : decode cX3_orderBy 46 = .ok (.iadd, 1) := dk_96 (dk_at dksX3_orderBy_1 22 rfl rfl)
theorem dX3_orderBy_47 : decode cX3_orderBy 47 = .ok (.invokevirtual 288, 3) := dk_182 1 32 (dk_at dksX3_orderBy_2 0 rfl rfl)
theorem dX3_orderBy_50 : decode cX3_orderBy 50 = .ok (.aload_n 0, 1) := dk_42 (dk_at dksX3_orderBy_2 3 rfl rfl)
theorem dX3_orderBy_51 : decode cX3_orderBy 51 = .ok (.getfield 32, 3) := dk_180 0 32 (dk_at dksX3_orderBy_2 4 rfl rfl)
theorem dX3_orderBy_54 : decode cX3_orderBy 54 = .ok (.bipush 9, 2) := dk_16 9 (dk_at dksX3_orderBy_2 7 rfl rfl)
theorem dX3_orderBy_56 : decode cX3_orderBy 56 = .ok (.aload_n 0, 1) := dk_42 (dk_at dksX3_orderBy_2 9 rfl rfl)
theorem dX3_orderBy_57 : decode cX3_orderBy 57 = .ok (.getfield 437, 3) := dk_180 1 181 (dk_at dksX3_orderBy_2 10 rfl rfl)
theorem dX3_orderBy_60 : decode cX3_orderBy 60 = .ok (.iastore, 1) := dk_79 (dk_at dksX3_orderBy_2 13 rfl rfl)
theorem dX3_orderBy_61 : decode cX3_orderBy 61 = .ok (.aload_n 0, 1) := dk_42 (dk_at dksX3_orderBy_2 14 rfl rfl)
theorem dX3_orderBy_62 : decode cX3_orderBy 62 = .ok (.getfield 32, 3) := dk_180 0 32 (dk_at dksX3_orderBy_2 15 rfl rfl)
theorem dX3_orderBy_65 : decode cX3_orderBy 65 = .ok (.bipush 10, 2) := dk_16 10 (dk_at dksX3_orderBy_2 18 rfl rfl)
theorem dX3_orderBy_67 : decode cX3_orderBy 67 = .ok (.aload_n 0, 1) := dk_42 (dk_at dksX3_orderBy_2 20 rfl rfl)
theorem dX3_orderBy_68 : decode cX3_orderBy 68 = .ok (.getfield 440, 3) := dk_180 1 184 (dk_at dksX3_orderBy_2 21 rfl rfl)
theorem dX3_orderBy_71 : decode cX3_orderBy 71 = .ok (.iastore, 1) := dk_79 (dk_at dksX3_orderBy_3 0 rfl rfl)
theorem dX3_orderBy_72 : decode cX3_orderBy 72 = .ok (.aload_n 0, 1) := dk_42 (dk_at dksX3_orderBy_3 1 rfl rfl)
theorem dX3_orderBy_73 : decode cX3_orderBy 73 = .ok (.iload_n 1, 1) := dk_27 (dk_at dksX3_orderBy_3 2 rfl rfl)
theorem dX3_orderBy_74 : decode cX3_orderBy 74 = .ok (.iload_n 2, 1) := dk_28 (dk_at dksX3_orderBy_3 3 rfl rfl)
theorem dX3_orderBy_75 : decode cX3_orderBy 75 = .ok (.invokevirtual 283, 3) := dk_182 1 27 (dk_at dksX3_orderBy_3 4 rfl rfl)
theorem dX3_orderBy_78 : decode cX3_orderBy 78 = .ok (.aload_n 0, 1) := dk_42 (dk_at dksX3_orderBy_3 7 rfl rfl)
theorem dX3_orderBy_79 : decode cX3_orderBy 79 = .ok (.getfield 16, 3) := dk_180 0 16 (dk_at dksX3_orderBy_3 8 rfl rfl)
theorem dX3_orderBy_82 : decode cX3_orderBy 82 = .ok (.sipush 800, 3) := dk_17 3 32 (dk_at dksX3_orderBy_3 11 rfl rfl)
theorem dX3_orderBy_85 : decode cX3_orderBy 85 = .ok (.iload_n 1, 1) := dk_27 (dk_at dksX3_orderBy_3 14 rfl rfl)
theorem dX3_orderBy_86 : decode cX3_orderBy 86 = .ok (.imul, 1) := dk_104 (dk_at dksX3_orderBy_3 15 rfl rfl)
theorem dX3_orderBy_87 : decode cX3_orderBy 87 = .ok (.iconst 2, 1) := dk_5 (dk_at dksX3_orderBy_3 16 rfl rfl)
theorem dX3_orderBy_88 : decode cX3_orderBy 88 = .ok (.iadd, 1) := dk_96 (dk_at dksX3_orderBy_3 17 rfl rfl)
theorem dX3_orderBy_89 : decode cX3_orderBy 89 = .ok (.iconst 4, 1) := dk_7 (dk_at dksX3_orderBy_3 18 rfl rfl)
theorem dX3_orderBy_90 : decode cX3_orderBy 90 = .ok (.iload_n 2, 1) := dk_28 (dk_at dksX3_orderBy_3 19 rfl rfl)
theorem dX3_orderBy_91 : decode cX3_orderBy 91 = .ok (.imul, 1) := dk_104 (dk_at dksX3_orderBy_3 20 rfl rfl)
theorem dX3_orderBy_92 : decode cX3_orderBy 92 = .ok (.iadd, 1) := dk_96 (dk_at dksX3_orderBy_3 21 rfl rfl)
theorem dX3_orderBy_93 : decode cX3_orderBy 93 = .ok (.iaload, 1) := dk_46 (dk_at dksX3_orderBy_3 22 rfl rfl)
theorem dX3_orderBy_94 : decode cX3_orderBy 94 = .ok (.istore_n 3, 1) := dk_62 (dk_at dksX3_orderBy_3 23 rfl rfl)
theorem dX3_orderBy_95 : decode cX3_orderBy 95 = .ok (.aload_n 0, 1) := dk_42 (dk_at dksX3_orderBy_4 0 rfl rfl)
theorem dX3_orderBy_96 : decode cX3_orderBy 96 = .ok (.getfield 39, 3) := dk_180 0 39 (dk_at dksX3_orderBy_4 1 rfl rfl)
theorem dX3_orderBy_99 : decode cX3_orderBy 99 = .ok (.iconst 0, 1) := dk_3 (dk_at dksX3_orderBy_4 4 rfl rfl)
theorem dX3_orderBy_100 : decode cX3_orderBy 100 = .ok (.baload, 1) := dk_51 (dk_at dksX3_orderBy_4 5 rfl rfl)
theorem dX3_orderBy_101 : decode cX3_orderBy 101 = .ok (.ifCond .eq 13, 3) := dk_153 0 13 (dk_at dksX3_orderBy_4 6 rfl rfl)
theorem dX3_orderBy_104 : decode cX3_orderBy 104 = .ok (.aload_n 0, 1) := dk_42 (dk_at dksX3_orderBy_4 9 rfl rfl)
theorem dX3_orderBy_105 : decode cX3_orderBy 105 = .ok (.iload_n 3, 1) := dk_29 (dk_at dksX3_orderBy_4 10 rfl rfl)
theorem dX3_orderBy_106 : decode cX3_orderBy 106 = .ok (.invokevirtual 449, 3) := dk_182 1 193 (dk_at dksX3_orderBy_4 11 rfl rfl)
theorem dX3_orderBy_109 : decode cX3_orderBy 109 = .ok (.ifCond .eq 5, 3) := dk_153 0 5 (dk_at dksX3_orderBy_4 14 rfl rfl)
theorem dX3_orderBy_112 : decode cX3_orderBy 112 = .ok (.iload_n 3, 1) := dk_29 (dk_at dksX3_orderBy_4 17 rfl rfl)
theorem dX3_orderBy_113 : decode cX3_orderBy 113 = .ok (.ireturn, 1) := dk_172 (dk_at dksX3_orderBy_4 18 rfl rfl)
theorem dX3_orderBy_114 : decode cX3_orderBy 114 = .ok (.iinc 2 1, 3) := dk_132 2 1 (dk_at dksX3_orderBy_4 19 rfl rfl)
theorem dX3_orderBy_117 : decode cX3_orderBy 117 = .ok (.goto (-115), 3) := dk_167 255 141 (dk_at dksX3_orderBy_5 0 rfl rfl)
theorem dX3_orderBy_120 : decode cX3_orderBy 120 = .ok (.aload_n 0, 1) := dk_42 (dk_at dksX3_orderBy_5 3 rfl rfl)
theorem dX3_orderBy_121 : decode cX3_orderBy 121 = .ok (.iconst 4, 1) := dk_7 (dk_at dksX3_orderBy_5 4 rfl rfl)
theorem dX3_orderBy_122 : decode cX3_orderBy 122 = .ok (.invokevirtual 449, 3) := dk_182 1 193 (dk_at dksX3_orderBy_5 5 rfl rfl)
theorem dX3_orderBy_125 : decode cX3_orderBy 125 = .ok (.ifCond .eq 7, 3) := dk_153 0 7 (dk_at dksX3_orderBy_5 8 rfl rfl)
theorem dX3_orderBy_128 : decode cX3_orderBy 128 = .ok (.iconst 4, 1) := dk_7 (dk_at dksX3_orderBy_5 11 rfl rfl)
theorem dX3_orderBy_129 : decode cX3_orderBy 129 = .ok (.goto 5, 3) := dk_167 0 5 (dk_at dksX3_orderBy_5 12 rfl rfl)
theorem dX3_orderBy_132 : decode cX3_orderBy 132 = .ok (.bipush 6, 2) := dk_16 6 (dk_at dksX3_orderBy_5 15 rfl rfl)
theorem dX3_orderBy_134 : decode cX3_orderBy 134 = .ok (.ireturn, 1) := dk_172 (dk_at dksX3_orderBy_5 17 rfl rfl)
abbrev cX3_canRun : ByteArray := prog_17_method_121_code
def yX3_canRun : MethodName := ⟨RX3, "canRun", "(I)Z"⟩
def dkwX3_canRun_1 : List UInt8 := [180, 0, 7, 3, 46, 42, 180, 1, 190, 96, 182, 1, 50, 155, 0, 7, 4, 167, 0, 4, 3, 172]
abbrev dktX3_canRun_1 : List UInt8 := dkwX3_canRun_1 ++ []
def dkwX3_canRun_0 : List UInt8 := [42, 17, 2, 100, 42, 180, 1, 178, 42, 180, 1, 181, 42, 180, 1, 184, 27, 42, 180, 1, 187, 42]
abbrev dktX3_canRun_0 : List UInt8 := dkwX3_canRun_0 ++ dktX3_canRun_1
theorem dksX3_canRun_0 : cX3_canRun.data.toList.drop 0 = dktX3_canRun_0 := by decide +kernel
theorem dksX3_canRun_1 : cX3_canRun.data.toList.drop 22 = dktX3_canRun_1 := dk_seg dksX3_canRun_0 22 rfl rfl
theorem dX3_canRun_0 : decode cX3_canRun 0 = .ok (.aload_n 0, 1) := dk_42 (dk_at dksX3_canRun_0 0 rfl rfl)
theorem dX3_canRun_1 : decode cX3_canRun 1 = .ok (.sipush 612, 3) := dk_17 2 100 (dk_at dksX3_canRun_0 1 rfl rfl)
theorem dX3_canRun_4 : decode cX3_canRun 4 = .ok (.aload_n 0, 1) := dk_42 (dk_at dksX3_canRun_0 4 rfl rfl)
theorem dX3_canRun_5 : decode cX3_canRun 5 = .ok (.getfield 434, 3) := dk_180 1 178 (dk_at dksX3_canRun_0 5 rfl rfl)
theorem dX3_canRun_8 : decode cX3_canRun 8 = .ok (.aload_n 0, 1) := dk_42 (dk_at dksX3_canRun_0 8 rfl rfl)
theorem dX3_canRun_9 : decode cX3_canRun 9 = .ok (.getfield 437, 3) := dk_180 1 181 (dk_at dksX3_canRun_0 9 rfl rfl)
theorem dX3_canRun_12 : decode cX3_canRun 12 = .ok (.aload_n 0, 1) := dk_42 (dk_at dksX3_canRun_0 12 rfl rfl)
theorem dX3_canRun_13 : decode cX3_canRun 13 = .ok (.getfield 440, 3) := dk_180 1 184 (dk_at dksX3_canRun_0 13 rfl rfl)
theorem dX3_canRun_16 : decode cX3_canRun 16 = .ok (.iload_n 1, 1) := dk_27 (dk_at dksX3_canRun_0 16 rfl rfl)
theorem dX3_canRun_17 : decode cX3_canRun 17 = .ok (.aload_n 0, 1) := dk_42 (dk_at dksX3_canRun_0 17 rfl rfl)
theorem dX3_canRun_18 : decode cX3_canRun 18 = .ok (.getfield 443, 3) := dk_180 1 187 (dk_at dksX3_canRun_0 18 rfl rfl)
theorem dX3_canRun_21 : decode cX3_canRun 21 = .ok (.aload_n 0, 1) := dk_42 (dk_at dksX3_canRun_0 21 rfl rfl)
theorem dX3_canRun_22 : decode cX3_canRun 22 = .ok (.getfield 7, 3) := dk_180 0 7 (dk_at dksX3_canRun_1 0 rfl rfl)
theorem dX3_canRun_25 : decode cX3_canRun 25 = .ok (.iconst 0, 1) := dk_3 (dk_at dksX3_canRun_1 3 rfl rfl)
theorem dX3_canRun_26 : decode cX3_canRun 26 = .ok (.iaload, 1) := dk_46 (dk_at dksX3_canRun_1 4 rfl rfl)
theorem dX3_canRun_27 : decode cX3_canRun 27 = .ok (.aload_n 0, 1) := dk_42 (dk_at dksX3_canRun_1 5 rfl rfl)
theorem dX3_canRun_28 : decode cX3_canRun 28 = .ok (.getfield 446, 3) := dk_180 1 190 (dk_at dksX3_canRun_1 6 rfl rfl)
theorem dX3_canRun_31 : decode cX3_canRun 31 = .ok (.iadd, 1) := dk_96 (dk_at dksX3_canRun_1 9 rfl rfl)
theorem dX3_canRun_32 : decode cX3_canRun 32 = .ok (.invokevirtual 306, 3) := dk_182 1 50 (dk_at dksX3_canRun_1 10 rfl rfl)
theorem dX3_canRun_35 : decode cX3_canRun 35 = .ok (.ifCond .lt 7, 3) := dk_155 0 7 (dk_at dksX3_canRun_1 13 rfl rfl)
theorem dX3_canRun_38 : decode cX3_canRun 38 = .ok (.iconst 1, 1) := dk_4 (dk_at dksX3_canRun_1 16 rfl rfl)
theorem dX3_canRun_39 : decode cX3_canRun 39 = .ok (.goto 4, 3) := dk_167 0 4 (dk_at dksX3_canRun_1 17 rfl rfl)
theorem dX3_canRun_42 : decode cX3_canRun 42 = .ok (.iconst 0, 1) := dk_3 (dk_at dksX3_canRun_1 20 rfl rfl)
theorem dX3_canRun_43 : decode cX3_canRun 43 = .ok (.ireturn, 1) := dk_172 (dk_at dksX3_canRun_1 21 rfl rfl)
abbrev cX3_drawWind : ByteArray := prog_17_method_123_code
def yX3_drawWind : MethodName := ⟨RX3, "drawWind", "(I)I"⟩
def dkwX3_drawWind_1 : List UInt8 := [180, 1, 187, 29, 182, 1, 145, 100, 61, 132, 3, 1, 167, 255, 228, 29, 172]
abbrev dktX3_drawWind_1 : List UInt8 := dkwX3_drawWind_1 ++ []
def dkwX3_drawWind_0 : List UInt8 := [27, 16, 10, 112, 61, 3, 62, 28, 42, 42, 180, 1, 187, 29, 182, 1, 145, 161, 0, 21, 28, 42, 42]
abbrev dktX3_drawWind_0 : List UInt8 := dkwX3_drawWind_0 ++ dktX3_drawWind_1
theorem dksX3_drawWind_0 : cX3_drawWind.data.toList.drop 0 = dktX3_drawWind_0 := by decide +kernel
theorem dksX3_drawWind_1 : cX3_drawWind.data.toList.drop 23 = dktX3_drawWind_1 := dk_seg dksX3_drawWind_0 23 rfl rfl
theorem dX3_drawWind_0 : decode cX3_drawWind 0 = .ok (.iload_n 1, 1) := dk_27 (dk_at dksX3_drawWind_0 0 rfl rfl)
theorem dX3_drawWind_1 : decode cX3_drawWind 1 = .ok (.bipush 10, 2) := dk_16 10 (dk_at dksX3_drawWind_0 1 rfl rfl)
theorem dX3_drawWind_3 : decode cX3_drawWind 3 = .ok (.irem, 1) := dk_112 (dk_at dksX3_drawWind_0 3 rfl rfl)
theorem dX3_drawWind_4 : decode cX3_drawWind 4 = .ok (.istore_n 2, 1) := dk_61 (dk_at dksX3_drawWind_0 4 rfl rfl)
theorem dX3_drawWind_5 : decode cX3_drawWind 5 = .ok (.iconst 0, 1) := dk_3 (dk_at dksX3_drawWind_0 5 rfl rfl)
theorem dX3_drawWind_6 : decode cX3_drawWind 6 = .ok (.istore_n 3, 1) := dk_62 (dk_at dksX3_drawWind_0 6 rfl rfl)
theorem dX3_drawWind_7 : decode cX3_drawWind 7 = .ok (.iload_n 2, 1) := dk_28 (dk_at dksX3_drawWind_0 7 rfl rfl)
theorem dX3_drawWind_8 : decode cX3_drawWind 8 = .ok (.aload_n 0, 1) := dk_42 (dk_at dksX3_drawWind_0 8 rfl rfl)
theorem dX3_drawWind_9 : decode cX3_drawWind 9 = .ok (.aload_n 0, 1) := dk_42 (dk_at dksX3_drawWind_0 9 rfl rfl)
theorem dX3_drawWind_10 : decode cX3_drawWind 10 = .ok (.getfield 443, 3) := dk_180 1 187 (dk_at dksX3_drawWind_0 10 rfl rfl)
theorem dX3_drawWind_13 : decode cX3_drawWind 13 = .ok (.iload_n 3, 1) := dk_29 (dk_at dksX3_drawWind_0 13 rfl rfl)
theorem dX3_drawWind_14 : decode cX3_drawWind 14 = .ok (.invokevirtual 401, 3) := dk_182 1 145 (dk_at dksX3_drawWind_0 14 rfl rfl)
theorem dX3_drawWind_17 : decode cX3_drawWind 17 = .ok (.if_icmp .lt 21, 3) := dk_161 0 21 (dk_at dksX3_drawWind_0 17 rfl rfl)
theorem dX3_drawWind_20 : decode cX3_drawWind 20 = .ok (.iload_n 2, 1) := dk_28 (dk_at dksX3_drawWind_0 20 rfl rfl)
theorem dX3_drawWind_21 : decode cX3_drawWind 21 = .ok (.aload_n 0, 1) := dk_42 (dk_at dksX3_drawWind_0 21 rfl rfl)
theorem dX3_drawWind_22 : decode cX3_drawWind 22 = .ok (.aload_n 0, 1) := dk_42 (dk_at dksX3_drawWind_0 22 rfl rfl)
theorem dX3_drawWind_23 : decode cX3_drawWind 23 = .ok (.getfield 443, 3) := dk_180 1 187 (dk_at dksX3_drawWind_1 0 rfl rfl)
theorem dX3_drawWind_26 : decode cX3_drawWind 26 = .ok (.iload_n 3, 1) := dk_29 (dk_at dksX3_drawWind_1 3 rfl rfl)
theorem dX3_drawWind_27 : decode cX3_drawWind 27 = .ok (.invokevirtual 401, 3) := dk_182 1 145 (dk_at dksX3_drawWind_1 4 rfl rfl)
theorem dX3_drawWind_30 : decode cX3_drawWind 30 = .ok (.isub, 1) := dk_100 (dk_at dksX3_drawWind_1 7 rfl rfl)
theorem dX3_drawWind_31 : decode cX3_drawWind 31 = .ok (.istore_n 2, 1) := dk_61 (dk_at dksX3_drawWind_1 8 rfl rfl)
theorem dX3_drawWind_32 : decode cX3_drawWind 32 = .ok (.iinc 3 1, 3) := dk_132 3 1 (dk_at dksX3_drawWind_1 9 rfl rfl)
theorem dX3_drawWind_35 : decode cX3_drawWind 35 = .ok (.goto (-28), 3) := dk_167 255 228 (dk_at dksX3_drawWind_1 12 rfl rfl)
theorem dX3_drawWind_38 : decode cX3_drawWind 38 = .ok (.iload_n 3, 1) := dk_29 (dk_at dksX3_drawWind_1 15 rfl rfl)
theorem dX3_drawWind_39 : decode cX3_drawWind 39 = .ok (.ireturn, 1) := dk_172 (dk_at dksX3_drawWind_1 16 rfl rfl)
abbrev cX3_runOne : ByteArray := prog_17_method_124_code
def yX3_runOne : MethodName := ⟨RX3, "runOne", "(II)V"⟩
def dkwX3_runOne_10 : List UInt8 := [181, 1, 187, 42, 89, 180, 1, 190, 4, 96, 181, 1, 190, 177]
abbrev dktX3_runOne_10 : List UInt8 := dkwX3_runOne_10 ++ []
def dkwX3_runOne_9 : List UInt8 := [180, 0, 7, 3, 46, 42, 180, 1, 190, 96, 182, 1, 72, 153, 0, 8, 42, 5, 181, 1, 196, 42, 28]
abbrev dktX3_runOne_9 : List UInt8 := dkwX3_runOne_9 ++ dktX3_runOne_10
def dkwX3_runOne_8 : List UInt8 := [42, 42, 42, 180, 1, 178, 28, 182, 1, 69, 181, 1, 178, 42, 17, 2, 100, 42, 180, 1, 178, 28, 42]
abbrev dktX3_runOne_8 : List UInt8 := dkwX3_runOne_8 ++ dktX3_runOne_9
def dkwX3_runOne_7 : List UInt8 := [167, 255, 222, 42, 180, 1, 196, 154, 0, 61, 27, 3, 6, 184, 0, 90, 154, 0, 21, 27, 8, 159, 0, 16]
abbrev dktX3_runOne_7 : List UInt8 := dkwX3_runOne_7 ++ dktX3_runOne_8
def dkwX3_runOne_6 : List UInt8 := [180, 0, 43, 17, 2, 100, 21, 4, 96, 42, 180, 0, 43, 17, 2, 28, 21, 4, 96, 46, 79, 132, 4, 1]
abbrev dktX3_runOne_6 : List UInt8 := dkwX3_runOne_6 ++ dktX3_runOne_7
def dkwX3_runOne_5 : List UInt8 := [46, 42, 180, 1, 190, 96, 182, 1, 79, 3, 54, 4, 21, 4, 42, 180, 0, 83, 162, 0, 31, 42]
abbrev dktX3_runOne_5 : List UInt8 := dkwX3_runOne_5 ++ dktX3_runOne_6
def dkwX3_runOne_4 : List UInt8 := [160, 0, 7, 4, 167, 0, 4, 3, 181, 1, 196, 42, 17, 2, 100, 17, 2, 28, 28, 42, 180, 0, 7, 3]
abbrev dktX3_runOne_4 : List UInt8 := dkwX3_runOne_4 ++ dktX3_runOne_5
def dkwX3_runOne_3 : List UInt8 := [180, 1, 178, 27, 182, 1, 15, 181, 1, 178, 42, 42, 180, 0, 7, 16, 70, 42, 180, 1, 178, 96, 46, 4]
abbrev dktX3_runOne_3 : List UInt8 := dkwX3_runOne_3 ++ dktX3_runOne_4
def dkwX3_runOne_2 : List UInt8 := [42, 27, 42, 180, 1, 184, 184, 1, 66, 181, 1, 184, 27, 3, 6, 184, 0, 90, 153, 0, 41, 42, 42, 42]
abbrev dktX3_runOne_2 : List UInt8 := dkwX3_runOne_2 ++ dktX3_runOne_3
def dkwX3_runOne_1 : List UInt8 := [180, 0, 7, 3, 46, 42, 180, 1, 190, 96, 182, 1, 50, 62, 42, 89, 180, 1, 181, 29, 100, 181, 1, 181]
abbrev dktX3_runOne_1 : List UInt8 := dkwX3_runOne_1 ++ dktX3_runOne_2
def dkwX3_runOne_0 : List UInt8 := [42, 17, 2, 100, 42, 180, 1, 178, 42, 180, 1, 181, 42, 180, 1, 184, 27, 42, 180, 1, 187, 42]
abbrev dktX3_runOne_0 : List UInt8 := dkwX3_runOne_0 ++ dktX3_runOne_1
theorem dksX3_runOne_0 : cX3_runOne.data.toList.drop 0 = dktX3_runOne_0 := by decide +kernel
theorem dksX3_runOne_1 : cX3_runOne.data.toList.drop 22 = dktX3_runOne_1 := dk_seg dksX3_runOne_0 22 rfl rfl
theorem dksX3_runOne_2 : cX3_runOne.data.toList.drop 46 = dktX3_runOne_2 := dk_seg dksX3_runOne_1 24 rfl rfl
theorem dksX3_runOne_3 : cX3_runOne.data.toList.drop 70 = dktX3_runOne_3 := dk_seg dksX3_runOne_2 24 rfl rfl
theorem dksX3_runOne_4 : cX3_runOne.data.toList.drop 94 = dktX3_runOne_4 := dk_seg dksX3_runOne_3 24 rfl rfl
theorem dksX3_runOne_5 : cX3_runOne.data.toList.drop 118 = dktX3_runOne_5 := dk_seg dksX3_runOne_4 24 rfl rfl
theorem dksX3_runOne_6 : cX3_runOne.data.toList.drop 140 = dktX3_runOne_6 := dk_seg dksX3_runOne_5 22 rfl rfl
theorem dksX3_runOne_7 : cX3_runOne.data.toList.drop 164 = dktX3_runOne_7 := dk_seg dksX3_runOne_6 24 rfl rfl
theorem dksX3_runOne_8 : cX3_runOne.data.toList.drop 188 = dktX3_runOne_8 := dk_seg dksX3_runOne_7 24 rfl rfl
theorem dksX3_runOne_9 : cX3_runOne.data.toList.drop 211 = dktX3_runOne_9 := dk_seg dksX3_runOne_8 23 rfl rfl
theorem dksX3_runOne_10 : cX3_runOne.data.toList.drop 234 = dktX3_runOne_10 := dk_seg dksX3_runOne_9 23 rfl rfl
theorem dX3_runOne_0 : decode cX3_runOne 0 = .ok (.aload_n 0, 1) := dk_42 (dk_at dksX3_runOne_0 0 rfl rfl)
theorem dX3_runOne_1 : decode cX3_runOne 1 = .ok (.sipush 612, 3) := dk_17 2 100 (dk_at dksX3_runOne_0 1 rfl rfl)
theorem dX3_runOne_4 : decode cX3_runOne 4 = .ok (.aload_n 0, 1) := dk_42 (dk_at dksX3_runOne_0 4 rfl rfl)
theorem dX3_runOne_5 : decode cX3_runOne 5 = .ok (.getfield 434, 3) := dk_180 1 178 (dk_at dksX3_runOne_0 5 rfl rfl)
theorem dX3_runOne_8 : decode cX3_runOne 8 = .ok (.aload_n 0, 1) := dk_42 (dk_at dksX3_runOne_0 8 rfl rfl)
theorem dX3_runOne_9 : decode cX3_runOne 9 = .ok (.getfield 437, 3) := dk_180 1 181 (dk_at dksX3_runOne_0 9 rfl rfl)
theorem dX3_runOne_12 : decode cX3_runOne 12 = .ok (.aload_n 0, 1) := dk_42 (dk_at dksX3_runOne_0 12 rfl rfl)
theorem dX3_runOne_13 : decode cX3_runOne 13 = .ok (.getfield 440, 3) := dk_180 1 184 (dk_at dksX3_runOne_0 13 rfl rfl)
theorem dX3_runOne_16 : decode cX3_runOne 16 = .ok (.iload_n 1, 1) := dk_27 (dk_at dksX3_runOne_0 16 rfl rfl)
theorem dX3_runOne_17 : decode cX3_runOne 17 = .ok (.aload_n 0, 1) := dk_42 (dk_at dksX3_runOne_0 17 rfl rfl)
theorem dX3_runOne_18 : decode cX3_runOne 18 = .ok (.getfield 443, 3) := dk_180 1 187 (dk_at dksX3_runOne_0 18 rfl rfl)
theorem dX3_runOne_21 : decode cX3_runOne 21 = .ok (.aload_n 0, 1) := dk_42 (dk_at dksX3_runOne_0 21 rfl rfl)
theorem dX3_runOne_22 : decode cX3_runOne 22 = .ok (.getfield 7, 3) := dk_180 0 7 (dk_at dksX3_runOne_1 0 rfl rfl)
theorem dX3_runOne_25 : decode cX3_runOne 25 = .ok (.iconst 0, 1) := dk_3 (dk_at dksX3_runOne_1 3 rfl rfl)
theorem dX3_runOne_26 : decode cX3_runOne 26 = .ok (.iaload, 1) := dk_46 (dk_at dksX3_runOne_1 4 rfl rfl)
theorem dX3_runOne_27 : decode cX3_runOne 27 = .ok (.aload_n 0, 1) := dk_42 (dk_at dksX3_runOne_1 5 rfl rfl)
theorem dX3_runOne_28 : decode cX3_runOne 28 = .ok (.getfield 446, 3) := dk_180 1 190 (dk_at dksX3_runOne_1 6 rfl rfl)
theorem dX3_runOne_31 : decode cX3_runOne 31 = .ok (.iadd, 1) := dk_96 (dk_at dksX3_runOne_1 9 rfl rfl)
theorem dX3_runOne_32 : decode cX3_runOne 32 = .ok (.invokevirtual 306, 3) := dk_182 1 50 (dk_at dksX3_runOne_1 10 rfl rfl)
theorem dX3_runOne_35 : decode cX3_runOne 35 = .ok (.istore_n 3, 1) := dk_62 (dk_at dksX3_runOne_1 13 rfl rfl)
theorem dX3_runOne_36 : decode cX3_runOne 36 = .ok (.aload_n 0, 1) := dk_42 (dk_at dksX3_runOne_1 14 rfl rfl)
theorem dX3_runOne_37 : decode cX3_runOne 37 = .ok (.dup, 1) := dk_89 (dk_at dksX3_runOne_1 15 rfl rfl)
theorem dX3_runOne_38 : decode cX3_runOne 38 = .ok (.getfield 437, 3) := dk_180 1 181 (dk_at dksX3_runOne_1 16 rfl rfl)
theorem dX3_runOne_41 : decode cX3_runOne 41 = .ok (.iload_n 3, 1) := dk_29 (dk_at dksX3_runOne_1 19 rfl rfl)
theorem dX3_runOne_42 : decode cX3_runOne 42 = .ok (.isub, 1) := dk_100 (dk_at dksX3_runOne_1 20 rfl rfl)
theorem dX3_runOne_43 : decode cX3_runOne 43 = .ok (.putfield 437, 3) := dk_181 1 181 (dk_at dksX3_runOne_1 21 rfl rfl)
theorem dX3_runOne_46 : decode cX3_runOne 46 = .ok (.aload_n 0, 1) := dk_42 (dk_at dksX3_runOne_2 0 rfl rfl)
theorem dX3_runOne_47 : decode cX3_runOne 47 = .ok (.iload_n 1, 1) := dk_27 (dk_at dksX3_runOne_2 1 rfl rfl)
theorem dX3_runOne_48 : decode cX3_runOne 48 = .ok (.aload_n 0, 1) := dk_42 (dk_at dksX3_runOne_2 2 rfl rfl)
theorem dX3_runOne_49 : decode cX3_runOne 49 = .ok (.getfield 440, 3) := dk_180 1 184 (dk_at dksX3_runOne_2 3 rfl rfl)
theorem dX3_runOne_52 : decode cX3_runOne 52 = .ok (.invokestatic 322, 3) := dk_184 1 66 (dk_at dksX3_runOne_2 6 rfl rfl)
theorem dX3_runOne_55 : decode cX3_runOne 55 = .ok (.putfield 440, 3) := dk_181 1 184 (dk_at dksX3_runOne_2 9 rfl rfl)
theorem dX3_runOne_58 : decode cX3_runOne 58 = .ok (.iload_n 1, 1) := dk_27 (dk_at dksX3_runOne_2 12 rfl rfl)
theorem dX3_runOne_59 : decode cX3_runOne 59 = .ok (.iconst 0, 1) := dk_3 (dk_at dksX3_runOne_2 13 rfl rfl)
theorem dX3_runOne_60 : decode cX3_runOne 60 = .ok (.iconst 3, 1) := dk_6 (dk_at dksX3_runOne_2 14 rfl rfl)
theorem dX3_runOne_61 : decode cX3_runOne 61 = .ok (.invokestatic 90, 3) := dk_184 0 90 (dk_at dksX3_runOne_2 15 rfl rfl)
theorem dX3_runOne_64 : decode cX3_runOne 64 = .ok (.ifCond .eq 41, 3) := dk_153 0 41 (dk_at dksX3_runOne_2 18 rfl rfl)
theorem dX3_runOne_67 : decode cX3_runOne 67 = .ok (.aload_n 0, 1) := dk_42 (dk_at dksX3_runOne_2 21 rfl rfl)
theorem dX3_runOne_68 : decode cX3_runOne 68 = .ok (.aload_n 0, 1) := dk_42 (dk_at dksX3_runOne_2 22 rfl rfl)
theorem dX3_runOne_69 : decode cX3_runOne 69 = .ok (.aload_n 0, 1) := dk_42 (dk_at dksX3_runOne_2 23 rfl rfl)
theorem dX3_runOne_70 : decode cX3_runOne 70 = .ok (.getfield 434, 3) := dk_180 1 178 (dk_at dksX3_runOne_3 0 rfl rfl)
theorem dX3_runOne_73 : decode cX3_runOne 73 = .ok (.iload_n 1, 1) := dk_27 (dk_at dksX3_runOne_3 3 rfl rfl)
theorem dX3_runOne_74 : decode cX3_runOne 74 = .ok (.invokevirtual 271, 3) := dk_182 1 15 (dk_at dksX3_runOne_3 4 rfl rfl)
theorem dX3_runOne_77 : decode cX3_runOne 77 = .ok (.putfield 434, 3) := dk_181 1 178 (dk_at dksX3_runOne_3 7 rfl rfl)
theorem dX3_runOne_80 : decode cX3_runOne 80 = .ok (.aload_n 0, 1) := dk_42 (dk_at dksX3_runOne_3 10 rfl rfl)
theorem dX3_runOne_81 : decode cX3_runOne 81 = .ok (.aload_n 0, 1) := dk_42 (dk_at dksX3_runOne_3 11 rfl rfl)
theorem dX3_runOne_82 : decode cX3_runOne 82 = .ok (.getfield 7, 3) := dk_180 0 7 (dk_at dksX3_runOne_3 12 rfl rfl)
theorem dX3_runOne_85 : decode cX3_runOne 85 = .ok (.bipush 70, 2) := dk_16 70 (dk_at dksX3_runOne_3 15 rfl rfl)
theorem dX3_runOne_87 : decode cX3_runOne 87 = .ok (.aload_n 0, 1) := dk_42 (dk_at dksX3_runOne_3 17 rfl rfl)
theorem dX3_runOne_88 : decode cX3_runOne 88 = .ok (.getfield 434, 3) := dk_180 1 178 (dk_at dksX3_runOne_3 18 rfl rfl)
theorem dX3_runOne_91 : decode cX3_runOne 91 = .ok (.iadd, 1) := dk_96 (dk_at dksX3_runOne_3 21 rfl rfl)
theorem dX3_runOne_92 : decode cX3_runOne 92 = .ok (.iaload, 1) := dk_46 (dk_at dksX3_runOne_3 22 rfl rfl)
theorem dX3_runOne_93 : decode cX3_runOne 93 = .ok (.iconst 1, 1) := dk_4 (dk_at dksX3_runOne_3 23 rfl rfl)
theorem dX3_runOne_94 : decode cX3_runOne 94 = .ok (.if_icmp .ne 7, 3) := dk_160 0 7 (dk_at dksX3_runOne_4 0 rfl rfl)
theorem dX3_runOne_97 : decode cX3_runOne 97 = .ok (.iconst 1, 1) := dk_4 (dk_at dksX3_runOne_4 3 rfl rfl)
theorem dX3_runOne_98 : decode cX3_runOne 98 = .ok (.goto 4, 3) := dk_167 0 4 (dk_at dksX3_runOne_4 4 rfl rfl)
theorem dX3_runOne_101 : decode cX3_runOne 101 = .ok (.iconst 0, 1) := dk_3 (dk_at dksX3_runOne_4 7 rfl rfl)
theorem dX3_runOne_102 : decode cX3_runOne 102 = .ok (.putfield 452, 3) := dk_181 1 196 (dk_at dksX3_runOne_4 8 rfl rfl)
theorem dX3_runOne_105 : decode cX3_runOne 105 = .ok (.aload_n 0, 1) := dk_42 (dk_at dksX3_runOne_4 11 rfl rfl)
theorem dX3_runOne_106 : decode cX3_runOne 106 = .ok (.sipush 612, 3) := dk_17 2 100 (dk_at dksX3_runOne_4 12 rfl rfl)
theorem dX3_runOne_109 : decode cX3_runOne 109 = .ok (.sipush 540, 3) := dk_17 2 28 (dk_at dksX3_runOne_4 15 rfl rfl)
theorem dX3_runOne_112 : decode cX3_runOne 112 = .ok (.iload_n 2, 1) := dk_28 (dk_at dksX3_runOne_4 18 rfl rfl)
theorem dX3_runOne_113 : decode cX3_runOne 113 = .ok (.aload_n 0, 1) := dk_42 (dk_at dksX3_runOne_4 19 rfl rfl)
theorem dX3_runOne_114 : decode cX3_runOne 114 = .ok (.getfield 7, 3) := dk_180 0 7 (dk_at dksX3_runOne_4 20 rfl rfl)
theorem dX3_runOne_117 : decode cX3_runOne 117 = .ok (.iconst 0, 1) := dk_3 (dk_at dksX3_runOne_4 23 rfl rfl)
theorem dX3_runOne_118 : decode cX3_runOne 118 = .ok (.iaload, 1) := dk_46 (dk_at dksX3_runOne_5 0 rfl rfl)
theorem dX3_runOne_119 : decode cX3_runOne 119 = .ok (.aload_n 0, 1) := dk_42 (dk_at dksX3_runOne_5 1 rfl rfl)
theorem dX3_runOne_120 : decode cX3_runOne 120 = .ok (.getfield 446, 3) := dk_180 1 190 (dk_at dksX3_runOne_5 2 rfl rfl)
theorem dX3_runOne_123 : decode cX3_runOne 123 = .ok (.iadd, 1) := dk_96 (dk_at dksX3_runOne_5 5 rfl rfl)
theorem dX3_runOne_124 : decode cX3_runOne 124 = .ok (.invokevirtual 335, 3) := dk_182 1 79 (dk_at dksX3_runOne_5 6 rfl rfl)
theorem dX3_runOne_127 : decode cX3_runOne 127 = .ok (.iconst 0, 1) := dk_3 (dk_at dksX3_runOne_5 9 rfl rfl)
theorem dX3_runOne_128 : decode cX3_runOne 128 = .ok (.istore 4, 2) := dk_54 4 (dk_at dksX3_runOne_5 10 rfl rfl)
theorem dX3_runOne_130 : decode cX3_runOne 130 = .ok (.iload 4, 2) := dk_21 4 (dk_at dksX3_runOne_5 12 rfl rfl)
theorem dX3_runOne_132 : decode cX3_runOne 132 = .ok (.aload_n 0, 1) := dk_42 (dk_at dksX3_runOne_5 14 rfl rfl)
theorem dX3_runOne_133 : decode cX3_runOne 133 = .ok (.getfield 83, 3) := dk_180 0 83 (dk_at dksX3_runOne_5 15 rfl rfl)
theorem dX3_runOne_136 : decode cX3_runOne 136 = .ok (.if_icmp .ge 31, 3) := dk_162 0 31 (dk_at dksX3_runOne_5 18 rfl rfl)
theorem dX3_runOne_139 : decode cX3_runOne 139 = .ok (.aload_n 0, 1) := dk_42 (dk_at dksX3_runOne_5 21 rfl rfl)
theorem dX3_runOne_140 : decode cX3_runOne 140 = .ok (.getfield 43, 3) := dk_180 0 43 (dk_at dksX3_runOne_6 0 rfl rfl)
theorem dX3_runOne_143 : decode cX3_runOne 143 = .ok (.sipush 612, 3) := dk_17 2 100 (dk_at dksX3_runOne_6 3 rfl rfl)
theorem dX3_runOne_146 : decode cX3_runOne 146 = .ok (.iload 4, 2) := dk_21 4 (dk_at dksX3_runOne_6 6 rfl rfl)
theorem dX3_runOne_148 : decode cX3_runOne 148 = .ok (.iadd, 1) := dk_96 (dk_at dksX3_runOne_6 8 rfl rfl)
theorem dX3_runOne_149 : decode cX3_runOne 149 = .ok (.aload_n 0, 1) := dk_42 (dk_at dksX3_runOne_6 9 rfl rfl)
theorem dX3_runOne_150 : decode cX3_runOne 150 = .ok (.getfield 43, 3) := dk_180 0 43 (dk_at dksX3_runOne_6 10 rfl rfl)
theorem dX3_runOne_153 : decode cX3_runOne 153 = .ok (.sipush 540, 3) := dk_17 2 28 (dk_at dksX3_runOne_6 13 rfl rfl)
theorem dX3_runOne_156 : decode cX3_runOne 156 = .ok (.iload 4, 2) := dk_21 4 (dk_at dksX3_runOne_6 16 rfl rfl)
theorem dX3_runOne_158 : decode cX3_runOne 158 = .ok (.iadd, 1) := dk_96 (dk_at dksX3_runOne_6 18 rfl rfl)
theorem dX3_runOne_159 : decode cX3_runOne 159 = .ok (.iaload, 1) := dk_46 (dk_at dksX3_runOne_6 19 rfl rfl)
theorem dX3_runOne_160 : decode cX3_runOne 160 = .ok (.iastore, 1) := dk_79 (dk_at dksX3_runOne_6 20 rfl rfl)
theorem dX3_runOne_161 : decode cX3_runOne 161 = .ok (.iinc 4 1, 3) := dk_132 4 1 (dk_at dksX3_runOne_6 21 rfl rfl)
theorem dX3_runOne_164 : decode cX3_runOne 164 = .ok (.goto (-34), 3) := dk_167 255 222 (dk_at dksX3_runOne_7 0 rfl rfl)
theorem dX3_runOne_167 : decode cX3_runOne 167 = .ok (.aload_n 0, 1) := dk_42 (dk_at dksX3_runOne_7 3 rfl rfl)
theorem dX3_runOne_168 : decode cX3_runOne 168 = .ok (.getfield 452, 3) := dk_180 1 196 (dk_at dksX3_runOne_7 4 rfl rfl)
theorem dX3_runOne_171 : decode cX3_runOne 171 = .ok (.ifCond .ne 61, 3) := dk_154 0 61 (dk_at dksX3_runOne_7 7 rfl rfl)
theorem dX3_runOne_174 : decode cX3_runOne 174 = .ok (.iload_n 1, 1) := dk_27 (dk_at dksX3_runOne_7 10 rfl rfl)
theorem dX3_runOne_175 : decode cX3_runOne 175 = .ok (.iconst 0, 1) := dk_3 (dk_at dksX3_runOne_7 11 rfl rfl)
theorem dX3_runOne_176 : decode cX3_runOne 176 = .ok (.iconst 3, 1) := dk_6 (dk_at dksX3_runOne_7 12 rfl rfl)
theorem dX3_runOne_177 : decode cX3_runOne 177 = .ok (.invokestatic 90, 3) := dk_184 0 90 (dk_at dksX3_runOne_7 13 rfl rfl)
theorem dX3_runOne_180 : decode cX3_runOne 180 = .ok (.ifCond .ne 21, 3) := dk_154 0 21 (dk_at dksX3_runOne_7 16 rfl rfl)
theorem dX3_runOne_183 : decode cX3_runOne 183 = .ok (.iload_n 1, 1) := dk_27 (dk_at dksX3_runOne_7 19 rfl rfl)
theorem dX3_runOne_184 : decode cX3_runOne 184 = .ok (.iconst 5, 1) := dk_8 (dk_at dksX3_runOne_7 20 rfl rfl)
theorem dX3_runOne_185 : decode cX3_runOne 185 = .ok (.if_icmp .eq 16, 3) := dk_159 0 16 (dk_at dksX3_runOne_7 21 rfl rfl)
theorem dX3_runOne_188 : decode cX3_runOne 188 = .ok (.aload_n 0, 1) := dk_42 (dk_at dksX3_runOne_8 0 rfl rfl)
theorem dX3_runOne_189 : decode cX3_runOne 189 = .ok (.aload_n 0, 1) := dk_42 (dk_at dksX3_runOne_8 1 rfl rfl)
theorem dX3_runOne_190 : decode cX3_runOne 190 = .ok (.aload_n 0, 1) := dk_42 (dk_at dksX3_runOne_8 2 rfl rfl)
theorem dX3_runOne_191 : decode cX3_runOne 191 = .ok (.getfield 434, 3) := dk_180 1 178 (dk_at dksX3_runOne_8 3 rfl rfl)
theorem dX3_runOne_194 : decode cX3_runOne 194 = .ok (.iload_n 2, 1) := dk_28 (dk_at dksX3_runOne_8 6 rfl rfl)
theorem dX3_runOne_195 : decode cX3_runOne 195 = .ok (.invokevirtual 325, 3) := dk_182 1 69 (dk_at dksX3_runOne_8 7 rfl rfl)
theorem dX3_runOne_198 : decode cX3_runOne 198 = .ok (.putfield 434, 3) := dk_181 1 178 (dk_at dksX3_runOne_8 10 rfl rfl)
theorem dX3_runOne_201 : decode cX3_runOne 201 = .ok (.aload_n 0, 1) := dk_42 (dk_at dksX3_runOne_8 13 rfl rfl)
theorem dX3_runOne_202 : decode cX3_runOne 202 = .ok (.sipush 612, 3) := dk_17 2 100 (dk_at dksX3_runOne_8 14 rfl rfl)
theorem dX3_runOne_205 : decode cX3_runOne 205 = .ok (.aload_n 0, 1) := dk_42 (dk_at dksX3_runOne_8 17 rfl rfl)
theorem dX3_runOne_206 : decode cX3_runOne 206 = .ok (.getfield 434, 3) := dk_180 1 178 (dk_at dksX3_runOne_8 18 rfl rfl)
theorem dX3_runOne_209 : decode cX3_runOne 209 = .ok (.iload_n 2, 1) := dk_28 (dk_at dksX3_runOne_8 21 rfl rfl)
theorem dX3_runOne_210 : decode cX3_runOne 210 = .ok (.aload_n 0, 1) := dk_42 (dk_at dksX3_runOne_8 22 rfl rfl)
theorem dX3_runOne_211 : decode cX3_runOne 211 = .ok (.getfield 7, 3) := dk_180 0 7 (dk_at dksX3_runOne_9 0 rfl rfl)
theorem dX3_runOne_214 : decode cX3_runOne 214 = .ok (.iconst 0, 1) := dk_3 (dk_at dksX3_runOne_9 3 rfl rfl)
theorem dX3_runOne_215 : decode cX3_runOne 215 = .ok (.iaload, 1) := dk_46 (dk_at dksX3_runOne_9 4 rfl rfl)
theorem dX3_runOne_216 : decode cX3_runOne 216 = .ok (.aload_n 0, 1) := dk_42 (dk_at dksX3_runOne_9 5 rfl rfl)
theorem dX3_runOne_217 : decode cX3_runOne 217 = .ok (.getfield 446, 3) := dk_180 1 190 (dk_at dksX3_runOne_9 6 rfl rfl)
theorem dX3_runOne_220 : decode cX3_runOne 220 = .ok (.iadd, 1) := dk_96 (dk_at dksX3_runOne_9 9 rfl rfl)
theorem dX3_runOne_221 : decode cX3_runOne 221 = .ok (.invokevirtual 328, 3) := dk_182 1 72 (dk_at dksX3_runOne_9 10 rfl rfl)
theorem dX3_runOne_224 : decode cX3_runOne 224 = .ok (.ifCond .eq 8, 3) := dk_153 0 8 (dk_at dksX3_runOne_9 13 rfl rfl)
theorem dX3_runOne_227 : decode cX3_runOne 227 = .ok (.aload_n 0, 1) := dk_42 (dk_at dksX3_runOne_9 16 rfl rfl)
theorem dX3_runOne_228 : decode cX3_runOne 228 = .ok (.iconst 2, 1) := dk_5 (dk_at dksX3_runOne_9 17 rfl rfl)
theorem dX3_runOne_229 : decode cX3_runOne 229 = .ok (.putfield 452, 3) := dk_181 1 196 (dk_at dksX3_runOne_9 18 rfl rfl)
theorem dX3_runOne_232 : decode cX3_runOne 232 = .ok (.aload_n 0, 1) := dk_42 (dk_at dksX3_runOne_9 21 rfl rfl)
theorem dX3_runOne_233 : decode cX3_runOne 233 = .ok (.iload_n 2, 1) := dk_28 (dk_at dksX3_runOne_9 22 rfl rfl)
theorem dX3_runOne_234 : decode cX3_runOne 234 = .ok (.putfield 443, 3) := dk_181 1 187 (dk_at dksX3_runOne_10 0 rfl rfl)
theorem dX3_runOne_237 : decode cX3_runOne 237 = .ok (.aload_n 0, 1) := dk_42 (dk_at dksX3_runOne_10 3 rfl rfl)
theorem dX3_runOne_238 : decode cX3_runOne 238 = .ok (.dup, 1) := dk_89 (dk_at dksX3_runOne_10 4 rfl rfl)
theorem dX3_runOne_239 : decode cX3_runOne 239 = .ok (.getfield 446, 3) := dk_180 1 190 (dk_at dksX3_runOne_10 5 rfl rfl)
theorem dX3_runOne_242 : decode cX3_runOne 242 = .ok (.iconst 1, 1) := dk_4 (dk_at dksX3_runOne_10 8 rfl rfl)
theorem dX3_runOne_243 : decode cX3_runOne 243 = .ok (.iadd, 1) := dk_96 (dk_at dksX3_runOne_10 9 rfl rfl)
theorem dX3_runOne_244 : decode cX3_runOne 244 = .ok (.putfield 446, 3) := dk_181 1 190 (dk_at dksX3_runOne_10 10 rfl rfl)
theorem dX3_runOne_247 : decode cX3_runOne 247 = .ok (.return_, 1) := dk_177 (dk_at dksX3_runOne_10 13 rfl rfl)
abbrev cX3_runs : ByteArray := prog_17_method_127_code
def yX3_runs : MethodName := ⟨RX3, "runs", "(IIIII)I"⟩
def dkwX3_runs_5 : List UInt8 := [21, 6, 172]
abbrev dktX3_runs_5 : List UInt8 := dkwX3_runs_5 ++ []
def dkwX3_runs_4 : List UInt8 := [42, 180, 1, 196, 21, 5, 160, 0, 7, 4, 167, 0, 4, 3, 96, 54, 6, 132, 7, 1, 167, 255, 217]
abbrev dktX3_runs_4 : List UInt8 := dkwX3_runs_4 ++ dktX3_runs_5
def dkwX3_runs_3 : List UInt8 := [54, 6, 3, 54, 7, 21, 7, 29, 162, 0, 39, 42, 27, 28, 21, 7, 96, 21, 4, 182, 1, 211, 21, 6]
abbrev dktX3_runs_3 : List UInt8 := dkwX3_runs_3 ++ dktX3_runs_4
def dkwX3_runs_2 : List UInt8 := [153, 0, 21, 21, 5, 3, 5, 184, 0, 90, 153, 0, 11, 42, 3, 182, 1, 57, 154, 0, 5, 2, 172, 3]
abbrev dktX3_runs_2 : List UInt8 := dkwX3_runs_2 ++ dktX3_runs_3
def dkwX3_runs_1 : List UInt8 := [184, 0, 90, 153, 0, 41, 28, 29, 96, 17, 39, 16, 163, 0, 32, 21, 4, 4, 16, 40, 184, 0, 90]
abbrev dktX3_runs_1 : List UInt8 := dkwX3_runs_1 ++ dktX3_runs_2
def dkwX3_runs_0 : List UInt8 := [42, 27, 182, 1, 208, 153, 0, 62, 28, 3, 17, 39, 15, 184, 0, 90, 153, 0, 51, 29, 4, 16, 40]
abbrev dktX3_runs_0 : List UInt8 := dkwX3_runs_0 ++ dktX3_runs_1
theorem dksX3_runs_0 : cX3_runs.data.toList.drop 0 = dktX3_runs_0 := by decide +kernel
theorem dksX3_runs_1 : cX3_runs.data.toList.drop 23 = dktX3_runs_1 := dk_seg dksX3_runs_0 23 rfl rfl
theorem dksX3_runs_2 : cX3_runs.data.toList.drop 46 = dktX3_runs_2 := dk_seg dksX3_runs_1 23 rfl rfl
theorem dksX3_runs_3 : cX3_runs.data.toList.drop 70 = dktX3_runs_3 := dk_seg dksX3_runs_2 24 rfl rfl
theorem dksX3_runs_4 : cX3_runs.data.toList.drop 94 = dktX3_runs_4 := dk_seg dksX3_runs_3 24 rfl rfl
theorem dksX3_runs_5 : cX3_runs.data.toList.drop 117 = dktX3_runs_5 := dk_seg dksX3_runs_4 23 rfl rfl
theorem dX3_runs_0 : decode cX3_runs 0 = .ok (.aload_n 0, 1) := dk_42 (dk_at dksX3_runs_0 0 rfl rfl)
theorem dX3_runs_1 : decode cX3_runs 1 = .ok (.iload_n 1, 1) := dk_27 (dk_at dksX3_runs_0 1 rfl rfl)
theorem dX3_runs_2 : decode cX3_runs 2 = .ok (.invokevirtual 464, 3) := dk_182 1 208 (dk_at dksX3_runs_0 2 rfl rfl)
theorem dX3_runs_5 : decode cX3_runs 5 = .ok (.ifCond .eq 62, 3) := dk_153 0 62 (dk_at dksX3_runs_0 5 rfl rfl)
theorem dX3_runs_8 : decode cX3_runs 8 = .ok (.iload_n 2, 1) := dk_28 (dk_at dksX3_runs_0 8 rfl rfl)
theorem dX3_runs_9 : decode cX3_runs 9 = .ok (.iconst 0, 1) := dk_3 (dk_at dksX3_runs_0 9 rfl rfl)
theorem dX3_runs_10 : decode cX3_runs 10 = .ok (.sipush 9999, 3) := dk_17 39 15 (dk_at dksX3_runs_0 10 rfl rfl)
theorem dX3_runs_13 : decode cX3_runs 13 = .ok (.invokestatic 90, 3) := dk_184 0 90 (dk_at dksX3_runs_0 13 rfl rfl)
theorem dX3_runs_16 : decode cX3_runs 16 = .ok (.ifCond .eq 51, 3) := dk_153 0 51 (dk_at dksX3_runs_0 16 rfl rfl)
theorem dX3_runs_19 : decode cX3_runs 19 = .ok (.iload_n 3, 1) := dk_29 (dk_at dksX3_runs_0 19 rfl rfl)
theorem dX3_runs_20 : decode cX3_runs 20 = .ok (.iconst 1, 1) := dk_4 (dk_at dksX3_runs_0 20 rfl rfl)
theorem dX3_runs_21 : decode cX3_runs 21 = .ok (.bipush 40, 2) := dk_16 40 (dk_at dksX3_runs_0 21 rfl rfl)
theorem dX3_runs_23 : decode cX3_runs 23 = .ok (.invokestatic 90, 3) := dk_184 0 90 (dk_at dksX3_runs_1 0 rfl rfl)
theorem dX3_runs_26 : decode cX3_runs 26 = .ok (.ifCond .eq 41, 3) := dk_153 0 41 (dk_at dksX3_runs_1 3 rfl rfl)
theorem dX3_runs_29 : decode cX3_runs 29 = .ok (.iload_n 2, 1) := dk_28 (dk_at dksX3_runs_1 6 rfl rfl)
theorem dX3_runs_30 : decode cX3_runs 30 = .ok (.iload_n 3, 1) := dk_29 (dk_at dksX3_runs_1 7 rfl rfl)
theorem dX3_runs_31 : decode cX3_runs 31 = .ok (.iadd, 1) := dk_96 (dk_at dksX3_runs_1 8 rfl rfl)
theorem dX3_runs_32 : decode cX3_runs 32 = .ok (.sipush 10000, 3) := dk_17 39 16 (dk_at dksX3_runs_1 9 rfl rfl)
theorem dX3_runs_35 : decode cX3_runs 35 = .ok (.if_icmp .gt 32, 3) := dk_163 0 32 (dk_at dksX3_runs_1 12 rfl rfl)
theorem dX3_runs_38 : decode cX3_runs 38 = .ok (.iload 4, 2) := dk_21 4 (dk_at dksX3_runs_1 15 rfl rfl)
theorem dX3_runs_40 : decode cX3_runs 40 = .ok (.iconst 1, 1) := dk_4 (dk_at dksX3_runs_1 17 rfl rfl)
theorem dX3_runs_41 : decode cX3_runs 41 = .ok (.bipush 40, 2) := dk_16 40 (dk_at dksX3_runs_1 18 rfl rfl)
theorem dX3_runs_43 : decode cX3_runs 43 = .ok (.invokestatic 90, 3) := dk_184 0 90 (dk_at dksX3_runs_1 20 rfl rfl)
theorem dX3_runs_46 : decode cX3_runs 46 = .ok (.ifCond .eq 21, 3) := dk_153 0 21 (dk_at dksX3_runs_2 0 rfl rfl)
theorem dX3_runs_49 : decode cX3_runs 49 = .ok (.iload 5, 2) := dk_21 5 (dk_at dksX3_runs_2 3 rfl rfl)
theorem dX3_runs_51 : decode cX3_runs 51 = .ok (.iconst 0, 1) := dk_3 (dk_at dksX3_runs_2 5 rfl rfl)
theorem dX3_runs_52 : decode cX3_runs 52 = .ok (.iconst 2, 1) := dk_5 (dk_at dksX3_runs_2 6 rfl rfl)
theorem dX3_runs_53 : decode cX3_runs 53 = .ok (.invokestatic 90, 3) := dk_184 0 90 (dk_at dksX3_runs_2 7 rfl rfl)
theorem dX3_runs_56 : decode cX3_runs 56 = .ok (.ifCond .eq 11, 3) := dk_153 0 11 (dk_at dksX3_runs_2 10 rfl rfl)
theorem dX3_runs_59 : decode cX3_runs 59 = .ok (.aload_n 0, 1) := dk_42 (dk_at dksX3_runs_2 13 rfl rfl)
theorem dX3_runs_60 : decode cX3_runs 60 = .ok (.iconst 0, 1) := dk_3 (dk_at dksX3_runs_2 14 rfl rfl)
theorem dX3_runs_61 : decode cX3_runs 61 = .ok (.invokevirtual 313, 3) := dk_182 1 57 (dk_at dksX3_runs_2 15 rfl rfl)
theorem dX3_runs_64 : decode cX3_runs 64 = .ok (.ifCond .ne 5, 3) := dk_154 0 5 (dk_at dksX3_runs_2 18 rfl rfl)
theorem dX3_runs_67 : decode cX3_runs 67 = .ok (.iconst (-1), 1) := dk_2 (dk_at dksX3_runs_2 21 rfl rfl)
theorem dX3_runs_68 : decode cX3_runs 68 = .ok (.ireturn, 1) := dk_172 (dk_at dksX3_runs_2 22 rfl rfl)
theorem dX3_runs_69 : decode cX3_runs 69 = .ok (.iconst 0, 1) := dk_3 (dk_at dksX3_runs_2 23 rfl rfl)
theorem dX3_runs_70 : decode cX3_runs 70 = .ok (.istore 6, 2) := dk_54 6 (dk_at dksX3_runs_3 0 rfl rfl)
theorem dX3_runs_72 : decode cX3_runs 72 = .ok (.iconst 0, 1) := dk_3 (dk_at dksX3_runs_3 2 rfl rfl)
theorem dX3_runs_73 : decode cX3_runs 73 = .ok (.istore 7, 2) := dk_54 7 (dk_at dksX3_runs_3 3 rfl rfl)
theorem dX3_runs_75 : decode cX3_runs 75 = .ok (.iload 7, 2) := dk_21 7 (dk_at dksX3_runs_3 5 rfl rfl)
theorem dX3_runs_77 : decode cX3_runs 77 = .ok (.iload_n 3, 1) := dk_29 (dk_at dksX3_runs_3 7 rfl rfl)
theorem dX3_runs_78 : decode cX3_runs 78 = .ok (.if_icmp .ge 39, 3) := dk_162 0 39 (dk_at dksX3_runs_3 8 rfl rfl)
theorem dX3_runs_81 : decode cX3_runs 81 = .ok (.aload_n 0, 1) := dk_42 (dk_at dksX3_runs_3 11 rfl rfl)
theorem dX3_runs_82 : decode cX3_runs 82 = .ok (.iload_n 1, 1) := dk_27 (dk_at dksX3_runs_3 12 rfl rfl)
theorem dX3_runs_83 : decode cX3_runs 83 = .ok (.iload_n 2, 1) := dk_28 (dk_at dksX3_runs_3 13 rfl rfl)
theorem dX3_runs_84 : decode cX3_runs 84 = .ok (.iload 7, 2) := dk_21 7 (dk_at dksX3_runs_3 14 rfl rfl)
theorem dX3_runs_86 : decode cX3_runs 86 = .ok (.iadd, 1) := dk_96 (dk_at dksX3_runs_3 16 rfl rfl)
theorem dX3_runs_87 : decode cX3_runs 87 = .ok (.iload 4, 2) := dk_21 4 (dk_at dksX3_runs_3 17 rfl rfl)
theorem dX3_runs_89 : decode cX3_runs 89 = .ok (.invokevirtual 467, 3) := dk_182 1 211 (dk_at dksX3_runs_3 19 rfl rfl)
theorem dX3_runs_92 : decode cX3_runs 92 = .ok (.iload 6, 2) := dk_21 6 (dk_at dksX3_runs_3 22 rfl rfl)
theorem dX3_runs_94 : decode cX3_runs 94 = .ok (.aload_n 0, 1) := dk_42 (dk_at dksX3_runs_4 0 rfl rfl)
theorem dX3_runs_95 : decode cX3_runs 95 = .ok (.getfield 452, 3) := dk_180 1 196 (dk_at dksX3_runs_4 1 rfl rfl)
theorem dX3_runs_98 : decode cX3_runs 98 = .ok (.iload 5, 2) := dk_21 5 (dk_at dksX3_runs_4 4 rfl rfl)
theorem dX3_runs_100 : decode cX3_runs 100 = .ok (.if_icmp .ne 7, 3) := dk_160 0 7 (dk_at dksX3_runs_4 6 rfl rfl)
theorem dX3_runs_103 : decode cX3_runs 103 = .ok (.iconst 1, 1) := dk_4 (dk_at dksX3_runs_4 9 rfl rfl)
theorem dX3_runs_104 : decode cX3_runs 104 = .ok (.goto 4, 3) := dk_167 0 4 (dk_at dksX3_runs_4 10 rfl rfl)
theorem dX3_runs_107 : decode cX3_runs 107 = .ok (.iconst 0, 1) := dk_3 (dk_at dksX3_runs_4 13 rfl rfl)
theorem dX3_runs_108 : decode cX3_runs 108 = .ok (.iadd, 1) := dk_96 (dk_at dksX3_runs_4 14 rfl rfl)
theorem dX3_runs_109 : decode cX3_runs 109 = .ok (.istore 6, 2) := dk_54 6 (dk_at dksX3_runs_4 15 rfl rfl)
theorem dX3_runs_111 : decode cX3_runs 111 = .ok (.iinc 7 1, 3) := dk_132 7 1 (dk_at dksX3_runs_4 17 rfl rfl)
theorem dX3_runs_114 : decode cX3_runs 114 = .ok (.goto (-39), 3) := dk_167 255 217 (dk_at dksX3_runs_4 20 rfl rfl)
theorem dX3_runs_117 : decode cX3_runs 117 = .ok (.iload 6, 2) := dk_21 6 (dk_at dksX3_runs_5 0 rfl rfl)
theorem dX3_runs_119 : decode cX3_runs 119 = .ok (.ireturn, 1) := dk_172 (dk_at dksX3_runs_5 2 rfl rfl)
abbrev cX3_image : ByteArray := prog_17_method_128_code
def yX3_image : MethodName := ⟨RX3, "image", "()I"⟩
def dkwX3_image_0 : List UInt8 := [42, 180, 0, 7, 42, 180, 0, 13, 184, 0, 86, 42, 180, 0, 7, 3, 46, 172]
abbrev dktX3_image_0 : List UInt8 := dkwX3_image_0 ++ []
theorem dksX3_image_0 : cX3_image.data.toList.drop 0 = dktX3_image_0 := by decide +kernel
theorem dX3_image_0 : decode cX3_image 0 = .ok (.aload_n 0, 1) := dk_42 (dk_at dksX3_image_0 0 rfl rfl)
theorem dX3_image_1 : decode cX3_image 1 = .ok (.getfield 7, 3) := dk_180 0 7 (dk_at dksX3_image_0 1 rfl rfl)
theorem dX3_image_4 : decode cX3_image 4 = .ok (.aload_n 0, 1) := dk_42 (dk_at dksX3_image_0 4 rfl rfl)
theorem dX3_image_5 : decode cX3_image 5 = .ok (.getfield 13, 3) := dk_180 0 13 (dk_at dksX3_image_0 5 rfl rfl)
theorem dX3_image_8 : decode cX3_image 8 = .ok (.invokestatic 86, 3) := dk_184 0 86 (dk_at dksX3_image_0 8 rfl rfl)
theorem dX3_image_11 : decode cX3_image 11 = .ok (.aload_n 0, 1) := dk_42 (dk_at dksX3_image_0 11 rfl rfl)
theorem dX3_image_12 : decode cX3_image 12 = .ok (.getfield 7, 3) := dk_180 0 7 (dk_at dksX3_image_0 12 rfl rfl)
theorem dX3_image_15 : decode cX3_image 15 = .ok (.iconst 0, 1) := dk_3 (dk_at dksX3_image_0 15 rfl rfl)
theorem dX3_image_16 : decode cX3_image 16 = .ok (.iaload, 1) := dk_46 (dk_at dksX3_image_0 16 rfl rfl)
theorem dX3_image_17 : decode cX3_image 17 = .ok (.ireturn, 1) := dk_172 (dk_at dksX3_image_0 17 rfl rfl)
abbrev cX3_back : ByteArray := prog_17_method_129_code
def yX3_back : MethodName := ⟨RX3, "back", "()I"⟩
def dkwX3_back_0 : List UInt8 := [42, 180, 0, 13, 42, 180, 0, 7, 184, 0, 86, 42, 180, 0, 7, 3, 46, 172]
abbrev dktX3_back_0 : List UInt8 := dkwX3_back_0 ++ []
theorem dksX3_back_0 : cX3_back.data.toList.drop 0 = dktX3_back_0 := by decide +kernel
theorem dX3_back_0 : decode cX3_back 0 = .ok (.aload_n 0, 1) := dk_42 (dk_at dksX3_back_0 0 rfl rfl)
theorem dX3_back_1 : decode cX3_back 1 = .ok (.getfield 13, 3) := dk_180 0 13 (dk_at dksX3_back_0 1 rfl rfl)
theorem dX3_back_4 : decode cX3_back 4 = .ok (.aload_n 0, 1) := dk_42 (dk_at dksX3_back_0 4 rfl rfl)
theorem dX3_back_5 : decode cX3_back 5 = .ok (.getfield 7, 3) := dk_180 0 7 (dk_at dksX3_back_0 5 rfl rfl)
theorem dX3_back_8 : decode cX3_back 8 = .ok (.invokestatic 86, 3) := dk_184 0 86 (dk_at dksX3_back_0 8 rfl rfl)
theorem dX3_back_11 : decode cX3_back 11 = .ok (.aload_n 0, 1) := dk_42 (dk_at dksX3_back_0 11 rfl rfl)
theorem dX3_back_12 : decode cX3_back 12 = .ok (.getfield 7, 3) := dk_180 0 7 (dk_at dksX3_back_0 12 rfl rfl)
theorem dX3_back_15 : decode cX3_back 15 = .ok (.iconst 0, 1) := dk_3 (dk_at dksX3_back_0 15 rfl rfl)
theorem dX3_back_16 : decode cX3_back 16 = .ok (.iaload, 1) := dk_46 (dk_at dksX3_back_0 16 rfl rfl)
theorem dX3_back_17 : decode cX3_back 17 = .ok (.ireturn, 1) := dk_172 (dk_at dksX3_back_0 17 rfl rfl)
abbrev cX3_about : ByteArray := prog_17_method_130_code
def yX3_about : MethodName := ⟨RX3, "about", "(I)I"⟩
def dkwX3_about_5 : List UInt8 := [180, 0, 112, 172, 42, 180, 0, 7, 16, 8, 46, 172, 16, 254, 172]
abbrev dktX3_about_5 : List UInt8 := dkwX3_about_5 ++ []
def dkwX3_about_4 : List UInt8 := [180, 0, 7, 8, 46, 172, 42, 180, 0, 7, 16, 6, 46, 172, 42, 180, 0, 7, 16, 7, 46, 172, 42]
abbrev dktX3_about_4 : List UInt8 := dkwX3_about_4 ++ dktX3_about_5
def dkwX3_about_3 : List UInt8 := [42, 180, 0, 7, 5, 46, 172, 42, 180, 0, 7, 6, 46, 172, 42, 180, 0, 7, 7, 46, 172, 42]
abbrev dktX3_about_3 : List UInt8 := dkwX3_about_3 ++ dktX3_about_4
def dkwX3_about_2 : List UInt8 := [42, 180, 0, 77, 172, 42, 180, 0, 80, 172, 42, 180, 0, 7, 3, 46, 172, 42, 180, 0, 7, 4, 46, 172]
abbrev dktX3_about_2 : List UInt8 := dkwX3_about_2 ++ dktX3_about_3
def dkwX3_about_1 : List UInt8 := [170, 0, 0, 0, 0, 0, 144, 0, 0, 0, 0, 0, 0, 0, 11, 0, 0, 0, 63, 0, 0, 0, 68, 0, 0, 0, 73, 0, 0, 0, 80, 0, 0, 0, 87, 0, 0, 0, 94, 0, 0, 0, 101, 0, 0, 0, 108, 0, 0, 0, 115, 0, 0, 0, 123, 0, 0, 0, 131, 0, 0, 0, 136]
abbrev dktX3_about_1 : List UInt8 := dkwX3_about_1 ++ dktX3_about_2
def dkwX3_about_0 : List UInt8 := [27]
abbrev dktX3_about_0 : List UInt8 := dkwX3_about_0 ++ dktX3_about_1
theorem dksX3_about_0 : cX3_about.data.toList.drop 0 = dktX3_about_0 := by decide +kernel
theorem dksX3_about_1 : cX3_about.data.toList.drop 1 = dktX3_about_1 := dk_seg dksX3_about_0 1 rfl rfl
theorem dksX3_about_2 : cX3_about.data.toList.drop 64 = dktX3_about_2 := dk_seg dksX3_about_1 63 rfl rfl
theorem dksX3_about_3 : cX3_about.data.toList.drop 88 = dktX3_about_3 := dk_seg dksX3_about_2 24 rfl rfl
theorem dksX3_about_4 : cX3_about.data.toList.drop 110 = dktX3_about_4 := dk_seg dksX3_about_3 22 rfl rfl
theorem dksX3_about_5 : cX3_about.data.toList.drop 133 = dktX3_about_5 := dk_seg dksX3_about_4 23 rfl rfl
theorem dX3_about_0 : decode cX3_about 0 = .ok (.iload_n 1, 1) := dk_27 (dk_at dksX3_about_0 0 rfl rfl)
theorem dX3_about_1 : decode cX3_about 1 = .ok (.tableswitch 144 0 11 #[63, 68, 73, 80, 87, 94, 101, 108, 115, 123, 131, 136], 63) := by decide +kernel
theorem dX3_about_64 : decode cX3_about 64 = .ok (.aload_n 0, 1) := dk_42 (dk_at dksX3_about_2 0 rfl rfl)
theorem dX3_about_65 : decode cX3_about 65 = .ok (.getfield 77, 3) := dk_180 0 77 (dk_at dksX3_about_2 1 rfl rfl)
theorem dX3_about_68 : decode cX3_about 68 = .ok (.ireturn, 1) := dk_172 (dk_at dksX3_about_2 4 rfl rfl)
theorem dX3_about_69 : decode cX3_about 69 = .ok (.aload_n 0, 1) := dk_42 (dk_at dksX3_about_2 5 rfl rfl)
theorem dX3_about_70 : decode cX3_about 70 = .ok (.getfield 80, 3) := dk_180 0 80 (dk_at dksX3_about_2 6 rfl rfl)
theorem dX3_about_73 : decode cX3_about 73 = .ok (.ireturn, 1) := dk_172 (dk_at dksX3_about_2 9 rfl rfl)
theorem dX3_about_74 : decode cX3_about 74 = .ok (.aload_n 0, 1) := dk_42 (dk_at dksX3_about_2 10 rfl rfl)
theorem dX3_about_75 : decode cX3_about 75 = .ok (.getfield 7, 3) := dk_180 0 7 (dk_at dksX3_about_2 11 rfl rfl)
theorem dX3_about_78 : decode cX3_about 78 = .ok (.iconst 0, 1) := dk_3 (dk_at dksX3_about_2 14 rfl rfl)
theorem dX3_about_79 : decode cX3_about 79 = .ok (.iaload, 1) := dk_46 (dk_at dksX3_about_2 15 rfl rfl)
theorem dX3_about_80 : decode cX3_about 80 = .ok (.ireturn, 1) := dk_172 (dk_at dksX3_about_2 16 rfl rfl)
theorem dX3_about_81 : decode cX3_about 81 = .ok (.aload_n 0, 1) := dk_42 (dk_at dksX3_about_2 17 rfl rfl)
theorem dX3_about_82 : decode cX3_about 82 = .ok (.getfield 7, 3) := dk_180 0 7 (dk_at dksX3_about_2 18 rfl rfl)
theorem dX3_about_85 : decode cX3_about 85 = .ok (.iconst 1, 1) := dk_4 (dk_at dksX3_about_2 21 rfl rfl)
theorem dX3_about_86 : decode cX3_about 86 = .ok (.iaload, 1) := dk_46 (dk_at dksX3_about_2 22 rfl rfl)
theorem dX3_about_87 : decode cX3_about 87 = .ok (.ireturn, 1) := dk_172 (dk_at dksX3_about_2 23 rfl rfl)
theorem dX3_about_88 : decode cX3_about 88 = .ok (.aload_n 0, 1) := dk_42 (dk_at dksX3_about_3 0 rfl rfl)
theorem dX3_about_89 : decode cX3_about 89 = .ok (.getfield 7, 3) := dk_180 0 7 (dk_at dksX3_about_3 1 rfl rfl)
theorem dX3_about_92 : decode cX3_about 92 = .ok (.iconst 2, 1) := dk_5 (dk_at dksX3_about_3 4 rfl rfl)
theorem dX3_about_93 : decode cX3_about 93 = .ok (.iaload, 1) := dk_46 (dk_at dksX3_about_3 5 rfl rfl)
theorem dX3_about_94 : decode cX3_about 94 = .ok (.ireturn, 1) := dk_172 (dk_at dksX3_about_3 6 rfl rfl)
theorem dX3_about_95 : decode cX3_about 95 = .ok (.aload_n 0, 1) := dk_42 (dk_at dksX3_about_3 7 rfl rfl)
theorem dX3_about_96 : decode cX3_about 96 = .ok (.getfield 7, 3) := dk_180 0 7 (dk_at dksX3_about_3 8 rfl rfl)
theorem dX3_about_99 : decode cX3_about 99 = .ok (.iconst 3, 1) := dk_6 (dk_at dksX3_about_3 11 rfl rfl)
theorem dX3_about_100 : decode cX3_about 100 = .ok (.iaload, 1) := dk_46 (dk_at dksX3_about_3 12 rfl rfl)
theorem dX3_about_101 : decode cX3_about 101 = .ok (.ireturn, 1) := dk_172 (dk_at dksX3_about_3 13 rfl rfl)
theorem dX3_about_102 : decode cX3_about 102 = .ok (.aload_n 0, 1) := dk_42 (dk_at dksX3_about_3 14 rfl rfl)
theorem dX3_about_103 : decode cX3_about 103 = .ok (.getfield 7, 3) := dk_180 0 7 (dk_at dksX3_about_3 15 rfl rfl)
theorem dX3_about_106 : decode cX3_about 106 = .ok (.iconst 4, 1) := dk_7 (dk_at dksX3_about_3 18 rfl rfl)
theorem dX3_about_107 : decode cX3_about 107 = .ok (.iaload, 1) := dk_46 (dk_at dksX3_about_3 19 rfl rfl)
theorem dX3_about_108 : decode cX3_about 108 = .ok (.ireturn, 1) := dk_172 (dk_at dksX3_about_3 20 rfl rfl)
theorem dX3_about_109 : decode cX3_about 109 = .ok (.aload_n 0, 1) := dk_42 (dk_at dksX3_about_3 21 rfl rfl)
theorem dX3_about_110 : decode cX3_about 110 = .ok (.getfield 7, 3) := dk_180 0 7 (dk_at dksX3_about_4 0 rfl rfl)
theorem dX3_about_113 : decode cX3_about 113 = .ok (.iconst 5, 1) := dk_8 (dk_at dksX3_about_4 3 rfl rfl)
theorem dX3_about_114 : decode cX3_about 114 = .ok (.iaload, 1) := dk_46 (dk_at dksX3_about_4 4 rfl rfl)
theorem dX3_about_115 : decode cX3_about 115 = .ok (.ireturn, 1) := dk_172 (dk_at dksX3_about_4 5 rfl rfl)
theorem dX3_about_116 : decode cX3_about 116 = .ok (.aload_n 0, 1) := dk_42 (dk_at dksX3_about_4 6 rfl rfl)
theorem dX3_about_117 : decode cX3_about 117 = .ok (.getfield 7, 3) := dk_180 0 7 (dk_at dksX3_about_4 7 rfl rfl)
theorem dX3_about_120 : decode cX3_about 120 = .ok (.bipush 6, 2) := dk_16 6 (dk_at dksX3_about_4 10 rfl rfl)
theorem dX3_about_122 : decode cX3_about 122 = .ok (.iaload, 1) := dk_46 (dk_at dksX3_about_4 12 rfl rfl)
theorem dX3_about_123 : decode cX3_about 123 = .ok (.ireturn, 1) := dk_172 (dk_at dksX3_about_4 13 rfl rfl)
theorem dX3_about_124 : decode cX3_about 124 = .ok (.aload_n 0, 1) := dk_42 (dk_at dksX3_about_4 14 rfl rfl)
theorem dX3_about_125 : decode cX3_about 125 = .ok (.getfield 7, 3) := dk_180 0 7 (dk_at dksX3_about_4 15 rfl rfl)
theorem dX3_about_128 : decode cX3_about 128 = .ok (.bipush 7, 2) := dk_16 7 (dk_at dksX3_about_4 18 rfl rfl)
theorem dX3_about_130 : decode cX3_about 130 = .ok (.iaload, 1) := dk_46 (dk_at dksX3_about_4 20 rfl rfl)
theorem dX3_about_131 : decode cX3_about 131 = .ok (.ireturn, 1) := dk_172 (dk_at dksX3_about_4 21 rfl rfl)
theorem dX3_about_132 : decode cX3_about 132 = .ok (.aload_n 0, 1) := dk_42 (dk_at dksX3_about_4 22 rfl rfl)
theorem dX3_about_133 : decode cX3_about 133 = .ok (.getfield 112, 3) := dk_180 0 112 (dk_at dksX3_about_5 0 rfl rfl)
theorem dX3_about_136 : decode cX3_about 136 = .ok (.ireturn, 1) := dk_172 (dk_at dksX3_about_5 3 rfl rfl)
theorem dX3_about_137 : decode cX3_about 137 = .ok (.aload_n 0, 1) := dk_42 (dk_at dksX3_about_5 4 rfl rfl)
theorem dX3_about_138 : decode cX3_about 138 = .ok (.getfield 7, 3) := dk_180 0 7 (dk_at dksX3_about_5 5 rfl rfl)
theorem dX3_about_141 : decode cX3_about 141 = .ok (.bipush 8, 2) := dk_16 8 (dk_at dksX3_about_5 8 rfl rfl)
theorem dX3_about_143 : decode cX3_about 143 = .ok (.iaload, 1) := dk_46 (dk_at dksX3_about_5 10 rfl rfl)
theorem dX3_about_144 : decode cX3_about 144 = .ok (.ireturn, 1) := dk_172 (dk_at dksX3_about_5 11 rfl rfl)
theorem dX3_about_145 : decode cX3_about 145 = .ok (.bipush (-2), 2) := dk_16 254 (dk_at dksX3_about_5 12 rfl rfl)
theorem dX3_about_147 : decode cX3_about 147 = .ok (.ireturn, 1) := dk_172 (dk_at dksX3_about_5 14 rfl rfl)
theorem q130 : (Jvm.Cond.initialized "ThroughPackModel") ∈ lw_all := lw_g (lw_at lw_m1 6 rfl) rfl
theorem q795 : (Jvm.Cond.selects "ThroughPackModel" ({ cls := "java/lang/Object", name := "getClass", desc := "()Ljava/lang/Class;" } : Jvm.MethodName) ({ cls := "java/lang/Object", name := "getClass", desc := "()Ljava/lang/Class;" } : Jvm.MethodName)) ∈ lw_all := lw_g (lw_at lw_m3 191 rfl) rfl
theorem q1243 : (Jvm.Cond.instantiable "ThroughPackModel" (47 : Nat)) ∈ lw_all := lw_g (lw_at lw_m5 159 rfl) rfl
theorem q1245 : (Jvm.Cond.instanceMethod ({ cls := "ThroughPackModel", name := "<init>", desc := "(II)V" } : Jvm.MethodName)) ∈ lw_all := lw_g (lw_at lw_m5 161 rfl) rfl
theorem q1246 : (Jvm.Cond.code ({ cls := "ThroughPackModel", name := "<init>", desc := "(II)V" } : Jvm.MethodName) prog_17_method_1_code (4 : Nat) (Option.none : Option Jvm.ClassFile.FieldType)) ∈ lw_all := lw_g (lw_at lw_m5 162 rfl) rfl
theorem q1247 : (Jvm.Cond.methodLink "ThroughPackModel" (1 : Nat) ({ cls := "java/lang/Object", name := "<init>", desc := "()V" } : Jvm.MethodName)) ∈ lw_all := lw_g (lw_at lw_m5 163 rfl) rfl
theorem q1248 : (Jvm.Cond.constant "ThroughPackModel" (52 : Nat) (93600 : Int32)) ∈ lw_all := lw_g (lw_at lw_m5 164 rfl) rfl
theorem q1249 : (Jvm.Cond.methodLink "ThroughPackModel" (86 : Nat) ({ cls := "ThroughPackModel", name := "copyRow", desc := "([I[I)V" } : Jvm.MethodName)) ∈ lw_all := lw_g (lw_at lw_m5 165 rfl) rfl
theorem q1250 : (Jvm.Cond.static ({ cls := "ThroughPackModel", name := "copyRow", desc := "([I[I)V" } : Jvm.MethodName)) ∈ lw_all := lw_g (lw_at lw_m5 166 rfl) rfl
theorem q1251 : (Jvm.Cond.code ({ cls := "ThroughPackModel", name := "copyRow", desc := "([I[I)V" } : Jvm.MethodName) prog_17_method_2_code (3 : Nat) (Option.none : Option Jvm.ClassFile.FieldType)) ∈ lw_all := lw_g (lw_at lw_m5 167 rfl) rfl
theorem q1252 : (Jvm.Cond.fieldLink "ThroughPackModel" (77 : Nat) "ThroughPackModel" "wide" "I") ∈ lw_all := lw_g (lw_at lw_m5 168 rfl) rfl
theorem q1253 : (Jvm.Cond.fieldLink "ThroughPackModel" (80 : Nat) "ThroughPackModel" "high" "I") ∈ lw_all := lw_g (lw_at lw_m5 169 rfl) rfl
theorem q1254 : (Jvm.Cond.fieldLink "ThroughPackModel" (83 : Nat) "ThroughPackModel" "cells" "I") ∈ lw_all := lw_g (lw_at lw_m5 170 rfl) rfl
theorem q1255 : (Jvm.Cond.fieldLink "ThroughPackModel" (7 : Nat) "ThroughPackModel" "a" "[I") ∈ lw_all := lw_g (lw_at lw_m5 171 rfl) rfl
theorem q1256 : (Jvm.Cond.fieldLink "ThroughPackModel" (13 : Nat) "ThroughPackModel" "image" "[I") ∈ lw_all := lw_g (lw_at lw_m5 172 rfl) rfl
theorem q1257 : (Jvm.Cond.fieldLink "ThroughPackModel" (16 : Nat) "ThroughPackModel" "texts" "[I") ∈ lw_all := lw_g (lw_at lw_m5 173 rfl) rfl
theorem q1258 : (Jvm.Cond.fieldLink "ThroughPackModel" (19 : Nat) "ThroughPackModel" "tape" "[I") ∈ lw_all := lw_g (lw_at lw_m5 174 rfl) rfl
theorem q1259 : (Jvm.Cond.fieldLink "ThroughPackModel" (112 : Nat) "ThroughPackModel" "taped" "I") ∈ lw_all := lw_g (lw_at lw_m5 175 rfl) rfl
theorem q1260 : (Jvm.Cond.fieldLink "ThroughPackModel" (22 : Nat) "ThroughPackModel" "fault" "I") ∈ lw_all := lw_g (lw_at lw_m5 176 rfl) rfl
theorem q1261 : (Jvm.Cond.fieldLink "ThroughPackModel" (26 : Nat) "ThroughPackModel" "faultPlace" "I") ∈ lw_all := lw_g (lw_at lw_m5 177 rfl) rfl
theorem q1262 : (Jvm.Cond.fieldLink "ThroughPackModel" (119 : Nat) "ThroughPackModel" "at" "I") ∈ lw_all := lw_g (lw_at lw_m5 178 rfl) rfl
theorem q1263 : (Jvm.Cond.fieldLink "ThroughPackModel" (126 : Nat) "ThroughPackModel" "place" "I") ∈ lw_all := lw_g (lw_at lw_m5 179 rfl) rfl
theorem q1264 : (Jvm.Cond.fieldLink "ThroughPackModel" (129 : Nat) "ThroughPackModel" "token" "I") ∈ lw_all := lw_g (lw_at lw_m5 180 rfl) rfl
theorem q1265 : (Jvm.Cond.fieldLink "ThroughPackModel" (135 : Nat) "ThroughPackModel" "number" "I") ∈ lw_all := lw_g (lw_at lw_m5 181 rfl) rfl
theorem q1266 : (Jvm.Cond.fieldLink "ThroughPackModel" (142 : Nat) "ThroughPackModel" "word" "J") ∈ lw_all := lw_g (lw_at lw_m5 182 rfl) rfl
theorem q1267 : (Jvm.Cond.fieldLink "ThroughPackModel" (154 : Nat) "ThroughPackModel" "text0" "I") ∈ lw_all := lw_g (lw_at lw_m5 183 rfl) rfl
theorem q1268 : (Jvm.Cond.fieldLink "ThroughPackModel" (157 : Nat) "ThroughPackModel" "written" "I") ∈ lw_all := lw_g (lw_at lw_m5 184 rfl) rfl
theorem q1269 : (Jvm.Cond.fieldLink "ThroughPackModel" (29 : Nat) "ThroughPackModel" "pile" "[I") ∈ lw_all := lw_g (lw_at lw_m5 185 rfl) rfl
theorem q1270 : (Jvm.Cond.fieldLink "ThroughPackModel" (160 : Nat) "ThroughPackModel" "piled" "I") ∈ lw_all := lw_g (lw_at lw_m5 186 rfl) rfl
theorem q1271 : (Jvm.Cond.fieldLink "ThroughPackModel" (167 : Nat) "ThroughPackModel" "opens" "I") ∈ lw_all := lw_g (lw_at lw_m5 187 rfl) rfl
theorem q1272 : (Jvm.Cond.fieldLink "ThroughPackModel" (163 : Nat) "ThroughPackModel" "isWhole" "Z") ∈ lw_all := lw_g (lw_at lw_m5 188 rfl) rfl
theorem q1273 : (Jvm.Cond.fieldLink "ThroughPackModel" (186 : Nat) "ThroughPackModel" "sort0" "I") ∈ lw_all := lw_g (lw_at lw_m5 189 rfl) rfl
theorem q1274 : (Jvm.Cond.fieldLink "ThroughPackModel" (240 : Nat) "ThroughPackModel" "once" "I") ∈ lw_all := lw_g (lw_at lw_m5 190 rfl) rfl
theorem q1275 : (Jvm.Cond.fieldLink "ThroughPackModel" (32 : Nat) "ThroughPackModel" "named" "[I") ∈ lw_all := lw_g (lw_at lw_m5 191 rfl) rfl
theorem q1276 : (Jvm.Cond.fieldLink "ThroughPackModel" (35 : Nat) "ThroughPackModel" "values" "[J") ∈ lw_all := lw_g (lw_at lw_m5 192 rfl) rfl
theorem q1277 : (Jvm.Cond.fieldLink "ThroughPackModel" (39 : Nat) "ThroughPackModel" "truth" "[Z") ∈ lw_all := lw_g (lw_at lw_m5 193 rfl) rfl
theorem q1278 : (Jvm.Cond.fieldLink "ThroughPackModel" (43 : Nat) "ThroughPackModel" "seas" "[I") ∈ lw_all := lw_g (lw_at lw_m5 194 rfl) rfl
theorem q1279 : (Jvm.Cond.fieldLink "ThroughPackModel" (46 : Nat) "ThroughPackModel" "push" "[I") ∈ lw_all := lw_g (lw_at lw_m5 195 rfl) rfl
theorem q1280 : (Jvm.Cond.fieldLink "ThroughPackModel" (49 : Nat) "ThroughPackModel" "bites" "[Z") ∈ lw_all := lw_g (lw_at lw_m5 196 rfl) rfl
theorem q1281 : (Jvm.Cond.fieldLink "ThroughPackModel" (53 : Nat) "ThroughPackModel" "out" "[I") ∈ lw_all := lw_g (lw_at lw_m5 197 rfl) rfl
theorem q1282 : (Jvm.Cond.fieldLink "ThroughPackModel" (376 : Nat) "ThroughPackModel" "followed" "I") ∈ lw_all := lw_g (lw_at lw_m5 198 rfl) rfl
theorem q1283 : (Jvm.Cond.fieldLink "ThroughPackModel" (56 : Nat) "ThroughPackModel" "cellAt" "[I") ∈ lw_all := lw_g (lw_at lw_m5 199 rfl) rfl
theorem q1284 : (Jvm.Cond.fieldLink "ThroughPackModel" (59 : Nat) "ThroughPackModel" "coalAt" "[I") ∈ lw_all := lw_g (lw_at lw_m5 200 rfl) rfl
theorem q1285 : (Jvm.Cond.fieldLink "ThroughPackModel" (62 : Nat) "ThroughPackModel" "firesAt" "[I") ∈ lw_all := lw_g (lw_at lw_m5 201 rfl) rfl
theorem q1286 : (Jvm.Cond.fieldLink "ThroughPackModel" (65 : Nat) "ThroughPackModel" "homes" "[Z") ∈ lw_all := lw_g (lw_at lw_m5 202 rfl) rfl
theorem q1287 : (Jvm.Cond.fieldLink "ThroughPackModel" (68 : Nat) "ThroughPackModel" "here" "[Z") ∈ lw_all := lw_g (lw_at lw_m5 203 rfl) rfl
theorem q1288 : (Jvm.Cond.fieldLink "ThroughPackModel" (71 : Nat) "ThroughPackModel" "then" "[Z") ∈ lw_all := lw_g (lw_at lw_m5 204 rfl) rfl
theorem q1289 : (Jvm.Cond.fieldLink "ThroughPackModel" (411 : Nat) "ThroughPackModel" "begins" "I") ∈ lw_all := lw_g (lw_at lw_m5 205 rfl) rfl
theorem q1290 : (Jvm.Cond.fieldLink "ThroughPackModel" (74 : Nat) "ThroughPackModel" "keptAhead" "[I") ∈ lw_all := lw_g (lw_at lw_m5 206 rfl) rfl
theorem q1291 : (Jvm.Cond.fieldLink "ThroughPackModel" (434 : Nat) "ThroughPackModel" "ranCell" "I") ∈ lw_all := lw_g (lw_at lw_m5 207 rfl) rfl
theorem q1292 : (Jvm.Cond.fieldLink "ThroughPackModel" (437 : Nat) "ThroughPackModel" "ranCoal" "I") ∈ lw_all := lw_g (lw_at lw_m5 208 rfl) rfl
theorem q1293 : (Jvm.Cond.fieldLink "ThroughPackModel" (440 : Nat) "ThroughPackModel" "ranBanked" "I") ∈ lw_all := lw_g (lw_at lw_m5 209 rfl) rfl
theorem q1294 : (Jvm.Cond.fieldLink "ThroughPackModel" (452 : Nat) "ThroughPackModel" "ranState" "I") ∈ lw_all := lw_g (lw_at lw_m5 210 rfl) rfl
theorem q1295 : (Jvm.Cond.fieldLink "ThroughPackModel" (446 : Nat) "ThroughPackModel" "ranWatches" "I") ∈ lw_all := lw_g (lw_at lw_m5 211 rfl) rfl
theorem q1296 : (Jvm.Cond.fieldLink "ThroughPackModel" (443 : Nat) "ThroughPackModel" "ranWind" "I") ∈ lw_all := lw_g (lw_at lw_m5 212 rfl) rfl
theorem q1297 : (Jvm.Cond.laysFinal "ThroughPackModel" "ThroughPackModel" "wide" "I") ∈ lw_all := lw_g (lw_at lw_m5 213 rfl) rfl
theorem q1298 : (Jvm.Cond.soleField "ThroughPackModel" "wide") ∈ lw_all := lw_g (lw_at lw_m5 214 rfl) rfl
theorem q1299 : (Jvm.Cond.laysFinal "ThroughPackModel" "ThroughPackModel" "high" "I") ∈ lw_all := lw_g (lw_at lw_m5 215 rfl) rfl
theorem q1300 : (Jvm.Cond.soleField "ThroughPackModel" "high") ∈ lw_all := lw_g (lw_at lw_m5 216 rfl) rfl
theorem q1301 : (Jvm.Cond.laysFinal "ThroughPackModel" "ThroughPackModel" "cells" "I") ∈ lw_all := lw_g (lw_at lw_m5 217 rfl) rfl
theorem q1302 : (Jvm.Cond.soleField "ThroughPackModel" "cells") ∈ lw_all := lw_g (lw_at lw_m5 218 rfl) rfl
theorem q1303 : (Jvm.Cond.laysFinal "ThroughPackModel" "ThroughPackModel" "a" "[I") ∈ lw_all := lw_g (lw_at lw_m5 219 rfl) rfl
theorem q1304 : (Jvm.Cond.soleField "ThroughPackModel" "a") ∈ lw_all := lw_g (lw_at lw_m5 220 rfl) rfl
theorem q1305 : (Jvm.Cond.laysFinal "ThroughPackModel" "ThroughPackModel" "image" "[I") ∈ lw_all := lw_g (lw_at lw_m5 221 rfl) rfl
theorem q1306 : (Jvm.Cond.soleField "ThroughPackModel" "image") ∈ lw_all := lw_g (lw_at lw_m5 222 rfl) rfl
theorem q1307 : (Jvm.Cond.laysFinal "ThroughPackModel" "ThroughPackModel" "texts" "[I") ∈ lw_all := lw_g (lw_at lw_m5 223 rfl) rfl
theorem q1308 : (Jvm.Cond.soleField "ThroughPackModel" "texts") ∈ lw_all := lw_g (lw_at lw_m5 224 rfl) rfl
theorem q1309 : (Jvm.Cond.laysFinal "ThroughPackModel" "ThroughPackModel" "tape" "[I") ∈ lw_all := lw_g (lw_at lw_m5 225 rfl) rfl
theorem q1310 : (Jvm.Cond.soleField "ThroughPackModel" "tape") ∈ lw_all := lw_g (lw_at lw_m5 226 rfl) rfl
theorem q1311 : (Jvm.Cond.lays "ThroughPackModel" "ThroughPackModel" "taped" "I") ∈ lw_all := lw_g (lw_at lw_m5 227 rfl) rfl
theorem q1312 : (Jvm.Cond.soleField "ThroughPackModel" "taped") ∈ lw_all := lw_g (lw_at lw_m5 228 rfl) rfl
theorem q1313 : (Jvm.Cond.lays "ThroughPackModel" "ThroughPackModel" "fault" "I") ∈ lw_all := lw_g (lw_at lw_m5 229 rfl) rfl
theorem q1314 : (Jvm.Cond.soleField "ThroughPackModel" "fault") ∈ lw_all := lw_g (lw_at lw_m5 230 rfl) rfl
theorem q1315 : (Jvm.Cond.lays "ThroughPackModel" "ThroughPackModel" "faultPlace" "I") ∈ lw_all := lw_g (lw_at lw_m5 231 rfl) rfl
theorem q1316 : (Jvm.Cond.soleField "ThroughPackModel" "faultPlace") ∈ lw_all := lw_g (lw_at lw_m5 232 rfl) rfl
theorem q1317 : (Jvm.Cond.lays "ThroughPackModel" "ThroughPackModel" "at" "I") ∈ lw_all := lw_g (lw_at lw_m5 233 rfl) rfl
theorem q1318 : (Jvm.Cond.soleField "ThroughPackModel" "at") ∈ lw_all := lw_g (lw_at lw_m5 234 rfl) rfl
theorem q1319 : (Jvm.Cond.lays "ThroughPackModel" "ThroughPackModel" "place" "I") ∈ lw_all := lw_g (lw_at lw_m5 235 rfl) rfl
theorem q1320 : (Jvm.Cond.soleField "ThroughPackModel" "place") ∈ lw_all := lw_g (lw_at lw_m5 236 rfl) rfl
theorem q1321 : (Jvm.Cond.lays "ThroughPackModel" "ThroughPackModel" "token" "I") ∈ lw_all := lw_g (lw_at lw_m5 237 rfl) rfl
theorem q1322 : (Jvm.Cond.soleField "ThroughPackModel" "token") ∈ lw_all := lw_g (lw_at lw_m5 238 rfl) rfl
theorem q1323 : (Jvm.Cond.lays "ThroughPackModel" "ThroughPackModel" "number" "I") ∈ lw_all := lw_g (lw_at lw_m5 239 rfl) rfl
theorem q1324 : (Jvm.Cond.soleField "ThroughPackModel" "number") ∈ lw_all := lw_g (lw_at lw_m6 0 rfl) rfl
theorem q1325 : (Jvm.Cond.lays "ThroughPackModel" "ThroughPackModel" "word" "J") ∈ lw_all := lw_g (lw_at lw_m6 1 rfl) rfl
theorem q1326 : (Jvm.Cond.soleField "ThroughPackModel" "word") ∈ lw_all := lw_g (lw_at lw_m6 2 rfl) rfl
theorem q1327 : (Jvm.Cond.lays "ThroughPackModel" "ThroughPackModel" "text0" "I") ∈ lw_all := lw_g (lw_at lw_m6 3 rfl) rfl
theorem q1328 : (Jvm.Cond.soleField "ThroughPackModel" "text0") ∈ lw_all := lw_g (lw_at lw_m6 4 rfl) rfl
theorem q1329 : (Jvm.Cond.lays "ThroughPackModel" "ThroughPackModel" "clauses" "I") ∈ lw_all := lw_g (lw_at lw_m6 5 rfl) rfl
theorem q1330 : (Jvm.Cond.soleField "ThroughPackModel" "clauses") ∈ lw_all := lw_g (lw_at lw_m6 6 rfl) rfl
theorem q1331 : (Jvm.Cond.lays "ThroughPackModel" "ThroughPackModel" "written" "I") ∈ lw_all := lw_g (lw_at lw_m6 7 rfl) rfl
theorem q1332 : (Jvm.Cond.soleField "ThroughPackModel" "written") ∈ lw_all := lw_g (lw_at lw_m6 8 rfl) rfl
theorem q1333 : (Jvm.Cond.lays "ThroughPackModel" "ThroughPackModel" "came" "I") ∈ lw_all := lw_g (lw_at lw_m6 9 rfl) rfl
theorem q1334 : (Jvm.Cond.soleField "ThroughPackModel" "came") ∈ lw_all := lw_g (lw_at lw_m6 10 rfl) rfl
theorem q1335 : (Jvm.Cond.laysFinal "ThroughPackModel" "ThroughPackModel" "pile" "[I") ∈ lw_all := lw_g (lw_at lw_m6 11 rfl) rfl
theorem q1336 : (Jvm.Cond.soleField "ThroughPackModel" "pile") ∈ lw_all := lw_g (lw_at lw_m6 12 rfl) rfl
theorem q1337 : (Jvm.Cond.lays "ThroughPackModel" "ThroughPackModel" "piled" "I") ∈ lw_all := lw_g (lw_at lw_m6 13 rfl) rfl
theorem q1338 : (Jvm.Cond.soleField "ThroughPackModel" "piled") ∈ lw_all := lw_g (lw_at lw_m6 14 rfl) rfl
theorem q1339 : (Jvm.Cond.lays "ThroughPackModel" "ThroughPackModel" "opens" "I") ∈ lw_all := lw_g (lw_at lw_m6 15 rfl) rfl
theorem q1340 : (Jvm.Cond.soleField "ThroughPackModel" "opens") ∈ lw_all := lw_g (lw_at lw_m6 16 rfl) rfl
theorem q1341 : (Jvm.Cond.lays "ThroughPackModel" "ThroughPackModel" "isWhole" "Z") ∈ lw_all := lw_g (lw_at lw_m6 17 rfl) rfl
theorem q1342 : (Jvm.Cond.soleField "ThroughPackModel" "isWhole") ∈ lw_all := lw_g (lw_at lw_m6 18 rfl) rfl
theorem q1343 : (Jvm.Cond.lays "ThroughPackModel" "ThroughPackModel" "sort0" "I") ∈ lw_all := lw_g (lw_at lw_m6 19 rfl) rfl
theorem q1344 : (Jvm.Cond.soleField "ThroughPackModel" "sort0") ∈ lw_all := lw_g (lw_at lw_m6 20 rfl) rfl
theorem q1345 : (Jvm.Cond.lays "ThroughPackModel" "ThroughPackModel" "once" "I") ∈ lw_all := lw_g (lw_at lw_m6 21 rfl) rfl
theorem q1346 : (Jvm.Cond.soleField "ThroughPackModel" "once") ∈ lw_all := lw_g (lw_at lw_m6 22 rfl) rfl
theorem q1347 : (Jvm.Cond.laysFinal "ThroughPackModel" "ThroughPackModel" "named" "[I") ∈ lw_all := lw_g (lw_at lw_m6 23 rfl) rfl
theorem q1348 : (Jvm.Cond.soleField "ThroughPackModel" "named") ∈ lw_all := lw_g (lw_at lw_m6 24 rfl) rfl
theorem q1349 : (Jvm.Cond.laysFinal "ThroughPackModel" "ThroughPackModel" "values" "[J") ∈ lw_all := lw_g (lw_at lw_m6 25 rfl) rfl
theorem q1350 : (Jvm.Cond.soleField "ThroughPackModel" "values") ∈ lw_all := lw_g (lw_at lw_m6 26 rfl) rfl
theorem q1351 : (Jvm.Cond.laysFinal "ThroughPackModel" "ThroughPackModel" "truth" "[Z") ∈ lw_all := lw_g (lw_at lw_m6 27 rfl) rfl
theorem q1352 : (Jvm.Cond.soleField "ThroughPackModel" "truth") ∈ lw_all := lw_g (lw_at lw_m6 28 rfl) rfl
theorem q1353 : (Jvm.Cond.laysFinal "ThroughPackModel" "ThroughPackModel" "seas" "[I") ∈ lw_all := lw_g (lw_at lw_m6 29 rfl) rfl
theorem q1354 : (Jvm.Cond.soleField "ThroughPackModel" "seas") ∈ lw_all := lw_g (lw_at lw_m6 30 rfl) rfl
theorem q1355 : (Jvm.Cond.laysFinal "ThroughPackModel" "ThroughPackModel" "push" "[I") ∈ lw_all := lw_g (lw_at lw_m6 31 rfl) rfl
theorem q1356 : (Jvm.Cond.soleField "ThroughPackModel" "push") ∈ lw_all := lw_g (lw_at lw_m6 32 rfl) rfl
theorem q1357 : (Jvm.Cond.laysFinal "ThroughPackModel" "ThroughPackModel" "bites" "[Z") ∈ lw_all := lw_g (lw_at lw_m6 33 rfl) rfl
theorem q1358 : (Jvm.Cond.soleField "ThroughPackModel" "bites") ∈ lw_all := lw_g (lw_at lw_m6 34 rfl) rfl
theorem q1359 : (Jvm.Cond.laysFinal "ThroughPackModel" "ThroughPackModel" "out" "[I") ∈ lw_all := lw_g (lw_at lw_m6 35 rfl) rfl
theorem q1360 : (Jvm.Cond.soleField "ThroughPackModel" "out") ∈ lw_all := lw_g (lw_at lw_m6 36 rfl) rfl
theorem q1361 : (Jvm.Cond.lays "ThroughPackModel" "ThroughPackModel" "followed" "I") ∈ lw_all := lw_g (lw_at lw_m6 37 rfl) rfl
theorem q1362 : (Jvm.Cond.soleField "ThroughPackModel" "followed") ∈ lw_all := lw_g (lw_at lw_m6 38 rfl) rfl
theorem q1363 : (Jvm.Cond.laysFinal "ThroughPackModel" "ThroughPackModel" "cellAt" "[I") ∈ lw_all := lw_g (lw_at lw_m6 39 rfl) rfl
theorem q1364 : (Jvm.Cond.soleField "ThroughPackModel" "cellAt") ∈ lw_all := lw_g (lw_at lw_m6 40 rfl) rfl
theorem q1365 : (Jvm.Cond.laysFinal "ThroughPackModel" "ThroughPackModel" "coalAt" "[I") ∈ lw_all := lw_g (lw_at lw_m6 41 rfl) rfl
theorem q1366 : (Jvm.Cond.soleField "ThroughPackModel" "coalAt") ∈ lw_all := lw_g (lw_at lw_m6 42 rfl) rfl
theorem q1367 : (Jvm.Cond.laysFinal "ThroughPackModel" "ThroughPackModel" "firesAt" "[I") ∈ lw_all := lw_g (lw_at lw_m6 43 rfl) rfl
theorem q1368 : (Jvm.Cond.soleField "ThroughPackModel" "firesAt") ∈ lw_all := lw_g (lw_at lw_m6 44 rfl) rfl
theorem q1369 : (Jvm.Cond.laysFinal "ThroughPackModel" "ThroughPackModel" "homes" "[Z") ∈ lw_all := lw_g (lw_at lw_m6 45 rfl) rfl
theorem q1370 : (Jvm.Cond.soleField "ThroughPackModel" "homes") ∈ lw_all := lw_g (lw_at lw_m6 46 rfl) rfl
theorem q1371 : (Jvm.Cond.laysFinal "ThroughPackModel" "ThroughPackModel" "here" "[Z") ∈ lw_all := lw_g (lw_at lw_m6 47 rfl) rfl
theorem q1372 : (Jvm.Cond.soleField "ThroughPackModel" "here") ∈ lw_all := lw_g (lw_at lw_m6 48 rfl) rfl
theorem q1373 : (Jvm.Cond.laysFinal "ThroughPackModel" "ThroughPackModel" "then" "[Z") ∈ lw_all := lw_g (lw_at lw_m6 49 rfl) rfl
theorem q1374 : (Jvm.Cond.soleField "ThroughPackModel" "then") ∈ lw_all := lw_g (lw_at lw_m6 50 rfl) rfl
theorem q1375 : (Jvm.Cond.lays "ThroughPackModel" "ThroughPackModel" "begins" "I") ∈ lw_all := lw_g (lw_at lw_m6 51 rfl) rfl
theorem q1376 : (Jvm.Cond.soleField "ThroughPackModel" "begins") ∈ lw_all := lw_g (lw_at lw_m6 52 rfl) rfl
theorem q1377 : (Jvm.Cond.laysFinal "ThroughPackModel" "ThroughPackModel" "keptAhead" "[I") ∈ lw_all := lw_g (lw_at lw_m6 53 rfl) rfl
theorem q1378 : (Jvm.Cond.soleField "ThroughPackModel" "keptAhead") ∈ lw_all := lw_g (lw_at lw_m6 54 rfl) rfl
theorem q1379 : (Jvm.Cond.lays "ThroughPackModel" "ThroughPackModel" "ranCell" "I") ∈ lw_all := lw_g (lw_at lw_m6 55 rfl) rfl
theorem q1380 : (Jvm.Cond.soleField "ThroughPackModel" "ranCell") ∈ lw_all := lw_g (lw_at lw_m6 56 rfl) rfl
theorem q1381 : (Jvm.Cond.lays "ThroughPackModel" "ThroughPackModel" "ranCoal" "I") ∈ lw_all := lw_g (lw_at lw_m6 57 rfl) rfl
theorem q1382 : (Jvm.Cond.soleField "ThroughPackModel" "ranCoal") ∈ lw_all := lw_g (lw_at lw_m6 58 rfl) rfl
theorem q1383 : (Jvm.Cond.lays "ThroughPackModel" "ThroughPackModel" "ranBanked" "I") ∈ lw_all := lw_g (lw_at lw_m6 59 rfl) rfl
theorem q1384 : (Jvm.Cond.soleField "ThroughPackModel" "ranBanked") ∈ lw_all := lw_g (lw_at lw_m6 60 rfl) rfl
theorem q1385 : (Jvm.Cond.lays "ThroughPackModel" "ThroughPackModel" "ranState" "I") ∈ lw_all := lw_g (lw_at lw_m6 61 rfl) rfl
theorem q1386 : (Jvm.Cond.soleField "ThroughPackModel" "ranState") ∈ lw_all := lw_g (lw_at lw_m6 62 rfl) rfl
theorem q1387 : (Jvm.Cond.lays "ThroughPackModel" "ThroughPackModel" "ranWatches" "I") ∈ lw_all := lw_g (lw_at lw_m6 63 rfl) rfl
theorem q1388 : (Jvm.Cond.soleField "ThroughPackModel" "ranWatches") ∈ lw_all := lw_g (lw_at lw_m6 64 rfl) rfl
theorem q1389 : (Jvm.Cond.lays "ThroughPackModel" "ThroughPackModel" "ranWind" "I") ∈ lw_all := lw_g (lw_at lw_m6 65 rfl) rfl
theorem q1390 : (Jvm.Cond.soleField "ThroughPackModel" "ranWind") ∈ lw_all := lw_g (lw_at lw_m6 66 rfl) rfl
theorem q1391 : (Jvm.Cond.superclass "ThroughPackModel" "java/lang/Object") ∈ lw_all := lw_g (lw_at lw_m6 67 rfl) rfl
theorem q1393 : (Jvm.Cond.instanceMethod ({ cls := "ThroughPackModel", name := "ice", desc := "(II)Z" } : Jvm.MethodName)) ∈ lw_all := lw_g (lw_at lw_m6 69 rfl) rfl
theorem q1394 : (Jvm.Cond.selects "ThroughPackModel" ({ cls := "ThroughPackModel", name := "ice", desc := "(II)Z" } : Jvm.MethodName) ({ cls := "ThroughPackModel", name := "ice", desc := "(II)Z" } : Jvm.MethodName)) ∈ lw_all := lw_g (lw_at lw_m6 70 rfl) rfl
theorem q1395 : (Jvm.Cond.code ({ cls := "ThroughPackModel", name := "ice", desc := "(II)Z" } : Jvm.MethodName) prog_17_method_8_code (3 : Nat) (Option.some Jvm.ClassFile.FieldType.boolean)) ∈ lw_all := lw_g (lw_at lw_m6 71 rfl) rfl
theorem q1396 : (Jvm.Cond.methodLink "ThroughPackModel" (98 : Nat) ({ cls := "ThroughPackModel", name := "isCell", desc := "(I)Z" } : Jvm.MethodName)) ∈ lw_all := lw_g (lw_at lw_m6 72 rfl) rfl
theorem q1397 : (Jvm.Cond.privateMethod ({ cls := "ThroughPackModel", name := "isCell", desc := "(I)Z" } : Jvm.MethodName)) ∈ lw_tbl := lw_at lw_m6 73 rfl
theorem q1398 : (Jvm.Cond.instanceMethod ({ cls := "ThroughPackModel", name := "isCell", desc := "(I)Z" } : Jvm.MethodName)) ∈ lw_all := lw_g (lw_at lw_m6 74 rfl) rfl
theorem q1399 : (Jvm.Cond.code ({ cls := "ThroughPackModel", name := "isCell", desc := "(I)Z" } : Jvm.MethodName) prog_17_method_4_code (2 : Nat) (Option.some Jvm.ClassFile.FieldType.boolean)) ∈ lw_all := lw_g (lw_at lw_m6 75 rfl) rfl
theorem q1400 : (Jvm.Cond.methodLink "ThroughPackModel" (90 : Nat) ({ cls := "ThroughPackModel", name := "isIn", desc := "(III)Z" } : Jvm.MethodName)) ∈ lw_all := lw_g (lw_at lw_m6 76 rfl) rfl
theorem q1401 : (Jvm.Cond.static ({ cls := "ThroughPackModel", name := "isIn", desc := "(III)Z" } : Jvm.MethodName)) ∈ lw_all := lw_g (lw_at lw_m6 77 rfl) rfl
theorem q1402 : (Jvm.Cond.code ({ cls := "ThroughPackModel", name := "isIn", desc := "(III)Z" } : Jvm.MethodName) prog_17_method_3_code (3 : Nat) (Option.some Jvm.ClassFile.FieldType.boolean)) ∈ lw_all := lw_g (lw_at lw_m6 78 rfl) rfl
theorem q1404 : (Jvm.Cond.instanceMethod ({ cls := "ThroughPackModel", name := "iceAt", desc := "(I)I" } : Jvm.MethodName)) ∈ lw_all := lw_g (lw_at lw_m6 80 rfl) rfl
theorem q1405 : (Jvm.Cond.selects "ThroughPackModel" ({ cls := "ThroughPackModel", name := "iceAt", desc := "(I)I" } : Jvm.MethodName) ({ cls := "ThroughPackModel", name := "iceAt", desc := "(I)I" } : Jvm.MethodName)) ∈ lw_all := lw_g (lw_at lw_m6 81 rfl) rfl
theorem q1406 : (Jvm.Cond.code ({ cls := "ThroughPackModel", name := "iceAt", desc := "(I)I" } : Jvm.MethodName) prog_17_method_9_code (2 : Nat) (Option.some Jvm.ClassFile.FieldType.int)) ∈ lw_all := lw_g (lw_at lw_m6 82 rfl) rfl
theorem q1408 : (Jvm.Cond.instanceMethod ({ cls := "ThroughPackModel", name := "mark", desc := "(IZZ)Z" } : Jvm.MethodName)) ∈ lw_all := lw_g (lw_at lw_m6 84 rfl) rfl
theorem q1409 : (Jvm.Cond.selects "ThroughPackModel" ({ cls := "ThroughPackModel", name := "mark", desc := "(IZZ)Z" } : Jvm.MethodName) ({ cls := "ThroughPackModel", name := "mark", desc := "(IZZ)Z" } : Jvm.MethodName)) ∈ lw_all := lw_g (lw_at lw_m6 85 rfl) rfl
theorem q1410 : (Jvm.Cond.code ({ cls := "ThroughPackModel", name := "mark", desc := "(IZZ)Z" } : Jvm.MethodName) prog_17_method_10_code (4 : Nat) (Option.some Jvm.ClassFile.FieldType.boolean)) ∈ lw_all := lw_g (lw_at lw_m6 86 rfl) rfl
theorem q1412 : (Jvm.Cond.instanceMethod ({ cls := "ThroughPackModel", name := "edge", desc := "(I)Z" } : Jvm.MethodName)) ∈ lw_all := lw_g (lw_at lw_m6 88 rfl) rfl
theorem q1413 : (Jvm.Cond.selects "ThroughPackModel" ({ cls := "ThroughPackModel", name := "edge", desc := "(I)Z" } : Jvm.MethodName) ({ cls := "ThroughPackModel", name := "edge", desc := "(I)Z" } : Jvm.MethodName)) ∈ lw_all := lw_g (lw_at lw_m6 89 rfl) rfl
theorem q1414 : (Jvm.Cond.code ({ cls := "ThroughPackModel", name := "edge", desc := "(I)Z" } : Jvm.MethodName) prog_17_method_11_code (2 : Nat) (Option.some Jvm.ClassFile.FieldType.boolean)) ∈ lw_all := lw_g (lw_at lw_m6 90 rfl) rfl
theorem q1416 : (Jvm.Cond.instanceMethod ({ cls := "ThroughPackModel", name := "drift", desc := "(III)Z" } : Jvm.MethodName)) ∈ lw_all := lw_g (lw_at lw_m6 92 rfl) rfl
theorem q1417 : (Jvm.Cond.selects "ThroughPackModel" ({ cls := "ThroughPackModel", name := "drift", desc := "(III)Z" } : Jvm.MethodName) ({ cls := "ThroughPackModel", name := "drift", desc := "(III)Z" } : Jvm.MethodName)) ∈ lw_all := lw_g (lw_at lw_m6 93 rfl) rfl
theorem q1418 : (Jvm.Cond.code ({ cls := "ThroughPackModel", name := "drift", desc := "(III)Z" } : Jvm.MethodName) prog_17_method_12_code (4 : Nat) (Option.some Jvm.ClassFile.FieldType.boolean)) ∈ lw_all := lw_g (lw_at lw_m6 94 rfl) rfl
theorem q1419 : (Jvm.Cond.methodLink "ThroughPackModel" (102 : Nat) ({ cls := "ThroughPackModel", name := "isWind", desc := "(I)Z" } : Jvm.MethodName)) ∈ lw_all := lw_g (lw_at lw_m6 95 rfl) rfl
theorem q1420 : (Jvm.Cond.static ({ cls := "ThroughPackModel", name := "isWind", desc := "(I)Z" } : Jvm.MethodName)) ∈ lw_all := lw_g (lw_at lw_m6 96 rfl) rfl
theorem q1421 : (Jvm.Cond.code ({ cls := "ThroughPackModel", name := "isWind", desc := "(I)Z" } : Jvm.MethodName) prog_17_method_5_code (1 : Nat) (Option.some Jvm.ClassFile.FieldType.boolean)) ∈ lw_all := lw_g (lw_at lw_m6 97 rfl) rfl
theorem q1423 : (Jvm.Cond.instanceMethod ({ cls := "ThroughPackModel", name := "chances", desc := "(IIIII)Z" } : Jvm.MethodName)) ∈ lw_all := lw_g (lw_at lw_m6 99 rfl) rfl
theorem q1424 : (Jvm.Cond.selects "ThroughPackModel" ({ cls := "ThroughPackModel", name := "chances", desc := "(IIIII)Z" } : Jvm.MethodName) ({ cls := "ThroughPackModel", name := "chances", desc := "(IIIII)Z" } : Jvm.MethodName)) ∈ lw_all := lw_g (lw_at lw_m6 100 rfl) rfl
theorem q1425 : (Jvm.Cond.code ({ cls := "ThroughPackModel", name := "chances", desc := "(IIIII)Z" } : Jvm.MethodName) prog_17_method_13_code (6 : Nat) (Option.some Jvm.ClassFile.FieldType.boolean)) ∈ lw_all := lw_g (lw_at lw_m6 101 rfl) rfl
theorem q1427 : (Jvm.Cond.instanceMethod ({ cls := "ThroughPackModel", name := "ship", desc := "(III)Z" } : Jvm.MethodName)) ∈ lw_all := lw_g (lw_at lw_m6 103 rfl) rfl
theorem q1428 : (Jvm.Cond.selects "ThroughPackModel" ({ cls := "ThroughPackModel", name := "ship", desc := "(III)Z" } : Jvm.MethodName) ({ cls := "ThroughPackModel", name := "ship", desc := "(III)Z" } : Jvm.MethodName)) ∈ lw_all := lw_g (lw_at lw_m6 104 rfl) rfl
theorem q1429 : (Jvm.Cond.code ({ cls := "ThroughPackModel", name := "ship", desc := "(III)Z" } : Jvm.MethodName) prog_17_method_16_code (4 : Nat) (Option.some Jvm.ClassFile.FieldType.boolean)) ∈ lw_all := lw_g (lw_at lw_m6 105 rfl) rfl
theorem q1430 : (Jvm.Cond.methodLink "ThroughPackModel" (105 : Nat) ({ cls := "ThroughPackModel", name := "isShip", desc := "(I)Z" } : Jvm.MethodName)) ∈ lw_all := lw_g (lw_at lw_m6 106 rfl) rfl
theorem q1431 : (Jvm.Cond.static ({ cls := "ThroughPackModel", name := "isShip", desc := "(I)Z" } : Jvm.MethodName)) ∈ lw_all := lw_g (lw_at lw_m6 107 rfl) rfl
theorem q1432 : (Jvm.Cond.code ({ cls := "ThroughPackModel", name := "isShip", desc := "(I)Z" } : Jvm.MethodName) prog_17_method_14_code (1 : Nat) (Option.some Jvm.ClassFile.FieldType.boolean)) ∈ lw_all := lw_g (lw_at lw_m6 108 rfl) rfl
theorem q1433 : (Jvm.Cond.methodLink "ThroughPackModel" (108 : Nat) ({ cls := "ThroughPackModel", name := "ofShip", desc := "(II)I" } : Jvm.MethodName)) ∈ lw_all := lw_g (lw_at lw_m6 109 rfl) rfl
theorem q1434 : (Jvm.Cond.static ({ cls := "ThroughPackModel", name := "ofShip", desc := "(II)I" } : Jvm.MethodName)) ∈ lw_all := lw_g (lw_at lw_m6 110 rfl) rfl
theorem q1435 : (Jvm.Cond.code ({ cls := "ThroughPackModel", name := "ofShip", desc := "(II)I" } : Jvm.MethodName) prog_17_method_15_code (2 : Nat) (Option.some Jvm.ClassFile.FieldType.int)) ∈ lw_all := lw_g (lw_at lw_m6 111 rfl) rfl
theorem q1437 : (Jvm.Cond.instanceMethod ({ cls := "ThroughPackModel", name := "costs", desc := "(III)Z" } : Jvm.MethodName)) ∈ lw_all := lw_g (lw_at lw_m6 113 rfl) rfl
theorem q1438 : (Jvm.Cond.selects "ThroughPackModel" ({ cls := "ThroughPackModel", name := "costs", desc := "(III)Z" } : Jvm.MethodName) ({ cls := "ThroughPackModel", name := "costs", desc := "(III)Z" } : Jvm.MethodName)) ∈ lw_all := lw_g (lw_at lw_m6 114 rfl) rfl
theorem q1439 : (Jvm.Cond.code ({ cls := "ThroughPackModel", name := "costs", desc := "(III)Z" } : Jvm.MethodName) prog_17_method_17_code (4 : Nat) (Option.some Jvm.ClassFile.FieldType.boolean)) ∈ lw_all := lw_g (lw_at lw_m6 115 rfl) rfl
theorem q1441 : (Jvm.Cond.instanceMethod ({ cls := "ThroughPackModel", name := "wind", desc := "(I)Z" } : Jvm.MethodName)) ∈ lw_all := lw_g (lw_at lw_m6 117 rfl) rfl
theorem q1442 : (Jvm.Cond.selects "ThroughPackModel" ({ cls := "ThroughPackModel", name := "wind", desc := "(I)Z" } : Jvm.MethodName) ({ cls := "ThroughPackModel", name := "wind", desc := "(I)Z" } : Jvm.MethodName)) ∈ lw_all := lw_g (lw_at lw_m6 118 rfl) rfl
theorem q1443 : (Jvm.Cond.code ({ cls := "ThroughPackModel", name := "wind", desc := "(I)Z" } : Jvm.MethodName) prog_17_method_18_code (2 : Nat) (Option.some Jvm.ClassFile.FieldType.boolean)) ∈ lw_all := lw_g (lw_at lw_m6 119 rfl) rfl
theorem q1445 : (Jvm.Cond.instanceMethod ({ cls := "ThroughPackModel", name := "feed", desc := "(IIIII)I" } : Jvm.MethodName)) ∈ lw_all := lw_g (lw_at lw_m6 121 rfl) rfl
theorem q1446 : (Jvm.Cond.selects "ThroughPackModel" ({ cls := "ThroughPackModel", name := "feed", desc := "(IIIII)I" } : Jvm.MethodName) ({ cls := "ThroughPackModel", name := "feed", desc := "(IIIII)I" } : Jvm.MethodName)) ∈ lw_all := lw_g (lw_at lw_m6 122 rfl) rfl
theorem q1447 : (Jvm.Cond.code ({ cls := "ThroughPackModel", name := "feed", desc := "(IIIII)I" } : Jvm.MethodName) prog_17_method_20_code (6 : Nat) (Option.some Jvm.ClassFile.FieldType.int)) ∈ lw_all := lw_g (lw_at lw_m6 123 rfl) rfl
theorem q1448 : (Jvm.Cond.methodLink "ThroughPackModel" (115 : Nat) ({ cls := "ThroughPackModel", name := "four", desc := "(I)V" } : Jvm.MethodName)) ∈ lw_all := lw_g (lw_at lw_m6 124 rfl) rfl
theorem q1449 : (Jvm.Cond.privateMethod ({ cls := "ThroughPackModel", name := "four", desc := "(I)V" } : Jvm.MethodName)) ∈ lw_tbl := lw_at lw_m6 125 rfl
theorem q1450 : (Jvm.Cond.instanceMethod ({ cls := "ThroughPackModel", name := "four", desc := "(I)V" } : Jvm.MethodName)) ∈ lw_all := lw_g (lw_at lw_m6 126 rfl) rfl
theorem q1451 : (Jvm.Cond.code ({ cls := "ThroughPackModel", name := "four", desc := "(I)V" } : Jvm.MethodName) prog_17_method_19_code (3 : Nat) (Option.none : Option Jvm.ClassFile.FieldType)) ∈ lw_all := lw_g (lw_at lw_m6 127 rfl) rfl
theorem q1453 : (Jvm.Cond.instanceMethod ({ cls := "ThroughPackModel", name := "end", desc := "(I)I" } : Jvm.MethodName)) ∈ lw_all := lw_g (lw_at lw_m6 129 rfl) rfl
theorem q1454 : (Jvm.Cond.selects "ThroughPackModel" ({ cls := "ThroughPackModel", name := "end", desc := "(I)I" } : Jvm.MethodName) ({ cls := "ThroughPackModel", name := "end", desc := "(I)I" } : Jvm.MethodName)) ∈ lw_all := lw_g (lw_at lw_m6 130 rfl) rfl
theorem q1455 : (Jvm.Cond.code ({ cls := "ThroughPackModel", name := "end", desc := "(I)I" } : Jvm.MethodName) prog_17_method_21_code (2 : Nat) (Option.some Jvm.ClassFile.FieldType.int)) ∈ lw_all := lw_g (lw_at lw_m6 131 rfl) rfl
theorem q1457 : (Jvm.Cond.instanceMethod ({ cls := "ThroughPackModel", name := "text", desc := "()I" } : Jvm.MethodName)) ∈ lw_all := lw_g (lw_at lw_m6 133 rfl) rfl
theorem q1458 : (Jvm.Cond.selects "ThroughPackModel" ({ cls := "ThroughPackModel", name := "text", desc := "()I" } : Jvm.MethodName) ({ cls := "ThroughPackModel", name := "text", desc := "()I" } : Jvm.MethodName)) ∈ lw_all := lw_g (lw_at lw_m6 134 rfl) rfl
theorem q1459 : (Jvm.Cond.code ({ cls := "ThroughPackModel", name := "text", desc := "()I" } : Jvm.MethodName) prog_17_method_49_code (1 : Nat) (Option.some Jvm.ClassFile.FieldType.int)) ∈ lw_all := lw_g (lw_at lw_m6 135 rfl) rfl
theorem q1460 : (Jvm.Cond.methodLink "ThroughPackModel" (252 : Nat) ({ cls := "ThroughPackModel", name := "readText", desc := "()I" } : Jvm.MethodName)) ∈ lw_all := lw_g (lw_at lw_m6 136 rfl) rfl
theorem q1461 : (Jvm.Cond.privateMethod ({ cls := "ThroughPackModel", name := "readText", desc := "()I" } : Jvm.MethodName)) ∈ lw_tbl := lw_at lw_m6 137 rfl
theorem q1462 : (Jvm.Cond.instanceMethod ({ cls := "ThroughPackModel", name := "readText", desc := "()I" } : Jvm.MethodName)) ∈ lw_all := lw_g (lw_at lw_m6 138 rfl) rfl
theorem q1463 : (Jvm.Cond.code ({ cls := "ThroughPackModel", name := "readText", desc := "()I" } : Jvm.MethodName) prog_17_method_48_code (2 : Nat) (Option.some Jvm.ClassFile.FieldType.int)) ∈ lw_all := lw_g (lw_at lw_m6 139 rfl) rfl
theorem q1464 : (Jvm.Cond.methodLink "ThroughPackModel" (189 : Nat) ({ cls := "ThroughPackModel", name := "nextToken", desc := "()V" } : Jvm.MethodName)) ∈ lw_all := lw_g (lw_at lw_m6 140 rfl) rfl
theorem q1465 : (Jvm.Cond.privateMethod ({ cls := "ThroughPackModel", name := "nextToken", desc := "()V" } : Jvm.MethodName)) ∈ lw_tbl := lw_at lw_m6 141 rfl
theorem q1466 : (Jvm.Cond.instanceMethod ({ cls := "ThroughPackModel", name := "nextToken", desc := "()V" } : Jvm.MethodName)) ∈ lw_all := lw_g (lw_at lw_m6 142 rfl) rfl
theorem q1467 : (Jvm.Cond.code ({ cls := "ThroughPackModel", name := "nextToken", desc := "()V" } : Jvm.MethodName) prog_17_method_25_code (3 : Nat) (Option.none : Option Jvm.ClassFile.FieldType)) ∈ lw_all := lw_g (lw_at lw_m6 143 rfl) rfl
theorem q1468 : (Jvm.Cond.methodLink "ThroughPackModel" (122 : Nat) ({ cls := "ThroughPackModel", name := "byteAt", desc := "(I)I" } : Jvm.MethodName)) ∈ lw_all := lw_g (lw_at lw_m6 144 rfl) rfl
theorem q1469 : (Jvm.Cond.privateMethod ({ cls := "ThroughPackModel", name := "byteAt", desc := "(I)I" } : Jvm.MethodName)) ∈ lw_tbl := lw_at lw_m6 145 rfl
theorem q1470 : (Jvm.Cond.instanceMethod ({ cls := "ThroughPackModel", name := "byteAt", desc := "(I)I" } : Jvm.MethodName)) ∈ lw_all := lw_g (lw_at lw_m6 146 rfl) rfl
theorem q1471 : (Jvm.Cond.code ({ cls := "ThroughPackModel", name := "byteAt", desc := "(I)I" } : Jvm.MethodName) prog_17_method_22_code (2 : Nat) (Option.some Jvm.ClassFile.FieldType.int)) ∈ lw_all := lw_g (lw_at lw_m6 147 rfl) rfl
theorem q1472 : (Jvm.Cond.methodLink "ThroughPackModel" (132 : Nat) ({ cls := "ThroughPackModel", name := "isDigit", desc := "(I)Z" } : Jvm.MethodName)) ∈ lw_all := lw_g (lw_at lw_m6 148 rfl) rfl
theorem q1473 : (Jvm.Cond.static ({ cls := "ThroughPackModel", name := "isDigit", desc := "(I)Z" } : Jvm.MethodName)) ∈ lw_all := lw_g (lw_at lw_m6 149 rfl) rfl
theorem q1474 : (Jvm.Cond.code ({ cls := "ThroughPackModel", name := "isDigit", desc := "(I)Z" } : Jvm.MethodName) prog_17_method_24_code (1 : Nat) (Option.some Jvm.ClassFile.FieldType.boolean)) ∈ lw_all := lw_g (lw_at lw_m6 150 rfl) rfl
theorem q1475 : (Jvm.Cond.constant "ThroughPackModel" (138 : Nat) (100000 : Int32)) ∈ lw_all := lw_g (lw_at lw_m6 151 rfl) rfl
theorem q1476 : (Jvm.Cond.methodLink "ThroughPackModel" (139 : Nat) ({ cls := "ThroughPackModel", name := "isLetter", desc := "(I)Z" } : Jvm.MethodName)) ∈ lw_all := lw_g (lw_at lw_m6 152 rfl) rfl
theorem q1477 : (Jvm.Cond.static ({ cls := "ThroughPackModel", name := "isLetter", desc := "(I)Z" } : Jvm.MethodName)) ∈ lw_all := lw_g (lw_at lw_m6 153 rfl) rfl
theorem q1478 : (Jvm.Cond.code ({ cls := "ThroughPackModel", name := "isLetter", desc := "(I)Z" } : Jvm.MethodName) prog_17_method_23_code (1 : Nat) (Option.some Jvm.ClassFile.FieldType.boolean)) ∈ lw_all := lw_g (lw_at lw_m6 154 rfl) rfl
theorem q1479 : (Jvm.Cond.methodLink "ThroughPackModel" (249 : Nat) ({ cls := "ThroughPackModel", name := "clause", desc := "()I" } : Jvm.MethodName)) ∈ lw_all := lw_g (lw_at lw_m6 155 rfl) rfl
theorem q1480 : (Jvm.Cond.privateMethod ({ cls := "ThroughPackModel", name := "clause", desc := "()I" } : Jvm.MethodName)) ∈ lw_tbl := lw_at lw_m6 156 rfl
theorem q1481 : (Jvm.Cond.instanceMethod ({ cls := "ThroughPackModel", name := "clause", desc := "()I" } : Jvm.MethodName)) ∈ lw_all := lw_g (lw_at lw_m6 157 rfl) rfl
theorem q1482 : (Jvm.Cond.code ({ cls := "ThroughPackModel", name := "clause", desc := "()I" } : Jvm.MethodName) prog_17_method_47_code (5 : Nat) (Option.some Jvm.ClassFile.FieldType.int)) ∈ lw_all := lw_g (lw_at lw_m6 158 rfl) rfl
theorem q1483 : (Jvm.Cond.methodLink "ThroughPackModel" (237 : Nat) ({ cls := "ThroughPackModel", name := "sortOf", desc := "()I" } : Jvm.MethodName)) ∈ lw_all := lw_g (lw_at lw_m6 159 rfl) rfl
theorem q1484 : (Jvm.Cond.privateMethod ({ cls := "ThroughPackModel", name := "sortOf", desc := "()I" } : Jvm.MethodName)) ∈ lw_tbl := lw_at lw_m6 160 rfl
theorem q1485 : (Jvm.Cond.instanceMethod ({ cls := "ThroughPackModel", name := "sortOf", desc := "()I" } : Jvm.MethodName)) ∈ lw_all := lw_g (lw_at lw_m6 161 rfl) rfl
theorem q1486 : (Jvm.Cond.code ({ cls := "ThroughPackModel", name := "sortOf", desc := "()I" } : Jvm.MethodName) prog_17_method_45_code (1 : Nat) (Option.some Jvm.ClassFile.FieldType.int)) ∈ lw_all := lw_g (lw_at lw_m6 162 rfl) rfl
theorem q1487 : (Jvm.Cond.methodLink "ThroughPackModel" (146 : Nat) ({ cls := "ThroughPackModel", name := "w3", desc := "(III)J" } : Jvm.MethodName)) ∈ lw_all := lw_g (lw_at lw_m6 163 rfl) rfl
theorem q1488 : (Jvm.Cond.static ({ cls := "ThroughPackModel", name := "w3", desc := "(III)J" } : Jvm.MethodName)) ∈ lw_all := lw_g (lw_at lw_m6 164 rfl) rfl
theorem q1489 : (Jvm.Cond.code ({ cls := "ThroughPackModel", name := "w3", desc := "(III)J" } : Jvm.MethodName) prog_17_method_26_code (3 : Nat) (Option.some Jvm.ClassFile.FieldType.long)) ∈ lw_all := lw_g (lw_at lw_m6 165 rfl) rfl
theorem q1490 : (Jvm.Cond.methodLink "ThroughPackModel" (220 : Nat) ({ cls := "ThroughPackModel", name := "isWord", desc := "(J)Z" } : Jvm.MethodName)) ∈ lw_all := lw_g (lw_at lw_m6 166 rfl) rfl
theorem q1491 : (Jvm.Cond.privateMethod ({ cls := "ThroughPackModel", name := "isWord", desc := "(J)Z" } : Jvm.MethodName)) ∈ lw_tbl := lw_at lw_m6 167 rfl
theorem q1492 : (Jvm.Cond.instanceMethod ({ cls := "ThroughPackModel", name := "isWord", desc := "(J)Z" } : Jvm.MethodName)) ∈ lw_all := lw_g (lw_at lw_m6 168 rfl) rfl
theorem q1493 : (Jvm.Cond.code ({ cls := "ThroughPackModel", name := "isWord", desc := "(J)Z" } : Jvm.MethodName) prog_17_method_30_code (3 : Nat) (Option.some Jvm.ClassFile.FieldType.boolean)) ∈ lw_all := lw_g (lw_at lw_m6 169 rfl) rfl
theorem q1494 : (Jvm.Cond.methodLink "ThroughPackModel" (174 : Nat) ({ cls := "ThroughPackModel", name := "w4", desc := "(IIII)J" } : Jvm.MethodName)) ∈ lw_all := lw_g (lw_at lw_m6 170 rfl) rfl
theorem q1495 : (Jvm.Cond.static ({ cls := "ThroughPackModel", name := "w4", desc := "(IIII)J" } : Jvm.MethodName)) ∈ lw_all := lw_g (lw_at lw_m6 171 rfl) rfl
theorem q1496 : (Jvm.Cond.code ({ cls := "ThroughPackModel", name := "w4", desc := "(IIII)J" } : Jvm.MethodName) prog_17_method_28_code (4 : Nat) (Option.some Jvm.ClassFile.FieldType.long)) ∈ lw_all := lw_g (lw_at lw_m6 172 rfl) rfl
theorem q1497 : (Jvm.Cond.constantLong "ThroughPackModel" (235 : Nat) (26479 : Int64)) ∈ lw_all := lw_g (lw_at lw_m6 173 rfl) rfl
theorem q1498 : (Jvm.Cond.methodLink "ThroughPackModel" (243 : Nat) ({ cls := "ThroughPackModel", name := "goesBy", desc := "(I)I" } : Jvm.MethodName)) ∈ lw_all := lw_g (lw_at lw_m6 174 rfl) rfl
theorem q1499 : (Jvm.Cond.privateMethod ({ cls := "ThroughPackModel", name := "goesBy", desc := "(I)I" } : Jvm.MethodName)) ∈ lw_tbl := lw_at lw_m6 175 rfl
theorem q1500 : (Jvm.Cond.instanceMethod ({ cls := "ThroughPackModel", name := "goesBy", desc := "(I)I" } : Jvm.MethodName)) ∈ lw_all := lw_g (lw_at lw_m6 176 rfl) rfl
theorem q1501 : (Jvm.Cond.code ({ cls := "ThroughPackModel", name := "goesBy", desc := "(I)I" } : Jvm.MethodName) prog_17_method_46_code (2 : Nat) (Option.some Jvm.ClassFile.FieldType.int)) ∈ lw_all := lw_g (lw_at lw_m6 177 rfl) rfl
theorem q1502 : (Jvm.Cond.methodLink "ThroughPackModel" (224 : Nat) ({ cls := "ThroughPackModel", name := "summed", desc := "()I" } : Jvm.MethodName)) ∈ lw_all := lw_g (lw_at lw_m6 178 rfl) rfl
theorem q1503 : (Jvm.Cond.privateMethod ({ cls := "ThroughPackModel", name := "summed", desc := "()I" } : Jvm.MethodName)) ∈ lw_tbl := lw_at lw_m6 179 rfl
theorem q1504 : (Jvm.Cond.instanceMethod ({ cls := "ThroughPackModel", name := "summed", desc := "()I" } : Jvm.MethodName)) ∈ lw_all := lw_g (lw_at lw_m6 180 rfl) rfl
theorem q1505 : (Jvm.Cond.code ({ cls := "ThroughPackModel", name := "summed", desc := "()I" } : Jvm.MethodName) prog_17_method_41_code (2 : Nat) (Option.some Jvm.ClassFile.FieldType.int)) ∈ lw_all := lw_g (lw_at lw_m6 181 rfl) rfl
theorem q1506 : (Jvm.Cond.methodLink "ThroughPackModel" (211 : Nat) ({ cls := "ThroughPackModel", name := "goesOn", desc := "()Z" } : Jvm.MethodName)) ∈ lw_all := lw_g (lw_at lw_m6 182 rfl) rfl
theorem q1507 : (Jvm.Cond.privateMethod ({ cls := "ThroughPackModel", name := "goesOn", desc := "()Z" } : Jvm.MethodName)) ∈ lw_tbl := lw_at lw_m6 183 rfl
theorem q1508 : (Jvm.Cond.instanceMethod ({ cls := "ThroughPackModel", name := "goesOn", desc := "()Z" } : Jvm.MethodName)) ∈ lw_all := lw_g (lw_at lw_m6 184 rfl) rfl
theorem q1509 : (Jvm.Cond.code ({ cls := "ThroughPackModel", name := "goesOn", desc := "()Z" } : Jvm.MethodName) prog_17_method_39_code (1 : Nat) (Option.some Jvm.ClassFile.FieldType.boolean)) ∈ lw_all := lw_g (lw_at lw_m6 185 rfl) rfl
theorem q1510 : (Jvm.Cond.methodLink "ThroughPackModel" (204 : Nat) ({ cls := "ThroughPackModel", name := "hasParen", desc := "()Z" } : Jvm.MethodName)) ∈ lw_all := lw_g (lw_at lw_m6 186 rfl) rfl
theorem q1511 : (Jvm.Cond.privateMethod ({ cls := "ThroughPackModel", name := "hasParen", desc := "()Z" } : Jvm.MethodName)) ∈ lw_tbl := lw_at lw_m6 187 rfl
theorem q1512 : (Jvm.Cond.instanceMethod ({ cls := "ThroughPackModel", name := "hasParen", desc := "()Z" } : Jvm.MethodName)) ∈ lw_all := lw_g (lw_at lw_m6 188 rfl) rfl
theorem q1513 : (Jvm.Cond.code ({ cls := "ThroughPackModel", name := "hasParen", desc := "()Z" } : Jvm.MethodName) prog_17_method_38_code (2 : Nat) (Option.some Jvm.ClassFile.FieldType.boolean)) ∈ lw_all := lw_g (lw_at lw_m6 189 rfl) rfl
theorem q1514 : (Jvm.Cond.methodLink "ThroughPackModel" (214 : Nat) ({ cls := "ThroughPackModel", name := "behindOne", desc := "()I" } : Jvm.MethodName)) ∈ lw_all := lw_g (lw_at lw_m6 190 rfl) rfl
theorem q1515 : (Jvm.Cond.privateMethod ({ cls := "ThroughPackModel", name := "behindOne", desc := "()I" } : Jvm.MethodName)) ∈ lw_tbl := lw_at lw_m6 191 rfl
theorem q1516 : (Jvm.Cond.instanceMethod ({ cls := "ThroughPackModel", name := "behindOne", desc := "()I" } : Jvm.MethodName)) ∈ lw_all := lw_g (lw_at lw_m6 192 rfl) rfl
theorem q1517 : (Jvm.Cond.code ({ cls := "ThroughPackModel", name := "behindOne", desc := "()I" } : Jvm.MethodName) prog_17_method_40_code (2 : Nat) (Option.some Jvm.ClassFile.FieldType.int)) ∈ lw_all := lw_g (lw_at lw_m6 193 rfl) rfl
theorem q1518 : (Jvm.Cond.methodLink "ThroughPackModel" (208 : Nat) ({ cls := "ThroughPackModel", name := "settle", desc := "(I)V" } : Jvm.MethodName)) ∈ lw_all := lw_g (lw_at lw_m6 194 rfl) rfl
theorem q1519 : (Jvm.Cond.privateMethod ({ cls := "ThroughPackModel", name := "settle", desc := "(I)V" } : Jvm.MethodName)) ∈ lw_tbl := lw_at lw_m6 195 rfl
theorem q1520 : (Jvm.Cond.instanceMethod ({ cls := "ThroughPackModel", name := "settle", desc := "(I)V" } : Jvm.MethodName)) ∈ lw_all := lw_g (lw_at lw_m6 196 rfl) rfl
theorem q1521 : (Jvm.Cond.code ({ cls := "ThroughPackModel", name := "settle", desc := "(I)V" } : Jvm.MethodName) prog_17_method_34_code (2 : Nat) (Option.none : Option Jvm.ClassFile.FieldType)) ∈ lw_all := lw_g (lw_at lw_m6 197 rfl) rfl
theorem q1522 : (Jvm.Cond.methodLink "ThroughPackModel" (170 : Nat) ({ cls := "ThroughPackModel", name := "emit", desc := "(II)V" } : Jvm.MethodName)) ∈ lw_all := lw_g (lw_at lw_m6 198 rfl) rfl
theorem q1523 : (Jvm.Cond.privateMethod ({ cls := "ThroughPackModel", name := "emit", desc := "(II)V" } : Jvm.MethodName)) ∈ lw_tbl := lw_at lw_m6 199 rfl
theorem q1524 : (Jvm.Cond.instanceMethod ({ cls := "ThroughPackModel", name := "emit", desc := "(II)V" } : Jvm.MethodName)) ∈ lw_all := lw_g (lw_at lw_m6 200 rfl) rfl
theorem q1525 : (Jvm.Cond.code ({ cls := "ThroughPackModel", name := "emit", desc := "(II)V" } : Jvm.MethodName) prog_17_method_31_code (3 : Nat) (Option.none : Option Jvm.ClassFile.FieldType)) ∈ lw_all := lw_g (lw_at lw_m6 201 rfl) rfl
theorem q1526 : (Jvm.Cond.methodLink "ThroughPackModel" (202 : Nat) ({ cls := "ThroughPackModel", name := "push", desc := "(I)V" } : Jvm.MethodName)) ∈ lw_all := lw_g (lw_at lw_m6 202 rfl) rfl
theorem q1527 : (Jvm.Cond.privateMethod ({ cls := "ThroughPackModel", name := "push", desc := "(I)V" } : Jvm.MethodName)) ∈ lw_tbl := lw_at lw_m6 203 rfl
theorem q1528 : (Jvm.Cond.instanceMethod ({ cls := "ThroughPackModel", name := "push", desc := "(I)V" } : Jvm.MethodName)) ∈ lw_all := lw_g (lw_at lw_m6 204 rfl) rfl
theorem q1529 : (Jvm.Cond.code ({ cls := "ThroughPackModel", name := "push", desc := "(I)V" } : Jvm.MethodName) prog_17_method_32_code (2 : Nat) (Option.none : Option Jvm.ClassFile.FieldType)) ∈ lw_all := lw_g (lw_at lw_m6 205 rfl) rfl
theorem q1530 : (Jvm.Cond.methodLink "ThroughPackModel" (192 : Nat) ({ cls := "ThroughPackModel", name := "whole", desc := "()V" } : Jvm.MethodName)) ∈ lw_all := lw_g (lw_at lw_m6 206 rfl) rfl
theorem q1531 : (Jvm.Cond.privateMethod ({ cls := "ThroughPackModel", name := "whole", desc := "()V" } : Jvm.MethodName)) ∈ lw_tbl := lw_at lw_m6 207 rfl
theorem q1532 : (Jvm.Cond.instanceMethod ({ cls := "ThroughPackModel", name := "whole", desc := "()V" } : Jvm.MethodName)) ∈ lw_all := lw_g (lw_at lw_m6 208 rfl) rfl
theorem q1533 : (Jvm.Cond.code ({ cls := "ThroughPackModel", name := "whole", desc := "()V" } : Jvm.MethodName) prog_17_method_33_code (1 : Nat) (Option.none : Option Jvm.ClassFile.FieldType)) ∈ lw_all := lw_g (lw_at lw_m6 209 rfl) rfl
theorem q1534 : (Jvm.Cond.methodLink "ThroughPackModel" (217 : Nat) ({ cls := "ThroughPackModel", name := "beginOne", desc := "()I" } : Jvm.MethodName)) ∈ lw_all := lw_g (lw_at lw_m6 210 rfl) rfl
theorem q1535 : (Jvm.Cond.privateMethod ({ cls := "ThroughPackModel", name := "beginOne", desc := "()I" } : Jvm.MethodName)) ∈ lw_tbl := lw_at lw_m6 211 rfl
theorem q1536 : (Jvm.Cond.instanceMethod ({ cls := "ThroughPackModel", name := "beginOne", desc := "()I" } : Jvm.MethodName)) ∈ lw_all := lw_g (lw_at lw_m6 212 rfl) rfl
theorem q1537 : (Jvm.Cond.code ({ cls := "ThroughPackModel", name := "beginOne", desc := "()I" } : Jvm.MethodName) prog_17_method_37_code (2 : Nat) (Option.some Jvm.ClassFile.FieldType.int)) ∈ lw_all := lw_g (lw_at lw_m6 213 rfl) rfl
theorem q1538 : (Jvm.Cond.methodLink "ThroughPackModel" (195 : Nat) ({ cls := "ThroughPackModel", name := "nameOf", desc := "()I" } : Jvm.MethodName)) ∈ lw_all := lw_g (lw_at lw_m6 214 rfl) rfl
theorem q1539 : (Jvm.Cond.privateMethod ({ cls := "ThroughPackModel", name := "nameOf", desc := "()I" } : Jvm.MethodName)) ∈ lw_tbl := lw_at lw_m6 215 rfl
theorem q1540 : (Jvm.Cond.instanceMethod ({ cls := "ThroughPackModel", name := "nameOf", desc := "()I" } : Jvm.MethodName)) ∈ lw_all := lw_g (lw_at lw_m6 216 rfl) rfl
theorem q1541 : (Jvm.Cond.code ({ cls := "ThroughPackModel", name := "nameOf", desc := "()I" } : Jvm.MethodName) prog_17_method_35_code (1 : Nat) (Option.some Jvm.ClassFile.FieldType.int)) ∈ lw_all := lw_g (lw_at lw_m6 217 rfl) rfl
theorem q1542 : (Jvm.Cond.methodLink "ThroughPackModel" (150 : Nat) ({ cls := "ThroughPackModel", name := "w5", desc := "(IIIII)J" } : Jvm.MethodName)) ∈ lw_all := lw_g (lw_at lw_m6 218 rfl) rfl
theorem q1543 : (Jvm.Cond.static ({ cls := "ThroughPackModel", name := "w5", desc := "(IIIII)J" } : Jvm.MethodName)) ∈ lw_all := lw_g (lw_at lw_m6 219 rfl) rfl
theorem q1544 : (Jvm.Cond.code ({ cls := "ThroughPackModel", name := "w5", desc := "(IIIII)J" } : Jvm.MethodName) prog_17_method_27_code (5 : Nat) (Option.some Jvm.ClassFile.FieldType.long)) ∈ lw_all := lw_g (lw_at lw_m6 220 rfl) rfl
theorem q1545 : (Jvm.Cond.constantLong "ThroughPackModel" (178 : Nat) (120 : Int64)) ∈ lw_all := lw_g (lw_at lw_m6 221 rfl) rfl
theorem q1546 : (Jvm.Cond.constantLong "ThroughPackModel" (180 : Nat) (121 : Int64)) ∈ lw_all := lw_g (lw_at lw_m6 222 rfl) rfl
theorem q1547 : (Jvm.Cond.methodLink "ThroughPackModel" (182 : Nat) ({ cls := "ThroughPackModel", name := "w6", desc := "(IIIIII)J" } : Jvm.MethodName)) ∈ lw_all := lw_g (lw_at lw_m6 223 rfl) rfl
theorem q1548 : (Jvm.Cond.static ({ cls := "ThroughPackModel", name := "w6", desc := "(IIIIII)J" } : Jvm.MethodName)) ∈ lw_all := lw_g (lw_at lw_m6 224 rfl) rfl
theorem q1549 : (Jvm.Cond.code ({ cls := "ThroughPackModel", name := "w6", desc := "(IIIIII)J" } : Jvm.MethodName) prog_17_method_29_code (6 : Nat) (Option.some Jvm.ClassFile.FieldType.long)) ∈ lw_all := lw_g (lw_at lw_m6 225 rfl) rfl
theorem q1550 : (Jvm.Cond.methodLink "ThroughPackModel" (199 : Nat) ({ cls := "ThroughPackModel", name := "isBarred", desc := "(I)Z" } : Jvm.MethodName)) ∈ lw_all := lw_g (lw_at lw_m6 226 rfl) rfl
theorem q1551 : (Jvm.Cond.privateMethod ({ cls := "ThroughPackModel", name := "isBarred", desc := "(I)Z" } : Jvm.MethodName)) ∈ lw_tbl := lw_at lw_m6 227 rfl
theorem q1552 : (Jvm.Cond.instanceMethod ({ cls := "ThroughPackModel", name := "isBarred", desc := "(I)Z" } : Jvm.MethodName)) ∈ lw_all := lw_g (lw_at lw_m6 228 rfl) rfl
theorem q1553 : (Jvm.Cond.code ({ cls := "ThroughPackModel", name := "isBarred", desc := "(I)Z" } : Jvm.MethodName) prog_17_method_36_code (2 : Nat) (Option.some Jvm.ClassFile.FieldType.boolean)) ∈ lw_all := lw_g (lw_at lw_m6 229 rfl) rfl
theorem q1554 : (Jvm.Cond.methodLink "ThroughPackModel" (246 : Nat) ({ cls := "ThroughPackModel", name := "either", desc := "()I" } : Jvm.MethodName)) ∈ lw_all := lw_g (lw_at lw_m6 230 rfl) rfl
theorem q1555 : (Jvm.Cond.privateMethod ({ cls := "ThroughPackModel", name := "either", desc := "()I" } : Jvm.MethodName)) ∈ lw_tbl := lw_at lw_m6 231 rfl
theorem q1556 : (Jvm.Cond.instanceMethod ({ cls := "ThroughPackModel", name := "either", desc := "()I" } : Jvm.MethodName)) ∈ lw_all := lw_g (lw_at lw_m6 232 rfl) rfl
theorem q1557 : (Jvm.Cond.code ({ cls := "ThroughPackModel", name := "either", desc := "()I" } : Jvm.MethodName) prog_17_method_44_code (6 : Nat) (Option.some Jvm.ClassFile.FieldType.int)) ∈ lw_all := lw_g (lw_at lw_m6 233 rfl) rfl
theorem q1558 : (Jvm.Cond.methodLink "ThroughPackModel" (230 : Nat) ({ cls := "ThroughPackModel", name := "asks", desc := "()I" } : Jvm.MethodName)) ∈ lw_all := lw_g (lw_at lw_m6 234 rfl) rfl
theorem q1559 : (Jvm.Cond.privateMethod ({ cls := "ThroughPackModel", name := "asks", desc := "()I" } : Jvm.MethodName)) ∈ lw_tbl := lw_at lw_m6 235 rfl
theorem q1560 : (Jvm.Cond.instanceMethod ({ cls := "ThroughPackModel", name := "asks", desc := "()I" } : Jvm.MethodName)) ∈ lw_all := lw_g (lw_at lw_m6 236 rfl) rfl
theorem q1561 : (Jvm.Cond.code ({ cls := "ThroughPackModel", name := "asks", desc := "()I" } : Jvm.MethodName) prog_17_method_43_code (5 : Nat) (Option.some Jvm.ClassFile.FieldType.int)) ∈ lw_all := lw_g (lw_at lw_m6 237 rfl) rfl
theorem q1562 : (Jvm.Cond.methodLink "ThroughPackModel" (227 : Nat) ({ cls := "ThroughPackModel", name := "compareOf", desc := "()I" } : Jvm.MethodName)) ∈ lw_all := lw_g (lw_at lw_m6 238 rfl) rfl
theorem q1563 : (Jvm.Cond.privateMethod ({ cls := "ThroughPackModel", name := "compareOf", desc := "()I" } : Jvm.MethodName)) ∈ lw_tbl := lw_at lw_m6 239 rfl
theorem q1564 : (Jvm.Cond.instanceMethod ({ cls := "ThroughPackModel", name := "compareOf", desc := "()I" } : Jvm.MethodName)) ∈ lw_all := lw_g (lw_at lw_m7 0 rfl) rfl
theorem q1565 : (Jvm.Cond.code ({ cls := "ThroughPackModel", name := "compareOf", desc := "()I" } : Jvm.MethodName) prog_17_method_42_code (1 : Nat) (Option.some Jvm.ClassFile.FieldType.int)) ∈ lw_all := lw_g (lw_at lw_m7 1 rfl) rfl
theorem q1566 : (Jvm.Cond.constantLong "ThroughPackModel" (233 : Nat) (28530 : Int64)) ∈ lw_all := lw_g (lw_at lw_m7 2 rfl) rfl
theorem q1568 : (Jvm.Cond.instanceMethod ({ cls := "ThroughPackModel", name := "fault", desc := "(I)I" } : Jvm.MethodName)) ∈ lw_all := lw_g (lw_at lw_m7 4 rfl) rfl
theorem q1569 : (Jvm.Cond.selects "ThroughPackModel" ({ cls := "ThroughPackModel", name := "fault", desc := "(I)I" } : Jvm.MethodName) ({ cls := "ThroughPackModel", name := "fault", desc := "(I)I" } : Jvm.MethodName)) ∈ lw_all := lw_g (lw_at lw_m7 5 rfl) rfl
theorem q1570 : (Jvm.Cond.code ({ cls := "ThroughPackModel", name := "fault", desc := "(I)I" } : Jvm.MethodName) prog_17_method_50_code (2 : Nat) (Option.some Jvm.ClassFile.FieldType.int)) ∈ lw_all := lw_g (lw_at lw_m7 6 rfl) rfl
theorem q1572 : (Jvm.Cond.instanceMethod ({ cls := "ThroughPackModel", name := "by", desc := "(I)Z" } : Jvm.MethodName)) ∈ lw_all := lw_g (lw_at lw_m7 8 rfl) rfl
theorem q1573 : (Jvm.Cond.selects "ThroughPackModel" ({ cls := "ThroughPackModel", name := "by", desc := "(I)Z" } : Jvm.MethodName) ({ cls := "ThroughPackModel", name := "by", desc := "(I)Z" } : Jvm.MethodName)) ∈ lw_all := lw_g (lw_at lw_m7 9 rfl) rfl
theorem q1574 : (Jvm.Cond.code ({ cls := "ThroughPackModel", name := "by", desc := "(I)Z" } : Jvm.MethodName) prog_17_method_51_code (2 : Nat) (Option.some Jvm.ClassFile.FieldType.boolean)) ∈ lw_all := lw_g (lw_at lw_m7 10 rfl) rfl
theorem q1576 : (Jvm.Cond.instanceMethod ({ cls := "ThroughPackModel", name := "can", desc := "(II)Z" } : Jvm.MethodName)) ∈ lw_all := lw_g (lw_at lw_m7 12 rfl) rfl
theorem q1577 : (Jvm.Cond.selects "ThroughPackModel" ({ cls := "ThroughPackModel", name := "can", desc := "(II)Z" } : Jvm.MethodName) ({ cls := "ThroughPackModel", name := "can", desc := "(II)Z" } : Jvm.MethodName)) ∈ lw_all := lw_g (lw_at lw_m7 13 rfl) rfl
theorem q1578 : (Jvm.Cond.code ({ cls := "ThroughPackModel", name := "can", desc := "(II)Z" } : Jvm.MethodName) prog_17_method_74_code (3 : Nat) (Option.some Jvm.ClassFile.FieldType.boolean)) ∈ lw_all := lw_g (lw_at lw_m7 14 rfl) rfl
theorem q1579 : (Jvm.Cond.methodLink "ThroughPackModel" (310 : Nat) ({ cls := "ThroughPackModel", name := "isOrder", desc := "(I)Z" } : Jvm.MethodName)) ∈ lw_all := lw_g (lw_at lw_m7 15 rfl) rfl
theorem q1580 : (Jvm.Cond.static ({ cls := "ThroughPackModel", name := "isOrder", desc := "(I)Z" } : Jvm.MethodName)) ∈ lw_all := lw_g (lw_at lw_m7 16 rfl) rfl
theorem q1581 : (Jvm.Cond.code ({ cls := "ThroughPackModel", name := "isOrder", desc := "(I)Z" } : Jvm.MethodName) prog_17_method_69_code (1 : Nat) (Option.some Jvm.ClassFile.FieldType.boolean)) ∈ lw_all := lw_g (lw_at lw_m7 17 rfl) rfl
theorem q1582 : (Jvm.Cond.methodLink "ThroughPackModel" (313 : Nat) ({ cls := "ThroughPackModel", name := "isFree", desc := "(I)Z" } : Jvm.MethodName)) ∈ lw_all := lw_g (lw_at lw_m7 18 rfl) rfl
theorem q1583 : (Jvm.Cond.privateMethod ({ cls := "ThroughPackModel", name := "isFree", desc := "(I)Z" } : Jvm.MethodName)) ∈ lw_tbl := lw_at lw_m7 19 rfl
theorem q1584 : (Jvm.Cond.instanceMethod ({ cls := "ThroughPackModel", name := "isFree", desc := "(I)Z" } : Jvm.MethodName)) ∈ lw_all := lw_g (lw_at lw_m7 20 rfl) rfl
theorem q1585 : (Jvm.Cond.code ({ cls := "ThroughPackModel", name := "isFree", desc := "(I)Z" } : Jvm.MethodName) prog_17_method_72_code (2 : Nat) (Option.some Jvm.ClassFile.FieldType.boolean)) ∈ lw_all := lw_g (lw_at lw_m7 21 rfl) rfl
theorem q1586 : (Jvm.Cond.methodLink "ThroughPackModel" (316 : Nat) ({ cls := "ThroughPackModel", name := "layNow", desc := "(I)V" } : Jvm.MethodName)) ∈ lw_all := lw_g (lw_at lw_m7 22 rfl) rfl
theorem q1587 : (Jvm.Cond.privateMethod ({ cls := "ThroughPackModel", name := "layNow", desc := "(I)V" } : Jvm.MethodName)) ∈ lw_tbl := lw_at lw_m7 23 rfl
theorem q1588 : (Jvm.Cond.instanceMethod ({ cls := "ThroughPackModel", name := "layNow", desc := "(I)V" } : Jvm.MethodName)) ∈ lw_all := lw_g (lw_at lw_m7 24 rfl) rfl
theorem q1589 : (Jvm.Cond.code ({ cls := "ThroughPackModel", name := "layNow", desc := "(I)V" } : Jvm.MethodName) prog_17_method_68_code (3 : Nat) (Option.none : Option Jvm.ClassFile.FieldType)) ∈ lw_all := lw_g (lw_at lw_m7 25 rfl) rfl
theorem q1590 : (Jvm.Cond.methodLink "ThroughPackModel" (319 : Nat) ({ cls := "ThroughPackModel", name := "costOf", desc := "(III)I" } : Jvm.MethodName)) ∈ lw_all := lw_g (lw_at lw_m7 26 rfl) rfl
theorem q1591 : (Jvm.Cond.privateMethod ({ cls := "ThroughPackModel", name := "costOf", desc := "(III)I" } : Jvm.MethodName)) ∈ lw_tbl := lw_at lw_m7 27 rfl
theorem q1592 : (Jvm.Cond.instanceMethod ({ cls := "ThroughPackModel", name := "costOf", desc := "(III)I" } : Jvm.MethodName)) ∈ lw_all := lw_g (lw_at lw_m7 28 rfl) rfl
theorem q1593 : (Jvm.Cond.code ({ cls := "ThroughPackModel", name := "costOf", desc := "(III)I" } : Jvm.MethodName) prog_17_method_73_code (4 : Nat) (Option.some Jvm.ClassFile.FieldType.int)) ∈ lw_all := lw_g (lw_at lw_m7 29 rfl) rfl
theorem q1594 : (Jvm.Cond.methodLink "ThroughPackModel" (306 : Nat) ({ cls := "ThroughPackModel", name := "orderCost", desc := "(IIIIIII)I" } : Jvm.MethodName)) ∈ lw_all := lw_g (lw_at lw_m7 30 rfl) rfl
theorem q1595 : (Jvm.Cond.privateMethod ({ cls := "ThroughPackModel", name := "orderCost", desc := "(IIIIIII)I" } : Jvm.MethodName)) ∈ lw_tbl := lw_at lw_m7 31 rfl
theorem q1596 : (Jvm.Cond.instanceMethod ({ cls := "ThroughPackModel", name := "orderCost", desc := "(IIIIIII)I" } : Jvm.MethodName)) ∈ lw_all := lw_g (lw_at lw_m7 32 rfl) rfl
theorem q1597 : (Jvm.Cond.code ({ cls := "ThroughPackModel", name := "orderCost", desc := "(IIIIIII)I" } : Jvm.MethodName) prog_17_method_70_code (9 : Nat) (Option.some Jvm.ClassFile.FieldType.int)) ∈ lw_all := lw_g (lw_at lw_m7 33 rfl) rfl
theorem q1598 : (Jvm.Cond.methodLink "ThroughPackModel" (271 : Nat) ({ cls := "ThroughPackModel", name := "pushed", desc := "(II)I" } : Jvm.MethodName)) ∈ lw_all := lw_g (lw_at lw_m7 34 rfl) rfl
theorem q1599 : (Jvm.Cond.privateMethod ({ cls := "ThroughPackModel", name := "pushed", desc := "(II)I" } : Jvm.MethodName)) ∈ lw_tbl := lw_at lw_m7 35 rfl
theorem q1600 : (Jvm.Cond.instanceMethod ({ cls := "ThroughPackModel", name := "pushed", desc := "(II)I" } : Jvm.MethodName)) ∈ lw_all := lw_g (lw_at lw_m7 36 rfl) rfl
theorem q1601 : (Jvm.Cond.code ({ cls := "ThroughPackModel", name := "pushed", desc := "(II)I" } : Jvm.MethodName) prog_17_method_7_code (3 : Nat) (Option.some Jvm.ClassFile.FieldType.int)) ∈ lw_all := lw_g (lw_at lw_m7 37 rfl) rfl
theorem q1602 : (Jvm.Cond.methodLink "ThroughPackModel" (94 : Nat) ({ cls := "ThroughPackModel", name := "besideBy", desc := "(III)I" } : Jvm.MethodName)) ∈ lw_all := lw_g (lw_at lw_m7 38 rfl) rfl
theorem q1603 : (Jvm.Cond.privateMethod ({ cls := "ThroughPackModel", name := "besideBy", desc := "(III)I" } : Jvm.MethodName)) ∈ lw_tbl := lw_at lw_m7 39 rfl
theorem q1604 : (Jvm.Cond.instanceMethod ({ cls := "ThroughPackModel", name := "besideBy", desc := "(III)I" } : Jvm.MethodName)) ∈ lw_all := lw_g (lw_at lw_m7 40 rfl) rfl
theorem q1605 : (Jvm.Cond.code ({ cls := "ThroughPackModel", name := "besideBy", desc := "(III)I" } : Jvm.MethodName) prog_17_method_6_code (6 : Nat) (Option.some Jvm.ClassFile.FieldType.int)) ∈ lw_all := lw_g (lw_at lw_m7 41 rfl) rfl
theorem q1606 : (Jvm.Cond.methodLink "ThroughPackModel" (302 : Nat) ({ cls := "ThroughPackModel", name := "pushCost", desc := "(IIII)I" } : Jvm.MethodName)) ∈ lw_all := lw_g (lw_at lw_m7 42 rfl) rfl
theorem q1607 : (Jvm.Cond.privateMethod ({ cls := "ThroughPackModel", name := "pushCost", desc := "(IIII)I" } : Jvm.MethodName)) ∈ lw_tbl := lw_at lw_m7 43 rfl
theorem q1608 : (Jvm.Cond.instanceMethod ({ cls := "ThroughPackModel", name := "pushCost", desc := "(IIII)I" } : Jvm.MethodName)) ∈ lw_all := lw_g (lw_at lw_m7 44 rfl) rfl
theorem q1609 : (Jvm.Cond.code ({ cls := "ThroughPackModel", name := "pushCost", desc := "(IIII)I" } : Jvm.MethodName) prog_17_method_62_code (5 : Nat) (Option.some Jvm.ClassFile.FieldType.int)) ∈ lw_all := lw_g (lw_at lw_m7 45 rfl) rfl
theorem q1610 : (Jvm.Cond.methodLink "ThroughPackModel" (288 : Nat) ({ cls := "ThroughPackModel", name := "nameCell", desc := "(IIII)V" } : Jvm.MethodName)) ∈ lw_all := lw_g (lw_at lw_m7 46 rfl) rfl
theorem q1611 : (Jvm.Cond.privateMethod ({ cls := "ThroughPackModel", name := "nameCell", desc := "(IIII)V" } : Jvm.MethodName)) ∈ lw_tbl := lw_at lw_m7 47 rfl
theorem q1612 : (Jvm.Cond.instanceMethod ({ cls := "ThroughPackModel", name := "nameCell", desc := "(IIII)V" } : Jvm.MethodName)) ∈ lw_all := lw_g (lw_at lw_m7 48 rfl) rfl
theorem q1613 : (Jvm.Cond.code ({ cls := "ThroughPackModel", name := "nameCell", desc := "(IIII)V" } : Jvm.MethodName) prog_17_method_59_code (6 : Nat) (Option.none : Option Jvm.ClassFile.FieldType)) ∈ lw_all := lw_g (lw_at lw_m7 49 rfl) rfl
theorem q1614 : (Jvm.Cond.methodLink "ThroughPackModel" (274 : Nat) ({ cls := "ThroughPackModel", name := "iceOf", desc := "(II)I" } : Jvm.MethodName)) ∈ lw_all := lw_g (lw_at lw_m7 50 rfl) rfl
theorem q1615 : (Jvm.Cond.privateMethod ({ cls := "ThroughPackModel", name := "iceOf", desc := "(II)I" } : Jvm.MethodName)) ∈ lw_tbl := lw_at lw_m7 51 rfl
theorem q1616 : (Jvm.Cond.instanceMethod ({ cls := "ThroughPackModel", name := "iceOf", desc := "(II)I" } : Jvm.MethodName)) ∈ lw_all := lw_g (lw_at lw_m7 52 rfl) rfl
theorem q1617 : (Jvm.Cond.code ({ cls := "ThroughPackModel", name := "iceOf", desc := "(II)I" } : Jvm.MethodName) prog_17_method_58_code (3 : Nat) (Option.some Jvm.ClassFile.FieldType.int)) ∈ lw_all := lw_g (lw_at lw_m7 53 rfl) rfl
theorem q1618 : (Jvm.Cond.methodLink "ThroughPackModel" (292 : Nat) ({ cls := "ThroughPackModel", name := "isAny", desc := "(IZ)Z" } : Jvm.MethodName)) ∈ lw_all := lw_g (lw_at lw_m7 54 rfl) rfl
theorem q1619 : (Jvm.Cond.privateMethod ({ cls := "ThroughPackModel", name := "isAny", desc := "(IZ)Z" } : Jvm.MethodName)) ∈ lw_tbl := lw_at lw_m7 55 rfl
theorem q1620 : (Jvm.Cond.instanceMethod ({ cls := "ThroughPackModel", name := "isAny", desc := "(IZ)Z" } : Jvm.MethodName)) ∈ lw_all := lw_g (lw_at lw_m7 56 rfl) rfl
theorem q1621 : (Jvm.Cond.code ({ cls := "ThroughPackModel", name := "isAny", desc := "(IZ)Z" } : Jvm.MethodName) prog_17_method_60_code (5 : Nat) (Option.some Jvm.ClassFile.FieldType.boolean)) ∈ lw_all := lw_g (lw_at lw_m7 57 rfl) rfl
theorem q1622 : (Jvm.Cond.methodLink "ThroughPackModel" (277 : Nat) ({ cls := "ThroughPackModel", name := "clauses", desc := "(I)I" } : Jvm.MethodName)) ∈ lw_all := lw_g (lw_at lw_m7 58 rfl) rfl
theorem q1623 : (Jvm.Cond.privateMethod ({ cls := "ThroughPackModel", name := "clauses", desc := "(I)I" } : Jvm.MethodName)) ∈ lw_tbl := lw_at lw_m7 59 rfl
theorem q1624 : (Jvm.Cond.instanceMethod ({ cls := "ThroughPackModel", name := "clauses", desc := "(I)I" } : Jvm.MethodName)) ∈ lw_all := lw_g (lw_at lw_m7 60 rfl) rfl
theorem q1625 : (Jvm.Cond.code ({ cls := "ThroughPackModel", name := "clauses", desc := "(I)I" } : Jvm.MethodName) prog_17_method_57_code (2 : Nat) (Option.some Jvm.ClassFile.FieldType.int)) ∈ lw_all := lw_g (lw_at lw_m7 61 rfl) rfl
theorem q1626 : (Jvm.Cond.methodLink "ThroughPackModel" (280 : Nat) ({ cls := "ThroughPackModel", name := "sortAt", desc := "(II)I" } : Jvm.MethodName)) ∈ lw_all := lw_g (lw_at lw_m7 62 rfl) rfl
theorem q1627 : (Jvm.Cond.privateMethod ({ cls := "ThroughPackModel", name := "sortAt", desc := "(II)I" } : Jvm.MethodName)) ∈ lw_tbl := lw_at lw_m7 63 rfl
theorem q1628 : (Jvm.Cond.instanceMethod ({ cls := "ThroughPackModel", name := "sortAt", desc := "(II)I" } : Jvm.MethodName)) ∈ lw_all := lw_g (lw_at lw_m7 64 rfl) rfl
theorem q1629 : (Jvm.Cond.code ({ cls := "ThroughPackModel", name := "sortAt", desc := "(II)I" } : Jvm.MethodName) prog_17_method_56_code (3 : Nat) (Option.some Jvm.ClassFile.FieldType.int)) ∈ lw_all := lw_g (lw_at lw_m7 65 rfl) rfl
theorem q1630 : (Jvm.Cond.methodLink "ThroughPackModel" (283 : Nat) ({ cls := "ThroughPackModel", name := "work", desc := "(II)V" } : Jvm.MethodName)) ∈ lw_all := lw_g (lw_at lw_m7 66 rfl) rfl
theorem q1631 : (Jvm.Cond.privateMethod ({ cls := "ThroughPackModel", name := "work", desc := "(II)V" } : Jvm.MethodName)) ∈ lw_tbl := lw_at lw_m7 67 rfl
theorem q1632 : (Jvm.Cond.instanceMethod ({ cls := "ThroughPackModel", name := "work", desc := "(II)V" } : Jvm.MethodName)) ∈ lw_all := lw_g (lw_at lw_m7 68 rfl) rfl
theorem q1633 : (Jvm.Cond.code ({ cls := "ThroughPackModel", name := "work", desc := "(II)V" } : Jvm.MethodName) prog_17_method_55_code (10 : Nat) (Option.none : Option Jvm.ClassFile.FieldType)) ∈ lw_all := lw_g (lw_at lw_m7 69 rfl) rfl
theorem q1634 : (Jvm.Cond.methodLink "ThroughPackModel" (263 : Nat) ({ cls := "ThroughPackModel", name := "two", desc := "(IJJ)J" } : Jvm.MethodName)) ∈ lw_all := lw_g (lw_at lw_m7 70 rfl) rfl
theorem q1635 : (Jvm.Cond.static ({ cls := "ThroughPackModel", name := "two", desc := "(IJJ)J" } : Jvm.MethodName)) ∈ lw_all := lw_g (lw_at lw_m7 71 rfl) rfl
theorem q1636 : (Jvm.Cond.code ({ cls := "ThroughPackModel", name := "two", desc := "(IJJ)J" } : Jvm.MethodName) prog_17_method_53_code (5 : Nat) (Option.some Jvm.ClassFile.FieldType.long)) ∈ lw_all := lw_g (lw_at lw_m7 72 rfl) rfl
theorem q1637 : (Jvm.Cond.methodLink "ThroughPackModel" (259 : Nat) ({ cls := "ThroughPackModel", name := "clip", desc := "(J)J" } : Jvm.MethodName)) ∈ lw_all := lw_g (lw_at lw_m7 73 rfl) rfl
theorem q1638 : (Jvm.Cond.static ({ cls := "ThroughPackModel", name := "clip", desc := "(J)J" } : Jvm.MethodName)) ∈ lw_all := lw_g (lw_at lw_m7 74 rfl) rfl
theorem q1639 : (Jvm.Cond.code ({ cls := "ThroughPackModel", name := "clip", desc := "(J)J" } : Jvm.MethodName) prog_17_method_52_code (2 : Nat) (Option.some Jvm.ClassFile.FieldType.long)) ∈ lw_all := lw_g (lw_at lw_m7 75 rfl) rfl
theorem q1640 : (Jvm.Cond.constantLong "ThroughPackModel" (255 : Nat) (1000000 : Int64)) ∈ lw_all := lw_g (lw_at lw_m7 76 rfl) rfl
theorem q1641 : (Jvm.Cond.constantLong "ThroughPackModel" (257 : Nat) (-1000000 : Int64)) ∈ lw_all := lw_g (lw_at lw_m7 77 rfl) rfl
theorem q1642 : (Jvm.Cond.methodLink "ThroughPackModel" (267 : Nat) ({ cls := "ThroughPackModel", name := "isAsked", desc := "(IJJ)Z" } : Jvm.MethodName)) ∈ lw_all := lw_g (lw_at lw_m7 78 rfl) rfl
theorem q1643 : (Jvm.Cond.static ({ cls := "ThroughPackModel", name := "isAsked", desc := "(IJJ)Z" } : Jvm.MethodName)) ∈ lw_all := lw_g (lw_at lw_m7 79 rfl) rfl
theorem q1644 : (Jvm.Cond.code ({ cls := "ThroughPackModel", name := "isAsked", desc := "(IJJ)Z" } : Jvm.MethodName) prog_17_method_54_code (5 : Nat) (Option.some Jvm.ClassFile.FieldType.boolean)) ∈ lw_all := lw_g (lw_at lw_m7 80 rfl) rfl
theorem q1645 : (Jvm.Cond.methodLink "ThroughPackModel" (296 : Nat) ({ cls := "ThroughPackModel", name := "sumOf", desc := "(II)I" } : Jvm.MethodName)) ∈ lw_all := lw_g (lw_at lw_m7 81 rfl) rfl
theorem q1646 : (Jvm.Cond.privateMethod ({ cls := "ThroughPackModel", name := "sumOf", desc := "(II)I" } : Jvm.MethodName)) ∈ lw_tbl := lw_at lw_m7 82 rfl
theorem q1647 : (Jvm.Cond.instanceMethod ({ cls := "ThroughPackModel", name := "sumOf", desc := "(II)I" } : Jvm.MethodName)) ∈ lw_all := lw_g (lw_at lw_m7 83 rfl) rfl
theorem q1648 : (Jvm.Cond.code ({ cls := "ThroughPackModel", name := "sumOf", desc := "(II)I" } : Jvm.MethodName) prog_17_method_61_code (4 : Nat) (Option.some Jvm.ClassFile.FieldType.int)) ∈ lw_all := lw_g (lw_at lw_m7 84 rfl) rfl
theorem q1649 : (Jvm.Cond.constantLong "ThroughPackModel" (286 : Nat) (99 : Int64)) ∈ lw_all := lw_g (lw_at lw_m7 85 rfl) rfl
theorem q1651 : (Jvm.Cond.instanceMethod ({ cls := "ThroughPackModel", name := "watch", desc := "(III)I" } : Jvm.MethodName)) ∈ lw_all := lw_g (lw_at lw_m7 87 rfl) rfl
theorem q1652 : (Jvm.Cond.selects "ThroughPackModel" ({ cls := "ThroughPackModel", name := "watch", desc := "(III)I" } : Jvm.MethodName) ({ cls := "ThroughPackModel", name := "watch", desc := "(III)I" } : Jvm.MethodName)) ∈ lw_all := lw_g (lw_at lw_m7 88 rfl) rfl
theorem q1653 : (Jvm.Cond.code ({ cls := "ThroughPackModel", name := "watch", desc := "(III)I" } : Jvm.MethodName) prog_17_method_77_code (8 : Nat) (Option.some Jvm.ClassFile.FieldType.int)) ∈ lw_all := lw_g (lw_at lw_m7 89 rfl) rfl
theorem q1654 : (Jvm.Cond.methodLink "ThroughPackModel" (332 : Nat) ({ cls := "ThroughPackModel", name := "does", desc := "(III)Z" } : Jvm.MethodName)) ∈ lw_all := lw_g (lw_at lw_m7 90 rfl) rfl
theorem q1655 : (Jvm.Cond.privateMethod ({ cls := "ThroughPackModel", name := "does", desc := "(III)Z" } : Jvm.MethodName)) ∈ lw_tbl := lw_at lw_m7 91 rfl
theorem q1656 : (Jvm.Cond.instanceMethod ({ cls := "ThroughPackModel", name := "does", desc := "(III)Z" } : Jvm.MethodName)) ∈ lw_all := lw_g (lw_at lw_m7 92 rfl) rfl
theorem q1657 : (Jvm.Cond.code ({ cls := "ThroughPackModel", name := "does", desc := "(III)Z" } : Jvm.MethodName) prog_17_method_75_code (6 : Nat) (Option.some Jvm.ClassFile.FieldType.boolean)) ∈ lw_all := lw_g (lw_at lw_m7 93 rfl) rfl
theorem q1658 : (Jvm.Cond.methodLink "ThroughPackModel" (322 : Nat) ({ cls := "ThroughPackModel", name := "firesBehind", desc := "(II)I" } : Jvm.MethodName)) ∈ lw_all := lw_g (lw_at lw_m7 94 rfl) rfl
theorem q1659 : (Jvm.Cond.static ({ cls := "ThroughPackModel", name := "firesBehind", desc := "(II)I" } : Jvm.MethodName)) ∈ lw_all := lw_g (lw_at lw_m7 95 rfl) rfl
theorem q1660 : (Jvm.Cond.code ({ cls := "ThroughPackModel", name := "firesBehind", desc := "(II)I" } : Jvm.MethodName) prog_17_method_71_code (2 : Nat) (Option.some Jvm.ClassFile.FieldType.int)) ∈ lw_all := lw_g (lw_at lw_m7 96 rfl) rfl
theorem q1661 : (Jvm.Cond.methodLink "ThroughPackModel" (335 : Nat) ({ cls := "ThroughPackModel", name := "go", desc := "(IIII)V" } : Jvm.MethodName)) ∈ lw_all := lw_g (lw_at lw_m7 97 rfl) rfl
theorem q1662 : (Jvm.Cond.privateMethod ({ cls := "ThroughPackModel", name := "go", desc := "(IIII)V" } : Jvm.MethodName)) ∈ lw_tbl := lw_at lw_m7 98 rfl
theorem q1663 : (Jvm.Cond.instanceMethod ({ cls := "ThroughPackModel", name := "go", desc := "(IIII)V" } : Jvm.MethodName)) ∈ lw_all := lw_g (lw_at lw_m7 99 rfl) rfl
theorem q1664 : (Jvm.Cond.code ({ cls := "ThroughPackModel", name := "go", desc := "(IIII)V" } : Jvm.MethodName) prog_17_method_67_code (6 : Nat) (Option.none : Option Jvm.ClassFile.FieldType)) ∈ lw_all := lw_g (lw_at lw_m7 100 rfl) rfl
theorem q1665 : (Jvm.Cond.methodLink "ThroughPackModel" (299 : Nat) ({ cls := "ThroughPackModel", name := "driven", desc := "(III)I" } : Jvm.MethodName)) ∈ lw_all := lw_g (lw_at lw_m7 101 rfl) rfl
theorem q1666 : (Jvm.Cond.privateMethod ({ cls := "ThroughPackModel", name := "driven", desc := "(III)I" } : Jvm.MethodName)) ∈ lw_tbl := lw_at lw_m7 102 rfl
theorem q1667 : (Jvm.Cond.instanceMethod ({ cls := "ThroughPackModel", name := "driven", desc := "(III)I" } : Jvm.MethodName)) ∈ lw_all := lw_g (lw_at lw_m7 103 rfl) rfl
theorem q1668 : (Jvm.Cond.code ({ cls := "ThroughPackModel", name := "driven", desc := "(III)I" } : Jvm.MethodName) prog_17_method_65_code (4 : Nat) (Option.some Jvm.ClassFile.FieldType.int)) ∈ lw_all := lw_g (lw_at lw_m7 104 rfl) rfl
theorem q1669 : (Jvm.Cond.methodLink "ThroughPackModel" (338 : Nat) ({ cls := "ThroughPackModel", name := "floatShip", desc := "(IZII)V" } : Jvm.MethodName)) ∈ lw_all := lw_g (lw_at lw_m7 105 rfl) rfl
theorem q1670 : (Jvm.Cond.privateMethod ({ cls := "ThroughPackModel", name := "floatShip", desc := "(IZII)V" } : Jvm.MethodName)) ∈ lw_tbl := lw_at lw_m7 106 rfl
theorem q1671 : (Jvm.Cond.instanceMethod ({ cls := "ThroughPackModel", name := "floatShip", desc := "(IZII)V" } : Jvm.MethodName)) ∈ lw_all := lw_g (lw_at lw_m7 107 rfl) rfl
theorem q1672 : (Jvm.Cond.code ({ cls := "ThroughPackModel", name := "floatShip", desc := "(IZII)V" } : Jvm.MethodName) prog_17_method_76_code (6 : Nat) (Option.none : Option Jvm.ClassFile.FieldType)) ∈ lw_all := lw_g (lw_at lw_m7 108 rfl) rfl
theorem q1673 : (Jvm.Cond.methodLink "ThroughPackModel" (325 : Nat) ({ cls := "ThroughPackModel", name := "drifted", desc := "(II)I" } : Jvm.MethodName)) ∈ lw_all := lw_g (lw_at lw_m7 109 rfl) rfl
theorem q1674 : (Jvm.Cond.privateMethod ({ cls := "ThroughPackModel", name := "drifted", desc := "(II)I" } : Jvm.MethodName)) ∈ lw_tbl := lw_at lw_m7 110 rfl
theorem q1675 : (Jvm.Cond.instanceMethod ({ cls := "ThroughPackModel", name := "drifted", desc := "(II)I" } : Jvm.MethodName)) ∈ lw_all := lw_g (lw_at lw_m7 111 rfl) rfl
theorem q1676 : (Jvm.Cond.code ({ cls := "ThroughPackModel", name := "drifted", desc := "(II)I" } : Jvm.MethodName) prog_17_method_66_code (4 : Nat) (Option.some Jvm.ClassFile.FieldType.int)) ∈ lw_all := lw_g (lw_at lw_m7 112 rfl) rfl
theorem q1677 : (Jvm.Cond.methodLink "ThroughPackModel" (328 : Nat) ({ cls := "ThroughPackModel", name := "nips", desc := "(IIII)Z" } : Jvm.MethodName)) ∈ lw_all := lw_g (lw_at lw_m7 113 rfl) rfl
theorem q1678 : (Jvm.Cond.privateMethod ({ cls := "ThroughPackModel", name := "nips", desc := "(IIII)Z" } : Jvm.MethodName)) ∈ lw_tbl := lw_at lw_m7 114 rfl
theorem q1679 : (Jvm.Cond.instanceMethod ({ cls := "ThroughPackModel", name := "nips", desc := "(IIII)Z" } : Jvm.MethodName)) ∈ lw_all := lw_g (lw_at lw_m7 115 rfl) rfl
theorem q1680 : (Jvm.Cond.code ({ cls := "ThroughPackModel", name := "nips", desc := "(IIII)Z" } : Jvm.MethodName) prog_17_method_63_code (5 : Nat) (Option.some Jvm.ClassFile.FieldType.boolean)) ∈ lw_all := lw_g (lw_at lw_m7 116 rfl) rfl
theorem q1682 : (Jvm.Cond.instanceMethod ({ cls := "ThroughPackModel", name := "of", desc := "(II)I" } : Jvm.MethodName)) ∈ lw_all := lw_g (lw_at lw_m7 118 rfl) rfl
theorem q1683 : (Jvm.Cond.selects "ThroughPackModel" ({ cls := "ThroughPackModel", name := "of", desc := "(II)I" } : Jvm.MethodName) ({ cls := "ThroughPackModel", name := "of", desc := "(II)I" } : Jvm.MethodName)) ∈ lw_all := lw_g (lw_at lw_m7 119 rfl) rfl
theorem q1684 : (Jvm.Cond.code ({ cls := "ThroughPackModel", name := "of", desc := "(II)I" } : Jvm.MethodName) prog_17_method_78_code (3 : Nat) (Option.some Jvm.ClassFile.FieldType.int)) ∈ lw_all := lw_g (lw_at lw_m7 120 rfl) rfl
theorem q1686 : (Jvm.Cond.instanceMethod ({ cls := "ThroughPackModel", name := "ahead", desc := "(II)I" } : Jvm.MethodName)) ∈ lw_all := lw_g (lw_at lw_m7 122 rfl) rfl
theorem q1687 : (Jvm.Cond.selects "ThroughPackModel" ({ cls := "ThroughPackModel", name := "ahead", desc := "(II)I" } : Jvm.MethodName) ({ cls := "ThroughPackModel", name := "ahead", desc := "(II)I" } : Jvm.MethodName)) ∈ lw_all := lw_g (lw_at lw_m7 123 rfl) rfl
theorem q1688 : (Jvm.Cond.code ({ cls := "ThroughPackModel", name := "ahead", desc := "(II)I" } : Jvm.MethodName) prog_17_method_79_code (3 : Nat) (Option.some Jvm.ClassFile.FieldType.int)) ∈ lw_all := lw_g (lw_at lw_m7 124 rfl) rfl
theorem q1690 : (Jvm.Cond.instanceMethod ({ cls := "ThroughPackModel", name := "many", desc := "(II)Z" } : Jvm.MethodName)) ∈ lw_all := lw_g (lw_at lw_m7 126 rfl) rfl
theorem q1691 : (Jvm.Cond.selects "ThroughPackModel" ({ cls := "ThroughPackModel", name := "many", desc := "(II)Z" } : Jvm.MethodName) ({ cls := "ThroughPackModel", name := "many", desc := "(II)Z" } : Jvm.MethodName)) ∈ lw_all := lw_g (lw_at lw_m7 127 rfl) rfl
theorem q1692 : (Jvm.Cond.code ({ cls := "ThroughPackModel", name := "many", desc := "(II)Z" } : Jvm.MethodName) prog_17_method_80_code (3 : Nat) (Option.some Jvm.ClassFile.FieldType.boolean)) ∈ lw_all := lw_g (lw_at lw_m7 128 rfl) rfl
theorem q1694 : (Jvm.Cond.instanceMethod ({ cls := "ThroughPackModel", name := "soonest", desc := "(I)I" } : Jvm.MethodName)) ∈ lw_all := lw_g (lw_at lw_m7 130 rfl) rfl
theorem q1695 : (Jvm.Cond.selects "ThroughPackModel" ({ cls := "ThroughPackModel", name := "soonest", desc := "(I)I" } : Jvm.MethodName) ({ cls := "ThroughPackModel", name := "soonest", desc := "(I)I" } : Jvm.MethodName)) ∈ lw_all := lw_g (lw_at lw_m7 131 rfl) rfl
theorem q1696 : (Jvm.Cond.code ({ cls := "ThroughPackModel", name := "soonest", desc := "(I)I" } : Jvm.MethodName) prog_17_method_92_code (9 : Nat) (Option.some Jvm.ClassFile.FieldType.int)) ∈ lw_all := lw_g (lw_at lw_m7 132 rfl) rfl
theorem q1697 : (Jvm.Cond.methodLink "ThroughPackModel" (364 : Nat) ({ cls := "ThroughPackModel", name := "findOut", desc := "()V" } : Jvm.MethodName)) ∈ lw_all := lw_g (lw_at lw_m7 133 rfl) rfl
theorem q1698 : (Jvm.Cond.privateMethod ({ cls := "ThroughPackModel", name := "findOut", desc := "()V" } : Jvm.MethodName)) ∈ lw_tbl := lw_at lw_m7 134 rfl
theorem q1699 : (Jvm.Cond.instanceMethod ({ cls := "ThroughPackModel", name := "findOut", desc := "()V" } : Jvm.MethodName)) ∈ lw_all := lw_g (lw_at lw_m7 135 rfl) rfl
theorem q1700 : (Jvm.Cond.code ({ cls := "ThroughPackModel", name := "findOut", desc := "()V" } : Jvm.MethodName) prog_17_method_88_code (6 : Nat) (Option.none : Option Jvm.ClassFile.FieldType)) ∈ lw_all := lw_g (lw_at lw_m7 136 rfl) rfl
theorem q1701 : (Jvm.Cond.methodLink "ThroughPackModel" (358 : Nat) ({ cls := "ThroughPackModel", name := "look", desc := "()V" } : Jvm.MethodName)) ∈ lw_all := lw_g (lw_at lw_m7 137 rfl) rfl
theorem q1702 : (Jvm.Cond.privateMethod ({ cls := "ThroughPackModel", name := "look", desc := "()V" } : Jvm.MethodName)) ∈ lw_tbl := lw_at lw_m7 138 rfl
theorem q1703 : (Jvm.Cond.instanceMethod ({ cls := "ThroughPackModel", name := "look", desc := "()V" } : Jvm.MethodName)) ∈ lw_all := lw_g (lw_at lw_m7 139 rfl) rfl
theorem q1704 : (Jvm.Cond.code ({ cls := "ThroughPackModel", name := "look", desc := "()V" } : Jvm.MethodName) prog_17_method_82_code (4 : Nat) (Option.none : Option Jvm.ClassFile.FieldType)) ∈ lw_all := lw_g (lw_at lw_m7 140 rfl) rfl
theorem q1705 : (Jvm.Cond.methodLink "ThroughPackModel" (342 : Nat) ({ cls := "ThroughPackModel", name := "windBefore", desc := "(I)I" } : Jvm.MethodName)) ∈ lw_all := lw_g (lw_at lw_m7 141 rfl) rfl
theorem q1706 : (Jvm.Cond.privateMethod ({ cls := "ThroughPackModel", name := "windBefore", desc := "(I)I" } : Jvm.MethodName)) ∈ lw_tbl := lw_at lw_m7 142 rfl
theorem q1707 : (Jvm.Cond.instanceMethod ({ cls := "ThroughPackModel", name := "windBefore", desc := "(I)I" } : Jvm.MethodName)) ∈ lw_all := lw_g (lw_at lw_m7 143 rfl) rfl
theorem q1708 : (Jvm.Cond.code ({ cls := "ThroughPackModel", name := "windBefore", desc := "(I)I" } : Jvm.MethodName) prog_17_method_81_code (2 : Nat) (Option.some Jvm.ClassFile.FieldType.int)) ∈ lw_all := lw_g (lw_at lw_m7 144 rfl) rfl
theorem q1709 : (Jvm.Cond.methodLink "ThroughPackModel" (352 : Nat) ({ cls := "ThroughPackModel", name := "stateAt", desc := "(IIII)I" } : Jvm.MethodName)) ∈ lw_all := lw_g (lw_at lw_m7 145 rfl) rfl
theorem q1710 : (Jvm.Cond.static ({ cls := "ThroughPackModel", name := "stateAt", desc := "(IIII)I" } : Jvm.MethodName)) ∈ lw_all := lw_g (lw_at lw_m7 146 rfl) rfl
theorem q1711 : (Jvm.Cond.code ({ cls := "ThroughPackModel", name := "stateAt", desc := "(IIII)I" } : Jvm.MethodName) prog_17_method_85_code (4 : Nat) (Option.some Jvm.ClassFile.FieldType.int)) ∈ lw_all := lw_g (lw_at lw_m7 147 rfl) rfl
theorem q1712 : (Jvm.Cond.methodLink "ThroughPackModel" (361 : Nat) ({ cls := "ThroughPackModel", name := "bestOut", desc := "(IIII)I" } : Jvm.MethodName)) ∈ lw_all := lw_g (lw_at lw_m7 148 rfl) rfl
theorem q1713 : (Jvm.Cond.privateMethod ({ cls := "ThroughPackModel", name := "bestOut", desc := "(IIII)I" } : Jvm.MethodName)) ∈ lw_tbl := lw_at lw_m7 149 rfl
theorem q1714 : (Jvm.Cond.instanceMethod ({ cls := "ThroughPackModel", name := "bestOut", desc := "(IIII)I" } : Jvm.MethodName)) ∈ lw_all := lw_g (lw_at lw_m7 150 rfl) rfl
theorem q1715 : (Jvm.Cond.code ({ cls := "ThroughPackModel", name := "bestOut", desc := "(IIII)I" } : Jvm.MethodName) prog_17_method_87_code (9 : Nat) (Option.some Jvm.ClassFile.FieldType.int)) ∈ lw_all := lw_g (lw_at lw_m7 151 rfl) rfl
theorem q1716 : (Jvm.Cond.methodLink "ThroughPackModel" (355 : Nat) ({ cls := "ThroughPackModel", name := "outBy", desc := "(IIIII)I" } : Jvm.MethodName)) ∈ lw_all := lw_g (lw_at lw_m7 152 rfl) rfl
theorem q1717 : (Jvm.Cond.privateMethod ({ cls := "ThroughPackModel", name := "outBy", desc := "(IIIII)I" } : Jvm.MethodName)) ∈ lw_tbl := lw_at lw_m7 153 rfl
theorem q1718 : (Jvm.Cond.instanceMethod ({ cls := "ThroughPackModel", name := "outBy", desc := "(IIIII)I" } : Jvm.MethodName)) ∈ lw_all := lw_g (lw_at lw_m7 154 rfl) rfl
theorem q1719 : (Jvm.Cond.code ({ cls := "ThroughPackModel", name := "outBy", desc := "(IIIII)I" } : Jvm.MethodName) prog_17_method_86_code (9 : Nat) (Option.some Jvm.ClassFile.FieldType.int)) ∈ lw_all := lw_g (lw_at lw_m7 155 rfl) rfl
theorem q1720 : (Jvm.Cond.methodLink "ThroughPackModel" (345 : Nat) ({ cls := "ThroughPackModel", name := "costAhead", desc := "(IIIII)I" } : Jvm.MethodName)) ∈ lw_all := lw_g (lw_at lw_m7 156 rfl) rfl
theorem q1721 : (Jvm.Cond.privateMethod ({ cls := "ThroughPackModel", name := "costAhead", desc := "(IIIII)I" } : Jvm.MethodName)) ∈ lw_tbl := lw_at lw_m7 157 rfl
theorem q1722 : (Jvm.Cond.instanceMethod ({ cls := "ThroughPackModel", name := "costAhead", desc := "(IIIII)I" } : Jvm.MethodName)) ∈ lw_all := lw_g (lw_at lw_m7 158 rfl) rfl
theorem q1723 : (Jvm.Cond.code ({ cls := "ThroughPackModel", name := "costAhead", desc := "(IIIII)I" } : Jvm.MethodName) prog_17_method_83_code (8 : Nat) (Option.some Jvm.ClassFile.FieldType.int)) ∈ lw_all := lw_g (lw_at lw_m7 159 rfl) rfl
theorem q1724 : (Jvm.Cond.methodLink "ThroughPackModel" (349 : Nat) ({ cls := "ThroughPackModel", name := "cellAhead", desc := "(III)I" } : Jvm.MethodName)) ∈ lw_all := lw_g (lw_at lw_m7 160 rfl) rfl
theorem q1725 : (Jvm.Cond.privateMethod ({ cls := "ThroughPackModel", name := "cellAhead", desc := "(III)I" } : Jvm.MethodName)) ∈ lw_tbl := lw_at lw_m7 161 rfl
theorem q1726 : (Jvm.Cond.instanceMethod ({ cls := "ThroughPackModel", name := "cellAhead", desc := "(III)I" } : Jvm.MethodName)) ∈ lw_all := lw_g (lw_at lw_m7 162 rfl) rfl
theorem q1727 : (Jvm.Cond.code ({ cls := "ThroughPackModel", name := "cellAhead", desc := "(III)I" } : Jvm.MethodName) prog_17_method_84_code (4 : Nat) (Option.some Jvm.ClassFile.FieldType.int)) ∈ lw_all := lw_g (lw_at lw_m7 163 rfl) rfl
theorem q1728 : (Jvm.Cond.methodLink "ThroughPackModel" (367 : Nat) ({ cls := "ThroughPackModel", name := "shipCell", desc := "()I" } : Jvm.MethodName)) ∈ lw_all := lw_g (lw_at lw_m7 164 rfl) rfl
theorem q1729 : (Jvm.Cond.privateMethod ({ cls := "ThroughPackModel", name := "shipCell", desc := "()I" } : Jvm.MethodName)) ∈ lw_tbl := lw_at lw_m7 165 rfl
theorem q1730 : (Jvm.Cond.instanceMethod ({ cls := "ThroughPackModel", name := "shipCell", desc := "()I" } : Jvm.MethodName)) ∈ lw_all := lw_g (lw_at lw_m7 166 rfl) rfl
theorem q1731 : (Jvm.Cond.code ({ cls := "ThroughPackModel", name := "shipCell", desc := "()I" } : Jvm.MethodName) prog_17_method_89_code (1 : Nat) (Option.some Jvm.ClassFile.FieldType.int)) ∈ lw_all := lw_g (lw_at lw_m7 167 rfl) rfl
theorem q1732 : (Jvm.Cond.methodLink "ThroughPackModel" (370 : Nat) ({ cls := "ThroughPackModel", name := "shipCoal", desc := "()I" } : Jvm.MethodName)) ∈ lw_all := lw_g (lw_at lw_m7 168 rfl) rfl
theorem q1733 : (Jvm.Cond.privateMethod ({ cls := "ThroughPackModel", name := "shipCoal", desc := "()I" } : Jvm.MethodName)) ∈ lw_tbl := lw_at lw_m7 169 rfl
theorem q1734 : (Jvm.Cond.instanceMethod ({ cls := "ThroughPackModel", name := "shipCoal", desc := "()I" } : Jvm.MethodName)) ∈ lw_all := lw_g (lw_at lw_m7 170 rfl) rfl
theorem q1735 : (Jvm.Cond.code ({ cls := "ThroughPackModel", name := "shipCoal", desc := "()I" } : Jvm.MethodName) prog_17_method_90_code (1 : Nat) (Option.some Jvm.ClassFile.FieldType.int)) ∈ lw_all := lw_g (lw_at lw_m7 171 rfl) rfl
theorem q1736 : (Jvm.Cond.methodLink "ThroughPackModel" (373 : Nat) ({ cls := "ThroughPackModel", name := "shipBanked", desc := "()I" } : Jvm.MethodName)) ∈ lw_all := lw_g (lw_at lw_m7 172 rfl) rfl
theorem q1737 : (Jvm.Cond.privateMethod ({ cls := "ThroughPackModel", name := "shipBanked", desc := "()I" } : Jvm.MethodName)) ∈ lw_tbl := lw_at lw_m7 173 rfl
theorem q1738 : (Jvm.Cond.instanceMethod ({ cls := "ThroughPackModel", name := "shipBanked", desc := "()I" } : Jvm.MethodName)) ∈ lw_all := lw_g (lw_at lw_m7 174 rfl) rfl
theorem q1739 : (Jvm.Cond.code ({ cls := "ThroughPackModel", name := "shipBanked", desc := "()I" } : Jvm.MethodName) prog_17_method_91_code (1 : Nat) (Option.some Jvm.ClassFile.FieldType.int)) ∈ lw_all := lw_g (lw_at lw_m7 175 rfl) rfl
theorem q1741 : (Jvm.Cond.instanceMethod ({ cls := "ThroughPackModel", name := "least", desc := "()I" } : Jvm.MethodName)) ∈ lw_all := lw_g (lw_at lw_m7 177 rfl) rfl
theorem q1742 : (Jvm.Cond.selects "ThroughPackModel" ({ cls := "ThroughPackModel", name := "least", desc := "()I" } : Jvm.MethodName) ({ cls := "ThroughPackModel", name := "least", desc := "()I" } : Jvm.MethodName)) ∈ lw_all := lw_g (lw_at lw_m7 178 rfl) rfl
theorem q1743 : (Jvm.Cond.code ({ cls := "ThroughPackModel", name := "least", desc := "()I" } : Jvm.MethodName) prog_17_method_93_code (2 : Nat) (Option.some Jvm.ClassFile.FieldType.int)) ∈ lw_all := lw_g (lw_at lw_m7 179 rfl) rfl
theorem q1745 : (Jvm.Cond.instanceMethod ({ cls := "ThroughPackModel", name := "order", desc := "(II)I" } : Jvm.MethodName)) ∈ lw_all := lw_g (lw_at lw_m7 181 rfl) rfl
theorem q1746 : (Jvm.Cond.selects "ThroughPackModel" ({ cls := "ThroughPackModel", name := "order", desc := "(II)I" } : Jvm.MethodName) ({ cls := "ThroughPackModel", name := "order", desc := "(II)I" } : Jvm.MethodName)) ∈ lw_all := lw_g (lw_at lw_m7 182 rfl) rfl
theorem q1747 : (Jvm.Cond.code ({ cls := "ThroughPackModel", name := "order", desc := "(II)I" } : Jvm.MethodName) prog_17_method_94_code (3 : Nat) (Option.some Jvm.ClassFile.FieldType.int)) ∈ lw_all := lw_g (lw_at lw_m7 183 rfl) rfl
theorem q1749 : (Jvm.Cond.instanceMethod ({ cls := "ThroughPackModel", name := "told", desc := "(I)I" } : Jvm.MethodName)) ∈ lw_all := lw_g (lw_at lw_m7 185 rfl) rfl
theorem q1750 : (Jvm.Cond.selects "ThroughPackModel" ({ cls := "ThroughPackModel", name := "told", desc := "(I)I" } : Jvm.MethodName) ({ cls := "ThroughPackModel", name := "told", desc := "(I)I" } : Jvm.MethodName)) ∈ lw_all := lw_g (lw_at lw_m7 186 rfl) rfl
theorem q1751 : (Jvm.Cond.code ({ cls := "ThroughPackModel", name := "told", desc := "(I)I" } : Jvm.MethodName) prog_17_method_96_code (2 : Nat) (Option.some Jvm.ClassFile.FieldType.int)) ∈ lw_all := lw_g (lw_at lw_m7 187 rfl) rfl
theorem q1752 : (Jvm.Cond.methodLink "ThroughPackModel" (379 : Nat) ({ cls := "ThroughPackModel", name := "follow", desc := "()V" } : Jvm.MethodName)) ∈ lw_all := lw_g (lw_at lw_m7 188 rfl) rfl
theorem q1753 : (Jvm.Cond.privateMethod ({ cls := "ThroughPackModel", name := "follow", desc := "()V" } : Jvm.MethodName)) ∈ lw_tbl := lw_at lw_m7 189 rfl
theorem q1754 : (Jvm.Cond.instanceMethod ({ cls := "ThroughPackModel", name := "follow", desc := "()V" } : Jvm.MethodName)) ∈ lw_all := lw_g (lw_at lw_m7 190 rfl) rfl
theorem q1755 : (Jvm.Cond.code ({ cls := "ThroughPackModel", name := "follow", desc := "()V" } : Jvm.MethodName) prog_17_method_95_code (6 : Nat) (Option.none : Option Jvm.ClassFile.FieldType)) ∈ lw_all := lw_g (lw_at lw_m7 191 rfl) rfl
theorem q1757 : (Jvm.Cond.instanceMethod ({ cls := "ThroughPackModel", name := "home", desc := "(I)Z" } : Jvm.MethodName)) ∈ lw_all := lw_g (lw_at lw_m7 193 rfl) rfl
theorem q1758 : (Jvm.Cond.selects "ThroughPackModel" ({ cls := "ThroughPackModel", name := "home", desc := "(I)Z" } : Jvm.MethodName) ({ cls := "ThroughPackModel", name := "home", desc := "(I)Z" } : Jvm.MethodName)) ∈ lw_all := lw_g (lw_at lw_m7 194 rfl) rfl
theorem q1759 : (Jvm.Cond.code ({ cls := "ThroughPackModel", name := "home", desc := "(I)Z" } : Jvm.MethodName) prog_17_method_97_code (2 : Nat) (Option.some Jvm.ClassFile.FieldType.boolean)) ∈ lw_all := lw_g (lw_at lw_m7 195 rfl) rfl
theorem q1761 : (Jvm.Cond.instanceMethod ({ cls := "ThroughPackModel", name := "last", desc := "()I" } : Jvm.MethodName)) ∈ lw_all := lw_g (lw_at lw_m7 197 rfl) rfl
theorem q1762 : (Jvm.Cond.selects "ThroughPackModel" ({ cls := "ThroughPackModel", name := "last", desc := "()I" } : Jvm.MethodName) ({ cls := "ThroughPackModel", name := "last", desc := "()I" } : Jvm.MethodName)) ∈ lw_all := lw_g (lw_at lw_m7 198 rfl) rfl
theorem q1763 : (Jvm.Cond.code ({ cls := "ThroughPackModel", name := "last", desc := "()I" } : Jvm.MethodName) prog_17_method_99_code (5 : Nat) (Option.some Jvm.ClassFile.FieldType.int)) ∈ lw_all := lw_g (lw_at lw_m7 199 rfl) rfl
theorem q1764 : (Jvm.Cond.methodLink "ThroughPackModel" (382 : Nat) ({ cls := "ThroughPackModel", name := "canHome", desc := "(IIII)Z" } : Jvm.MethodName)) ∈ lw_all := lw_g (lw_at lw_m7 200 rfl) rfl
theorem q1765 : (Jvm.Cond.privateMethod ({ cls := "ThroughPackModel", name := "canHome", desc := "(IIII)Z" } : Jvm.MethodName)) ∈ lw_tbl := lw_at lw_m7 201 rfl
theorem q1766 : (Jvm.Cond.instanceMethod ({ cls := "ThroughPackModel", name := "canHome", desc := "(IIII)Z" } : Jvm.MethodName)) ∈ lw_all := lw_g (lw_at lw_m7 202 rfl) rfl
theorem q1767 : (Jvm.Cond.code ({ cls := "ThroughPackModel", name := "canHome", desc := "(IIII)Z" } : Jvm.MethodName) prog_17_method_98_code (8 : Nat) (Option.some Jvm.ClassFile.FieldType.boolean)) ∈ lw_all := lw_g (lw_at lw_m7 203 rfl) rfl
theorem q1769 : (Jvm.Cond.instanceMethod ({ cls := "ThroughPackModel", name := "walk", desc := "(I)I" } : Jvm.MethodName)) ∈ lw_all := lw_g (lw_at lw_m7 205 rfl) rfl
theorem q1770 : (Jvm.Cond.selects "ThroughPackModel" ({ cls := "ThroughPackModel", name := "walk", desc := "(I)I" } : Jvm.MethodName) ({ cls := "ThroughPackModel", name := "walk", desc := "(I)I" } : Jvm.MethodName)) ∈ lw_all := lw_g (lw_at lw_m7 206 rfl) rfl
theorem q1771 : (Jvm.Cond.code ({ cls := "ThroughPackModel", name := "walk", desc := "(I)I" } : Jvm.MethodName) prog_17_method_102_code (2 : Nat) (Option.some Jvm.ClassFile.FieldType.int)) ∈ lw_all := lw_g (lw_at lw_m7 207 rfl) rfl
theorem q1772 : (Jvm.Cond.methodLink "ThroughPackModel" (391 : Nat) ({ cls := "ThroughPackModel", name := "walkFrom", desc := "(II)I" } : Jvm.MethodName)) ∈ lw_all := lw_g (lw_at lw_m7 208 rfl) rfl
theorem q1773 : (Jvm.Cond.privateMethod ({ cls := "ThroughPackModel", name := "walkFrom", desc := "(II)I" } : Jvm.MethodName)) ∈ lw_tbl := lw_at lw_m7 209 rfl
theorem q1774 : (Jvm.Cond.instanceMethod ({ cls := "ThroughPackModel", name := "walkFrom", desc := "(II)I" } : Jvm.MethodName)) ∈ lw_all := lw_g (lw_at lw_m7 210 rfl) rfl
theorem q1775 : (Jvm.Cond.code ({ cls := "ThroughPackModel", name := "walkFrom", desc := "(II)I" } : Jvm.MethodName) prog_17_method_101_code (5 : Nat) (Option.some Jvm.ClassFile.FieldType.int)) ∈ lw_all := lw_g (lw_at lw_m7 211 rfl) rfl
theorem q1776 : (Jvm.Cond.methodLink "ThroughPackModel" (388 : Nat) ({ cls := "ThroughPackModel", name := "walkOn", desc := "(I)V" } : Jvm.MethodName)) ∈ lw_all := lw_g (lw_at lw_m7 212 rfl) rfl
theorem q1777 : (Jvm.Cond.privateMethod ({ cls := "ThroughPackModel", name := "walkOn", desc := "(I)V" } : Jvm.MethodName)) ∈ lw_tbl := lw_at lw_m7 213 rfl
theorem q1778 : (Jvm.Cond.instanceMethod ({ cls := "ThroughPackModel", name := "walkOn", desc := "(I)V" } : Jvm.MethodName)) ∈ lw_all := lw_g (lw_at lw_m7 214 rfl) rfl
theorem q1779 : (Jvm.Cond.code ({ cls := "ThroughPackModel", name := "walkOn", desc := "(I)V" } : Jvm.MethodName) prog_17_method_100_code (5 : Nat) (Option.none : Option Jvm.ClassFile.FieldType)) ∈ lw_all := lw_g (lw_at lw_m7 215 rfl) rfl
theorem q1780 : (Jvm.Cond.methodLink "ThroughPackModel" (385 : Nat) ({ cls := "ThroughPackModel", name := "walks", desc := "(IIII)Z" } : Jvm.MethodName)) ∈ lw_all := lw_g (lw_at lw_m7 216 rfl) rfl
theorem q1781 : (Jvm.Cond.privateMethod ({ cls := "ThroughPackModel", name := "walks", desc := "(IIII)Z" } : Jvm.MethodName)) ∈ lw_tbl := lw_at lw_m7 217 rfl
theorem q1782 : (Jvm.Cond.instanceMethod ({ cls := "ThroughPackModel", name := "walks", desc := "(IIII)Z" } : Jvm.MethodName)) ∈ lw_all := lw_g (lw_at lw_m7 218 rfl) rfl
theorem q1783 : (Jvm.Cond.code ({ cls := "ThroughPackModel", name := "walks", desc := "(IIII)Z" } : Jvm.MethodName) prog_17_method_64_code (5 : Nat) (Option.some Jvm.ClassFile.FieldType.boolean)) ∈ lw_all := lw_g (lw_at lw_m7 219 rfl) rfl
theorem q1785 : (Jvm.Cond.instanceMethod ({ cls := "ThroughPackModel", name := "leave", desc := "()I" } : Jvm.MethodName)) ∈ lw_all := lw_g (lw_at lw_m7 221 rfl) rfl
theorem q1786 : (Jvm.Cond.selects "ThroughPackModel" ({ cls := "ThroughPackModel", name := "leave", desc := "()I" } : Jvm.MethodName) ({ cls := "ThroughPackModel", name := "leave", desc := "()I" } : Jvm.MethodName)) ∈ lw_all := lw_g (lw_at lw_m7 222 rfl) rfl
theorem q1787 : (Jvm.Cond.code ({ cls := "ThroughPackModel", name := "leave", desc := "()I" } : Jvm.MethodName) prog_17_method_103_code (2 : Nat) (Option.some Jvm.ClassFile.FieldType.int)) ∈ lw_all := lw_g (lw_at lw_m7 223 rfl) rfl
theorem q1789 : (Jvm.Cond.instanceMethod ({ cls := "ThroughPackModel", name := "winter", desc := "(I)I" } : Jvm.MethodName)) ∈ lw_all := lw_g (lw_at lw_m7 225 rfl) rfl
theorem q1790 : (Jvm.Cond.selects "ThroughPackModel" ({ cls := "ThroughPackModel", name := "winter", desc := "(I)I" } : Jvm.MethodName) ({ cls := "ThroughPackModel", name := "winter", desc := "(I)I" } : Jvm.MethodName)) ∈ lw_all := lw_g (lw_at lw_m7 226 rfl) rfl
theorem q1791 : (Jvm.Cond.code ({ cls := "ThroughPackModel", name := "winter", desc := "(I)I" } : Jvm.MethodName) prog_17_method_105_code (4 : Nat) (Option.some Jvm.ClassFile.FieldType.int)) ∈ lw_all := lw_g (lw_at lw_m7 227 rfl) rfl
theorem q1792 : (Jvm.Cond.methodLink "ThroughPackModel" (394 : Nat) ({ cls := "ThroughPackModel", name := "winterAt", desc := "(I)I" } : Jvm.MethodName)) ∈ lw_all := lw_g (lw_at lw_m7 228 rfl) rfl
theorem q1793 : (Jvm.Cond.privateMethod ({ cls := "ThroughPackModel", name := "winterAt", desc := "(I)I" } : Jvm.MethodName)) ∈ lw_tbl := lw_at lw_m7 229 rfl
theorem q1794 : (Jvm.Cond.instanceMethod ({ cls := "ThroughPackModel", name := "winterAt", desc := "(I)I" } : Jvm.MethodName)) ∈ lw_all := lw_g (lw_at lw_m7 230 rfl) rfl
theorem q1795 : (Jvm.Cond.code ({ cls := "ThroughPackModel", name := "winterAt", desc := "(I)I" } : Jvm.MethodName) prog_17_method_104_code (5 : Nat) (Option.some Jvm.ClassFile.FieldType.int)) ∈ lw_all := lw_g (lw_at lw_m7 231 rfl) rfl
theorem q1797 : (Jvm.Cond.instanceMethod ({ cls := "ThroughPackModel", name := "surest", desc := "(II)I" } : Jvm.MethodName)) ∈ lw_all := lw_g (lw_at lw_m7 233 rfl) rfl
theorem q1798 : (Jvm.Cond.selects "ThroughPackModel" ({ cls := "ThroughPackModel", name := "surest", desc := "(II)I" } : Jvm.MethodName) ({ cls := "ThroughPackModel", name := "surest", desc := "(II)I" } : Jvm.MethodName)) ∈ lw_all := lw_g (lw_at lw_m7 234 rfl) rfl
theorem q1799 : (Jvm.Cond.code ({ cls := "ThroughPackModel", name := "surest", desc := "(II)I" } : Jvm.MethodName) prog_17_method_114_code (5 : Nat) (Option.some Jvm.ClassFile.FieldType.int)) ∈ lw_all := lw_g (lw_at lw_m7 235 rfl) rfl
theorem q1800 : (Jvm.Cond.methodLink "ThroughPackModel" (420 : Nat) ({ cls := "ThroughPackModel", name := "hope", desc := "(I)I" } : Jvm.MethodName)) ∈ lw_all := lw_g (lw_at lw_m7 236 rfl) rfl
theorem q1801 : (Jvm.Cond.privateMethod ({ cls := "ThroughPackModel", name := "hope", desc := "(I)I" } : Jvm.MethodName)) ∈ lw_tbl := lw_at lw_m7 237 rfl
theorem q1802 : (Jvm.Cond.instanceMethod ({ cls := "ThroughPackModel", name := "hope", desc := "(I)I" } : Jvm.MethodName)) ∈ lw_all := lw_g (lw_at lw_m7 238 rfl) rfl
theorem q1803 : (Jvm.Cond.code ({ cls := "ThroughPackModel", name := "hope", desc := "(I)I" } : Jvm.MethodName) prog_17_method_111_code (6 : Nat) (Option.some Jvm.ClassFile.FieldType.int)) ∈ lw_all := lw_g (lw_at lw_m7 239 rfl) rfl
theorem q1804 : (Jvm.Cond.methodLink "ThroughPackModel" (397 : Nat) ({ cls := "ThroughPackModel", name := "isWayOut", desc := "(II)Z" } : Jvm.MethodName)) ∈ lw_all := lw_g (lw_at lw_m8 0 rfl) rfl
theorem q1805 : (Jvm.Cond.privateMethod ({ cls := "ThroughPackModel", name := "isWayOut", desc := "(II)Z" } : Jvm.MethodName)) ∈ lw_tbl := lw_at lw_m8 1 rfl
theorem q1806 : (Jvm.Cond.instanceMethod ({ cls := "ThroughPackModel", name := "isWayOut", desc := "(II)Z" } : Jvm.MethodName)) ∈ lw_all := lw_g (lw_at lw_m8 2 rfl) rfl
theorem q1807 : (Jvm.Cond.code ({ cls := "ThroughPackModel", name := "isWayOut", desc := "(II)Z" } : Jvm.MethodName) prog_17_method_108_code (3 : Nat) (Option.some Jvm.ClassFile.FieldType.boolean)) ∈ lw_all := lw_g (lw_at lw_m8 3 rfl) rfl
theorem q1808 : (Jvm.Cond.methodLink "ThroughPackModel" (414 : Nat) ({ cls := "ThroughPackModel", name := "hopeBehind", desc := "(III)I" } : Jvm.MethodName)) ∈ lw_all := lw_g (lw_at lw_m8 4 rfl) rfl
theorem q1809 : (Jvm.Cond.privateMethod ({ cls := "ThroughPackModel", name := "hopeBehind", desc := "(III)I" } : Jvm.MethodName)) ∈ lw_tbl := lw_at lw_m8 5 rfl
theorem q1810 : (Jvm.Cond.instanceMethod ({ cls := "ThroughPackModel", name := "hopeBehind", desc := "(III)I" } : Jvm.MethodName)) ∈ lw_all := lw_g (lw_at lw_m8 6 rfl) rfl
theorem q1811 : (Jvm.Cond.code ({ cls := "ThroughPackModel", name := "hopeBehind", desc := "(III)I" } : Jvm.MethodName) prog_17_method_112_code (9 : Nat) (Option.some Jvm.ClassFile.FieldType.int)) ∈ lw_all := lw_g (lw_at lw_m8 7 rfl) rfl
theorem q1812 : (Jvm.Cond.methodLink "ThroughPackModel" (401 : Nat) ({ cls := "ThroughPackModel", name := "chanceOf", desc := "(II)I" } : Jvm.MethodName)) ∈ lw_all := lw_g (lw_at lw_m8 8 rfl) rfl
theorem q1813 : (Jvm.Cond.privateMethod ({ cls := "ThroughPackModel", name := "chanceOf", desc := "(II)I" } : Jvm.MethodName)) ∈ lw_tbl := lw_at lw_m8 9 rfl
theorem q1814 : (Jvm.Cond.instanceMethod ({ cls := "ThroughPackModel", name := "chanceOf", desc := "(II)I" } : Jvm.MethodName)) ∈ lw_all := lw_g (lw_at lw_m8 10 rfl) rfl
theorem q1815 : (Jvm.Cond.code ({ cls := "ThroughPackModel", name := "chanceOf", desc := "(II)I" } : Jvm.MethodName) prog_17_method_106_code (3 : Nat) (Option.some Jvm.ClassFile.FieldType.int)) ∈ lw_all := lw_g (lw_at lw_m8 11 rfl) rfl
theorem q1816 : (Jvm.Cond.methodLink "ThroughPackModel" (404 : Nat) ({ cls := "ThroughPackModel", name := "behind", desc := "(III)I" } : Jvm.MethodName)) ∈ lw_all := lw_g (lw_at lw_m8 12 rfl) rfl
theorem q1817 : (Jvm.Cond.privateMethod ({ cls := "ThroughPackModel", name := "behind", desc := "(III)I" } : Jvm.MethodName)) ∈ lw_tbl := lw_at lw_m8 13 rfl
theorem q1818 : (Jvm.Cond.instanceMethod ({ cls := "ThroughPackModel", name := "behind", desc := "(III)I" } : Jvm.MethodName)) ∈ lw_all := lw_g (lw_at lw_m8 14 rfl) rfl
theorem q1819 : (Jvm.Cond.code ({ cls := "ThroughPackModel", name := "behind", desc := "(III)I" } : Jvm.MethodName) prog_17_method_107_code (4 : Nat) (Option.some Jvm.ClassFile.FieldType.int)) ∈ lw_all := lw_g (lw_at lw_m8 15 rfl) rfl
theorem q1820 : (Jvm.Cond.methodLink "ThroughPackModel" (407 : Nat) ({ cls := "ThroughPackModel", name := "hopeOne", desc := "(IIIIII)I" } : Jvm.MethodName)) ∈ lw_all := lw_g (lw_at lw_m8 16 rfl) rfl
theorem q1821 : (Jvm.Cond.privateMethod ({ cls := "ThroughPackModel", name := "hopeOne", desc := "(IIIIII)I" } : Jvm.MethodName)) ∈ lw_tbl := lw_at lw_m8 17 rfl
theorem q1822 : (Jvm.Cond.instanceMethod ({ cls := "ThroughPackModel", name := "hopeOne", desc := "(IIIIII)I" } : Jvm.MethodName)) ∈ lw_all := lw_g (lw_at lw_m8 18 rfl) rfl
theorem q1823 : (Jvm.Cond.code ({ cls := "ThroughPackModel", name := "hopeOne", desc := "(IIIIII)I" } : Jvm.MethodName) prog_17_method_109_code (8 : Nat) (Option.some Jvm.ClassFile.FieldType.int)) ∈ lw_all := lw_g (lw_at lw_m8 19 rfl) rfl
theorem q1824 : (Jvm.Cond.methodLink "ThroughPackModel" (417 : Nat) ({ cls := "ThroughPackModel", name := "hopeTwo", desc := "(IIIIIII)I" } : Jvm.MethodName)) ∈ lw_all := lw_g (lw_at lw_m8 20 rfl) rfl
theorem q1825 : (Jvm.Cond.privateMethod ({ cls := "ThroughPackModel", name := "hopeTwo", desc := "(IIIIIII)I" } : Jvm.MethodName)) ∈ lw_tbl := lw_at lw_m8 21 rfl
theorem q1826 : (Jvm.Cond.instanceMethod ({ cls := "ThroughPackModel", name := "hopeTwo", desc := "(IIIIIII)I" } : Jvm.MethodName)) ∈ lw_all := lw_g (lw_at lw_m8 22 rfl) rfl
theorem q1827 : (Jvm.Cond.code ({ cls := "ThroughPackModel", name := "hopeTwo", desc := "(IIIIIII)I" } : Jvm.MethodName) prog_17_method_110_code (14 : Nat) (Option.some Jvm.ClassFile.FieldType.int)) ∈ lw_all := lw_g (lw_at lw_m8 23 rfl) rfl
theorem q1828 : (Jvm.Cond.methodLink "ThroughPackModel" (423 : Nat) ({ cls := "ThroughPackModel", name := "known", desc := "(I)I" } : Jvm.MethodName)) ∈ lw_all := lw_g (lw_at lw_m8 24 rfl) rfl
theorem q1829 : (Jvm.Cond.privateMethod ({ cls := "ThroughPackModel", name := "known", desc := "(I)I" } : Jvm.MethodName)) ∈ lw_tbl := lw_at lw_m8 25 rfl
theorem q1830 : (Jvm.Cond.instanceMethod ({ cls := "ThroughPackModel", name := "known", desc := "(I)I" } : Jvm.MethodName)) ∈ lw_all := lw_g (lw_at lw_m8 26 rfl) rfl
theorem q1831 : (Jvm.Cond.code ({ cls := "ThroughPackModel", name := "known", desc := "(I)I" } : Jvm.MethodName) prog_17_method_113_code (8 : Nat) (Option.some Jvm.ClassFile.FieldType.int)) ∈ lw_all := lw_g (lw_at lw_m8 27 rfl) rfl
theorem q1833 : (Jvm.Cond.instanceMethod ({ cls := "ThroughPackModel", name := "leads", desc := "(I)I" } : Jvm.MethodName)) ∈ lw_all := lw_g (lw_at lw_m8 29 rfl) rfl
theorem q1834 : (Jvm.Cond.selects "ThroughPackModel" ({ cls := "ThroughPackModel", name := "leads", desc := "(I)I" } : Jvm.MethodName) ({ cls := "ThroughPackModel", name := "leads", desc := "(I)I" } : Jvm.MethodName)) ∈ lw_all := lw_g (lw_at lw_m8 30 rfl) rfl
theorem q1835 : (Jvm.Cond.code ({ cls := "ThroughPackModel", name := "leads", desc := "(I)I" } : Jvm.MethodName) prog_17_method_115_code (7 : Nat) (Option.some Jvm.ClassFile.FieldType.int)) ∈ lw_all := lw_g (lw_at lw_m8 31 rfl) rfl
theorem q1837 : (Jvm.Cond.instanceMethod ({ cls := "ThroughPackModel", name := "prior", desc := "(II)Z" } : Jvm.MethodName)) ∈ lw_all := lw_g (lw_at lw_m8 33 rfl) rfl
theorem q1838 : (Jvm.Cond.selects "ThroughPackModel" ({ cls := "ThroughPackModel", name := "prior", desc := "(II)Z" } : Jvm.MethodName) ({ cls := "ThroughPackModel", name := "prior", desc := "(II)Z" } : Jvm.MethodName)) ∈ lw_all := lw_g (lw_at lw_m8 34 rfl) rfl
theorem q1839 : (Jvm.Cond.code ({ cls := "ThroughPackModel", name := "prior", desc := "(II)Z" } : Jvm.MethodName) prog_17_method_116_code (3 : Nat) (Option.some Jvm.ClassFile.FieldType.boolean)) ∈ lw_all := lw_g (lw_at lw_m8 35 rfl) rfl
theorem q1841 : (Jvm.Cond.instanceMethod ({ cls := "ThroughPackModel", name := "look", desc := "(II)I" } : Jvm.MethodName)) ∈ lw_all := lw_g (lw_at lw_m8 37 rfl) rfl
theorem q1842 : (Jvm.Cond.selects "ThroughPackModel" ({ cls := "ThroughPackModel", name := "look", desc := "(II)I" } : Jvm.MethodName) ({ cls := "ThroughPackModel", name := "look", desc := "(II)I" } : Jvm.MethodName)) ∈ lw_all := lw_g (lw_at lw_m8 38 rfl) rfl
theorem q1843 : (Jvm.Cond.code ({ cls := "ThroughPackModel", name := "look", desc := "(II)I" } : Jvm.MethodName) prog_17_method_117_code (3 : Nat) (Option.some Jvm.ClassFile.FieldType.int)) ∈ lw_all := lw_g (lw_at lw_m8 39 rfl) rfl
theorem q1845 : (Jvm.Cond.instanceMethod ({ cls := "ThroughPackModel", name := "think", desc := "(II)I" } : Jvm.MethodName)) ∈ lw_all := lw_g (lw_at lw_m8 41 rfl) rfl
theorem q1846 : (Jvm.Cond.selects "ThroughPackModel" ({ cls := "ThroughPackModel", name := "think", desc := "(II)I" } : Jvm.MethodName) ({ cls := "ThroughPackModel", name := "think", desc := "(II)I" } : Jvm.MethodName)) ∈ lw_all := lw_g (lw_at lw_m8 42 rfl) rfl
theorem q1847 : (Jvm.Cond.code ({ cls := "ThroughPackModel", name := "think", desc := "(II)I" } : Jvm.MethodName) prog_17_method_119_code (7 : Nat) (Option.some Jvm.ClassFile.FieldType.int)) ∈ lw_all := lw_g (lw_at lw_m8 43 rfl) rfl
theorem q1848 : (Jvm.Cond.methodLink "ThroughPackModel" (428 : Nat) ({ cls := "ThroughPackModel", name := "weigh", desc := "(II)J" } : Jvm.MethodName)) ∈ lw_all := lw_g (lw_at lw_m8 44 rfl) rfl
theorem q1849 : (Jvm.Cond.privateMethod ({ cls := "ThroughPackModel", name := "weigh", desc := "(II)J" } : Jvm.MethodName)) ∈ lw_tbl := lw_at lw_m8 45 rfl
theorem q1850 : (Jvm.Cond.instanceMethod ({ cls := "ThroughPackModel", name := "weigh", desc := "(II)J" } : Jvm.MethodName)) ∈ lw_all := lw_g (lw_at lw_m8 46 rfl) rfl
theorem q1851 : (Jvm.Cond.code ({ cls := "ThroughPackModel", name := "weigh", desc := "(II)J" } : Jvm.MethodName) prog_17_method_118_code (8 : Nat) (Option.some Jvm.ClassFile.FieldType.long)) ∈ lw_all := lw_g (lw_at lw_m8 47 rfl) rfl
theorem q1852 : (Jvm.Cond.constantLong "ThroughPackModel" (426 : Nat) (8 : Int64)) ∈ lw_all := lw_g (lw_at lw_m8 48 rfl) rfl
theorem q1853 : (Jvm.Cond.constantLong "ThroughPackModel" (432 : Nat) (1000 : Int64)) ∈ lw_all := lw_g (lw_at lw_m8 49 rfl) rfl
theorem q1855 : (Jvm.Cond.instanceMethod ({ cls := "ThroughPackModel", name := "run", desc := "(IIII)I" } : Jvm.MethodName)) ∈ lw_all := lw_g (lw_at lw_m8 51 rfl) rfl
theorem q1856 : (Jvm.Cond.selects "ThroughPackModel" ({ cls := "ThroughPackModel", name := "run", desc := "(IIII)I" } : Jvm.MethodName) ({ cls := "ThroughPackModel", name := "run", desc := "(IIII)I" } : Jvm.MethodName)) ∈ lw_all := lw_g (lw_at lw_m8 52 rfl) rfl
theorem q1857 : (Jvm.Cond.code ({ cls := "ThroughPackModel", name := "run", desc := "(IIII)I" } : Jvm.MethodName) prog_17_method_126_code (5 : Nat) (Option.some Jvm.ClassFile.FieldType.int)) ∈ lw_all := lw_g (lw_at lw_m8 53 rfl) rfl
theorem q1858 : (Jvm.Cond.methodLink "ThroughPackModel" (464 : Nat) ({ cls := "ThroughPackModel", name := "isText", desc := "(I)Z" } : Jvm.MethodName)) ∈ lw_all := lw_g (lw_at lw_m8 54 rfl) rfl
theorem q1859 : (Jvm.Cond.privateMethod ({ cls := "ThroughPackModel", name := "isText", desc := "(I)Z" } : Jvm.MethodName)) ∈ lw_tbl := lw_at lw_m8 55 rfl
theorem q1860 : (Jvm.Cond.instanceMethod ({ cls := "ThroughPackModel", name := "isText", desc := "(I)Z" } : Jvm.MethodName)) ∈ lw_all := lw_g (lw_at lw_m8 56 rfl) rfl
theorem q1861 : (Jvm.Cond.code ({ cls := "ThroughPackModel", name := "isText", desc := "(I)Z" } : Jvm.MethodName) prog_17_method_120_code (2 : Nat) (Option.some Jvm.ClassFile.FieldType.boolean)) ∈ lw_all := lw_g (lw_at lw_m8 57 rfl) rfl
theorem q1862 : (Jvm.Cond.methodLink "ThroughPackModel" (467 : Nat) ({ cls := "ThroughPackModel", name := "runAll", desc := "(III)V" } : Jvm.MethodName)) ∈ lw_all := lw_g (lw_at lw_m8 58 rfl) rfl
theorem q1863 : (Jvm.Cond.privateMethod ({ cls := "ThroughPackModel", name := "runAll", desc := "(III)V" } : Jvm.MethodName)) ∈ lw_tbl := lw_at lw_m8 59 rfl
theorem q1864 : (Jvm.Cond.instanceMethod ({ cls := "ThroughPackModel", name := "runAll", desc := "(III)V" } : Jvm.MethodName)) ∈ lw_all := lw_g (lw_at lw_m8 60 rfl) rfl
theorem q1865 : (Jvm.Cond.code ({ cls := "ThroughPackModel", name := "runAll", desc := "(III)V" } : Jvm.MethodName) prog_17_method_125_code (6 : Nat) (Option.none : Option Jvm.ClassFile.FieldType)) ∈ lw_all := lw_g (lw_at lw_m8 61 rfl) rfl
theorem q1866 : (Jvm.Cond.methodLink "ThroughPackModel" (455 : Nat) ({ cls := "ThroughPackModel", name := "orderBy", desc := "(I)I" } : Jvm.MethodName)) ∈ lw_all := lw_g (lw_at lw_m8 62 rfl) rfl
theorem q1867 : (Jvm.Cond.privateMethod ({ cls := "ThroughPackModel", name := "orderBy", desc := "(I)I" } : Jvm.MethodName)) ∈ lw_tbl := lw_at lw_m8 63 rfl
theorem q1868 : (Jvm.Cond.instanceMethod ({ cls := "ThroughPackModel", name := "orderBy", desc := "(I)I" } : Jvm.MethodName)) ∈ lw_all := lw_g (lw_at lw_m8 64 rfl) rfl
theorem q1869 : (Jvm.Cond.code ({ cls := "ThroughPackModel", name := "orderBy", desc := "(I)I" } : Jvm.MethodName) prog_17_method_122_code (4 : Nat) (Option.some Jvm.ClassFile.FieldType.int)) ∈ lw_all := lw_g (lw_at lw_m8 65 rfl) rfl
theorem q1870 : (Jvm.Cond.methodLink "ThroughPackModel" (449 : Nat) ({ cls := "ThroughPackModel", name := "canRun", desc := "(I)Z" } : Jvm.MethodName)) ∈ lw_all := lw_g (lw_at lw_m8 66 rfl) rfl
theorem q1871 : (Jvm.Cond.privateMethod ({ cls := "ThroughPackModel", name := "canRun", desc := "(I)Z" } : Jvm.MethodName)) ∈ lw_tbl := lw_at lw_m8 67 rfl
theorem q1872 : (Jvm.Cond.instanceMethod ({ cls := "ThroughPackModel", name := "canRun", desc := "(I)Z" } : Jvm.MethodName)) ∈ lw_all := lw_g (lw_at lw_m8 68 rfl) rfl
theorem q1873 : (Jvm.Cond.code ({ cls := "ThroughPackModel", name := "canRun", desc := "(I)Z" } : Jvm.MethodName) prog_17_method_121_code (2 : Nat) (Option.some Jvm.ClassFile.FieldType.boolean)) ∈ lw_all := lw_g (lw_at lw_m8 69 rfl) rfl
theorem q1874 : (Jvm.Cond.methodLink "ThroughPackModel" (458 : Nat) ({ cls := "ThroughPackModel", name := "drawWind", desc := "(I)I" } : Jvm.MethodName)) ∈ lw_all := lw_g (lw_at lw_m8 70 rfl) rfl
theorem q1875 : (Jvm.Cond.privateMethod ({ cls := "ThroughPackModel", name := "drawWind", desc := "(I)I" } : Jvm.MethodName)) ∈ lw_tbl := lw_at lw_m8 71 rfl
theorem q1876 : (Jvm.Cond.instanceMethod ({ cls := "ThroughPackModel", name := "drawWind", desc := "(I)I" } : Jvm.MethodName)) ∈ lw_all := lw_g (lw_at lw_m8 72 rfl) rfl
theorem q1877 : (Jvm.Cond.code ({ cls := "ThroughPackModel", name := "drawWind", desc := "(I)I" } : Jvm.MethodName) prog_17_method_123_code (4 : Nat) (Option.some Jvm.ClassFile.FieldType.int)) ∈ lw_all := lw_g (lw_at lw_m8 73 rfl) rfl
theorem q1878 : (Jvm.Cond.methodLink "ThroughPackModel" (461 : Nat) ({ cls := "ThroughPackModel", name := "runOne", desc := "(II)V" } : Jvm.MethodName)) ∈ lw_all := lw_g (lw_at lw_m8 74 rfl) rfl
theorem q1879 : (Jvm.Cond.privateMethod ({ cls := "ThroughPackModel", name := "runOne", desc := "(II)V" } : Jvm.MethodName)) ∈ lw_tbl := lw_at lw_m8 75 rfl
theorem q1880 : (Jvm.Cond.instanceMethod ({ cls := "ThroughPackModel", name := "runOne", desc := "(II)V" } : Jvm.MethodName)) ∈ lw_all := lw_g (lw_at lw_m8 76 rfl) rfl
theorem q1881 : (Jvm.Cond.code ({ cls := "ThroughPackModel", name := "runOne", desc := "(II)V" } : Jvm.MethodName) prog_17_method_124_code (5 : Nat) (Option.none : Option Jvm.ClassFile.FieldType)) ∈ lw_all := lw_g (lw_at lw_m8 77 rfl) rfl
theorem q1883 : (Jvm.Cond.instanceMethod ({ cls := "ThroughPackModel", name := "runs", desc := "(IIIII)I" } : Jvm.MethodName)) ∈ lw_all := lw_g (lw_at lw_m8 79 rfl) rfl
theorem q1884 : (Jvm.Cond.selects "ThroughPackModel" ({ cls := "ThroughPackModel", name := "runs", desc := "(IIIII)I" } : Jvm.MethodName) ({ cls := "ThroughPackModel", name := "runs", desc := "(IIIII)I" } : Jvm.MethodName)) ∈ lw_all := lw_g (lw_at lw_m8 80 rfl) rfl
theorem q1885 : (Jvm.Cond.code ({ cls := "ThroughPackModel", name := "runs", desc := "(IIIII)I" } : Jvm.MethodName) prog_17_method_127_code (8 : Nat) (Option.some Jvm.ClassFile.FieldType.int)) ∈ lw_all := lw_g (lw_at lw_m8 81 rfl) rfl
theorem q1887 : (Jvm.Cond.instanceMethod ({ cls := "ThroughPackModel", name := "image", desc := "()I" } : Jvm.MethodName)) ∈ lw_all := lw_g (lw_at lw_m8 83 rfl) rfl
theorem q1888 : (Jvm.Cond.selects "ThroughPackModel" ({ cls := "ThroughPackModel", name := "image", desc := "()I" } : Jvm.MethodName) ({ cls := "ThroughPackModel", name := "image", desc := "()I" } : Jvm.MethodName)) ∈ lw_all := lw_g (lw_at lw_m8 84 rfl) rfl
theorem q1889 : (Jvm.Cond.code ({ cls := "ThroughPackModel", name := "image", desc := "()I" } : Jvm.MethodName) prog_17_method_128_code (1 : Nat) (Option.some Jvm.ClassFile.FieldType.int)) ∈ lw_all := lw_g (lw_at lw_m8 85 rfl) rfl
theorem q1891 : (Jvm.Cond.instanceMethod ({ cls := "ThroughPackModel", name := "back", desc := "()I" } : Jvm.MethodName)) ∈ lw_all := lw_g (lw_at lw_m8 87 rfl) rfl
theorem q1892 : (Jvm.Cond.selects "ThroughPackModel" ({ cls := "ThroughPackModel", name := "back", desc := "()I" } : Jvm.MethodName) ({ cls := "ThroughPackModel", name := "back", desc := "()I" } : Jvm.MethodName)) ∈ lw_all := lw_g (lw_at lw_m8 88 rfl) rfl
theorem q1893 : (Jvm.Cond.code ({ cls := "ThroughPackModel", name := "back", desc := "()I" } : Jvm.MethodName) prog_17_method_129_code (1 : Nat) (Option.some Jvm.ClassFile.FieldType.int)) ∈ lw_all := lw_g (lw_at lw_m8 89 rfl) rfl
theorem q1895 : (Jvm.Cond.instanceMethod ({ cls := "ThroughPackModel", name := "about", desc := "(I)I" } : Jvm.MethodName)) ∈ lw_all := lw_g (lw_at lw_m8 91 rfl) rfl
theorem q1896 : (Jvm.Cond.selects "ThroughPackModel" ({ cls := "ThroughPackModel", name := "about", desc := "(I)I" } : Jvm.MethodName) ({ cls := "ThroughPackModel", name := "about", desc := "(I)I" } : Jvm.MethodName)) ∈ lw_all := lw_g (lw_at lw_m8 92 rfl) rfl
theorem q1897 : (Jvm.Cond.code ({ cls := "ThroughPackModel", name := "about", desc := "(I)I" } : Jvm.MethodName) prog_17_method_130_code (2 : Nat) (Option.some Jvm.ClassFile.FieldType.int)) ∈ lw_all := lw_g (lw_at lw_m8 93 rfl) rfl
theorem q1904 : (Jvm.Cond.castable "ThroughPackModel" "java/lang/Object") ∈ lw_tbl := lw_at lw_m8 100 rfl
theorem in_X3 : ∀ w ∈ wsX30, w ∈ lw_all := lw_in wsX30 [1297, 1299, 1301, 1303, 1305, 1307, 1309, 1311, 1313, 1315, 1317, 1319, 1321, 1323, 1325, 1327, 1329, 1331, 1333, 1335, 1337, 1339, 1341, 1343, 1345, 1347, 1349, 1351, 1353, 1355, 1357, 1359, 1361, 1363, 1365, 1367, 1369, 1371, 1373, 1375, 1377, 1379, 1381, 1383, 1385, 1387, 1389] (by decide +kernel) (by decide +kernel)
