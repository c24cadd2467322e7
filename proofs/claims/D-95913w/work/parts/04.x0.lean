/-! TugOfWar -/
set_option maxRecDepth 100000
def RX0 : String := "TugOfWar"
def TX0 : u_T := fun k => match k with
  | 0 => ("TugOfWar", "latest", "I", false)
  | 1 => ("TugOfWar", "teams", "[LTugOfWar$Team;", true)
  | 2 => ("TugOfWar", "calls", "[LTugOfWar$Captain;", true)
  | 3 => ("TugOfWar", "texts", "[LTugOfWar$Text;", true)
  | 4 => ("TugOfWar", "mud", "I", false)
  | 5 => ("TugOfWar", "events", "Ljava/util/ArrayList;", true)
  | 6 => ("TugOfWar", "rope", "I", false)
  | 7 => ("TugOfWar", "wet", "I", false)
  | 8 => ("TugOfWar", "wonBeat", "I", false)
  | 9 => ("TugOfWar", "levels", "I", false)
  | 10 => ("TugOfWar", "breath", "[I", true)
  | 11 => ("TugOfWar", "done", "[I", true)
  | 12 => ("TugOfWar", "ropeBy", "[[I", true)
  | 13 => ("TugOfWar", "forceBy", "[[I", true)
  | 14 => ("TugOfWar", "breathBy", "[[I", true)
  | 15 => ("TugOfWar", "ends", "[I", true)
  | 16 => ("TugOfWar", "gone", "I", false)
  | 17 => ("TugOfWar", "out", "I", false)
  | 18 => ("TugOfWar", "swapA", "I", false)
  | 19 => ("TugOfWar", "swapB", "I", false)
  | 20 => ("TugOfWar", "seen", "Ljava/util/ArrayList;", true)
  | 21 => ("TugOfWar", "ropes", "[[I", true)
  | 22 => ("TugOfWar", "drawn", "I", false)
  | 23 => ("TugOfWar", "told", "[I", true)
  | _ => ("TugOfWar", "sheets", "[LTugOfWar$Sheet;", true)
def tyX0 : Nat → FieldType := fun k => match k with
  | 0 => .int
  | 1 => .array (.object "TugOfWar$Team")
  | 2 => .array (.object "TugOfWar$Captain")
  | 3 => .array (.object "TugOfWar$Text")
  | 4 => .int
  | 5 => .object "java/util/ArrayList"
  | 6 => .int
  | 7 => .int
  | 8 => .int
  | 9 => .int
  | 10 => .array .int
  | 11 => .array .int
  | 12 => .array (.array .int)
  | 13 => .array (.array .int)
  | 14 => .array (.array .int)
  | 15 => .array .int
  | 16 => .int
  | 17 => .int
  | 18 => .int
  | 19 => .int
  | 20 => .object "java/util/ArrayList"
  | 21 => .array (.array .int)
  | 22 => .int
  | 23 => .array .int
  | _ => .array (.object "TugOfWar$Sheet")
abbrev wsX00 : List Cond := u_ws RX0 TX0 25
set_option maxRecDepth 100000 in
theorem nmX0 : ∀ a, a < 25 → ∀ b, b < 25 → a ≠ b → (TX0 a).2.1 ≠ (TX0 b).2.1 := by decide +kernel
set_option maxRecDepth 100000 in
theorem tyX0_ok : ∀ k, k < 25 → parseFieldDescriptor (TX0 k).2.2.1 = some (tyX0 k) := by decide +kernel
abbrev cX0_init : ByteArray := prog_1_method_1_code
def yX0_init : MethodName := ⟨RX0, "<init>", "()V"⟩
def dkwX0_init_11 : List UInt8 := [181, 0, 80, 177]
abbrev dktX0_init_11 : List UInt8 := dkwX0_init_11 ++ []
def dkwX0_init_10 : List UInt8 := [183, 0, 79, 83, 89, 5, 187, 0, 77, 89, 183, 0, 79, 83, 89, 6, 187, 0, 77, 89, 183, 0, 79, 83]
abbrev dktX0_init_10 : List UInt8 := dkwX0_init_10 ++ dktX0_init_11
def dkwX0_init_9 : List UInt8 := [181, 0, 74, 42, 7, 189, 0, 77, 89, 3, 187, 0, 77, 89, 183, 0, 79, 83, 89, 4, 187, 0, 77, 89]
abbrev dktX0_init_9 : List UInt8 := dkwX0_init_9 ++ dktX0_init_10
def dkwX0_init_8 : List UInt8 := [183, 0, 35, 181, 0, 68, 42, 16, 10, 16, 24, 197, 0, 47, 2, 181, 0, 71, 42, 16, 24, 188, 10]
abbrev dktX0_init_8 : List UInt8 := dkwX0_init_8 ++ dktX0_init_9
def dkwX0_init_7 : List UInt8 := [42, 5, 188, 10, 181, 0, 58, 42, 2, 181, 0, 61, 42, 2, 181, 0, 65, 42, 187, 0, 33, 89]
abbrev dktX0_init_7 : List UInt8 := dkwX0_init_7 ++ dktX0_init_8
def dkwX0_init_6 : List UInt8 := [42, 16, 24, 16, 16, 197, 0, 47, 2, 181, 0, 52, 42, 16, 24, 16, 16, 197, 0, 47, 2, 181, 0, 55]
abbrev dktX0_init_6 : List UInt8 := dkwX0_init_6 ++ dktX0_init_7
def dkwX0_init_5 : List UInt8 := [188, 10, 181, 0, 40, 42, 16, 16, 188, 10, 181, 0, 44, 42, 16, 24, 7, 197, 0, 47, 2, 181, 0, 49]
abbrev dktX0_init_5 : List UInt8 := dkwX0_init_5 ++ dktX0_init_6
def dkwX0_init_4 : List UInt8 := [180, 0, 23, 4, 50, 83, 181, 0, 29, 42, 187, 0, 33, 89, 183, 0, 35, 181, 0, 36, 42, 16, 16]
abbrev dktX0_init_4 : List UInt8 := dkwX0_init_4 ++ dktX0_init_5
def dkwX0_init_3 : List UInt8 := [50, 83, 89, 4, 42, 180, 0, 14, 4, 50, 83, 89, 5, 42, 180, 0, 23, 3, 50, 83, 89, 6, 42]
abbrev dktX0_init_3 : List UInt8 := dkwX0_init_3 ++ dktX0_init_4
def dkwX0_init_2 : List UInt8 := [4, 187, 0, 20, 89, 183, 0, 22, 83, 181, 0, 23, 42, 7, 189, 0, 27, 89, 3, 42, 180, 0, 14, 3]
abbrev dktX0_init_2 : List UInt8 := dkwX0_init_2 ++ dktX0_init_3
def dkwX0_init_1 : List UInt8 := [89, 183, 0, 13, 83, 181, 0, 14, 42, 5, 189, 0, 20, 89, 3, 187, 0, 20, 89, 183, 0, 22, 83, 89]
abbrev dktX0_init_1 : List UInt8 := dkwX0_init_1 ++ dktX0_init_2
def dkwX0_init_0 : List UInt8 := [42, 183, 0, 5, 42, 5, 189, 0, 11, 89, 3, 187, 0, 11, 89, 183, 0, 13, 83, 89, 4, 187, 0, 11]
abbrev dktX0_init_0 : List UInt8 := dkwX0_init_0 ++ dktX0_init_1
theorem dksX0_init_0 : cX0_init.data.toList.drop 0 = dktX0_init_0 := by decide +kernel
theorem dksX0_init_1 : cX0_init.data.toList.drop 24 = dktX0_init_1 := dk_seg dksX0_init_0 24 rfl rfl
theorem dksX0_init_2 : cX0_init.data.toList.drop 48 = dktX0_init_2 := dk_seg dksX0_init_1 24 rfl rfl
theorem dksX0_init_3 : cX0_init.data.toList.drop 72 = dktX0_init_3 := dk_seg dksX0_init_2 24 rfl rfl
theorem dksX0_init_4 : cX0_init.data.toList.drop 95 = dktX0_init_4 := dk_seg dksX0_init_3 23 rfl rfl
theorem dksX0_init_5 : cX0_init.data.toList.drop 118 = dktX0_init_5 := dk_seg dksX0_init_4 23 rfl rfl
theorem dksX0_init_6 : cX0_init.data.toList.drop 142 = dktX0_init_6 := dk_seg dksX0_init_5 24 rfl rfl
theorem dksX0_init_7 : cX0_init.data.toList.drop 166 = dktX0_init_7 := dk_seg dksX0_init_6 24 rfl rfl
theorem dksX0_init_8 : cX0_init.data.toList.drop 188 = dktX0_init_8 := dk_seg dksX0_init_7 22 rfl rfl
theorem dksX0_init_9 : cX0_init.data.toList.drop 211 = dktX0_init_9 := dk_seg dksX0_init_8 23 rfl rfl
theorem dksX0_init_10 : cX0_init.data.toList.drop 235 = dktX0_init_10 := dk_seg dksX0_init_9 24 rfl rfl
theorem dksX0_init_11 : cX0_init.data.toList.drop 259 = dktX0_init_11 := dk_seg dksX0_init_10 24 rfl rfl
theorem dX0_init_0 : decode cX0_init 0 = .ok (.aload_n 0, 1) := dk_42 (dk_at dksX0_init_0 0 rfl rfl)
theorem dX0_init_1 : decode cX0_init 1 = .ok (.invokespecial 5, 3) := dk_183 0 5 (dk_at dksX0_init_0 1 rfl rfl)
theorem dX0_init_4 : decode cX0_init 4 = .ok (.aload_n 0, 1) := dk_42 (dk_at dksX0_init_0 4 rfl rfl)
theorem dX0_init_5 : decode cX0_init 5 = .ok (.iconst 2, 1) := dk_5 (dk_at dksX0_init_0 5 rfl rfl)
theorem dX0_init_6 : decode cX0_init 6 = .ok (.anewarray 11, 3) := dk_189 0 11 (dk_at dksX0_init_0 6 rfl rfl)
theorem dX0_init_9 : decode cX0_init 9 = .ok (.dup, 1) := dk_89 (dk_at dksX0_init_0 9 rfl rfl)
theorem dX0_init_10 : decode cX0_init 10 = .ok (.iconst 0, 1) := dk_3 (dk_at dksX0_init_0 10 rfl rfl)
theorem dX0_init_11 : decode cX0_init 11 = .ok (.new 11, 3) := dk_187 0 11 (dk_at dksX0_init_0 11 rfl rfl)
theorem dX0_init_14 : decode cX0_init 14 = .ok (.dup, 1) := dk_89 (dk_at dksX0_init_0 14 rfl rfl)
theorem dX0_init_15 : decode cX0_init 15 = .ok (.invokespecial 13, 3) := dk_183 0 13 (dk_at dksX0_init_0 15 rfl rfl)
theorem dX0_init_18 : decode cX0_init 18 = .ok (.aastore, 1) := dk_83 (dk_at dksX0_init_0 18 rfl rfl)
theorem dX0_init_19 : decode cX0_init 19 = .ok (.dup, 1) := dk_89 (dk_at dksX0_init_0 19 rfl rfl)
theorem dX0_init_20 : decode cX0_init 20 = .ok (.iconst 1, 1) := dk_4 (dk_at dksX0_init_0 20 rfl rfl)
theorem dX0_init_21 : decode cX0_init 21 = .ok (.new 11, 3) := dk_187 0 11 (dk_at dksX0_init_0 21 rfl rfl)
theorem dX0_init_24 : decode cX0_init 24 = .ok (.dup, 1) := dk_89 (dk_at dksX0_init_1 0 rfl rfl)
theorem dX0_init_25 : decode cX0_init 25 = .ok (.invokespecial 13, 3) := dk_183 0 13 (dk_at dksX0_init_1 1 rfl rfl)
theorem dX0_init_28 : decode cX0_init 28 = .ok (.aastore, 1) := dk_83 (dk_at dksX0_init_1 4 rfl rfl)
theorem dX0_init_29 : decode cX0_init 29 = .ok (.putfield 14, 3) := dk_181 0 14 (dk_at dksX0_init_1 5 rfl rfl)
theorem dX0_init_32 : decode cX0_init 32 = .ok (.aload_n 0, 1) := dk_42 (dk_at dksX0_init_1 8 rfl rfl)
theorem dX0_init_33 : decode cX0_init 33 = .ok (.iconst 2, 1) := dk_5 (dk_at dksX0_init_1 9 rfl rfl)
theorem dX0_init_34 : decode cX0_init 34 = .ok (.anewarray 20, 3) := dk_189 0 20 (dk_at dksX0_init_1 10 rfl rfl)
theorem dX0_init_37 : decode cX0_init 37 = .ok (.dup, 1) := dk_89 (dk_at dksX0_init_1 13 rfl rfl)
theorem dX0_init_38 : decode cX0_init 38 = .ok (.iconst 0, 1) := dk_3 (dk_at dksX0_init_1 14 rfl rfl)
theorem dX0_init_39 : decode cX0_init 39 = .ok (.new 20, 3) := dk_187 0 20 (dk_at dksX0_init_1 15 rfl rfl)
theorem dX0_init_42 : decode cX0_init 42 = .ok (.dup, 1) := dk_89 (dk_at dksX0_init_1 18 rfl rfl)
theorem dX0_init_43 : decode cX0_init 43 = .ok (.invokespecial 22, 3) := dk_183 0 22 (dk_at dksX0_init_1 19 rfl rfl)
theorem dX0_init_46 : decode cX0_init 46 = .ok (.aastore, 1) := dk_83 (dk_at dksX0_init_1 22 rfl rfl)
theorem dX0_init_47 : decode cX0_init 47 = .ok (.dup, 1) := dk_89 (dk_at dksX0_init_1 23 rfl rfl)
theorem dX0_init_48 : decode cX0_init 48 = .ok (.iconst 1, 1) := dk_4 (dk_at dksX0_init_2 0 rfl rfl)
theorem dX0_init_49 : decode cX0_init 49 = .ok (.new 20, 3) := dk_187 0 20 (dk_at dksX0_init_2 1 rfl rfl)
theorem dX0_init_52 : decode cX0_init 52 = .ok (.dup, 1) := dk_89 (dk_at dksX0_init_2 4 rfl rfl)
theorem dX0_init_53 : decode cX0_init 53 = .ok (.invokespecial 22, 3) := dk_183 0 22 (dk_at dksX0_init_2 5 rfl rfl)
theorem dX0_init_56 : decode cX0_init 56 = .ok (.aastore, 1) := dk_83 (dk_at dksX0_init_2 8 rfl rfl)
theorem dX0_init_57 : decode cX0_init 57 = .ok (.putfield 23, 3) := dk_181 0 23 (dk_at dksX0_init_2 9 rfl rfl)
theorem dX0_init_60 : decode cX0_init 60 = .ok (.aload_n 0, 1) := dk_42 (dk_at dksX0_init_2 12 rfl rfl)
theorem dX0_init_61 : decode cX0_init 61 = .ok (.iconst 4, 1) := dk_7 (dk_at dksX0_init_2 13 rfl rfl)
theorem dX0_init_62 : decode cX0_init 62 = .ok (.anewarray 27, 3) := dk_189 0 27 (dk_at dksX0_init_2 14 rfl rfl)
theorem dX0_init_65 : decode cX0_init 65 = .ok (.dup, 1) := dk_89 (dk_at dksX0_init_2 17 rfl rfl)
theorem dX0_init_66 : decode cX0_init 66 = .ok (.iconst 0, 1) := dk_3 (dk_at dksX0_init_2 18 rfl rfl)
theorem dX0_init_67 : decode cX0_init 67 = .ok (.aload_n 0, 1) := dk_42 (dk_at dksX0_init_2 19 rfl rfl)
theorem dX0_init_68 : decode cX0_init 68 = .ok (.getfield 14, 3) := dk_180 0 14 (dk_at dksX0_init_2 20 rfl rfl)
theorem dX0_init_71 : decode cX0_init 71 = .ok (.iconst 0, 1) := dk_3 (dk_at dksX0_init_2 23 rfl rfl)
theorem dX0_init_72 : decode cX0_init 72 = .ok (.aaload, 1) := dk_50 (dk_at dksX0_init_3 0 rfl rfl)
theorem dX0_init_73 : decode cX0_init 73 = .ok (.aastore, 1) := dk_83 (dk_at dksX0_init_3 1 rfl rfl)
theorem dX0_init_74 : decode cX0_init 74 = .ok (.dup, 1) := dk_89 (dk_at dksX0_init_3 2 rfl rfl)
theorem dX0_init_75 : decode cX0_init 75 = .ok (.iconst 1, 1) := dk_4 (dk_at dksX0_init_3 3 rfl rfl)
theorem dX0_init_76 : decode cX0_init 76 = .ok (.aload_n 0, 1) := dk_42 (dk_at dksX0_init_3 4 rfl rfl)
theorem dX0_init_77 : decode cX0_init 77 = .ok (.getfield 14, 3) := dk_180 0 14 (dk_at dksX0_init_3 5 rfl rfl)
theorem dX0_init_80 : decode cX0_init 80 = .ok (.iconst 1, 1) := dk_4 (dk_at dksX0_init_3 8 rfl rfl)
theorem dX0_init_81 : decode cX0_init 81 = .ok (.aaload, 1) := dk_50 (dk_at dksX0_init_3 9 rfl rfl)
theorem dX0_init_82 : decode cX0_init 82 = .ok (.aastore, 1) := dk_83 (dk_at dksX0_init_3 10 rfl rfl)
theorem dX0_init_83 : decode cX0_init 83 = .ok (.dup, 1) := dk_89 (dk_at dksX0_init_3 11 rfl rfl)
theorem dX0_init_84 : decode cX0_init 84 = .ok (.iconst 2, 1) := dk_5 (dk_at dksX0_init_3 12 rfl rfl)
theorem dX0_init_85 : decode cX0_init 85 = .ok (.aload_n 0, 1) := dk_42 (dk_at dksX0_init_3 13 rfl rfl)
theorem dX0_init_86 : decode cX0_init 86 = .ok (.getfield 23, 3) := dk_180 0 23 (dk_at dksX0_init_3 14 rfl rfl)
theorem dX0_init_89 : decode cX0_init 89 = .ok (.iconst 0, 1) := dk_3 (dk_at dksX0_init_3 17 rfl rfl)
theorem dX0_init_90 : decode cX0_init 90 = .ok (.aaload, 1) := dk_50 (dk_at dksX0_init_3 18 rfl rfl)
theorem dX0_init_91 : decode cX0_init 91 = .ok (.aastore, 1) := dk_83 (dk_at dksX0_init_3 19 rfl rfl)
theorem dX0_init_92 : decode cX0_init 92 = .ok (.dup, 1) := dk_89 (dk_at dksX0_init_3 20 rfl rfl)
theorem dX0_init_93 : decode cX0_init 93 = .ok (.iconst 3, 1) := dk_6 (dk_at dksX0_init_3 21 rfl rfl)
theorem dX0_init_94 : decode cX0_init 94 = .ok (.aload_n 0, 1) := dk_42 (dk_at dksX0_init_3 22 rfl rfl)
theorem dX0_init_95 : decode cX0_init 95 = .ok (.getfield 23, 3) := dk_180 0 23 (dk_at dksX0_init_4 0 rfl rfl)
theorem dX0_init_98 : decode cX0_init 98 = .ok (.iconst 1, 1) := dk_4 (dk_at dksX0_init_4 3 rfl rfl)
theorem dX0_init_99 : decode cX0_init 99 = .ok (.aaload, 1) := dk_50 (dk_at dksX0_init_4 4 rfl rfl)
theorem dX0_init_100 : decode cX0_init 100 = .ok (.aastore, 1) := dk_83 (dk_at dksX0_init_4 5 rfl rfl)
theorem dX0_init_101 : decode cX0_init 101 = .ok (.putfield 29, 3) := dk_181 0 29 (dk_at dksX0_init_4 6 rfl rfl)
theorem dX0_init_104 : decode cX0_init 104 = .ok (.aload_n 0, 1) := dk_42 (dk_at dksX0_init_4 9 rfl rfl)
theorem dX0_init_105 : decode cX0_init 105 = .ok (.new 33, 3) := dk_187 0 33 (dk_at dksX0_init_4 10 rfl rfl)
theorem dX0_init_108 : decode cX0_init 108 = .ok (.dup, 1) := dk_89 (dk_at dksX0_init_4 13 rfl rfl)
theorem dX0_init_109 : decode cX0_init 109 = .ok (.invokespecial 35, 3) := dk_183 0 35 (dk_at dksX0_init_4 14 rfl rfl)
theorem dX0_init_112 : decode cX0_init 112 = .ok (.putfield 36, 3) := dk_181 0 36 (dk_at dksX0_init_4 17 rfl rfl)
theorem dX0_init_115 : decode cX0_init 115 = .ok (.aload_n 0, 1) := dk_42 (dk_at dksX0_init_4 20 rfl rfl)
theorem dX0_init_116 : decode cX0_init 116 = .ok (.bipush 16, 2) := dk_16 16 (dk_at dksX0_init_4 21 rfl rfl)
theorem dX0_init_118 : decode cX0_init 118 = .ok (.newarray .int, 2) := dk_188_10 (dk_at dksX0_init_5 0 rfl rfl)
theorem dX0_init_120 : decode cX0_init 120 = .ok (.putfield 40, 3) := dk_181 0 40 (dk_at dksX0_init_5 2 rfl rfl)
theorem dX0_init_123 : decode cX0_init 123 = .ok (.aload_n 0, 1) := dk_42 (dk_at dksX0_init_5 5 rfl rfl)
theorem dX0_init_124 : decode cX0_init 124 = .ok (.bipush 16, 2) := dk_16 16 (dk_at dksX0_init_5 6 rfl rfl)
theorem dX0_init_126 : decode cX0_init 126 = .ok (.newarray .int, 2) := dk_188_10 (dk_at dksX0_init_5 8 rfl rfl)
theorem dX0_init_128 : decode cX0_init 128 = .ok (.putfield 44, 3) := dk_181 0 44 (dk_at dksX0_init_5 10 rfl rfl)
theorem dX0_init_131 : decode cX0_init 131 = .ok (.aload_n 0, 1) := dk_42 (dk_at dksX0_init_5 13 rfl rfl)
theorem dX0_init_132 : decode cX0_init 132 = .ok (.bipush 24, 2) := dk_16 24 (dk_at dksX0_init_5 14 rfl rfl)
theorem dX0_init_134 : decode cX0_init 134 = .ok (.iconst 4, 1) := dk_7 (dk_at dksX0_init_5 16 rfl rfl)
theorem dX0_init_135 : decode cX0_init 135 = .ok (.multianewarray 47 2, 4) := by decide +kernel
theorem dX0_init_139 : decode cX0_init 139 = .ok (.putfield 49, 3) := dk_181 0 49 (dk_at dksX0_init_5 21 rfl rfl)
theorem dX0_init_142 : decode cX0_init 142 = .ok (.aload_n 0, 1) := dk_42 (dk_at dksX0_init_6 0 rfl rfl)
theorem dX0_init_143 : decode cX0_init 143 = .ok (.bipush 24, 2) := dk_16 24 (dk_at dksX0_init_6 1 rfl rfl)
theorem dX0_init_145 : decode cX0_init 145 = .ok (.bipush 16, 2) := dk_16 16 (dk_at dksX0_init_6 3 rfl rfl)
theorem dX0_init_147 : decode cX0_init 147 = .ok (.multianewarray 47 2, 4) := by decide +kernel
theorem dX0_init_151 : decode cX0_init 151 = .ok (.putfield 52, 3) := dk_181 0 52 (dk_at dksX0_init_6 9 rfl rfl)
theorem dX0_init_154 : decode cX0_init 154 = .ok (.aload_n 0, 1) := dk_42 (dk_at dksX0_init_6 12 rfl rfl)
theorem dX0_init_155 : decode cX0_init 155 = .ok (.bipush 24, 2) := dk_16 24 (dk_at dksX0_init_6 13 rfl rfl)
theorem dX0_init_157 : decode cX0_init 157 = .ok (.bipush 16, 2) := dk_16 16 (dk_at dksX0_init_6 15 rfl rfl)
theorem dX0_init_159 : decode cX0_init 159 = .ok (.multianewarray 47 2, 4) := by decide +kernel
theorem dX0_init_163 : decode cX0_init 163 = .ok (.putfield 55, 3) := dk_181 0 55 (dk_at dksX0_init_6 21 rfl rfl)
theorem dX0_init_166 : decode cX0_init 166 = .ok (.aload_n 0, 1) := dk_42 (dk_at dksX0_init_7 0 rfl rfl)
theorem dX0_init_167 : decode cX0_init 167 = .ok (.iconst 2, 1) := dk_5 (dk_at dksX0_init_7 1 rfl rfl)
theorem dX0_init_168 : decode cX0_init 168 = .ok (.newarray .int, 2) := dk_188_10 (dk_at dksX0_init_7 2 rfl rfl)
theorem dX0_init_170 : decode cX0_init 170 = .ok (.putfield 58, 3) := dk_181 0 58 (dk_at dksX0_init_7 4 rfl rfl)
theorem dX0_init_173 : decode cX0_init 173 = .ok (.aload_n 0, 1) := dk_42 (dk_at dksX0_init_7 7 rfl rfl)
theorem dX0_init_174 : decode cX0_init 174 = .ok (.iconst (-1), 1) := dk_2 (dk_at dksX0_init_7 8 rfl rfl)
theorem dX0_init_175 : decode cX0_init 175 = .ok (.putfield 61, 3) := dk_181 0 61 (dk_at dksX0_init_7 9 rfl rfl)
theorem dX0_init_178 : decode cX0_init 178 = .ok (.aload_n 0, 1) := dk_42 (dk_at dksX0_init_7 12 rfl rfl)
theorem dX0_init_179 : decode cX0_init 179 = .ok (.iconst (-1), 1) := dk_2 (dk_at dksX0_init_7 13 rfl rfl)
theorem dX0_init_180 : decode cX0_init 180 = .ok (.putfield 65, 3) := dk_181 0 65 (dk_at dksX0_init_7 14 rfl rfl)
theorem dX0_init_183 : decode cX0_init 183 = .ok (.aload_n 0, 1) := dk_42 (dk_at dksX0_init_7 17 rfl rfl)
theorem dX0_init_184 : decode cX0_init 184 = .ok (.new 33, 3) := dk_187 0 33 (dk_at dksX0_init_7 18 rfl rfl)
theorem dX0_init_187 : decode cX0_init 187 = .ok (.dup, 1) := dk_89 (dk_at dksX0_init_7 21 rfl rfl)
theorem dX0_init_188 : decode cX0_init 188 = .ok (.invokespecial 35, 3) := dk_183 0 35 (dk_at dksX0_init_8 0 rfl rfl)
theorem dX0_init_191 : decode cX0_init 191 = .ok (.putfield 68, 3) := dk_181 0 68 (dk_at dksX0_init_8 3 rfl rfl)
theorem dX0_init_194 : decode cX0_init 194 = .ok (.aload_n 0, 1) := dk_42 (dk_at dksX0_init_8 6 rfl rfl)
theorem dX0_init_195 : decode cX0_init 195 = .ok (.bipush 10, 2) := dk_16 10 (dk_at dksX0_init_8 7 rfl rfl)
theorem dX0_init_197 : decode cX0_init 197 = .ok (.bipush 24, 2) := dk_16 24 (dk_at dksX0_init_8 9 rfl rfl)
theorem dX0_init_199 : decode cX0_init 199 = .ok (.multianewarray 47 2, 4) := by decide +kernel
theorem dX0_init_203 : decode cX0_init 203 = .ok (.putfield 71, 3) := dk_181 0 71 (dk_at dksX0_init_8 15 rfl rfl)
theorem dX0_init_206 : decode cX0_init 206 = .ok (.aload_n 0, 1) := dk_42 (dk_at dksX0_init_8 18 rfl rfl)
theorem dX0_init_207 : decode cX0_init 207 = .ok (.bipush 24, 2) := dk_16 24 (dk_at dksX0_init_8 19 rfl rfl)
theorem dX0_init_209 : decode cX0_init 209 = .ok (.newarray .int, 2) := dk_188_10 (dk_at dksX0_init_8 21 rfl rfl)
theorem dX0_init_211 : decode cX0_init 211 = .ok (.putfield 74, 3) := dk_181 0 74 (dk_at dksX0_init_9 0 rfl rfl)
theorem dX0_init_214 : decode cX0_init 214 = .ok (.aload_n 0, 1) := dk_42 (dk_at dksX0_init_9 3 rfl rfl)
theorem dX0_init_215 : decode cX0_init 215 = .ok (.iconst 4, 1) := dk_7 (dk_at dksX0_init_9 4 rfl rfl)
theorem dX0_init_216 : decode cX0_init 216 = .ok (.anewarray 77, 3) := dk_189 0 77 (dk_at dksX0_init_9 5 rfl rfl)
theorem dX0_init_219 : decode cX0_init 219 = .ok (.dup, 1) := dk_89 (dk_at dksX0_init_9 8 rfl rfl)
theorem dX0_init_220 : decode cX0_init 220 = .ok (.iconst 0, 1) := dk_3 (dk_at dksX0_init_9 9 rfl rfl)
theorem dX0_init_221 : decode cX0_init 221 = .ok (.new 77, 3) := dk_187 0 77 (dk_at dksX0_init_9 10 rfl rfl)
theorem dX0_init_224 : decode cX0_init 224 = .ok (.dup, 1) := dk_89 (dk_at dksX0_init_9 13 rfl rfl)
theorem dX0_init_225 : decode cX0_init 225 = .ok (.invokespecial 79, 3) := dk_183 0 79 (dk_at dksX0_init_9 14 rfl rfl)
theorem dX0_init_228 : decode cX0_init 228 = .ok (.aastore, 1) := dk_83 (dk_at dksX0_init_9 17 rfl rfl)
theorem dX0_init_229 : decode cX0_init 229 = .ok (.dup, 1) := dk_89 (dk_at dksX0_init_9 18 rfl rfl)
theorem dX0_init_230 : decode cX0_init 230 = .ok (.iconst 1, 1) := dk_4 (dk_at dksX0_init_9 19 rfl rfl)
theorem dX0_init_231 : decode cX0_init 231 = .ok (.new 77, 3) := dk_187 0 77 (dk_at dksX0_init_9 20 rfl rfl)
theorem dX0_init_234 : decode cX0_init 234 = .ok (.dup, 1) := dk_89 (dk_at dksX0_init_9 23 rfl rfl)
theorem dX0_init_235 : decode cX0_init 235 = .ok (.invokespecial 79, 3) := dk_183 0 79 (dk_at dksX0_init_10 0 rfl rfl)
theorem dX0_init_238 : decode cX0_init 238 = .ok (.aastore, 1) := dk_83 (dk_at dksX0_init_10 3 rfl rfl)
theorem dX0_init_239 : decode cX0_init 239 = .ok (.dup, 1) := dk_89 (dk_at dksX0_init_10 4 rfl rfl)
theorem dX0_init_240 : decode cX0_init 240 = .ok (.iconst 2, 1) := dk_5 (dk_at dksX0_init_10 5 rfl rfl)
theorem dX0_init_241 : decode cX0_init 241 = .ok (.new 77, 3) := dk_187 0 77 (dk_at dksX0_init_10 6 rfl rfl)
theorem dX0_init_244 : decode cX0_init 244 = .ok (.dup, 1) := dk_89 (dk_at dksX0_init_10 9 rfl rfl)
theorem dX0_init_245 : decode cX0_init 245 = .ok (.invokespecial 79, 3) := dk_183 0 79 (dk_at dksX0_init_10 10 rfl rfl)
theorem dX0_init_248 : decode cX0_init 248 = .ok (.aastore, 1) := dk_83 (dk_at dksX0_init_10 13 rfl rfl)
theorem dX0_init_249 : decode cX0_init 249 = .ok (.dup, 1) := dk_89 (dk_at dksX0_init_10 14 rfl rfl)
theorem dX0_init_250 : decode cX0_init 250 = .ok (.iconst 3, 1) := dk_6 (dk_at dksX0_init_10 15 rfl rfl)
theorem dX0_init_251 : decode cX0_init 251 = .ok (.new 77, 3) := dk_187 0 77 (dk_at dksX0_init_10 16 rfl rfl)
theorem dX0_init_254 : decode cX0_init 254 = .ok (.dup, 1) := dk_89 (dk_at dksX0_init_10 19 rfl rfl)
theorem dX0_init_255 : decode cX0_init 255 = .ok (.invokespecial 79, 3) := dk_183 0 79 (dk_at dksX0_init_10 20 rfl rfl)
theorem dX0_init_258 : decode cX0_init 258 = .ok (.aastore, 1) := dk_83 (dk_at dksX0_init_10 23 rfl rfl)
theorem dX0_init_259 : decode cX0_init 259 = .ok (.putfield 80, 3) := dk_181 0 80 (dk_at dksX0_init_11 0 rfl rfl)
theorem dX0_init_262 : decode cX0_init 262 = .ok (.return_, 1) := dk_177 (dk_at dksX0_init_11 3 rfl rfl)
abbrev cX0_type : ByteArray := prog_1_method_10_code
def yX0_type : MethodName := ⟨RX0, "type", "(II)I"⟩
def dkwX0_type_1 : List UInt8 := [50, 28, 182, 0, 104, 167, 0, 5, 16, 254, 172]
abbrev dktX0_type_1 : List UInt8 := dkwX0_type_1 ++ []
def dkwX0_type_0 : List UInt8 := [27, 184, 0, 98, 153, 0, 28, 28, 133, 9, 20, 0, 102, 184, 0, 90, 153, 0, 16, 42, 180, 0, 29, 27]
abbrev dktX0_type_0 : List UInt8 := dkwX0_type_0 ++ dktX0_type_1
theorem dksX0_type_0 : cX0_type.data.toList.drop 0 = dktX0_type_0 := by decide +kernel
theorem dksX0_type_1 : cX0_type.data.toList.drop 24 = dktX0_type_1 := dk_seg dksX0_type_0 24 rfl rfl
theorem dX0_type_0 : decode cX0_type 0 = .ok (.iload_n 1, 1) := dk_27 (dk_at dksX0_type_0 0 rfl rfl)
theorem dX0_type_1 : decode cX0_type 1 = .ok (.invokestatic 98, 3) := dk_184 0 98 (dk_at dksX0_type_0 1 rfl rfl)
theorem dX0_type_4 : decode cX0_type 4 = .ok (.ifCond .eq 28, 3) := dk_153 0 28 (dk_at dksX0_type_0 4 rfl rfl)
theorem dX0_type_7 : decode cX0_type 7 = .ok (.iload_n 2, 1) := dk_28 (dk_at dksX0_type_0 7 rfl rfl)
theorem dX0_type_8 : decode cX0_type 8 = .ok (.i2l, 1) := dk_133 (dk_at dksX0_type_0 8 rfl rfl)
theorem dX0_type_9 : decode cX0_type 9 = .ok (.lconst 0, 1) := dk_9 (dk_at dksX0_type_0 9 rfl rfl)
theorem dX0_type_10 : decode cX0_type 10 = .ok (.ldc2_w 102, 3) := dk_20 0 102 (dk_at dksX0_type_0 10 rfl rfl)
theorem dX0_type_13 : decode cX0_type 13 = .ok (.invokestatic 90, 3) := dk_184 0 90 (dk_at dksX0_type_0 13 rfl rfl)
theorem dX0_type_16 : decode cX0_type 16 = .ok (.ifCond .eq 16, 3) := dk_153 0 16 (dk_at dksX0_type_0 16 rfl rfl)
theorem dX0_type_19 : decode cX0_type 19 = .ok (.aload_n 0, 1) := dk_42 (dk_at dksX0_type_0 19 rfl rfl)
theorem dX0_type_20 : decode cX0_type 20 = .ok (.getfield 29, 3) := dk_180 0 29 (dk_at dksX0_type_0 20 rfl rfl)
theorem dX0_type_23 : decode cX0_type 23 = .ok (.iload_n 1, 1) := dk_27 (dk_at dksX0_type_0 23 rfl rfl)
theorem dX0_type_24 : decode cX0_type 24 = .ok (.aaload, 1) := dk_50 (dk_at dksX0_type_1 0 rfl rfl)
theorem dX0_type_25 : decode cX0_type 25 = .ok (.iload_n 2, 1) := dk_28 (dk_at dksX0_type_1 1 rfl rfl)
theorem dX0_type_26 : decode cX0_type 26 = .ok (.invokevirtual 104, 3) := dk_182 0 104 (dk_at dksX0_type_1 2 rfl rfl)
theorem dX0_type_29 : decode cX0_type 29 = .ok (.goto 5, 3) := dk_167 0 5 (dk_at dksX0_type_1 5 rfl rfl)
theorem dX0_type_32 : decode cX0_type 32 = .ok (.bipush (-2), 2) := dk_16 254 (dk_at dksX0_type_1 8 rfl rfl)
theorem dX0_type_34 : decode cX0_type 34 = .ok (.ireturn, 1) := dk_172 (dk_at dksX0_type_1 10 rfl rfl)
abbrev cX0_isText : ByteArray := prog_1_method_9_code
def yX0_isText : MethodName := ⟨RX0, "isText", "(I)Z"⟩
def dkwX0_isText_0 : List UInt8 := [26, 133, 9, 20, 0, 96, 184, 0, 90, 172]
abbrev dktX0_isText_0 : List UInt8 := dkwX0_isText_0 ++ []
theorem dksX0_isText_0 : cX0_isText.data.toList.drop 0 = dktX0_isText_0 := by decide +kernel
theorem dX0_isText_0 : decode cX0_isText 0 = .ok (.iload_n 0, 1) := dk_26 (dk_at dksX0_isText_0 0 rfl rfl)
theorem dX0_isText_1 : decode cX0_isText 1 = .ok (.i2l, 1) := dk_133 (dk_at dksX0_isText_0 1 rfl rfl)
theorem dX0_isText_2 : decode cX0_isText 2 = .ok (.lconst 0, 1) := dk_9 (dk_at dksX0_isText_0 2 rfl rfl)
theorem dX0_isText_3 : decode cX0_isText 3 = .ok (.ldc2_w 96, 3) := dk_20 0 96 (dk_at dksX0_isText_0 3 rfl rfl)
theorem dX0_isText_6 : decode cX0_isText 6 = .ok (.invokestatic 90, 3) := dk_184 0 90 (dk_at dksX0_isText_0 6 rfl rfl)
theorem dX0_isText_9 : decode cX0_isText 9 = .ok (.ireturn, 1) := dk_172 (dk_at dksX0_isText_0 9 rfl rfl)
abbrev cX0_in : ByteArray := prog_1_method_2_code
def yX0_in : MethodName := ⟨RX0, "in", "(JJJ)Z"⟩
def dkwX0_in_0 : List UInt8 := [30, 32, 148, 155, 0, 14, 30, 22, 4, 148, 157, 0, 7, 4, 167, 0, 4, 3, 172]
abbrev dktX0_in_0 : List UInt8 := dkwX0_in_0 ++ []
theorem dksX0_in_0 : cX0_in.data.toList.drop 0 = dktX0_in_0 := by decide +kernel
theorem dX0_in_0 : decode cX0_in 0 = .ok (.lload_n 0, 1) := dk_30 (dk_at dksX0_in_0 0 rfl rfl)
theorem dX0_in_1 : decode cX0_in 1 = .ok (.lload_n 2, 1) := dk_32 (dk_at dksX0_in_0 1 rfl rfl)
theorem dX0_in_2 : decode cX0_in 2 = .ok (.lcmp, 1) := dk_148 (dk_at dksX0_in_0 2 rfl rfl)
theorem dX0_in_3 : decode cX0_in 3 = .ok (.ifCond .lt 14, 3) := dk_155 0 14 (dk_at dksX0_in_0 3 rfl rfl)
theorem dX0_in_6 : decode cX0_in 6 = .ok (.lload_n 0, 1) := dk_30 (dk_at dksX0_in_0 6 rfl rfl)
theorem dX0_in_7 : decode cX0_in 7 = .ok (.lload 4, 2) := dk_22 4 (dk_at dksX0_in_0 7 rfl rfl)
theorem dX0_in_9 : decode cX0_in 9 = .ok (.lcmp, 1) := dk_148 (dk_at dksX0_in_0 9 rfl rfl)
theorem dX0_in_10 : decode cX0_in 10 = .ok (.ifCond .gt 7, 3) := dk_157 0 7 (dk_at dksX0_in_0 10 rfl rfl)
theorem dX0_in_13 : decode cX0_in 13 = .ok (.iconst 1, 1) := dk_4 (dk_at dksX0_in_0 13 rfl rfl)
theorem dX0_in_14 : decode cX0_in 14 = .ok (.goto 4, 3) := dk_167 0 4 (dk_at dksX0_in_0 14 rfl rfl)
theorem dX0_in_17 : decode cX0_in 17 = .ok (.iconst 0, 1) := dk_3 (dk_at dksX0_in_0 17 rfl rfl)
theorem dX0_in_18 : decode cX0_in 18 = .ok (.ireturn, 1) := dk_172 (dk_at dksX0_in_0 18 rfl rfl)
abbrev cX0_wipe : ByteArray := prog_1_method_11_code
def yX0_wipe : MethodName := ⟨RX0, "wipe", "(I)I"⟩
def dkwX0_wipe_0 : List UInt8 := [27, 184, 0, 98, 153, 0, 15, 42, 180, 0, 29, 27, 50, 182, 0, 108, 167, 0, 5, 16, 254, 172]
abbrev dktX0_wipe_0 : List UInt8 := dkwX0_wipe_0 ++ []
theorem dksX0_wipe_0 : cX0_wipe.data.toList.drop 0 = dktX0_wipe_0 := by decide +kernel
theorem dX0_wipe_0 : decode cX0_wipe 0 = .ok (.iload_n 1, 1) := dk_27 (dk_at dksX0_wipe_0 0 rfl rfl)
theorem dX0_wipe_1 : decode cX0_wipe 1 = .ok (.invokestatic 98, 3) := dk_184 0 98 (dk_at dksX0_wipe_0 1 rfl rfl)
theorem dX0_wipe_4 : decode cX0_wipe 4 = .ok (.ifCond .eq 15, 3) := dk_153 0 15 (dk_at dksX0_wipe_0 4 rfl rfl)
theorem dX0_wipe_7 : decode cX0_wipe 7 = .ok (.aload_n 0, 1) := dk_42 (dk_at dksX0_wipe_0 7 rfl rfl)
theorem dX0_wipe_8 : decode cX0_wipe 8 = .ok (.getfield 29, 3) := dk_180 0 29 (dk_at dksX0_wipe_0 8 rfl rfl)
theorem dX0_wipe_11 : decode cX0_wipe 11 = .ok (.iload_n 1, 1) := dk_27 (dk_at dksX0_wipe_0 11 rfl rfl)
theorem dX0_wipe_12 : decode cX0_wipe 12 = .ok (.aaload, 1) := dk_50 (dk_at dksX0_wipe_0 12 rfl rfl)
theorem dX0_wipe_13 : decode cX0_wipe 13 = .ok (.invokevirtual 108, 3) := dk_182 0 108 (dk_at dksX0_wipe_0 13 rfl rfl)
theorem dX0_wipe_16 : decode cX0_wipe 16 = .ok (.goto 5, 3) := dk_167 0 5 (dk_at dksX0_wipe_0 16 rfl rfl)
theorem dX0_wipe_19 : decode cX0_wipe 19 = .ok (.bipush (-2), 2) := dk_16 254 (dk_at dksX0_wipe_0 19 rfl rfl)
theorem dX0_wipe_21 : decode cX0_wipe 21 = .ok (.ireturn, 1) := dk_172 (dk_at dksX0_wipe_0 21 rfl rfl)
abbrev cX0_undo : ByteArray := prog_1_method_12_code
def yX0_undo : MethodName := ⟨RX0, "undo", "(I)I"⟩
def dkwX0_undo_0 : List UInt8 := [27, 184, 0, 98, 153, 0, 15, 42, 180, 0, 29, 27, 50, 182, 0, 112, 167, 0, 5, 16, 254, 172]
abbrev dktX0_undo_0 : List UInt8 := dkwX0_undo_0 ++ []
theorem dksX0_undo_0 : cX0_undo.data.toList.drop 0 = dktX0_undo_0 := by decide +kernel
theorem dX0_undo_0 : decode cX0_undo 0 = .ok (.iload_n 1, 1) := dk_27 (dk_at dksX0_undo_0 0 rfl rfl)
theorem dX0_undo_1 : decode cX0_undo 1 = .ok (.invokestatic 98, 3) := dk_184 0 98 (dk_at dksX0_undo_0 1 rfl rfl)
theorem dX0_undo_4 : decode cX0_undo 4 = .ok (.ifCond .eq 15, 3) := dk_153 0 15 (dk_at dksX0_undo_0 4 rfl rfl)
theorem dX0_undo_7 : decode cX0_undo 7 = .ok (.aload_n 0, 1) := dk_42 (dk_at dksX0_undo_0 7 rfl rfl)
theorem dX0_undo_8 : decode cX0_undo 8 = .ok (.getfield 29, 3) := dk_180 0 29 (dk_at dksX0_undo_0 8 rfl rfl)
theorem dX0_undo_11 : decode cX0_undo 11 = .ok (.iload_n 1, 1) := dk_27 (dk_at dksX0_undo_0 11 rfl rfl)
theorem dX0_undo_12 : decode cX0_undo 12 = .ok (.aaload, 1) := dk_50 (dk_at dksX0_undo_0 12 rfl rfl)
theorem dX0_undo_13 : decode cX0_undo 13 = .ok (.invokevirtual 112, 3) := dk_182 0 112 (dk_at dksX0_undo_0 13 rfl rfl)
theorem dX0_undo_16 : decode cX0_undo 16 = .ok (.goto 5, 3) := dk_167 0 5 (dk_at dksX0_undo_0 16 rfl rfl)
theorem dX0_undo_19 : decode cX0_undo 19 = .ok (.bipush (-2), 2) := dk_16 254 (dk_at dksX0_undo_0 19 rfl rfl)
theorem dX0_undo_21 : decode cX0_undo 21 = .ok (.ireturn, 1) := dk_172 (dk_at dksX0_undo_0 21 rfl rfl)
abbrev cX0_fault : ByteArray := prog_1_method_13_code
def yX0_fault : MethodName := ⟨RX0, "fault", "(I)I"⟩
def dkwX0_fault_0 : List UInt8 := [27, 184, 0, 98, 153, 0, 15, 42, 180, 0, 29, 27, 50, 182, 0, 115, 167, 0, 5, 16, 254, 172]
abbrev dktX0_fault_0 : List UInt8 := dkwX0_fault_0 ++ []
theorem dksX0_fault_0 : cX0_fault.data.toList.drop 0 = dktX0_fault_0 := by decide +kernel
theorem dX0_fault_0 : decode cX0_fault 0 = .ok (.iload_n 1, 1) := dk_27 (dk_at dksX0_fault_0 0 rfl rfl)
theorem dX0_fault_1 : decode cX0_fault 1 = .ok (.invokestatic 98, 3) := dk_184 0 98 (dk_at dksX0_fault_0 1 rfl rfl)
theorem dX0_fault_4 : decode cX0_fault 4 = .ok (.ifCond .eq 15, 3) := dk_153 0 15 (dk_at dksX0_fault_0 4 rfl rfl)
theorem dX0_fault_7 : decode cX0_fault 7 = .ok (.aload_n 0, 1) := dk_42 (dk_at dksX0_fault_0 7 rfl rfl)
theorem dX0_fault_8 : decode cX0_fault 8 = .ok (.getfield 29, 3) := dk_180 0 29 (dk_at dksX0_fault_0 8 rfl rfl)
theorem dX0_fault_11 : decode cX0_fault 11 = .ok (.iload_n 1, 1) := dk_27 (dk_at dksX0_fault_0 11 rfl rfl)
theorem dX0_fault_12 : decode cX0_fault 12 = .ok (.aaload, 1) := dk_50 (dk_at dksX0_fault_0 12 rfl rfl)
theorem dX0_fault_13 : decode cX0_fault 13 = .ok (.invokevirtual 115, 3) := dk_182 0 115 (dk_at dksX0_fault_0 13 rfl rfl)
theorem dX0_fault_16 : decode cX0_fault 16 = .ok (.goto 5, 3) := dk_167 0 5 (dk_at dksX0_fault_0 16 rfl rfl)
theorem dX0_fault_19 : decode cX0_fault 19 = .ok (.bipush (-2), 2) := dk_16 254 (dk_at dksX0_fault_0 19 rfl rfl)
theorem dX0_fault_21 : decode cX0_fault 21 = .ok (.ireturn, 1) := dk_172 (dk_at dksX0_fault_0 21 rfl rfl)
abbrev cX0_puller : ByteArray := prog_1_method_16_code
def yX0_puller : MethodName := ⟨RX0, "puller", "(II)I"⟩
def dkwX0_puller_1 : List UInt8 := [182, 0, 137, 28, 182, 0, 141, 167, 0, 5, 16, 254, 172]
abbrev dktX0_puller_1 : List UInt8 := dkwX0_puller_1 ++ []
def dkwX0_puller_0 : List UInt8 := [42, 27, 182, 0, 132, 153, 0, 27, 28, 133, 9, 20, 0, 135, 184, 0, 90, 153, 0, 15, 42, 27]
abbrev dktX0_puller_0 : List UInt8 := dkwX0_puller_0 ++ dktX0_puller_1
theorem dksX0_puller_0 : cX0_puller.data.toList.drop 0 = dktX0_puller_0 := by decide +kernel
theorem dksX0_puller_1 : cX0_puller.data.toList.drop 22 = dktX0_puller_1 := dk_seg dksX0_puller_0 22 rfl rfl
theorem dX0_puller_0 : decode cX0_puller 0 = .ok (.aload_n 0, 1) := dk_42 (dk_at dksX0_puller_0 0 rfl rfl)
theorem dX0_puller_1 : decode cX0_puller 1 = .ok (.iload_n 1, 1) := dk_27 (dk_at dksX0_puller_0 1 rfl rfl)
theorem dX0_puller_2 : decode cX0_puller 2 = .ok (.invokevirtual 132, 3) := dk_182 0 132 (dk_at dksX0_puller_0 2 rfl rfl)
theorem dX0_puller_5 : decode cX0_puller 5 = .ok (.ifCond .eq 27, 3) := dk_153 0 27 (dk_at dksX0_puller_0 5 rfl rfl)
theorem dX0_puller_8 : decode cX0_puller 8 = .ok (.iload_n 2, 1) := dk_28 (dk_at dksX0_puller_0 8 rfl rfl)
theorem dX0_puller_9 : decode cX0_puller 9 = .ok (.i2l, 1) := dk_133 (dk_at dksX0_puller_0 9 rfl rfl)
theorem dX0_puller_10 : decode cX0_puller 10 = .ok (.lconst 0, 1) := dk_9 (dk_at dksX0_puller_0 10 rfl rfl)
theorem dX0_puller_11 : decode cX0_puller 11 = .ok (.ldc2_w 135, 3) := dk_20 0 135 (dk_at dksX0_puller_0 11 rfl rfl)
theorem dX0_puller_14 : decode cX0_puller 14 = .ok (.invokestatic 90, 3) := dk_184 0 90 (dk_at dksX0_puller_0 14 rfl rfl)
theorem dX0_puller_17 : decode cX0_puller 17 = .ok (.ifCond .eq 15, 3) := dk_153 0 15 (dk_at dksX0_puller_0 17 rfl rfl)
theorem dX0_puller_20 : decode cX0_puller 20 = .ok (.aload_n 0, 1) := dk_42 (dk_at dksX0_puller_0 20 rfl rfl)
theorem dX0_puller_21 : decode cX0_puller 21 = .ok (.iload_n 1, 1) := dk_27 (dk_at dksX0_puller_0 21 rfl rfl)
theorem dX0_puller_22 : decode cX0_puller 22 = .ok (.invokevirtual 137, 3) := dk_182 0 137 (dk_at dksX0_puller_1 0 rfl rfl)
theorem dX0_puller_25 : decode cX0_puller 25 = .ok (.iload_n 2, 1) := dk_28 (dk_at dksX0_puller_1 3 rfl rfl)
theorem dX0_puller_26 : decode cX0_puller 26 = .ok (.invokevirtual 141, 3) := dk_182 0 141 (dk_at dksX0_puller_1 4 rfl rfl)
theorem dX0_puller_29 : decode cX0_puller 29 = .ok (.goto 5, 3) := dk_167 0 5 (dk_at dksX0_puller_1 7 rfl rfl)
theorem dX0_puller_32 : decode cX0_puller 32 = .ok (.bipush (-2), 2) := dk_16 254 (dk_at dksX0_puller_1 10 rfl rfl)
theorem dX0_puller_34 : decode cX0_puller 34 = .ok (.ireturn, 1) := dk_172 (dk_at dksX0_puller_1 12 rfl rfl)
abbrev cX0_isPuller : ByteArray := prog_1_method_14_code
def yX0_isPuller : MethodName := ⟨RX0, "isPuller", "(I)Z"⟩
def dkwX0_isPuller_1 : List UInt8 := [50, 182, 0, 120, 162, 0, 7, 4, 167, 0, 4, 3, 172]
abbrev dktX0_isPuller_1 : List UInt8 := dkwX0_isPuller_1 ++ []
def dkwX0_isPuller_0 : List UInt8 := [27, 133, 9, 20, 0, 118, 184, 0, 90, 153, 0, 26, 27, 16, 8, 112, 42, 180, 0, 14, 27, 16, 8, 108]
abbrev dktX0_isPuller_0 : List UInt8 := dkwX0_isPuller_0 ++ dktX0_isPuller_1
theorem dksX0_isPuller_0 : cX0_isPuller.data.toList.drop 0 = dktX0_isPuller_0 := by decide +kernel
theorem dksX0_isPuller_1 : cX0_isPuller.data.toList.drop 24 = dktX0_isPuller_1 := dk_seg dksX0_isPuller_0 24 rfl rfl
theorem dX0_isPuller_0 : decode cX0_isPuller 0 = .ok (.iload_n 1, 1) := dk_27 (dk_at dksX0_isPuller_0 0 rfl rfl)
theorem dX0_isPuller_1 : decode cX0_isPuller 1 = .ok (.i2l, 1) := dk_133 (dk_at dksX0_isPuller_0 1 rfl rfl)
theorem dX0_isPuller_2 : decode cX0_isPuller 2 = .ok (.lconst 0, 1) := dk_9 (dk_at dksX0_isPuller_0 2 rfl rfl)
theorem dX0_isPuller_3 : decode cX0_isPuller 3 = .ok (.ldc2_w 118, 3) := dk_20 0 118 (dk_at dksX0_isPuller_0 3 rfl rfl)
theorem dX0_isPuller_6 : decode cX0_isPuller 6 = .ok (.invokestatic 90, 3) := dk_184 0 90 (dk_at dksX0_isPuller_0 6 rfl rfl)
theorem dX0_isPuller_9 : decode cX0_isPuller 9 = .ok (.ifCond .eq 26, 3) := dk_153 0 26 (dk_at dksX0_isPuller_0 9 rfl rfl)
theorem dX0_isPuller_12 : decode cX0_isPuller 12 = .ok (.iload_n 1, 1) := dk_27 (dk_at dksX0_isPuller_0 12 rfl rfl)
theorem dX0_isPuller_13 : decode cX0_isPuller 13 = .ok (.bipush 8, 2) := dk_16 8 (dk_at dksX0_isPuller_0 13 rfl rfl)
theorem dX0_isPuller_15 : decode cX0_isPuller 15 = .ok (.irem, 1) := dk_112 (dk_at dksX0_isPuller_0 15 rfl rfl)
theorem dX0_isPuller_16 : decode cX0_isPuller 16 = .ok (.aload_n 0, 1) := dk_42 (dk_at dksX0_isPuller_0 16 rfl rfl)
theorem dX0_isPuller_17 : decode cX0_isPuller 17 = .ok (.getfield 14, 3) := dk_180 0 14 (dk_at dksX0_isPuller_0 17 rfl rfl)
theorem dX0_isPuller_20 : decode cX0_isPuller 20 = .ok (.iload_n 1, 1) := dk_27 (dk_at dksX0_isPuller_0 20 rfl rfl)
theorem dX0_isPuller_21 : decode cX0_isPuller 21 = .ok (.bipush 8, 2) := dk_16 8 (dk_at dksX0_isPuller_0 21 rfl rfl)
theorem dX0_isPuller_23 : decode cX0_isPuller 23 = .ok (.idiv, 1) := dk_108 (dk_at dksX0_isPuller_0 23 rfl rfl)
theorem dX0_isPuller_24 : decode cX0_isPuller 24 = .ok (.aaload, 1) := dk_50 (dk_at dksX0_isPuller_1 0 rfl rfl)
theorem dX0_isPuller_25 : decode cX0_isPuller 25 = .ok (.invokevirtual 120, 3) := dk_182 0 120 (dk_at dksX0_isPuller_1 1 rfl rfl)
theorem dX0_isPuller_28 : decode cX0_isPuller 28 = .ok (.if_icmp .ge 7, 3) := dk_162 0 7 (dk_at dksX0_isPuller_1 4 rfl rfl)
theorem dX0_isPuller_31 : decode cX0_isPuller 31 = .ok (.iconst 1, 1) := dk_4 (dk_at dksX0_isPuller_1 7 rfl rfl)
theorem dX0_isPuller_32 : decode cX0_isPuller 32 = .ok (.goto 4, 3) := dk_167 0 4 (dk_at dksX0_isPuller_1 8 rfl rfl)
theorem dX0_isPuller_35 : decode cX0_isPuller 35 = .ok (.iconst 0, 1) := dk_3 (dk_at dksX0_isPuller_1 11 rfl rfl)
theorem dX0_isPuller_36 : decode cX0_isPuller 36 = .ok (.ireturn, 1) := dk_172 (dk_at dksX0_isPuller_1 12 rfl rfl)
abbrev cX0_pullerBy : ByteArray := prog_1_method_15_code
def yX0_pullerBy : MethodName := ⟨RX0, "pullerBy", "(I)LTugOfWar$Puller;"⟩
def dkwX0_pullerBy_0 : List UInt8 := [42, 180, 0, 14, 27, 16, 8, 108, 50, 180, 0, 123, 27, 16, 8, 112, 182, 0, 126, 192, 0, 130, 176]
abbrev dktX0_pullerBy_0 : List UInt8 := dkwX0_pullerBy_0 ++ []
theorem dksX0_pullerBy_0 : cX0_pullerBy.data.toList.drop 0 = dktX0_pullerBy_0 := by decide +kernel
theorem dX0_pullerBy_0 : decode cX0_pullerBy 0 = .ok (.aload_n 0, 1) := dk_42 (dk_at dksX0_pullerBy_0 0 rfl rfl)
theorem dX0_pullerBy_1 : decode cX0_pullerBy 1 = .ok (.getfield 14, 3) := dk_180 0 14 (dk_at dksX0_pullerBy_0 1 rfl rfl)
theorem dX0_pullerBy_4 : decode cX0_pullerBy 4 = .ok (.iload_n 1, 1) := dk_27 (dk_at dksX0_pullerBy_0 4 rfl rfl)
theorem dX0_pullerBy_5 : decode cX0_pullerBy 5 = .ok (.bipush 8, 2) := dk_16 8 (dk_at dksX0_pullerBy_0 5 rfl rfl)
theorem dX0_pullerBy_7 : decode cX0_pullerBy 7 = .ok (.idiv, 1) := dk_108 (dk_at dksX0_pullerBy_0 7 rfl rfl)
theorem dX0_pullerBy_8 : decode cX0_pullerBy 8 = .ok (.aaload, 1) := dk_50 (dk_at dksX0_pullerBy_0 8 rfl rfl)
theorem dX0_pullerBy_9 : decode cX0_pullerBy 9 = .ok (.getfield 123, 3) := dk_180 0 123 (dk_at dksX0_pullerBy_0 9 rfl rfl)
theorem dX0_pullerBy_12 : decode cX0_pullerBy 12 = .ok (.iload_n 1, 1) := dk_27 (dk_at dksX0_pullerBy_0 12 rfl rfl)
theorem dX0_pullerBy_13 : decode cX0_pullerBy 13 = .ok (.bipush 8, 2) := dk_16 8 (dk_at dksX0_pullerBy_0 13 rfl rfl)
theorem dX0_pullerBy_15 : decode cX0_pullerBy 15 = .ok (.irem, 1) := dk_112 (dk_at dksX0_pullerBy_0 15 rfl rfl)
theorem dX0_pullerBy_16 : decode cX0_pullerBy 16 = .ok (.invokevirtual 126, 3) := dk_182 0 126 (dk_at dksX0_pullerBy_0 16 rfl rfl)
theorem dX0_pullerBy_19 : decode cX0_pullerBy 19 = .ok (.checkcast 130, 3) := dk_192 0 130 (dk_at dksX0_pullerBy_0 19 rfl rfl)
theorem dX0_pullerBy_22 : decode cX0_pullerBy 22 = .ok (.areturn, 1) := dk_176 (dk_at dksX0_pullerBy_0 22 rfl rfl)
abbrev cX0_call : ByteArray := prog_1_method_18_code
def yX0_call : MethodName := ⟨RX0, "call", "(II)I"⟩
def dkwX0_call_1 : List UInt8 := [16, 254, 172]
abbrev dktX0_call_1 : List UInt8 := dkwX0_call_1 ++ []
def dkwX0_call_0 : List UInt8 := [27, 184, 0, 147, 153, 0, 19, 28, 184, 0, 150, 153, 0, 12, 42, 27, 28, 182, 0, 153, 167, 0, 5]
abbrev dktX0_call_0 : List UInt8 := dkwX0_call_0 ++ dktX0_call_1
theorem dksX0_call_0 : cX0_call.data.toList.drop 0 = dktX0_call_0 := by decide +kernel
theorem dksX0_call_1 : cX0_call.data.toList.drop 23 = dktX0_call_1 := dk_seg dksX0_call_0 23 rfl rfl
theorem dX0_call_0 : decode cX0_call 0 = .ok (.iload_n 1, 1) := dk_27 (dk_at dksX0_call_0 0 rfl rfl)
theorem dX0_call_1 : decode cX0_call 1 = .ok (.invokestatic 147, 3) := dk_184 0 147 (dk_at dksX0_call_0 1 rfl rfl)
theorem dX0_call_4 : decode cX0_call 4 = .ok (.ifCond .eq 19, 3) := dk_153 0 19 (dk_at dksX0_call_0 4 rfl rfl)
theorem dX0_call_7 : decode cX0_call 7 = .ok (.iload_n 2, 1) := dk_28 (dk_at dksX0_call_0 7 rfl rfl)
theorem dX0_call_8 : decode cX0_call 8 = .ok (.invokestatic 150, 3) := dk_184 0 150 (dk_at dksX0_call_0 8 rfl rfl)
theorem dX0_call_11 : decode cX0_call 11 = .ok (.ifCond .eq 12, 3) := dk_153 0 12 (dk_at dksX0_call_0 11 rfl rfl)
theorem dX0_call_14 : decode cX0_call 14 = .ok (.aload_n 0, 1) := dk_42 (dk_at dksX0_call_0 14 rfl rfl)
theorem dX0_call_15 : decode cX0_call 15 = .ok (.iload_n 1, 1) := dk_27 (dk_at dksX0_call_0 15 rfl rfl)
theorem dX0_call_16 : decode cX0_call 16 = .ok (.iload_n 2, 1) := dk_28 (dk_at dksX0_call_0 16 rfl rfl)
theorem dX0_call_17 : decode cX0_call 17 = .ok (.invokevirtual 153, 3) := dk_182 0 153 (dk_at dksX0_call_0 17 rfl rfl)
theorem dX0_call_20 : decode cX0_call 20 = .ok (.goto 5, 3) := dk_167 0 5 (dk_at dksX0_call_0 20 rfl rfl)
theorem dX0_call_23 : decode cX0_call 23 = .ok (.bipush (-2), 2) := dk_16 254 (dk_at dksX0_call_1 0 rfl rfl)
theorem dX0_call_25 : decode cX0_call 25 = .ok (.ireturn, 1) := dk_172 (dk_at dksX0_call_1 2 rfl rfl)
abbrev cX0_isTwo : ByteArray := prog_1_method_6_code
def yX0_isTwo : MethodName := ⟨RX0, "isTwo", "(I)Z"⟩
def dkwX0_isTwo_0 : List UInt8 := [26, 133, 9, 10, 184, 0, 90, 172]
abbrev dktX0_isTwo_0 : List UInt8 := dkwX0_isTwo_0 ++ []
theorem dksX0_isTwo_0 : cX0_isTwo.data.toList.drop 0 = dktX0_isTwo_0 := by decide +kernel
theorem dX0_isTwo_0 : decode cX0_isTwo 0 = .ok (.iload_n 0, 1) := dk_26 (dk_at dksX0_isTwo_0 0 rfl rfl)
theorem dX0_isTwo_1 : decode cX0_isTwo 1 = .ok (.i2l, 1) := dk_133 (dk_at dksX0_isTwo_0 1 rfl rfl)
theorem dX0_isTwo_2 : decode cX0_isTwo 2 = .ok (.lconst 0, 1) := dk_9 (dk_at dksX0_isTwo_0 2 rfl rfl)
theorem dX0_isTwo_3 : decode cX0_isTwo 3 = .ok (.lconst 1, 1) := dk_10 (dk_at dksX0_isTwo_0 3 rfl rfl)
theorem dX0_isTwo_4 : decode cX0_isTwo 4 = .ok (.invokestatic 90, 3) := dk_184 0 90 (dk_at dksX0_isTwo_0 4 rfl rfl)
theorem dX0_isTwo_7 : decode cX0_isTwo 7 = .ok (.ireturn, 1) := dk_172 (dk_at dksX0_isTwo_0 7 rfl rfl)
abbrev cX0_isBeat : ByteArray := prog_1_method_8_code
def yX0_isBeat : MethodName := ⟨RX0, "isBeat", "(I)Z"⟩
def dkwX0_isBeat_0 : List UInt8 := [26, 133, 9, 20, 0, 94, 184, 0, 90, 172]
abbrev dktX0_isBeat_0 : List UInt8 := dkwX0_isBeat_0 ++ []
theorem dksX0_isBeat_0 : cX0_isBeat.data.toList.drop 0 = dktX0_isBeat_0 := by decide +kernel
theorem dX0_isBeat_0 : decode cX0_isBeat 0 = .ok (.iload_n 0, 1) := dk_26 (dk_at dksX0_isBeat_0 0 rfl rfl)
theorem dX0_isBeat_1 : decode cX0_isBeat 1 = .ok (.i2l, 1) := dk_133 (dk_at dksX0_isBeat_0 1 rfl rfl)
theorem dX0_isBeat_2 : decode cX0_isBeat 2 = .ok (.lconst 0, 1) := dk_9 (dk_at dksX0_isBeat_0 2 rfl rfl)
theorem dX0_isBeat_3 : decode cX0_isBeat 3 = .ok (.ldc2_w 94, 3) := dk_20 0 94 (dk_at dksX0_isBeat_0 3 rfl rfl)
theorem dX0_isBeat_6 : decode cX0_isBeat 6 = .ok (.invokestatic 90, 3) := dk_184 0 90 (dk_at dksX0_isBeat_0 6 rfl rfl)
theorem dX0_isBeat_9 : decode cX0_isBeat 9 = .ok (.ireturn, 1) := dk_172 (dk_at dksX0_isBeat_0 9 rfl rfl)
abbrev cX0_callBy : ByteArray := prog_1_method_17_code
def yX0_callBy : MethodName := ⟨RX0, "callBy", "(II)I"⟩
def dkwX0_callBy_0 : List UInt8 := [42, 180, 0, 23, 27, 50, 182, 0, 144, 87, 42, 180, 0, 23, 27, 50, 180, 0, 145, 28, 46, 172]
abbrev dktX0_callBy_0 : List UInt8 := dkwX0_callBy_0 ++ []
theorem dksX0_callBy_0 : cX0_callBy.data.toList.drop 0 = dktX0_callBy_0 := by decide +kernel
theorem dX0_callBy_0 : decode cX0_callBy 0 = .ok (.aload_n 0, 1) := dk_42 (dk_at dksX0_callBy_0 0 rfl rfl)
theorem dX0_callBy_1 : decode cX0_callBy 1 = .ok (.getfield 23, 3) := dk_180 0 23 (dk_at dksX0_callBy_0 1 rfl rfl)
theorem dX0_callBy_4 : decode cX0_callBy 4 = .ok (.iload_n 1, 1) := dk_27 (dk_at dksX0_callBy_0 4 rfl rfl)
theorem dX0_callBy_5 : decode cX0_callBy 5 = .ok (.aaload, 1) := dk_50 (dk_at dksX0_callBy_0 5 rfl rfl)
theorem dX0_callBy_6 : decode cX0_callBy 6 = .ok (.invokevirtual 144, 3) := dk_182 0 144 (dk_at dksX0_callBy_0 6 rfl rfl)
theorem dX0_callBy_9 : decode cX0_callBy 9 = .ok (.pop, 1) := dk_87 (dk_at dksX0_callBy_0 9 rfl rfl)
theorem dX0_callBy_10 : decode cX0_callBy 10 = .ok (.aload_n 0, 1) := dk_42 (dk_at dksX0_callBy_0 10 rfl rfl)
theorem dX0_callBy_11 : decode cX0_callBy 11 = .ok (.getfield 23, 3) := dk_180 0 23 (dk_at dksX0_callBy_0 11 rfl rfl)
theorem dX0_callBy_14 : decode cX0_callBy 14 = .ok (.iload_n 1, 1) := dk_27 (dk_at dksX0_callBy_0 14 rfl rfl)
theorem dX0_callBy_15 : decode cX0_callBy 15 = .ok (.aaload, 1) := dk_50 (dk_at dksX0_callBy_0 15 rfl rfl)
theorem dX0_callBy_16 : decode cX0_callBy 16 = .ok (.getfield 145, 3) := dk_180 0 145 (dk_at dksX0_callBy_0 16 rfl rfl)
theorem dX0_callBy_19 : decode cX0_callBy 19 = .ok (.iload_n 2, 1) := dk_28 (dk_at dksX0_callBy_0 19 rfl rfl)
theorem dX0_callBy_20 : decode cX0_callBy 20 = .ok (.iaload, 1) := dk_46 (dk_at dksX0_callBy_0 20 rfl rfl)
theorem dX0_callBy_21 : decode cX0_callBy 21 = .ok (.ireturn, 1) := dk_172 (dk_at dksX0_callBy_0 21 rfl rfl)
abbrev cX0_mud : ByteArray := prog_1_method_19_code
def yX0_mud : MethodName := ⟨RX0, "mud", "(I)I"⟩
def dkwX0_mud_1 : List UInt8 := [181, 0, 159, 28, 172]
abbrev dktX0_mud_1 : List UInt8 := dkwX0_mud_1 ++ []
def dkwX0_mud_0 : List UInt8 := [27, 133, 9, 20, 0, 157, 184, 0, 90, 154, 0, 6, 16, 254, 172, 42, 180, 0, 159, 61, 42, 27]
abbrev dktX0_mud_0 : List UInt8 := dkwX0_mud_0 ++ dktX0_mud_1
theorem dksX0_mud_0 : cX0_mud.data.toList.drop 0 = dktX0_mud_0 := by decide +kernel
theorem dksX0_mud_1 : cX0_mud.data.toList.drop 22 = dktX0_mud_1 := dk_seg dksX0_mud_0 22 rfl rfl
theorem dX0_mud_0 : decode cX0_mud 0 = .ok (.iload_n 1, 1) := dk_27 (dk_at dksX0_mud_0 0 rfl rfl)
theorem dX0_mud_1 : decode cX0_mud 1 = .ok (.i2l, 1) := dk_133 (dk_at dksX0_mud_0 1 rfl rfl)
theorem dX0_mud_2 : decode cX0_mud 2 = .ok (.lconst 0, 1) := dk_9 (dk_at dksX0_mud_0 2 rfl rfl)
theorem dX0_mud_3 : decode cX0_mud 3 = .ok (.ldc2_w 157, 3) := dk_20 0 157 (dk_at dksX0_mud_0 3 rfl rfl)
theorem dX0_mud_6 : decode cX0_mud 6 = .ok (.invokestatic 90, 3) := dk_184 0 90 (dk_at dksX0_mud_0 6 rfl rfl)
theorem dX0_mud_9 : decode cX0_mud 9 = .ok (.ifCond .ne 6, 3) := dk_154 0 6 (dk_at dksX0_mud_0 9 rfl rfl)
theorem dX0_mud_12 : decode cX0_mud 12 = .ok (.bipush (-2), 2) := dk_16 254 (dk_at dksX0_mud_0 12 rfl rfl)
theorem dX0_mud_14 : decode cX0_mud 14 = .ok (.ireturn, 1) := dk_172 (dk_at dksX0_mud_0 14 rfl rfl)
theorem dX0_mud_15 : decode cX0_mud 15 = .ok (.aload_n 0, 1) := dk_42 (dk_at dksX0_mud_0 15 rfl rfl)
theorem dX0_mud_16 : decode cX0_mud 16 = .ok (.getfield 159, 3) := dk_180 0 159 (dk_at dksX0_mud_0 16 rfl rfl)
theorem dX0_mud_19 : decode cX0_mud 19 = .ok (.istore_n 2, 1) := dk_61 (dk_at dksX0_mud_0 19 rfl rfl)
theorem dX0_mud_20 : decode cX0_mud 20 = .ok (.aload_n 0, 1) := dk_42 (dk_at dksX0_mud_0 20 rfl rfl)
theorem dX0_mud_21 : decode cX0_mud 21 = .ok (.iload_n 1, 1) := dk_27 (dk_at dksX0_mud_0 21 rfl rfl)
theorem dX0_mud_22 : decode cX0_mud 22 = .ok (.putfield 159, 3) := dk_181 0 159 (dk_at dksX0_mud_1 0 rfl rfl)
theorem dX0_mud_25 : decode cX0_mud 25 = .ok (.iload_n 2, 1) := dk_28 (dk_at dksX0_mud_1 3 rfl rfl)
theorem dX0_mud_26 : decode cX0_mud 26 = .ok (.ireturn, 1) := dk_172 (dk_at dksX0_mud_1 4 rfl rfl)
abbrev cX0_event : ByteArray := prog_1_method_20_code
def yX0_event : MethodName := ⟨RX0, "event", "(III)I"⟩
def dkwX0_event_3 : List UInt8 := [182, 0, 165, 87, 42, 180, 0, 36, 182, 0, 162, 172]
abbrev dktX0_event_3 : List UInt8 := dkwX0_event_3 ++ []
def dkwX0_event_2 : List UInt8 := [16, 252, 172, 42, 180, 0, 36, 6, 188, 10, 89, 3, 27, 79, 89, 4, 28, 79, 89, 5, 29, 79]
abbrev dktX0_event_2 : List UInt8 := dkwX0_event_2 ++ dktX0_event_3
def dkwX0_event_1 : List UInt8 := [20, 0, 118, 184, 0, 90, 154, 0, 6, 16, 254, 172, 42, 180, 0, 36, 182, 0, 162, 16, 8, 160, 0, 6]
abbrev dktX0_event_1 : List UInt8 := dkwX0_event_1 ++ dktX0_event_2
def dkwX0_event_0 : List UInt8 := [27, 133, 9, 20, 0, 135, 184, 0, 90, 153, 0, 22, 28, 184, 0, 150, 153, 0, 15, 29, 133, 9]
abbrev dktX0_event_0 : List UInt8 := dkwX0_event_0 ++ dktX0_event_1
theorem dksX0_event_0 : cX0_event.data.toList.drop 0 = dktX0_event_0 := by decide +kernel
theorem dksX0_event_1 : cX0_event.data.toList.drop 22 = dktX0_event_1 := dk_seg dksX0_event_0 22 rfl rfl
theorem dksX0_event_2 : cX0_event.data.toList.drop 46 = dktX0_event_2 := dk_seg dksX0_event_1 24 rfl rfl
theorem dksX0_event_3 : cX0_event.data.toList.drop 68 = dktX0_event_3 := dk_seg dksX0_event_2 22 rfl rfl
theorem dX0_event_0 : decode cX0_event 0 = .ok (.iload_n 1, 1) := dk_27 (dk_at dksX0_event_0 0 rfl rfl)
theorem dX0_event_1 : decode cX0_event 1 = .ok (.i2l, 1) := dk_133 (dk_at dksX0_event_0 1 rfl rfl)
theorem dX0_event_2 : decode cX0_event 2 = .ok (.lconst 0, 1) := dk_9 (dk_at dksX0_event_0 2 rfl rfl)
theorem dX0_event_3 : decode cX0_event 3 = .ok (.ldc2_w 135, 3) := dk_20 0 135 (dk_at dksX0_event_0 3 rfl rfl)
theorem dX0_event_6 : decode cX0_event 6 = .ok (.invokestatic 90, 3) := dk_184 0 90 (dk_at dksX0_event_0 6 rfl rfl)
theorem dX0_event_9 : decode cX0_event 9 = .ok (.ifCond .eq 22, 3) := dk_153 0 22 (dk_at dksX0_event_0 9 rfl rfl)
theorem dX0_event_12 : decode cX0_event 12 = .ok (.iload_n 2, 1) := dk_28 (dk_at dksX0_event_0 12 rfl rfl)
theorem dX0_event_13 : decode cX0_event 13 = .ok (.invokestatic 150, 3) := dk_184 0 150 (dk_at dksX0_event_0 13 rfl rfl)
theorem dX0_event_16 : decode cX0_event 16 = .ok (.ifCond .eq 15, 3) := dk_153 0 15 (dk_at dksX0_event_0 16 rfl rfl)
theorem dX0_event_19 : decode cX0_event 19 = .ok (.iload_n 3, 1) := dk_29 (dk_at dksX0_event_0 19 rfl rfl)
theorem dX0_event_20 : decode cX0_event 20 = .ok (.i2l, 1) := dk_133 (dk_at dksX0_event_0 20 rfl rfl)
theorem dX0_event_21 : decode cX0_event 21 = .ok (.lconst 0, 1) := dk_9 (dk_at dksX0_event_0 21 rfl rfl)
theorem dX0_event_22 : decode cX0_event 22 = .ok (.ldc2_w 118, 3) := dk_20 0 118 (dk_at dksX0_event_1 0 rfl rfl)
theorem dX0_event_25 : decode cX0_event 25 = .ok (.invokestatic 90, 3) := dk_184 0 90 (dk_at dksX0_event_1 3 rfl rfl)
theorem dX0_event_28 : decode cX0_event 28 = .ok (.ifCond .ne 6, 3) := dk_154 0 6 (dk_at dksX0_event_1 6 rfl rfl)
theorem dX0_event_31 : decode cX0_event 31 = .ok (.bipush (-2), 2) := dk_16 254 (dk_at dksX0_event_1 9 rfl rfl)
theorem dX0_event_33 : decode cX0_event 33 = .ok (.ireturn, 1) := dk_172 (dk_at dksX0_event_1 11 rfl rfl)
theorem dX0_event_34 : decode cX0_event 34 = .ok (.aload_n 0, 1) := dk_42 (dk_at dksX0_event_1 12 rfl rfl)
theorem dX0_event_35 : decode cX0_event 35 = .ok (.getfield 36, 3) := dk_180 0 36 (dk_at dksX0_event_1 13 rfl rfl)
theorem dX0_event_38 : decode cX0_event 38 = .ok (.invokevirtual 162, 3) := dk_182 0 162 (dk_at dksX0_event_1 16 rfl rfl)
theorem dX0_event_41 : decode cX0_event 41 = .ok (.bipush 8, 2) := dk_16 8 (dk_at dksX0_event_1 19 rfl rfl)
theorem dX0_event_43 : decode cX0_event 43 = .ok (.if_icmp .ne 6, 3) := dk_160 0 6 (dk_at dksX0_event_1 21 rfl rfl)
theorem dX0_event_46 : decode cX0_event 46 = .ok (.bipush (-4), 2) := dk_16 252 (dk_at dksX0_event_2 0 rfl rfl)
theorem dX0_event_48 : decode cX0_event 48 = .ok (.ireturn, 1) := dk_172 (dk_at dksX0_event_2 2 rfl rfl)
theorem dX0_event_49 : decode cX0_event 49 = .ok (.aload_n 0, 1) := dk_42 (dk_at dksX0_event_2 3 rfl rfl)
theorem dX0_event_50 : decode cX0_event 50 = .ok (.getfield 36, 3) := dk_180 0 36 (dk_at dksX0_event_2 4 rfl rfl)
theorem dX0_event_53 : decode cX0_event 53 = .ok (.iconst 3, 1) := dk_6 (dk_at dksX0_event_2 7 rfl rfl)
theorem dX0_event_54 : decode cX0_event 54 = .ok (.newarray .int, 2) := dk_188_10 (dk_at dksX0_event_2 8 rfl rfl)
theorem dX0_event_56 : decode cX0_event 56 = .ok (.dup, 1) := dk_89 (dk_at dksX0_event_2 10 rfl rfl)
theorem dX0_event_57 : decode cX0_event 57 = .ok (.iconst 0, 1) := dk_3 (dk_at dksX0_event_2 11 rfl rfl)
theorem dX0_event_58 : decode cX0_event 58 = .ok (.iload_n 1, 1) := dk_27 (dk_at dksX0_event_2 12 rfl rfl)
theorem dX0_event_59 : decode cX0_event 59 = .ok (.iastore, 1) := dk_79 (dk_at dksX0_event_2 13 rfl rfl)
theorem dX0_event_60 : decode cX0_event 60 = .ok (.dup, 1) := dk_89 (dk_at dksX0_event_2 14 rfl rfl)
theorem dX0_event_61 : decode cX0_event 61 = .ok (.iconst 1, 1) := dk_4 (dk_at dksX0_event_2 15 rfl rfl)
theorem dX0_event_62 : decode cX0_event 62 = .ok (.iload_n 2, 1) := dk_28 (dk_at dksX0_event_2 16 rfl rfl)
theorem dX0_event_63 : decode cX0_event 63 = .ok (.iastore, 1) := dk_79 (dk_at dksX0_event_2 17 rfl rfl)
theorem dX0_event_64 : decode cX0_event 64 = .ok (.dup, 1) := dk_89 (dk_at dksX0_event_2 18 rfl rfl)
theorem dX0_event_65 : decode cX0_event 65 = .ok (.iconst 2, 1) := dk_5 (dk_at dksX0_event_2 19 rfl rfl)
theorem dX0_event_66 : decode cX0_event 66 = .ok (.iload_n 3, 1) := dk_29 (dk_at dksX0_event_2 20 rfl rfl)
theorem dX0_event_67 : decode cX0_event 67 = .ok (.iastore, 1) := dk_79 (dk_at dksX0_event_2 21 rfl rfl)
theorem dX0_event_68 : decode cX0_event 68 = .ok (.invokevirtual 165, 3) := dk_182 0 165 (dk_at dksX0_event_3 0 rfl rfl)
theorem dX0_event_71 : decode cX0_event 71 = .ok (.pop, 1) := dk_87 (dk_at dksX0_event_3 3 rfl rfl)
theorem dX0_event_72 : decode cX0_event 72 = .ok (.aload_n 0, 1) := dk_42 (dk_at dksX0_event_3 4 rfl rfl)
theorem dX0_event_73 : decode cX0_event 73 = .ok (.getfield 36, 3) := dk_180 0 36 (dk_at dksX0_event_3 5 rfl rfl)
theorem dX0_event_76 : decode cX0_event 76 = .ok (.invokevirtual 162, 3) := dk_182 0 162 (dk_at dksX0_event_3 8 rfl rfl)
theorem dX0_event_79 : decode cX0_event 79 = .ok (.ireturn, 1) := dk_172 (dk_at dksX0_event_3 11 rfl rfl)
abbrev cX0_back : ByteArray := prog_1_method_21_code
def yX0_back : MethodName := ⟨RX0, "back", "()I"⟩
def dkwX0_back_1 : List UInt8 := [4, 100, 182, 0, 173, 87, 42, 180, 0, 36, 182, 0, 162, 172]
abbrev dktX0_back_1 : List UInt8 := dkwX0_back_1 ++ []
def dkwX0_back_0 : List UInt8 := [42, 180, 0, 36, 182, 0, 169, 153, 0, 6, 16, 253, 172, 42, 180, 0, 36, 42, 180, 0, 36, 182, 0, 162]
abbrev dktX0_back_0 : List UInt8 := dkwX0_back_0 ++ dktX0_back_1
theorem dksX0_back_0 : cX0_back.data.toList.drop 0 = dktX0_back_0 := by decide +kernel
theorem dksX0_back_1 : cX0_back.data.toList.drop 24 = dktX0_back_1 := dk_seg dksX0_back_0 24 rfl rfl
theorem dX0_back_0 : decode cX0_back 0 = .ok (.aload_n 0, 1) := dk_42 (dk_at dksX0_back_0 0 rfl rfl)
theorem dX0_back_1 : decode cX0_back 1 = .ok (.getfield 36, 3) := dk_180 0 36 (dk_at dksX0_back_0 1 rfl rfl)
theorem dX0_back_4 : decode cX0_back 4 = .ok (.invokevirtual 169, 3) := dk_182 0 169 (dk_at dksX0_back_0 4 rfl rfl)
theorem dX0_back_7 : decode cX0_back 7 = .ok (.ifCond .eq 6, 3) := dk_153 0 6 (dk_at dksX0_back_0 7 rfl rfl)
theorem dX0_back_10 : decode cX0_back 10 = .ok (.bipush (-3), 2) := dk_16 253 (dk_at dksX0_back_0 10 rfl rfl)
theorem dX0_back_12 : decode cX0_back 12 = .ok (.ireturn, 1) := dk_172 (dk_at dksX0_back_0 12 rfl rfl)
theorem dX0_back_13 : decode cX0_back 13 = .ok (.aload_n 0, 1) := dk_42 (dk_at dksX0_back_0 13 rfl rfl)
theorem dX0_back_14 : decode cX0_back 14 = .ok (.getfield 36, 3) := dk_180 0 36 (dk_at dksX0_back_0 14 rfl rfl)
theorem dX0_back_17 : decode cX0_back 17 = .ok (.aload_n 0, 1) := dk_42 (dk_at dksX0_back_0 17 rfl rfl)
theorem dX0_back_18 : decode cX0_back 18 = .ok (.getfield 36, 3) := dk_180 0 36 (dk_at dksX0_back_0 18 rfl rfl)
theorem dX0_back_21 : decode cX0_back 21 = .ok (.invokevirtual 162, 3) := dk_182 0 162 (dk_at dksX0_back_0 21 rfl rfl)
theorem dX0_back_24 : decode cX0_back 24 = .ok (.iconst 1, 1) := dk_4 (dk_at dksX0_back_1 0 rfl rfl)
theorem dX0_back_25 : decode cX0_back 25 = .ok (.isub, 1) := dk_100 (dk_at dksX0_back_1 1 rfl rfl)
theorem dX0_back_26 : decode cX0_back 26 = .ok (.invokevirtual 173, 3) := dk_182 0 173 (dk_at dksX0_back_1 2 rfl rfl)
theorem dX0_back_29 : decode cX0_back 29 = .ok (.pop, 1) := dk_87 (dk_at dksX0_back_1 5 rfl rfl)
theorem dX0_back_30 : decode cX0_back 30 = .ok (.aload_n 0, 1) := dk_42 (dk_at dksX0_back_1 6 rfl rfl)
theorem dX0_back_31 : decode cX0_back 31 = .ok (.getfield 36, 3) := dk_180 0 36 (dk_at dksX0_back_1 7 rfl rfl)
theorem dX0_back_34 : decode cX0_back 34 = .ok (.invokevirtual 162, 3) := dk_182 0 162 (dk_at dksX0_back_1 10 rfl rfl)
theorem dX0_back_37 : decode cX0_back 37 = .ok (.ireturn, 1) := dk_172 (dk_at dksX0_back_1 13 rfl rfl)
abbrev cX0_read : ByteArray := prog_1_method_22_code
def yX0_read : MethodName := ⟨RX0, "read", "(I)I"⟩
def dkwX0_read_4 : List UInt8 := [172]
abbrev dktX0_read_4 : List UInt8 := dkwX0_read_4 ++ []
def dkwX0_read_3 : List UInt8 := [182, 0, 187, 6, 29, 104, 5, 96, 182, 0, 189, 182, 0, 192, 155, 0, 9, 132, 3, 1, 167, 255, 197, 29]
abbrev dktX0_read_3 : List UInt8 := dkwX0_read_3 ++ dktX0_read_4
def dkwX0_read_2 : List UInt8 := [182, 0, 187, 6, 29, 104, 182, 0, 189, 44, 44, 182, 0, 187, 6, 29, 104, 4, 96, 182, 0, 189, 44, 44]
abbrev dktX0_read_2 : List UInt8 := dkwX0_read_2 ++ dktX0_read_3
def dkwX0_read_1 : List UInt8 := [42, 4, 182, 0, 183, 172, 3, 62, 6, 29, 104, 6, 96, 44, 182, 0, 186, 163, 0, 53, 42, 44, 44]
abbrev dktX0_read_1 : List UInt8 := dkwX0_read_1 ++ dktX0_read_2
def dkwX0_read_0 : List UInt8 := [27, 184, 0, 176, 154, 0, 6, 16, 254, 172, 42, 180, 0, 80, 27, 50, 77, 44, 180, 0, 179, 199, 0, 9]
abbrev dktX0_read_0 : List UInt8 := dkwX0_read_0 ++ dktX0_read_1
theorem dksX0_read_0 : cX0_read.data.toList.drop 0 = dktX0_read_0 := by decide +kernel
theorem dksX0_read_1 : cX0_read.data.toList.drop 24 = dktX0_read_1 := dk_seg dksX0_read_0 24 rfl rfl
theorem dksX0_read_2 : cX0_read.data.toList.drop 47 = dktX0_read_2 := dk_seg dksX0_read_1 23 rfl rfl
theorem dksX0_read_3 : cX0_read.data.toList.drop 71 = dktX0_read_3 := dk_seg dksX0_read_2 24 rfl rfl
theorem dksX0_read_4 : cX0_read.data.toList.drop 95 = dktX0_read_4 := dk_seg dksX0_read_3 24 rfl rfl
theorem dX0_read_0 : decode cX0_read 0 = .ok (.iload_n 1, 1) := dk_27 (dk_at dksX0_read_0 0 rfl rfl)
theorem dX0_read_1 : decode cX0_read 1 = .ok (.invokestatic 176, 3) := dk_184 0 176 (dk_at dksX0_read_0 1 rfl rfl)
theorem dX0_read_4 : decode cX0_read 4 = .ok (.ifCond .ne 6, 3) := dk_154 0 6 (dk_at dksX0_read_0 4 rfl rfl)
theorem dX0_read_7 : decode cX0_read 7 = .ok (.bipush (-2), 2) := dk_16 254 (dk_at dksX0_read_0 7 rfl rfl)
theorem dX0_read_9 : decode cX0_read 9 = .ok (.ireturn, 1) := dk_172 (dk_at dksX0_read_0 9 rfl rfl)
theorem dX0_read_10 : decode cX0_read 10 = .ok (.aload_n 0, 1) := dk_42 (dk_at dksX0_read_0 10 rfl rfl)
theorem dX0_read_11 : decode cX0_read 11 = .ok (.getfield 80, 3) := dk_180 0 80 (dk_at dksX0_read_0 11 rfl rfl)
theorem dX0_read_14 : decode cX0_read 14 = .ok (.iload_n 1, 1) := dk_27 (dk_at dksX0_read_0 14 rfl rfl)
theorem dX0_read_15 : decode cX0_read 15 = .ok (.aaload, 1) := dk_50 (dk_at dksX0_read_0 15 rfl rfl)
theorem dX0_read_16 : decode cX0_read 16 = .ok (.astore_n 2, 1) := dk_77 (dk_at dksX0_read_0 16 rfl rfl)
theorem dX0_read_17 : decode cX0_read 17 = .ok (.aload_n 2, 1) := dk_44 (dk_at dksX0_read_0 17 rfl rfl)
theorem dX0_read_18 : decode cX0_read 18 = .ok (.getfield 179, 3) := dk_180 0 179 (dk_at dksX0_read_0 18 rfl rfl)
theorem dX0_read_21 : decode cX0_read 21 = .ok (.ifnonnull 9, 3) := dk_199 0 9 (dk_at dksX0_read_0 21 rfl rfl)
theorem dX0_read_24 : decode cX0_read 24 = .ok (.aload_n 0, 1) := dk_42 (dk_at dksX0_read_1 0 rfl rfl)
theorem dX0_read_25 : decode cX0_read 25 = .ok (.iconst 1, 1) := dk_4 (dk_at dksX0_read_1 1 rfl rfl)
theorem dX0_read_26 : decode cX0_read 26 = .ok (.invokevirtual 183, 3) := dk_182 0 183 (dk_at dksX0_read_1 2 rfl rfl)
theorem dX0_read_29 : decode cX0_read 29 = .ok (.ireturn, 1) := dk_172 (dk_at dksX0_read_1 5 rfl rfl)
theorem dX0_read_30 : decode cX0_read 30 = .ok (.iconst 0, 1) := dk_3 (dk_at dksX0_read_1 6 rfl rfl)
theorem dX0_read_31 : decode cX0_read 31 = .ok (.istore_n 3, 1) := dk_62 (dk_at dksX0_read_1 7 rfl rfl)
theorem dX0_read_32 : decode cX0_read 32 = .ok (.iconst 3, 1) := dk_6 (dk_at dksX0_read_1 8 rfl rfl)
theorem dX0_read_33 : decode cX0_read 33 = .ok (.iload_n 3, 1) := dk_29 (dk_at dksX0_read_1 9 rfl rfl)
theorem dX0_read_34 : decode cX0_read 34 = .ok (.imul, 1) := dk_104 (dk_at dksX0_read_1 10 rfl rfl)
theorem dX0_read_35 : decode cX0_read 35 = .ok (.iconst 3, 1) := dk_6 (dk_at dksX0_read_1 11 rfl rfl)
theorem dX0_read_36 : decode cX0_read 36 = .ok (.iadd, 1) := dk_96 (dk_at dksX0_read_1 12 rfl rfl)
theorem dX0_read_37 : decode cX0_read 37 = .ok (.aload_n 2, 1) := dk_44 (dk_at dksX0_read_1 13 rfl rfl)
theorem dX0_read_38 : decode cX0_read 38 = .ok (.invokevirtual 186, 3) := dk_182 0 186 (dk_at dksX0_read_1 14 rfl rfl)
theorem dX0_read_41 : decode cX0_read 41 = .ok (.if_icmp .gt 53, 3) := dk_163 0 53 (dk_at dksX0_read_1 17 rfl rfl)
theorem dX0_read_44 : decode cX0_read 44 = .ok (.aload_n 0, 1) := dk_42 (dk_at dksX0_read_1 20 rfl rfl)
theorem dX0_read_45 : decode cX0_read 45 = .ok (.aload_n 2, 1) := dk_44 (dk_at dksX0_read_1 21 rfl rfl)
theorem dX0_read_46 : decode cX0_read 46 = .ok (.aload_n 2, 1) := dk_44 (dk_at dksX0_read_1 22 rfl rfl)
theorem dX0_read_47 : decode cX0_read 47 = .ok (.invokevirtual 187, 3) := dk_182 0 187 (dk_at dksX0_read_2 0 rfl rfl)
theorem dX0_read_50 : decode cX0_read 50 = .ok (.iconst 3, 1) := dk_6 (dk_at dksX0_read_2 3 rfl rfl)
theorem dX0_read_51 : decode cX0_read 51 = .ok (.iload_n 3, 1) := dk_29 (dk_at dksX0_read_2 4 rfl rfl)
theorem dX0_read_52 : decode cX0_read 52 = .ok (.imul, 1) := dk_104 (dk_at dksX0_read_2 5 rfl rfl)
theorem dX0_read_53 : decode cX0_read 53 = .ok (.invokevirtual 189, 3) := dk_182 0 189 (dk_at dksX0_read_2 6 rfl rfl)
theorem dX0_read_56 : decode cX0_read 56 = .ok (.aload_n 2, 1) := dk_44 (dk_at dksX0_read_2 9 rfl rfl)
theorem dX0_read_57 : decode cX0_read 57 = .ok (.aload_n 2, 1) := dk_44 (dk_at dksX0_read_2 10 rfl rfl)
theorem dX0_read_58 : decode cX0_read 58 = .ok (.invokevirtual 187, 3) := dk_182 0 187 (dk_at dksX0_read_2 11 rfl rfl)
theorem dX0_read_61 : decode cX0_read 61 = .ok (.iconst 3, 1) := dk_6 (dk_at dksX0_read_2 14 rfl rfl)
theorem dX0_read_62 : decode cX0_read 62 = .ok (.iload_n 3, 1) := dk_29 (dk_at dksX0_read_2 15 rfl rfl)
theorem dX0_read_63 : decode cX0_read 63 = .ok (.imul, 1) := dk_104 (dk_at dksX0_read_2 16 rfl rfl)
theorem dX0_read_64 : decode cX0_read 64 = .ok (.iconst 1, 1) := dk_4 (dk_at dksX0_read_2 17 rfl rfl)
theorem dX0_read_65 : decode cX0_read 65 = .ok (.iadd, 1) := dk_96 (dk_at dksX0_read_2 18 rfl rfl)
theorem dX0_read_66 : decode cX0_read 66 = .ok (.invokevirtual 189, 3) := dk_182 0 189 (dk_at dksX0_read_2 19 rfl rfl)
theorem dX0_read_69 : decode cX0_read 69 = .ok (.aload_n 2, 1) := dk_44 (dk_at dksX0_read_2 22 rfl rfl)
theorem dX0_read_70 : decode cX0_read 70 = .ok (.aload_n 2, 1) := dk_44 (dk_at dksX0_read_2 23 rfl rfl)
theorem dX0_read_71 : decode cX0_read 71 = .ok (.invokevirtual 187, 3) := dk_182 0 187 (dk_at dksX0_read_3 0 rfl rfl)
theorem dX0_read_74 : decode cX0_read 74 = .ok (.iconst 3, 1) := dk_6 (dk_at dksX0_read_3 3 rfl rfl)
theorem dX0_read_75 : decode cX0_read 75 = .ok (.iload_n 3, 1) := dk_29 (dk_at dksX0_read_3 4 rfl rfl)
theorem dX0_read_76 : decode cX0_read 76 = .ok (.imul, 1) := dk_104 (dk_at dksX0_read_3 5 rfl rfl)
theorem dX0_read_77 : decode cX0_read 77 = .ok (.iconst 2, 1) := dk_5 (dk_at dksX0_read_3 6 rfl rfl)
theorem dX0_read_78 : decode cX0_read 78 = .ok (.iadd, 1) := dk_96 (dk_at dksX0_read_3 7 rfl rfl)
theorem dX0_read_79 : decode cX0_read 79 = .ok (.invokevirtual 189, 3) := dk_182 0 189 (dk_at dksX0_read_3 8 rfl rfl)
theorem dX0_read_82 : decode cX0_read 82 = .ok (.invokevirtual 192, 3) := dk_182 0 192 (dk_at dksX0_read_3 11 rfl rfl)
theorem dX0_read_85 : decode cX0_read 85 = .ok (.ifCond .lt 9, 3) := dk_155 0 9 (dk_at dksX0_read_3 14 rfl rfl)
theorem dX0_read_88 : decode cX0_read 88 = .ok (.iinc 3 1, 3) := dk_132 3 1 (dk_at dksX0_read_3 17 rfl rfl)
theorem dX0_read_91 : decode cX0_read 91 = .ok (.goto (-59), 3) := dk_167 255 197 (dk_at dksX0_read_3 20 rfl rfl)
theorem dX0_read_94 : decode cX0_read 94 = .ok (.iload_n 3, 1) := dk_29 (dk_at dksX0_read_3 23 rfl rfl)
theorem dX0_read_95 : decode cX0_read 95 = .ok (.ireturn, 1) := dk_172 (dk_at dksX0_read_4 0 rfl rfl)
abbrev cX0_isSheet : ByteArray := prog_1_method_76_code
def yX0_isSheet : MethodName := ⟨RX0, "isSheet", "(I)Z"⟩
def dkwX0_isSheet_0 : List UInt8 := [26, 133, 9, 20, 0, 96, 184, 0, 90, 172]
abbrev dktX0_isSheet_0 : List UInt8 := dkwX0_isSheet_0 ++ []
theorem dksX0_isSheet_0 : cX0_isSheet.data.toList.drop 0 = dktX0_isSheet_0 := by decide +kernel
theorem dX0_isSheet_0 : decode cX0_isSheet 0 = .ok (.iload_n 0, 1) := dk_26 (dk_at dksX0_isSheet_0 0 rfl rfl)
theorem dX0_isSheet_1 : decode cX0_isSheet 1 = .ok (.i2l, 1) := dk_133 (dk_at dksX0_isSheet_0 1 rfl rfl)
theorem dX0_isSheet_2 : decode cX0_isSheet 2 = .ok (.lconst 0, 1) := dk_9 (dk_at dksX0_isSheet_0 2 rfl rfl)
theorem dX0_isSheet_3 : decode cX0_isSheet 3 = .ok (.ldc2_w 96, 3) := dk_20 0 96 (dk_at dksX0_isSheet_0 3 rfl rfl)
theorem dX0_isSheet_6 : decode cX0_isSheet 6 = .ok (.invokestatic 90, 3) := dk_184 0 90 (dk_at dksX0_isSheet_0 6 rfl rfl)
theorem dX0_isSheet_9 : decode cX0_isSheet 9 = .ok (.ireturn, 1) := dk_172 (dk_at dksX0_isSheet_0 9 rfl rfl)
abbrev cX0_met : ByteArray := prog_1_method_4_code
def yX0_met : MethodName := ⟨RX0, "met", "(I)I"⟩
def dkwX0_met_0 : List UInt8 := [42, 27, 181, 0, 86, 16, 246, 27, 100, 172]
abbrev dktX0_met_0 : List UInt8 := dkwX0_met_0 ++ []
theorem dksX0_met_0 : cX0_met.data.toList.drop 0 = dktX0_met_0 := by decide +kernel
theorem dX0_met_0 : decode cX0_met 0 = .ok (.aload_n 0, 1) := dk_42 (dk_at dksX0_met_0 0 rfl rfl)
theorem dX0_met_1 : decode cX0_met 1 = .ok (.iload_n 1, 1) := dk_27 (dk_at dksX0_met_0 1 rfl rfl)
theorem dX0_met_2 : decode cX0_met 2 = .ok (.putfield 86, 3) := dk_181 0 86 (dk_at dksX0_met_0 2 rfl rfl)
theorem dX0_met_5 : decode cX0_met 5 = .ok (.bipush (-10), 2) := dk_16 246 (dk_at dksX0_met_0 5 rfl rfl)
theorem dX0_met_7 : decode cX0_met 7 = .ok (.iload_n 1, 1) := dk_27 (dk_at dksX0_met_0 7 rfl rfl)
theorem dX0_met_8 : decode cX0_met 8 = .ok (.isub, 1) := dk_100 (dk_at dksX0_met_0 8 rfl rfl)
theorem dX0_met_9 : decode cX0_met 9 = .ok (.ireturn, 1) := dk_172 (dk_at dksX0_met_0 9 rfl rfl)
abbrev cX0_rope : ByteArray := prog_1_method_33_code
def yX0_rope : MethodName := ⟨RX0, "rope", "(II)I"⟩
def dkwX0_rope_1 : List UInt8 := [180, 0, 49, 27, 50, 28, 46, 167, 0, 5, 16, 254, 172]
abbrev dktX0_rope_1 : List UInt8 := dkwX0_rope_1 ++ []
def dkwX0_rope_0 : List UInt8 := [42, 182, 1, 38, 27, 184, 0, 150, 153, 0, 26, 28, 133, 9, 20, 0, 96, 184, 0, 90, 153, 0, 14, 42]
abbrev dktX0_rope_0 : List UInt8 := dkwX0_rope_0 ++ dktX0_rope_1
theorem dksX0_rope_0 : cX0_rope.data.toList.drop 0 = dktX0_rope_0 := by decide +kernel
theorem dksX0_rope_1 : cX0_rope.data.toList.drop 24 = dktX0_rope_1 := dk_seg dksX0_rope_0 24 rfl rfl
theorem dX0_rope_0 : decode cX0_rope 0 = .ok (.aload_n 0, 1) := dk_42 (dk_at dksX0_rope_0 0 rfl rfl)
theorem dX0_rope_1 : decode cX0_rope 1 = .ok (.invokevirtual 294, 3) := dk_182 1 38 (dk_at dksX0_rope_0 1 rfl rfl)
theorem dX0_rope_4 : decode cX0_rope 4 = .ok (.iload_n 1, 1) := dk_27 (dk_at dksX0_rope_0 4 rfl rfl)
theorem dX0_rope_5 : decode cX0_rope 5 = .ok (.invokestatic 150, 3) := dk_184 0 150 (dk_at dksX0_rope_0 5 rfl rfl)
theorem dX0_rope_8 : decode cX0_rope 8 = .ok (.ifCond .eq 26, 3) := dk_153 0 26 (dk_at dksX0_rope_0 8 rfl rfl)
theorem dX0_rope_11 : decode cX0_rope 11 = .ok (.iload_n 2, 1) := dk_28 (dk_at dksX0_rope_0 11 rfl rfl)
theorem dX0_rope_12 : decode cX0_rope 12 = .ok (.i2l, 1) := dk_133 (dk_at dksX0_rope_0 12 rfl rfl)
theorem dX0_rope_13 : decode cX0_rope 13 = .ok (.lconst 0, 1) := dk_9 (dk_at dksX0_rope_0 13 rfl rfl)
theorem dX0_rope_14 : decode cX0_rope 14 = .ok (.ldc2_w 96, 3) := dk_20 0 96 (dk_at dksX0_rope_0 14 rfl rfl)
theorem dX0_rope_17 : decode cX0_rope 17 = .ok (.invokestatic 90, 3) := dk_184 0 90 (dk_at dksX0_rope_0 17 rfl rfl)
theorem dX0_rope_20 : decode cX0_rope 20 = .ok (.ifCond .eq 14, 3) := dk_153 0 14 (dk_at dksX0_rope_0 20 rfl rfl)
theorem dX0_rope_23 : decode cX0_rope 23 = .ok (.aload_n 0, 1) := dk_42 (dk_at dksX0_rope_0 23 rfl rfl)
theorem dX0_rope_24 : decode cX0_rope 24 = .ok (.getfield 49, 3) := dk_180 0 49 (dk_at dksX0_rope_1 0 rfl rfl)
theorem dX0_rope_27 : decode cX0_rope 27 = .ok (.iload_n 1, 1) := dk_27 (dk_at dksX0_rope_1 3 rfl rfl)
theorem dX0_rope_28 : decode cX0_rope 28 = .ok (.aaload, 1) := dk_50 (dk_at dksX0_rope_1 4 rfl rfl)
theorem dX0_rope_29 : decode cX0_rope 29 = .ok (.iload_n 2, 1) := dk_28 (dk_at dksX0_rope_1 5 rfl rfl)
theorem dX0_rope_30 : decode cX0_rope 30 = .ok (.iaload, 1) := dk_46 (dk_at dksX0_rope_1 6 rfl rfl)
theorem dX0_rope_31 : decode cX0_rope 31 = .ok (.goto 5, 3) := dk_167 0 5 (dk_at dksX0_rope_1 7 rfl rfl)
theorem dX0_rope_34 : decode cX0_rope 34 = .ok (.bipush (-2), 2) := dk_16 254 (dk_at dksX0_rope_1 10 rfl rfl)
theorem dX0_rope_36 : decode cX0_rope 36 = .ok (.ireturn, 1) := dk_172 (dk_at dksX0_rope_1 12 rfl rfl)
abbrev cX0_find : ByteArray := prog_1_method_32_code
def yX0_find : MethodName := ⟨RX0, "find", "()V"⟩
def dkwX0_find_5 : List UInt8 := [42, 27, 182, 1, 35, 132, 1, 1, 167, 255, 242, 177]
abbrev dktX0_find_5 : List UInt8 := dkwX0_find_5 ++ []
def dkwX0_find_4 : List UInt8 := [180, 0, 159, 181, 0, 237, 42, 2, 181, 1, 10, 42, 3, 181, 1, 4, 3, 60, 27, 16, 24, 162, 0, 14]
abbrev dktX0_find_4 : List UInt8 := dkwX0_find_4 ++ dktX0_find_5
def dkwX0_find_3 : List UInt8 := [132, 1, 1, 167, 255, 186, 42, 180, 0, 44, 3, 184, 1, 17, 42, 16, 12, 181, 0, 251, 42, 42]
abbrev dktX0_find_3 : List UInt8 := dkwX0_find_3 ++ dktX0_find_4
def dkwX0_find_2 : List UInt8 := [192, 0, 130, 180, 0, 214, 79, 132, 2, 1, 167, 255, 210, 42, 180, 0, 58, 27, 42, 27, 182, 1, 32, 79]
abbrev dktX0_find_2 : List UInt8 := dkwX0_find_2 ++ dktX0_find_3
def dkwX0_find_1 : List UInt8 := [180, 0, 40, 16, 8, 27, 104, 28, 96, 42, 180, 0, 14, 27, 50, 180, 0, 123, 28, 182, 0, 126]
abbrev dktX0_find_1 : List UInt8 := dkwX0_find_1 ++ dktX0_find_2
def dkwX0_find_0 : List UInt8 := [3, 60, 27, 5, 162, 0, 71, 3, 61, 28, 42, 180, 0, 14, 27, 50, 182, 0, 120, 162, 0, 39, 42]
abbrev dktX0_find_0 : List UInt8 := dkwX0_find_0 ++ dktX0_find_1
theorem dksX0_find_0 : cX0_find.data.toList.drop 0 = dktX0_find_0 := by decide +kernel
theorem dksX0_find_1 : cX0_find.data.toList.drop 23 = dktX0_find_1 := dk_seg dksX0_find_0 23 rfl rfl
theorem dksX0_find_2 : cX0_find.data.toList.drop 45 = dktX0_find_2 := dk_seg dksX0_find_1 22 rfl rfl
theorem dksX0_find_3 : cX0_find.data.toList.drop 69 = dktX0_find_3 := dk_seg dksX0_find_2 24 rfl rfl
theorem dksX0_find_4 : cX0_find.data.toList.drop 91 = dktX0_find_4 := dk_seg dksX0_find_3 22 rfl rfl
theorem dksX0_find_5 : cX0_find.data.toList.drop 115 = dktX0_find_5 := dk_seg dksX0_find_4 24 rfl rfl
theorem dX0_find_0 : decode cX0_find 0 = .ok (.iconst 0, 1) := dk_3 (dk_at dksX0_find_0 0 rfl rfl)
theorem dX0_find_1 : decode cX0_find 1 = .ok (.istore_n 1, 1) := dk_60 (dk_at dksX0_find_0 1 rfl rfl)
theorem dX0_find_2 : decode cX0_find 2 = .ok (.iload_n 1, 1) := dk_27 (dk_at dksX0_find_0 2 rfl rfl)
theorem dX0_find_3 : decode cX0_find 3 = .ok (.iconst 2, 1) := dk_5 (dk_at dksX0_find_0 3 rfl rfl)
theorem dX0_find_4 : decode cX0_find 4 = .ok (.if_icmp .ge 71, 3) := dk_162 0 71 (dk_at dksX0_find_0 4 rfl rfl)
theorem dX0_find_7 : decode cX0_find 7 = .ok (.iconst 0, 1) := dk_3 (dk_at dksX0_find_0 7 rfl rfl)
theorem dX0_find_8 : decode cX0_find 8 = .ok (.istore_n 2, 1) := dk_61 (dk_at dksX0_find_0 8 rfl rfl)
theorem dX0_find_9 : decode cX0_find 9 = .ok (.iload_n 2, 1) := dk_28 (dk_at dksX0_find_0 9 rfl rfl)
theorem dX0_find_10 : decode cX0_find 10 = .ok (.aload_n 0, 1) := dk_42 (dk_at dksX0_find_0 10 rfl rfl)
theorem dX0_find_11 : decode cX0_find 11 = .ok (.getfield 14, 3) := dk_180 0 14 (dk_at dksX0_find_0 11 rfl rfl)
theorem dX0_find_14 : decode cX0_find 14 = .ok (.iload_n 1, 1) := dk_27 (dk_at dksX0_find_0 14 rfl rfl)
theorem dX0_find_15 : decode cX0_find 15 = .ok (.aaload, 1) := dk_50 (dk_at dksX0_find_0 15 rfl rfl)
theorem dX0_find_16 : decode cX0_find 16 = .ok (.invokevirtual 120, 3) := dk_182 0 120 (dk_at dksX0_find_0 16 rfl rfl)
theorem dX0_find_19 : decode cX0_find 19 = .ok (.if_icmp .ge 39, 3) := dk_162 0 39 (dk_at dksX0_find_0 19 rfl rfl)
theorem dX0_find_22 : decode cX0_find 22 = .ok (.aload_n 0, 1) := dk_42 (dk_at dksX0_find_0 22 rfl rfl)
theorem dX0_find_23 : decode cX0_find 23 = .ok (.getfield 40, 3) := dk_180 0 40 (dk_at dksX0_find_1 0 rfl rfl)
theorem dX0_find_26 : decode cX0_find 26 = .ok (.bipush 8, 2) := dk_16 8 (dk_at dksX0_find_1 3 rfl rfl)
theorem dX0_find_28 : decode cX0_find 28 = .ok (.iload_n 1, 1) := dk_27 (dk_at dksX0_find_1 5 rfl rfl)
theorem dX0_find_29 : decode cX0_find 29 = .ok (.imul, 1) := dk_104 (dk_at dksX0_find_1 6 rfl rfl)
theorem dX0_find_30 : decode cX0_find 30 = .ok (.iload_n 2, 1) := dk_28 (dk_at dksX0_find_1 7 rfl rfl)
theorem dX0_find_31 : decode cX0_find 31 = .ok (.iadd, 1) := dk_96 (dk_at dksX0_find_1 8 rfl rfl)
theorem dX0_find_32 : decode cX0_find 32 = .ok (.aload_n 0, 1) := dk_42 (dk_at dksX0_find_1 9 rfl rfl)
theorem dX0_find_33 : decode cX0_find 33 = .ok (.getfield 14, 3) := dk_180 0 14 (dk_at dksX0_find_1 10 rfl rfl)
theorem dX0_find_36 : decode cX0_find 36 = .ok (.iload_n 1, 1) := dk_27 (dk_at dksX0_find_1 13 rfl rfl)
theorem dX0_find_37 : decode cX0_find 37 = .ok (.aaload, 1) := dk_50 (dk_at dksX0_find_1 14 rfl rfl)
theorem dX0_find_38 : decode cX0_find 38 = .ok (.getfield 123, 3) := dk_180 0 123 (dk_at dksX0_find_1 15 rfl rfl)
theorem dX0_find_41 : decode cX0_find 41 = .ok (.iload_n 2, 1) := dk_28 (dk_at dksX0_find_1 18 rfl rfl)
theorem dX0_find_42 : decode cX0_find 42 = .ok (.invokevirtual 126, 3) := dk_182 0 126 (dk_at dksX0_find_1 19 rfl rfl)
theorem dX0_find_45 : decode cX0_find 45 = .ok (.checkcast 130, 3) := dk_192 0 130 (dk_at dksX0_find_2 0 rfl rfl)
theorem dX0_find_48 : decode cX0_find 48 = .ok (.getfield 214, 3) := dk_180 0 214 (dk_at dksX0_find_2 3 rfl rfl)
theorem dX0_find_51 : decode cX0_find 51 = .ok (.iastore, 1) := dk_79 (dk_at dksX0_find_2 6 rfl rfl)
theorem dX0_find_52 : decode cX0_find 52 = .ok (.iinc 2 1, 3) := dk_132 2 1 (dk_at dksX0_find_2 7 rfl rfl)
theorem dX0_find_55 : decode cX0_find 55 = .ok (.goto (-46), 3) := dk_167 255 210 (dk_at dksX0_find_2 10 rfl rfl)
theorem dX0_find_58 : decode cX0_find 58 = .ok (.aload_n 0, 1) := dk_42 (dk_at dksX0_find_2 13 rfl rfl)
theorem dX0_find_59 : decode cX0_find 59 = .ok (.getfield 58, 3) := dk_180 0 58 (dk_at dksX0_find_2 14 rfl rfl)
theorem dX0_find_62 : decode cX0_find 62 = .ok (.iload_n 1, 1) := dk_27 (dk_at dksX0_find_2 17 rfl rfl)
theorem dX0_find_63 : decode cX0_find 63 = .ok (.aload_n 0, 1) := dk_42 (dk_at dksX0_find_2 18 rfl rfl)
theorem dX0_find_64 : decode cX0_find 64 = .ok (.iload_n 1, 1) := dk_27 (dk_at dksX0_find_2 19 rfl rfl)
theorem dX0_find_65 : decode cX0_find 65 = .ok (.invokevirtual 288, 3) := dk_182 1 32 (dk_at dksX0_find_2 20 rfl rfl)
theorem dX0_find_68 : decode cX0_find 68 = .ok (.iastore, 1) := dk_79 (dk_at dksX0_find_2 23 rfl rfl)
theorem dX0_find_69 : decode cX0_find 69 = .ok (.iinc 1 1, 3) := dk_132 1 1 (dk_at dksX0_find_3 0 rfl rfl)
theorem dX0_find_72 : decode cX0_find 72 = .ok (.goto (-70), 3) := dk_167 255 186 (dk_at dksX0_find_3 3 rfl rfl)
theorem dX0_find_75 : decode cX0_find 75 = .ok (.aload_n 0, 1) := dk_42 (dk_at dksX0_find_3 6 rfl rfl)
theorem dX0_find_76 : decode cX0_find 76 = .ok (.getfield 44, 3) := dk_180 0 44 (dk_at dksX0_find_3 7 rfl rfl)
theorem dX0_find_79 : decode cX0_find 79 = .ok (.iconst 0, 1) := dk_3 (dk_at dksX0_find_3 10 rfl rfl)
theorem dX0_find_80 : decode cX0_find 80 = .ok (.invokestatic 273, 3) := dk_184 1 17 (dk_at dksX0_find_3 11 rfl rfl)
theorem dX0_find_83 : decode cX0_find 83 = .ok (.aload_n 0, 1) := dk_42 (dk_at dksX0_find_3 14 rfl rfl)
theorem dX0_find_84 : decode cX0_find 84 = .ok (.bipush 12, 2) := dk_16 12 (dk_at dksX0_find_3 15 rfl rfl)
theorem dX0_find_86 : decode cX0_find 86 = .ok (.putfield 251, 3) := dk_181 0 251 (dk_at dksX0_find_3 17 rfl rfl)
theorem dX0_find_89 : decode cX0_find 89 = .ok (.aload_n 0, 1) := dk_42 (dk_at dksX0_find_3 20 rfl rfl)
theorem dX0_find_90 : decode cX0_find 90 = .ok (.aload_n 0, 1) := dk_42 (dk_at dksX0_find_3 21 rfl rfl)
theorem dX0_find_91 : decode cX0_find 91 = .ok (.getfield 159, 3) := dk_180 0 159 (dk_at dksX0_find_4 0 rfl rfl)
theorem dX0_find_94 : decode cX0_find 94 = .ok (.putfield 237, 3) := dk_181 0 237 (dk_at dksX0_find_4 3 rfl rfl)
theorem dX0_find_97 : decode cX0_find 97 = .ok (.aload_n 0, 1) := dk_42 (dk_at dksX0_find_4 6 rfl rfl)
theorem dX0_find_98 : decode cX0_find 98 = .ok (.iconst (-1), 1) := dk_2 (dk_at dksX0_find_4 7 rfl rfl)
theorem dX0_find_99 : decode cX0_find 99 = .ok (.putfield 266, 3) := dk_181 1 10 (dk_at dksX0_find_4 8 rfl rfl)
theorem dX0_find_102 : decode cX0_find 102 = .ok (.aload_n 0, 1) := dk_42 (dk_at dksX0_find_4 11 rfl rfl)
theorem dX0_find_103 : decode cX0_find 103 = .ok (.iconst 0, 1) := dk_3 (dk_at dksX0_find_4 12 rfl rfl)
theorem dX0_find_104 : decode cX0_find 104 = .ok (.putfield 260, 3) := dk_181 1 4 (dk_at dksX0_find_4 13 rfl rfl)
theorem dX0_find_107 : decode cX0_find 107 = .ok (.iconst 0, 1) := dk_3 (dk_at dksX0_find_4 16 rfl rfl)
theorem dX0_find_108 : decode cX0_find 108 = .ok (.istore_n 1, 1) := dk_60 (dk_at dksX0_find_4 17 rfl rfl)
theorem dX0_find_109 : decode cX0_find 109 = .ok (.iload_n 1, 1) := dk_27 (dk_at dksX0_find_4 18 rfl rfl)
theorem dX0_find_110 : decode cX0_find 110 = .ok (.bipush 24, 2) := dk_16 24 (dk_at dksX0_find_4 19 rfl rfl)
theorem dX0_find_112 : decode cX0_find 112 = .ok (.if_icmp .ge 14, 3) := dk_162 0 14 (dk_at dksX0_find_4 21 rfl rfl)
theorem dX0_find_115 : decode cX0_find 115 = .ok (.aload_n 0, 1) := dk_42 (dk_at dksX0_find_5 0 rfl rfl)
theorem dX0_find_116 : decode cX0_find 116 = .ok (.iload_n 1, 1) := dk_27 (dk_at dksX0_find_5 1 rfl rfl)
theorem dX0_find_117 : decode cX0_find 117 = .ok (.invokevirtual 291, 3) := dk_182 1 35 (dk_at dksX0_find_5 2 rfl rfl)
theorem dX0_find_120 : decode cX0_find 120 = .ok (.iinc 1 1, 3) := dk_132 1 1 (dk_at dksX0_find_5 5 rfl rfl)
theorem dX0_find_123 : decode cX0_find 123 = .ok (.goto (-14), 3) := dk_167 255 242 (dk_at dksX0_find_5 8 rfl rfl)
theorem dX0_find_126 : decode cX0_find 126 = .ok (.return_, 1) := dk_177 (dk_at dksX0_find_5 11 rfl rfl)
abbrev cX0_endOf : ByteArray := prog_1_method_23_code
def yX0_endOf : MethodName := ⟨RX0, "endOf", "(I)I"⟩
def dkwX0_endOf_2 : List UInt8 := [180, 0, 196, 160, 0, 18, 42, 180, 0, 65, 2, 159, 0, 10, 42, 180, 0, 65, 167, 0, 4, 29, 172]
abbrev dktX0_endOf_2 : List UInt8 := dkwX0_endOf_2 ++ []
def dkwX0_endOf_1 : List UInt8 := [160, 0, 6, 132, 3, 255, 29, 42, 180, 0, 65, 160, 0, 10, 42, 180, 0, 196, 167, 0, 27, 29, 42]
abbrev dktX0_endOf_1 : List UInt8 := dkwX0_endOf_1 ++ dktX0_endOf_2
def dkwX0_endOf_0 : List UInt8 := [42, 180, 0, 14, 27, 50, 182, 0, 120, 61, 16, 8, 27, 104, 28, 96, 4, 100, 62, 29, 42, 180, 0, 61]
abbrev dktX0_endOf_0 : List UInt8 := dkwX0_endOf_0 ++ dktX0_endOf_1
theorem dksX0_endOf_0 : cX0_endOf.data.toList.drop 0 = dktX0_endOf_0 := by decide +kernel
theorem dksX0_endOf_1 : cX0_endOf.data.toList.drop 24 = dktX0_endOf_1 := dk_seg dksX0_endOf_0 24 rfl rfl
theorem dksX0_endOf_2 : cX0_endOf.data.toList.drop 47 = dktX0_endOf_2 := dk_seg dksX0_endOf_1 23 rfl rfl
theorem dX0_endOf_0 : decode cX0_endOf 0 = .ok (.aload_n 0, 1) := dk_42 (dk_at dksX0_endOf_0 0 rfl rfl)
theorem dX0_endOf_1 : decode cX0_endOf 1 = .ok (.getfield 14, 3) := dk_180 0 14 (dk_at dksX0_endOf_0 1 rfl rfl)
theorem dX0_endOf_4 : decode cX0_endOf 4 = .ok (.iload_n 1, 1) := dk_27 (dk_at dksX0_endOf_0 4 rfl rfl)
theorem dX0_endOf_5 : decode cX0_endOf 5 = .ok (.aaload, 1) := dk_50 (dk_at dksX0_endOf_0 5 rfl rfl)
theorem dX0_endOf_6 : decode cX0_endOf 6 = .ok (.invokevirtual 120, 3) := dk_182 0 120 (dk_at dksX0_endOf_0 6 rfl rfl)
theorem dX0_endOf_9 : decode cX0_endOf 9 = .ok (.istore_n 2, 1) := dk_61 (dk_at dksX0_endOf_0 9 rfl rfl)
theorem dX0_endOf_10 : decode cX0_endOf 10 = .ok (.bipush 8, 2) := dk_16 8 (dk_at dksX0_endOf_0 10 rfl rfl)
theorem dX0_endOf_12 : decode cX0_endOf 12 = .ok (.iload_n 1, 1) := dk_27 (dk_at dksX0_endOf_0 12 rfl rfl)
theorem dX0_endOf_13 : decode cX0_endOf 13 = .ok (.imul, 1) := dk_104 (dk_at dksX0_endOf_0 13 rfl rfl)
theorem dX0_endOf_14 : decode cX0_endOf 14 = .ok (.iload_n 2, 1) := dk_28 (dk_at dksX0_endOf_0 14 rfl rfl)
theorem dX0_endOf_15 : decode cX0_endOf 15 = .ok (.iadd, 1) := dk_96 (dk_at dksX0_endOf_0 15 rfl rfl)
theorem dX0_endOf_16 : decode cX0_endOf 16 = .ok (.iconst 1, 1) := dk_4 (dk_at dksX0_endOf_0 16 rfl rfl)
theorem dX0_endOf_17 : decode cX0_endOf 17 = .ok (.isub, 1) := dk_100 (dk_at dksX0_endOf_0 17 rfl rfl)
theorem dX0_endOf_18 : decode cX0_endOf 18 = .ok (.istore_n 3, 1) := dk_62 (dk_at dksX0_endOf_0 18 rfl rfl)
theorem dX0_endOf_19 : decode cX0_endOf 19 = .ok (.iload_n 3, 1) := dk_29 (dk_at dksX0_endOf_0 19 rfl rfl)
theorem dX0_endOf_20 : decode cX0_endOf 20 = .ok (.aload_n 0, 1) := dk_42 (dk_at dksX0_endOf_0 20 rfl rfl)
theorem dX0_endOf_21 : decode cX0_endOf 21 = .ok (.getfield 61, 3) := dk_180 0 61 (dk_at dksX0_endOf_0 21 rfl rfl)
theorem dX0_endOf_24 : decode cX0_endOf 24 = .ok (.if_icmp .ne 6, 3) := dk_160 0 6 (dk_at dksX0_endOf_1 0 rfl rfl)
theorem dX0_endOf_27 : decode cX0_endOf 27 = .ok (.iinc 3 (-1), 3) := dk_132 3 255 (dk_at dksX0_endOf_1 3 rfl rfl)
theorem dX0_endOf_30 : decode cX0_endOf 30 = .ok (.iload_n 3, 1) := dk_29 (dk_at dksX0_endOf_1 6 rfl rfl)
theorem dX0_endOf_31 : decode cX0_endOf 31 = .ok (.aload_n 0, 1) := dk_42 (dk_at dksX0_endOf_1 7 rfl rfl)
theorem dX0_endOf_32 : decode cX0_endOf 32 = .ok (.getfield 65, 3) := dk_180 0 65 (dk_at dksX0_endOf_1 8 rfl rfl)
theorem dX0_endOf_35 : decode cX0_endOf 35 = .ok (.if_icmp .ne 10, 3) := dk_160 0 10 (dk_at dksX0_endOf_1 11 rfl rfl)
theorem dX0_endOf_38 : decode cX0_endOf 38 = .ok (.aload_n 0, 1) := dk_42 (dk_at dksX0_endOf_1 14 rfl rfl)
theorem dX0_endOf_39 : decode cX0_endOf 39 = .ok (.getfield 196, 3) := dk_180 0 196 (dk_at dksX0_endOf_1 15 rfl rfl)
theorem dX0_endOf_42 : decode cX0_endOf 42 = .ok (.goto 27, 3) := dk_167 0 27 (dk_at dksX0_endOf_1 18 rfl rfl)
theorem dX0_endOf_45 : decode cX0_endOf 45 = .ok (.iload_n 3, 1) := dk_29 (dk_at dksX0_endOf_1 21 rfl rfl)
theorem dX0_endOf_46 : decode cX0_endOf 46 = .ok (.aload_n 0, 1) := dk_42 (dk_at dksX0_endOf_1 22 rfl rfl)
theorem dX0_endOf_47 : decode cX0_endOf 47 = .ok (.getfield 196, 3) := dk_180 0 196 (dk_at dksX0_endOf_2 0 rfl rfl)
theorem dX0_endOf_50 : decode cX0_endOf 50 = .ok (.if_icmp .ne 18, 3) := dk_160 0 18 (dk_at dksX0_endOf_2 3 rfl rfl)
theorem dX0_endOf_53 : decode cX0_endOf 53 = .ok (.aload_n 0, 1) := dk_42 (dk_at dksX0_endOf_2 6 rfl rfl)
theorem dX0_endOf_54 : decode cX0_endOf 54 = .ok (.getfield 65, 3) := dk_180 0 65 (dk_at dksX0_endOf_2 7 rfl rfl)
theorem dX0_endOf_57 : decode cX0_endOf 57 = .ok (.iconst (-1), 1) := dk_2 (dk_at dksX0_endOf_2 10 rfl rfl)
theorem dX0_endOf_58 : decode cX0_endOf 58 = .ok (.if_icmp .eq 10, 3) := dk_159 0 10 (dk_at dksX0_endOf_2 11 rfl rfl)
theorem dX0_endOf_61 : decode cX0_endOf 61 = .ok (.aload_n 0, 1) := dk_42 (dk_at dksX0_endOf_2 14 rfl rfl)
theorem dX0_endOf_62 : decode cX0_endOf 62 = .ok (.getfield 65, 3) := dk_180 0 65 (dk_at dksX0_endOf_2 15 rfl rfl)
theorem dX0_endOf_65 : decode cX0_endOf 65 = .ok (.goto 4, 3) := dk_167 0 4 (dk_at dksX0_endOf_2 18 rfl rfl)
theorem dX0_endOf_68 : decode cX0_endOf 68 = .ok (.iload_n 3, 1) := dk_29 (dk_at dksX0_endOf_2 21 rfl rfl)
theorem dX0_endOf_69 : decode cX0_endOf 69 = .ok (.ireturn, 1) := dk_172 (dk_at dksX0_endOf_2 22 rfl rfl)
abbrev cX0_passes : ByteArray := prog_1_method_31_code
def yX0_passes : MethodName := ⟨RX0, "passes", "(I)V"⟩
def dkwX0_passes_3 : List UInt8 := [180, 0, 40, 3, 42, 180, 0, 55, 27, 50, 3, 16, 16, 184, 1, 26, 177]
abbrev dktX0_passes_3 : List UInt8 := dkwX0_passes_3 ++ []
def dkwX0_passes_2 : List UInt8 := [180, 0, 49, 27, 50, 3, 42, 180, 0, 251, 79, 42, 180, 0, 49, 27, 50, 6, 42, 180, 0, 237, 79, 42]
abbrev dktX0_passes_2 : List UInt8 := dkwX0_passes_2 ++ dktX0_passes_3
def dkwX0_passes_1 : List UInt8 := [42, 180, 0, 49, 27, 50, 5, 3, 79, 42, 182, 1, 7, 154, 0, 8, 42, 27, 182, 1, 23, 42]
abbrev dktX0_passes_1 : List UInt8 := dkwX0_passes_1 ++ dktX0_passes_2
def dkwX0_passes_0 : List UInt8 := [42, 27, 182, 1, 13, 42, 180, 0, 52, 27, 50, 3, 184, 1, 17, 42, 180, 0, 49, 27, 50, 4, 3, 79]
abbrev dktX0_passes_0 : List UInt8 := dkwX0_passes_0 ++ dktX0_passes_1
theorem dksX0_passes_0 : cX0_passes.data.toList.drop 0 = dktX0_passes_0 := by decide +kernel
theorem dksX0_passes_1 : cX0_passes.data.toList.drop 24 = dktX0_passes_1 := dk_seg dksX0_passes_0 24 rfl rfl
theorem dksX0_passes_2 : cX0_passes.data.toList.drop 46 = dktX0_passes_2 := dk_seg dksX0_passes_1 22 rfl rfl
theorem dksX0_passes_3 : cX0_passes.data.toList.drop 70 = dktX0_passes_3 := dk_seg dksX0_passes_2 24 rfl rfl
theorem dX0_passes_0 : decode cX0_passes 0 = .ok (.aload_n 0, 1) := dk_42 (dk_at dksX0_passes_0 0 rfl rfl)
theorem dX0_passes_1 : decode cX0_passes 1 = .ok (.iload_n 1, 1) := dk_27 (dk_at dksX0_passes_0 1 rfl rfl)
theorem dX0_passes_2 : decode cX0_passes 2 = .ok (.invokevirtual 269, 3) := dk_182 1 13 (dk_at dksX0_passes_0 2 rfl rfl)
theorem dX0_passes_5 : decode cX0_passes 5 = .ok (.aload_n 0, 1) := dk_42 (dk_at dksX0_passes_0 5 rfl rfl)
theorem dX0_passes_6 : decode cX0_passes 6 = .ok (.getfield 52, 3) := dk_180 0 52 (dk_at dksX0_passes_0 6 rfl rfl)
theorem dX0_passes_9 : decode cX0_passes 9 = .ok (.iload_n 1, 1) := dk_27 (dk_at dksX0_passes_0 9 rfl rfl)
theorem dX0_passes_10 : decode cX0_passes 10 = .ok (.aaload, 1) := dk_50 (dk_at dksX0_passes_0 10 rfl rfl)
theorem dX0_passes_11 : decode cX0_passes 11 = .ok (.iconst 0, 1) := dk_3 (dk_at dksX0_passes_0 11 rfl rfl)
theorem dX0_passes_12 : decode cX0_passes 12 = .ok (.invokestatic 273, 3) := dk_184 1 17 (dk_at dksX0_passes_0 12 rfl rfl)
theorem dX0_passes_15 : decode cX0_passes 15 = .ok (.aload_n 0, 1) := dk_42 (dk_at dksX0_passes_0 15 rfl rfl)
theorem dX0_passes_16 : decode cX0_passes 16 = .ok (.getfield 49, 3) := dk_180 0 49 (dk_at dksX0_passes_0 16 rfl rfl)
theorem dX0_passes_19 : decode cX0_passes 19 = .ok (.iload_n 1, 1) := dk_27 (dk_at dksX0_passes_0 19 rfl rfl)
theorem dX0_passes_20 : decode cX0_passes 20 = .ok (.aaload, 1) := dk_50 (dk_at dksX0_passes_0 20 rfl rfl)
theorem dX0_passes_21 : decode cX0_passes 21 = .ok (.iconst 1, 1) := dk_4 (dk_at dksX0_passes_0 21 rfl rfl)
theorem dX0_passes_22 : decode cX0_passes 22 = .ok (.iconst 0, 1) := dk_3 (dk_at dksX0_passes_0 22 rfl rfl)
theorem dX0_passes_23 : decode cX0_passes 23 = .ok (.iastore, 1) := dk_79 (dk_at dksX0_passes_0 23 rfl rfl)
theorem dX0_passes_24 : decode cX0_passes 24 = .ok (.aload_n 0, 1) := dk_42 (dk_at dksX0_passes_1 0 rfl rfl)
theorem dX0_passes_25 : decode cX0_passes 25 = .ok (.getfield 49, 3) := dk_180 0 49 (dk_at dksX0_passes_1 1 rfl rfl)
theorem dX0_passes_28 : decode cX0_passes 28 = .ok (.iload_n 1, 1) := dk_27 (dk_at dksX0_passes_1 4 rfl rfl)
theorem dX0_passes_29 : decode cX0_passes 29 = .ok (.aaload, 1) := dk_50 (dk_at dksX0_passes_1 5 rfl rfl)
theorem dX0_passes_30 : decode cX0_passes 30 = .ok (.iconst 2, 1) := dk_5 (dk_at dksX0_passes_1 6 rfl rfl)
theorem dX0_passes_31 : decode cX0_passes 31 = .ok (.iconst 0, 1) := dk_3 (dk_at dksX0_passes_1 7 rfl rfl)
theorem dX0_passes_32 : decode cX0_passes 32 = .ok (.iastore, 1) := dk_79 (dk_at dksX0_passes_1 8 rfl rfl)
theorem dX0_passes_33 : decode cX0_passes 33 = .ok (.aload_n 0, 1) := dk_42 (dk_at dksX0_passes_1 9 rfl rfl)
theorem dX0_passes_34 : decode cX0_passes 34 = .ok (.invokevirtual 263, 3) := dk_182 1 7 (dk_at dksX0_passes_1 10 rfl rfl)
theorem dX0_passes_37 : decode cX0_passes 37 = .ok (.ifCond .ne 8, 3) := dk_154 0 8 (dk_at dksX0_passes_1 13 rfl rfl)
theorem dX0_passes_40 : decode cX0_passes 40 = .ok (.aload_n 0, 1) := dk_42 (dk_at dksX0_passes_1 16 rfl rfl)
theorem dX0_passes_41 : decode cX0_passes 41 = .ok (.iload_n 1, 1) := dk_27 (dk_at dksX0_passes_1 17 rfl rfl)
theorem dX0_passes_42 : decode cX0_passes 42 = .ok (.invokevirtual 279, 3) := dk_182 1 23 (dk_at dksX0_passes_1 18 rfl rfl)
theorem dX0_passes_45 : decode cX0_passes 45 = .ok (.aload_n 0, 1) := dk_42 (dk_at dksX0_passes_1 21 rfl rfl)
theorem dX0_passes_46 : decode cX0_passes 46 = .ok (.getfield 49, 3) := dk_180 0 49 (dk_at dksX0_passes_2 0 rfl rfl)
theorem dX0_passes_49 : decode cX0_passes 49 = .ok (.iload_n 1, 1) := dk_27 (dk_at dksX0_passes_2 3 rfl rfl)
theorem dX0_passes_50 : decode cX0_passes 50 = .ok (.aaload, 1) := dk_50 (dk_at dksX0_passes_2 4 rfl rfl)
theorem dX0_passes_51 : decode cX0_passes 51 = .ok (.iconst 0, 1) := dk_3 (dk_at dksX0_passes_2 5 rfl rfl)
theorem dX0_passes_52 : decode cX0_passes 52 = .ok (.aload_n 0, 1) := dk_42 (dk_at dksX0_passes_2 6 rfl rfl)
theorem dX0_passes_53 : decode cX0_passes 53 = .ok (.getfield 251, 3) := dk_180 0 251 (dk_at dksX0_passes_2 7 rfl rfl)
theorem dX0_passes_56 : decode cX0_passes 56 = .ok (.iastore, 1) := dk_79 (dk_at dksX0_passes_2 10 rfl rfl)
theorem dX0_passes_57 : decode cX0_passes 57 = .ok (.aload_n 0, 1) := dk_42 (dk_at dksX0_passes_2 11 rfl rfl)
theorem dX0_passes_58 : decode cX0_passes 58 = .ok (.getfield 49, 3) := dk_180 0 49 (dk_at dksX0_passes_2 12 rfl rfl)
theorem dX0_passes_61 : decode cX0_passes 61 = .ok (.iload_n 1, 1) := dk_27 (dk_at dksX0_passes_2 15 rfl rfl)
theorem dX0_passes_62 : decode cX0_passes 62 = .ok (.aaload, 1) := dk_50 (dk_at dksX0_passes_2 16 rfl rfl)
theorem dX0_passes_63 : decode cX0_passes 63 = .ok (.iconst 3, 1) := dk_6 (dk_at dksX0_passes_2 17 rfl rfl)
theorem dX0_passes_64 : decode cX0_passes 64 = .ok (.aload_n 0, 1) := dk_42 (dk_at dksX0_passes_2 18 rfl rfl)
theorem dX0_passes_65 : decode cX0_passes 65 = .ok (.getfield 237, 3) := dk_180 0 237 (dk_at dksX0_passes_2 19 rfl rfl)
theorem dX0_passes_68 : decode cX0_passes 68 = .ok (.iastore, 1) := dk_79 (dk_at dksX0_passes_2 22 rfl rfl)
theorem dX0_passes_69 : decode cX0_passes 69 = .ok (.aload_n 0, 1) := dk_42 (dk_at dksX0_passes_2 23 rfl rfl)
theorem dX0_passes_70 : decode cX0_passes 70 = .ok (.getfield 40, 3) := dk_180 0 40 (dk_at dksX0_passes_3 0 rfl rfl)
theorem dX0_passes_73 : decode cX0_passes 73 = .ok (.iconst 0, 1) := dk_3 (dk_at dksX0_passes_3 3 rfl rfl)
theorem dX0_passes_74 : decode cX0_passes 74 = .ok (.aload_n 0, 1) := dk_42 (dk_at dksX0_passes_3 4 rfl rfl)
theorem dX0_passes_75 : decode cX0_passes 75 = .ok (.getfield 55, 3) := dk_180 0 55 (dk_at dksX0_passes_3 5 rfl rfl)
theorem dX0_passes_78 : decode cX0_passes 78 = .ok (.iload_n 1, 1) := dk_27 (dk_at dksX0_passes_3 8 rfl rfl)
theorem dX0_passes_79 : decode cX0_passes 79 = .ok (.aaload, 1) := dk_50 (dk_at dksX0_passes_3 9 rfl rfl)
theorem dX0_passes_80 : decode cX0_passes 80 = .ok (.iconst 0, 1) := dk_3 (dk_at dksX0_passes_3 10 rfl rfl)
theorem dX0_passes_81 : decode cX0_passes 81 = .ok (.bipush 16, 2) := dk_16 16 (dk_at dksX0_passes_3 11 rfl rfl)
theorem dX0_passes_83 : decode cX0_passes 83 = .ok (.invokestatic 282, 3) := dk_184 1 26 (dk_at dksX0_passes_3 13 rfl rfl)
theorem dX0_passes_86 : decode cX0_passes 86 = .ok (.return_, 1) := dk_177 (dk_at dksX0_passes_3 16 rfl rfl)
abbrev cX0_rains : ByteArray := prog_1_method_28_code
def yX0_rains : MethodName := ⟨RX0, "rains", "(I)V"⟩
def dkwX0_rains_3 : List UInt8 := [177]
abbrev dktX0_rains_3 : List UInt8 := dkwX0_rains_3 ++ []
def dkwX0_rains_2 : List UInt8 := [154, 0, 18, 42, 42, 180, 0, 237, 4, 96, 16, 9, 184, 0, 217, 181, 0, 237, 132, 2, 1, 167, 255, 190]
abbrev dktX0_rains_2 : List UInt8 := dkwX0_rains_2 ++ dktX0_rains_3
def dkwX0_rains_1 : List UInt8 := [78, 45, 3, 46, 4, 160, 0, 36, 45, 4, 46, 27, 160, 0, 29, 42, 180, 0, 244, 28, 184, 0, 247]
abbrev dktX0_rains_1 : List UInt8 := dkwX0_rains_1 ++ dktX0_rains_2
def dkwX0_rains_0 : List UInt8 := [3, 61, 28, 42, 180, 0, 36, 182, 0, 162, 162, 0, 61, 42, 180, 0, 36, 28, 182, 0, 126, 192, 0, 243]
abbrev dktX0_rains_0 : List UInt8 := dkwX0_rains_0 ++ dktX0_rains_1
theorem dksX0_rains_0 : cX0_rains.data.toList.drop 0 = dktX0_rains_0 := by decide +kernel
theorem dksX0_rains_1 : cX0_rains.data.toList.drop 24 = dktX0_rains_1 := dk_seg dksX0_rains_0 24 rfl rfl
theorem dksX0_rains_2 : cX0_rains.data.toList.drop 47 = dktX0_rains_2 := dk_seg dksX0_rains_1 23 rfl rfl
theorem dksX0_rains_3 : cX0_rains.data.toList.drop 71 = dktX0_rains_3 := dk_seg dksX0_rains_2 24 rfl rfl
theorem dX0_rains_0 : decode cX0_rains 0 = .ok (.iconst 0, 1) := dk_3 (dk_at dksX0_rains_0 0 rfl rfl)
theorem dX0_rains_1 : decode cX0_rains 1 = .ok (.istore_n 2, 1) := dk_61 (dk_at dksX0_rains_0 1 rfl rfl)
theorem dX0_rains_2 : decode cX0_rains 2 = .ok (.iload_n 2, 1) := dk_28 (dk_at dksX0_rains_0 2 rfl rfl)
theorem dX0_rains_3 : decode cX0_rains 3 = .ok (.aload_n 0, 1) := dk_42 (dk_at dksX0_rains_0 3 rfl rfl)
theorem dX0_rains_4 : decode cX0_rains 4 = .ok (.getfield 36, 3) := dk_180 0 36 (dk_at dksX0_rains_0 4 rfl rfl)
theorem dX0_rains_7 : decode cX0_rains 7 = .ok (.invokevirtual 162, 3) := dk_182 0 162 (dk_at dksX0_rains_0 7 rfl rfl)
theorem dX0_rains_10 : decode cX0_rains 10 = .ok (.if_icmp .ge 61, 3) := dk_162 0 61 (dk_at dksX0_rains_0 10 rfl rfl)
theorem dX0_rains_13 : decode cX0_rains 13 = .ok (.aload_n 0, 1) := dk_42 (dk_at dksX0_rains_0 13 rfl rfl)
theorem dX0_rains_14 : decode cX0_rains 14 = .ok (.getfield 36, 3) := dk_180 0 36 (dk_at dksX0_rains_0 14 rfl rfl)
theorem dX0_rains_17 : decode cX0_rains 17 = .ok (.iload_n 2, 1) := dk_28 (dk_at dksX0_rains_0 17 rfl rfl)
theorem dX0_rains_18 : decode cX0_rains 18 = .ok (.invokevirtual 126, 3) := dk_182 0 126 (dk_at dksX0_rains_0 18 rfl rfl)
theorem dX0_rains_21 : decode cX0_rains 21 = .ok (.checkcast 243, 3) := dk_192 0 243 (dk_at dksX0_rains_0 21 rfl rfl)
theorem dX0_rains_24 : decode cX0_rains 24 = .ok (.astore_n 3, 1) := dk_78 (dk_at dksX0_rains_1 0 rfl rfl)
theorem dX0_rains_25 : decode cX0_rains 25 = .ok (.aload_n 3, 1) := dk_45 (dk_at dksX0_rains_1 1 rfl rfl)
theorem dX0_rains_26 : decode cX0_rains 26 = .ok (.iconst 0, 1) := dk_3 (dk_at dksX0_rains_1 2 rfl rfl)
theorem dX0_rains_27 : decode cX0_rains 27 = .ok (.iaload, 1) := dk_46 (dk_at dksX0_rains_1 3 rfl rfl)
theorem dX0_rains_28 : decode cX0_rains 28 = .ok (.iconst 1, 1) := dk_4 (dk_at dksX0_rains_1 4 rfl rfl)
theorem dX0_rains_29 : decode cX0_rains 29 = .ok (.if_icmp .ne 36, 3) := dk_160 0 36 (dk_at dksX0_rains_1 5 rfl rfl)
theorem dX0_rains_32 : decode cX0_rains 32 = .ok (.aload_n 3, 1) := dk_45 (dk_at dksX0_rains_1 8 rfl rfl)
theorem dX0_rains_33 : decode cX0_rains 33 = .ok (.iconst 1, 1) := dk_4 (dk_at dksX0_rains_1 9 rfl rfl)
theorem dX0_rains_34 : decode cX0_rains 34 = .ok (.iaload, 1) := dk_46 (dk_at dksX0_rains_1 10 rfl rfl)
theorem dX0_rains_35 : decode cX0_rains 35 = .ok (.iload_n 1, 1) := dk_27 (dk_at dksX0_rains_1 11 rfl rfl)
theorem dX0_rains_36 : decode cX0_rains 36 = .ok (.if_icmp .ne 29, 3) := dk_160 0 29 (dk_at dksX0_rains_1 12 rfl rfl)
theorem dX0_rains_39 : decode cX0_rains 39 = .ok (.aload_n 0, 1) := dk_42 (dk_at dksX0_rains_1 15 rfl rfl)
theorem dX0_rains_40 : decode cX0_rains 40 = .ok (.getfield 244, 3) := dk_180 0 244 (dk_at dksX0_rains_1 16 rfl rfl)
theorem dX0_rains_43 : decode cX0_rains 43 = .ok (.iload_n 2, 1) := dk_28 (dk_at dksX0_rains_1 19 rfl rfl)
theorem dX0_rains_44 : decode cX0_rains 44 = .ok (.invokestatic 247, 3) := dk_184 0 247 (dk_at dksX0_rains_1 20 rfl rfl)
theorem dX0_rains_47 : decode cX0_rains 47 = .ok (.ifCond .ne 18, 3) := dk_154 0 18 (dk_at dksX0_rains_2 0 rfl rfl)
theorem dX0_rains_50 : decode cX0_rains 50 = .ok (.aload_n 0, 1) := dk_42 (dk_at dksX0_rains_2 3 rfl rfl)
theorem dX0_rains_51 : decode cX0_rains 51 = .ok (.aload_n 0, 1) := dk_42 (dk_at dksX0_rains_2 4 rfl rfl)
theorem dX0_rains_52 : decode cX0_rains 52 = .ok (.getfield 237, 3) := dk_180 0 237 (dk_at dksX0_rains_2 5 rfl rfl)
theorem dX0_rains_55 : decode cX0_rains 55 = .ok (.iconst 1, 1) := dk_4 (dk_at dksX0_rains_2 8 rfl rfl)
theorem dX0_rains_56 : decode cX0_rains 56 = .ok (.iadd, 1) := dk_96 (dk_at dksX0_rains_2 9 rfl rfl)
theorem dX0_rains_57 : decode cX0_rains 57 = .ok (.bipush 9, 2) := dk_16 9 (dk_at dksX0_rains_2 10 rfl rfl)
theorem dX0_rains_59 : decode cX0_rains 59 = .ok (.invokestatic 217, 3) := dk_184 0 217 (dk_at dksX0_rains_2 12 rfl rfl)
theorem dX0_rains_62 : decode cX0_rains 62 = .ok (.putfield 237, 3) := dk_181 0 237 (dk_at dksX0_rains_2 15 rfl rfl)
theorem dX0_rains_65 : decode cX0_rains 65 = .ok (.iinc 2 1, 3) := dk_132 2 1 (dk_at dksX0_rains_2 18 rfl rfl)
theorem dX0_rains_68 : decode cX0_rains 68 = .ok (.goto (-66), 3) := dk_167 255 190 (dk_at dksX0_rains_2 21 rfl rfl)
theorem dX0_rains_71 : decode cX0_rains 71 = .ok (.return_, 1) := dk_177 (dk_at dksX0_rains_3 0 rfl rfl)
abbrev cX0_isIn : ByteArray := prog_1_method_7_code
def yX0_isIn : MethodName := ⟨RX0, "isIn", "(II)Z"⟩
def dkwX0_isIn_0 : List UInt8 := [26, 27, 122, 4, 126, 4, 160, 0, 7, 4, 167, 0, 4, 3, 172]
abbrev dktX0_isIn_0 : List UInt8 := dkwX0_isIn_0 ++ []
theorem dksX0_isIn_0 : cX0_isIn.data.toList.drop 0 = dktX0_isIn_0 := by decide +kernel
theorem dX0_isIn_0 : decode cX0_isIn 0 = .ok (.iload_n 0, 1) := dk_26 (dk_at dksX0_isIn_0 0 rfl rfl)
theorem dX0_isIn_1 : decode cX0_isIn 1 = .ok (.iload_n 1, 1) := dk_27 (dk_at dksX0_isIn_0 1 rfl rfl)
theorem dX0_isIn_2 : decode cX0_isIn 2 = .ok (.ishr, 1) := dk_122 (dk_at dksX0_isIn_0 2 rfl rfl)
theorem dX0_isIn_3 : decode cX0_isIn 3 = .ok (.iconst 1, 1) := dk_4 (dk_at dksX0_isIn_0 3 rfl rfl)
theorem dX0_isIn_4 : decode cX0_isIn 4 = .ok (.iand, 1) := dk_126 (dk_at dksX0_isIn_0 4 rfl rfl)
theorem dX0_isIn_5 : decode cX0_isIn 5 = .ok (.iconst 1, 1) := dk_4 (dk_at dksX0_isIn_0 5 rfl rfl)
theorem dX0_isIn_6 : decode cX0_isIn 6 = .ok (.if_icmp .ne 7, 3) := dk_160 0 7 (dk_at dksX0_isIn_0 6 rfl rfl)
theorem dX0_isIn_9 : decode cX0_isIn 9 = .ok (.iconst 1, 1) := dk_4 (dk_at dksX0_isIn_0 9 rfl rfl)
theorem dX0_isIn_10 : decode cX0_isIn 10 = .ok (.goto 4, 3) := dk_167 0 4 (dk_at dksX0_isIn_0 10 rfl rfl)
theorem dX0_isIn_13 : decode cX0_isIn 13 = .ok (.iconst 0, 1) := dk_3 (dk_at dksX0_isIn_0 13 rfl rfl)
theorem dX0_isIn_14 : decode cX0_isIn 14 = .ok (.ireturn, 1) := dk_172 (dk_at dksX0_isIn_0 14 rfl rfl)
abbrev cX0_isWon : ByteArray := prog_1_method_29_code
def yX0_isWon : MethodName := ⟨RX0, "isWon", "()Z"⟩
def dkwX0_isWon_0 : List UInt8 := [42, 180, 0, 251, 16, 22, 162, 0, 11, 42, 180, 0, 251, 5, 163, 0, 7, 4, 167, 0, 4, 3, 172]
abbrev dktX0_isWon_0 : List UInt8 := dkwX0_isWon_0 ++ []
theorem dksX0_isWon_0 : cX0_isWon.data.toList.drop 0 = dktX0_isWon_0 := by decide +kernel
theorem dX0_isWon_0 : decode cX0_isWon 0 = .ok (.aload_n 0, 1) := dk_42 (dk_at dksX0_isWon_0 0 rfl rfl)
theorem dX0_isWon_1 : decode cX0_isWon 1 = .ok (.getfield 251, 3) := dk_180 0 251 (dk_at dksX0_isWon_0 1 rfl rfl)
theorem dX0_isWon_4 : decode cX0_isWon 4 = .ok (.bipush 22, 2) := dk_16 22 (dk_at dksX0_isWon_0 4 rfl rfl)
theorem dX0_isWon_6 : decode cX0_isWon 6 = .ok (.if_icmp .ge 11, 3) := dk_162 0 11 (dk_at dksX0_isWon_0 6 rfl rfl)
theorem dX0_isWon_9 : decode cX0_isWon 9 = .ok (.aload_n 0, 1) := dk_42 (dk_at dksX0_isWon_0 9 rfl rfl)
theorem dX0_isWon_10 : decode cX0_isWon 10 = .ok (.getfield 251, 3) := dk_180 0 251 (dk_at dksX0_isWon_0 10 rfl rfl)
theorem dX0_isWon_13 : decode cX0_isWon 13 = .ok (.iconst 2, 1) := dk_5 (dk_at dksX0_isWon_0 13 rfl rfl)
theorem dX0_isWon_14 : decode cX0_isWon 14 = .ok (.if_icmp .gt 7, 3) := dk_163 0 7 (dk_at dksX0_isWon_0 14 rfl rfl)
theorem dX0_isWon_17 : decode cX0_isWon 17 = .ok (.iconst 1, 1) := dk_4 (dk_at dksX0_isWon_0 17 rfl rfl)
theorem dX0_isWon_18 : decode cX0_isWon 18 = .ok (.goto 4, 3) := dk_167 0 4 (dk_at dksX0_isWon_0 18 rfl rfl)
theorem dX0_isWon_21 : decode cX0_isWon 21 = .ok (.iconst 0, 1) := dk_3 (dk_at dksX0_isWon_0 21 rfl rfl)
theorem dX0_isWon_22 : decode cX0_isWon 22 = .ok (.ireturn, 1) := dk_172 (dk_at dksX0_isWon_0 22 rfl rfl)
abbrev cX0_tugs : ByteArray := prog_1_method_30_code
def yX0_tugs : MethodName := ⟨RX0, "tugs", "(I)V"⟩
def dkwX0_tugs_8 : List UInt8 := [181, 1, 10, 177]
abbrev dktX0_tugs_8 : List UInt8 := dkwX0_tugs_8 ++ []
def dkwX0_tugs_7 : List UInt8 := [29, 154, 0, 7, 4, 167, 0, 4, 3, 96, 181, 1, 4, 42, 182, 1, 7, 153, 0, 8, 42, 27]
abbrev dktX0_tugs_7 : List UInt8 := dkwX0_tugs_7 ++ dktX0_tugs_8
def dkwX0_tugs_6 : List UInt8 := [180, 0, 251, 29, 158, 0, 8, 21, 4, 167, 0, 6, 21, 4, 116, 96, 181, 0, 251, 42, 89, 180, 1, 4]
abbrev dktX0_tugs_6 : List UInt8 := dkwX0_tugs_6 ++ dktX0_tugs_7
def dkwX0_tugs_5 : List UInt8 := [180, 0, 49, 27, 50, 5, 46, 100, 62, 29, 184, 1, 1, 6, 108, 6, 184, 0, 217, 54, 4, 42, 89]
abbrev dktX0_tugs_5 : List UInt8 := dkwX0_tugs_5 ++ dktX0_tugs_6
def dkwX0_tugs_4 : List UInt8 := [96, 79, 132, 5, 1, 167, 255, 190, 132, 3, 1, 167, 255, 160, 42, 180, 0, 49, 27, 50, 4, 46, 42]
abbrev dktX0_tugs_4 : List UInt8 := dkwX0_tugs_4 ++ dktX0_tugs_5
def dkwX0_tugs_3 : List UInt8 := [182, 0, 254, 79, 42, 180, 0, 49, 27, 50, 4, 29, 96, 92, 46, 42, 180, 0, 52, 27, 50, 21, 6, 46]
abbrev dktX0_tugs_3 : List UInt8 := dkwX0_tugs_3 ++ dktX0_tugs_4
def dkwX0_tugs_2 : List UInt8 := [16, 8, 29, 104, 21, 5, 96, 54, 6, 42, 180, 0, 52, 27, 50, 21, 6, 42, 27, 21, 6, 21, 4]
abbrev dktX0_tugs_2 : List UInt8 := dkwX0_tugs_2 ++ dktX0_tugs_3
def dkwX0_tugs_1 : List UInt8 := [29, 27, 182, 0, 153, 54, 4, 3, 54, 5, 21, 5, 42, 180, 0, 14, 29, 50, 182, 0, 120, 162, 0, 58]
abbrev dktX0_tugs_1 : List UInt8 := dkwX0_tugs_1 ++ dktX0_tugs_2
def dkwX0_tugs_0 : List UInt8 := [42, 5, 27, 3, 182, 0, 225, 61, 3, 62, 29, 5, 162, 0, 97, 28, 153, 0, 7, 3, 167, 0, 9, 42]
abbrev dktX0_tugs_0 : List UInt8 := dkwX0_tugs_0 ++ dktX0_tugs_1
theorem dksX0_tugs_0 : cX0_tugs.data.toList.drop 0 = dktX0_tugs_0 := by decide +kernel
theorem dksX0_tugs_1 : cX0_tugs.data.toList.drop 24 = dktX0_tugs_1 := dk_seg dksX0_tugs_0 24 rfl rfl
theorem dksX0_tugs_2 : cX0_tugs.data.toList.drop 48 = dktX0_tugs_2 := dk_seg dksX0_tugs_1 24 rfl rfl
theorem dksX0_tugs_3 : cX0_tugs.data.toList.drop 71 = dktX0_tugs_3 := dk_seg dksX0_tugs_2 23 rfl rfl
theorem dksX0_tugs_4 : cX0_tugs.data.toList.drop 95 = dktX0_tugs_4 := dk_seg dksX0_tugs_3 24 rfl rfl
theorem dksX0_tugs_5 : cX0_tugs.data.toList.drop 118 = dktX0_tugs_5 := dk_seg dksX0_tugs_4 23 rfl rfl
theorem dksX0_tugs_6 : cX0_tugs.data.toList.drop 141 = dktX0_tugs_6 := dk_seg dksX0_tugs_5 23 rfl rfl
theorem dksX0_tugs_7 : cX0_tugs.data.toList.drop 165 = dktX0_tugs_7 := dk_seg dksX0_tugs_6 24 rfl rfl
theorem dksX0_tugs_8 : cX0_tugs.data.toList.drop 187 = dktX0_tugs_8 := dk_seg dksX0_tugs_7 22 rfl rfl
theorem dX0_tugs_0 : decode cX0_tugs 0 = .ok (.aload_n 0, 1) := dk_42 (dk_at dksX0_tugs_0 0 rfl rfl)
theorem dX0_tugs_1 : decode cX0_tugs 1 = .ok (.iconst 2, 1) := dk_5 (dk_at dksX0_tugs_0 1 rfl rfl)
theorem dX0_tugs_2 : decode cX0_tugs 2 = .ok (.iload_n 1, 1) := dk_27 (dk_at dksX0_tugs_0 2 rfl rfl)
theorem dX0_tugs_3 : decode cX0_tugs 3 = .ok (.iconst 0, 1) := dk_3 (dk_at dksX0_tugs_0 3 rfl rfl)
theorem dX0_tugs_4 : decode cX0_tugs 4 = .ok (.invokevirtual 225, 3) := dk_182 0 225 (dk_at dksX0_tugs_0 4 rfl rfl)
theorem dX0_tugs_7 : decode cX0_tugs 7 = .ok (.istore_n 2, 1) := dk_61 (dk_at dksX0_tugs_0 7 rfl rfl)
theorem dX0_tugs_8 : decode cX0_tugs 8 = .ok (.iconst 0, 1) := dk_3 (dk_at dksX0_tugs_0 8 rfl rfl)
theorem dX0_tugs_9 : decode cX0_tugs 9 = .ok (.istore_n 3, 1) := dk_62 (dk_at dksX0_tugs_0 9 rfl rfl)
theorem dX0_tugs_10 : decode cX0_tugs 10 = .ok (.iload_n 3, 1) := dk_29 (dk_at dksX0_tugs_0 10 rfl rfl)
theorem dX0_tugs_11 : decode cX0_tugs 11 = .ok (.iconst 2, 1) := dk_5 (dk_at dksX0_tugs_0 11 rfl rfl)
theorem dX0_tugs_12 : decode cX0_tugs 12 = .ok (.if_icmp .ge 97, 3) := dk_162 0 97 (dk_at dksX0_tugs_0 12 rfl rfl)
theorem dX0_tugs_15 : decode cX0_tugs 15 = .ok (.iload_n 2, 1) := dk_28 (dk_at dksX0_tugs_0 15 rfl rfl)
theorem dX0_tugs_16 : decode cX0_tugs 16 = .ok (.ifCond .eq 7, 3) := dk_153 0 7 (dk_at dksX0_tugs_0 16 rfl rfl)
theorem dX0_tugs_19 : decode cX0_tugs 19 = .ok (.iconst 0, 1) := dk_3 (dk_at dksX0_tugs_0 19 rfl rfl)
theorem dX0_tugs_20 : decode cX0_tugs 20 = .ok (.goto 9, 3) := dk_167 0 9 (dk_at dksX0_tugs_0 20 rfl rfl)
theorem dX0_tugs_23 : decode cX0_tugs 23 = .ok (.aload_n 0, 1) := dk_42 (dk_at dksX0_tugs_0 23 rfl rfl)
theorem dX0_tugs_24 : decode cX0_tugs 24 = .ok (.iload_n 3, 1) := dk_29 (dk_at dksX0_tugs_1 0 rfl rfl)
theorem dX0_tugs_25 : decode cX0_tugs 25 = .ok (.iload_n 1, 1) := dk_27 (dk_at dksX0_tugs_1 1 rfl rfl)
theorem dX0_tugs_26 : decode cX0_tugs 26 = .ok (.invokevirtual 153, 3) := dk_182 0 153 (dk_at dksX0_tugs_1 2 rfl rfl)
theorem dX0_tugs_29 : decode cX0_tugs 29 = .ok (.istore 4, 2) := dk_54 4 (dk_at dksX0_tugs_1 5 rfl rfl)
theorem dX0_tugs_31 : decode cX0_tugs 31 = .ok (.iconst 0, 1) := dk_3 (dk_at dksX0_tugs_1 7 rfl rfl)
theorem dX0_tugs_32 : decode cX0_tugs 32 = .ok (.istore 5, 2) := dk_54 5 (dk_at dksX0_tugs_1 8 rfl rfl)
theorem dX0_tugs_34 : decode cX0_tugs 34 = .ok (.iload 5, 2) := dk_21 5 (dk_at dksX0_tugs_1 10 rfl rfl)
theorem dX0_tugs_36 : decode cX0_tugs 36 = .ok (.aload_n 0, 1) := dk_42 (dk_at dksX0_tugs_1 12 rfl rfl)
theorem dX0_tugs_37 : decode cX0_tugs 37 = .ok (.getfield 14, 3) := dk_180 0 14 (dk_at dksX0_tugs_1 13 rfl rfl)
theorem dX0_tugs_40 : decode cX0_tugs 40 = .ok (.iload_n 3, 1) := dk_29 (dk_at dksX0_tugs_1 16 rfl rfl)
theorem dX0_tugs_41 : decode cX0_tugs 41 = .ok (.aaload, 1) := dk_50 (dk_at dksX0_tugs_1 17 rfl rfl)
theorem dX0_tugs_42 : decode cX0_tugs 42 = .ok (.invokevirtual 120, 3) := dk_182 0 120 (dk_at dksX0_tugs_1 18 rfl rfl)
theorem dX0_tugs_45 : decode cX0_tugs 45 = .ok (.if_icmp .ge 58, 3) := dk_162 0 58 (dk_at dksX0_tugs_1 21 rfl rfl)
theorem dX0_tugs_48 : decode cX0_tugs 48 = .ok (.bipush 8, 2) := dk_16 8 (dk_at dksX0_tugs_2 0 rfl rfl)
theorem dX0_tugs_50 : decode cX0_tugs 50 = .ok (.iload_n 3, 1) := dk_29 (dk_at dksX0_tugs_2 2 rfl rfl)
theorem dX0_tugs_51 : decode cX0_tugs 51 = .ok (.imul, 1) := dk_104 (dk_at dksX0_tugs_2 3 rfl rfl)
theorem dX0_tugs_52 : decode cX0_tugs 52 = .ok (.iload 5, 2) := dk_21 5 (dk_at dksX0_tugs_2 4 rfl rfl)
theorem dX0_tugs_54 : decode cX0_tugs 54 = .ok (.iadd, 1) := dk_96 (dk_at dksX0_tugs_2 6 rfl rfl)
theorem dX0_tugs_55 : decode cX0_tugs 55 = .ok (.istore 6, 2) := dk_54 6 (dk_at dksX0_tugs_2 7 rfl rfl)
theorem dX0_tugs_57 : decode cX0_tugs 57 = .ok (.aload_n 0, 1) := dk_42 (dk_at dksX0_tugs_2 9 rfl rfl)
theorem dX0_tugs_58 : decode cX0_tugs 58 = .ok (.getfield 52, 3) := dk_180 0 52 (dk_at dksX0_tugs_2 10 rfl rfl)
theorem dX0_tugs_61 : decode cX0_tugs 61 = .ok (.iload_n 1, 1) := dk_27 (dk_at dksX0_tugs_2 13 rfl rfl)
theorem dX0_tugs_62 : decode cX0_tugs 62 = .ok (.aaload, 1) := dk_50 (dk_at dksX0_tugs_2 14 rfl rfl)
theorem dX0_tugs_63 : decode cX0_tugs 63 = .ok (.iload 6, 2) := dk_21 6 (dk_at dksX0_tugs_2 15 rfl rfl)
theorem dX0_tugs_65 : decode cX0_tugs 65 = .ok (.aload_n 0, 1) := dk_42 (dk_at dksX0_tugs_2 17 rfl rfl)
theorem dX0_tugs_66 : decode cX0_tugs 66 = .ok (.iload_n 1, 1) := dk_27 (dk_at dksX0_tugs_2 18 rfl rfl)
theorem dX0_tugs_67 : decode cX0_tugs 67 = .ok (.iload 6, 2) := dk_21 6 (dk_at dksX0_tugs_2 19 rfl rfl)
theorem dX0_tugs_69 : decode cX0_tugs 69 = .ok (.iload 4, 2) := dk_21 4 (dk_at dksX0_tugs_2 21 rfl rfl)
theorem dX0_tugs_71 : decode cX0_tugs 71 = .ok (.invokevirtual 254, 3) := dk_182 0 254 (dk_at dksX0_tugs_3 0 rfl rfl)
theorem dX0_tugs_74 : decode cX0_tugs 74 = .ok (.iastore, 1) := dk_79 (dk_at dksX0_tugs_3 3 rfl rfl)
theorem dX0_tugs_75 : decode cX0_tugs 75 = .ok (.aload_n 0, 1) := dk_42 (dk_at dksX0_tugs_3 4 rfl rfl)
theorem dX0_tugs_76 : decode cX0_tugs 76 = .ok (.getfield 49, 3) := dk_180 0 49 (dk_at dksX0_tugs_3 5 rfl rfl)
theorem dX0_tugs_79 : decode cX0_tugs 79 = .ok (.iload_n 1, 1) := dk_27 (dk_at dksX0_tugs_3 8 rfl rfl)
theorem dX0_tugs_80 : decode cX0_tugs 80 = .ok (.aaload, 1) := dk_50 (dk_at dksX0_tugs_3 9 rfl rfl)
theorem dX0_tugs_81 : decode cX0_tugs 81 = .ok (.iconst 1, 1) := dk_4 (dk_at dksX0_tugs_3 10 rfl rfl)
theorem dX0_tugs_82 : decode cX0_tugs 82 = .ok (.iload_n 3, 1) := dk_29 (dk_at dksX0_tugs_3 11 rfl rfl)
theorem dX0_tugs_83 : decode cX0_tugs 83 = .ok (.iadd, 1) := dk_96 (dk_at dksX0_tugs_3 12 rfl rfl)
theorem dX0_tugs_84 : decode cX0_tugs 84 = .ok (.dup2, 1) := dk_92 (dk_at dksX0_tugs_3 13 rfl rfl)
theorem dX0_tugs_85 : decode cX0_tugs 85 = .ok (.iaload, 1) := dk_46 (dk_at dksX0_tugs_3 14 rfl rfl)
theorem dX0_tugs_86 : decode cX0_tugs 86 = .ok (.aload_n 0, 1) := dk_42 (dk_at dksX0_tugs_3 15 rfl rfl)
theorem dX0_tugs_87 : decode cX0_tugs 87 = .ok (.getfield 52, 3) := dk_180 0 52 (dk_at dksX0_tugs_3 16 rfl rfl)
theorem dX0_tugs_90 : decode cX0_tugs 90 = .ok (.iload_n 1, 1) := dk_27 (dk_at dksX0_tugs_3 19 rfl rfl)
theorem dX0_tugs_91 : decode cX0_tugs 91 = .ok (.aaload, 1) := dk_50 (dk_at dksX0_tugs_3 20 rfl rfl)
theorem dX0_tugs_92 : decode cX0_tugs 92 = .ok (.iload 6, 2) := dk_21 6 (dk_at dksX0_tugs_3 21 rfl rfl)
theorem dX0_tugs_94 : decode cX0_tugs 94 = .ok (.iaload, 1) := dk_46 (dk_at dksX0_tugs_3 23 rfl rfl)
theorem dX0_tugs_95 : decode cX0_tugs 95 = .ok (.iadd, 1) := dk_96 (dk_at dksX0_tugs_4 0 rfl rfl)
theorem dX0_tugs_96 : decode cX0_tugs 96 = .ok (.iastore, 1) := dk_79 (dk_at dksX0_tugs_4 1 rfl rfl)
theorem dX0_tugs_97 : decode cX0_tugs 97 = .ok (.iinc 5 1, 3) := dk_132 5 1 (dk_at dksX0_tugs_4 2 rfl rfl)
theorem dX0_tugs_100 : decode cX0_tugs 100 = .ok (.goto (-66), 3) := dk_167 255 190 (dk_at dksX0_tugs_4 5 rfl rfl)
theorem dX0_tugs_103 : decode cX0_tugs 103 = .ok (.iinc 3 1, 3) := dk_132 3 1 (dk_at dksX0_tugs_4 8 rfl rfl)
theorem dX0_tugs_106 : decode cX0_tugs 106 = .ok (.goto (-96), 3) := dk_167 255 160 (dk_at dksX0_tugs_4 11 rfl rfl)
theorem dX0_tugs_109 : decode cX0_tugs 109 = .ok (.aload_n 0, 1) := dk_42 (dk_at dksX0_tugs_4 14 rfl rfl)
theorem dX0_tugs_110 : decode cX0_tugs 110 = .ok (.getfield 49, 3) := dk_180 0 49 (dk_at dksX0_tugs_4 15 rfl rfl)
theorem dX0_tugs_113 : decode cX0_tugs 113 = .ok (.iload_n 1, 1) := dk_27 (dk_at dksX0_tugs_4 18 rfl rfl)
theorem dX0_tugs_114 : decode cX0_tugs 114 = .ok (.aaload, 1) := dk_50 (dk_at dksX0_tugs_4 19 rfl rfl)
theorem dX0_tugs_115 : decode cX0_tugs 115 = .ok (.iconst 1, 1) := dk_4 (dk_at dksX0_tugs_4 20 rfl rfl)
theorem dX0_tugs_116 : decode cX0_tugs 116 = .ok (.iaload, 1) := dk_46 (dk_at dksX0_tugs_4 21 rfl rfl)
theorem dX0_tugs_117 : decode cX0_tugs 117 = .ok (.aload_n 0, 1) := dk_42 (dk_at dksX0_tugs_4 22 rfl rfl)
theorem dX0_tugs_118 : decode cX0_tugs 118 = .ok (.getfield 49, 3) := dk_180 0 49 (dk_at dksX0_tugs_5 0 rfl rfl)
theorem dX0_tugs_121 : decode cX0_tugs 121 = .ok (.iload_n 1, 1) := dk_27 (dk_at dksX0_tugs_5 3 rfl rfl)
theorem dX0_tugs_122 : decode cX0_tugs 122 = .ok (.aaload, 1) := dk_50 (dk_at dksX0_tugs_5 4 rfl rfl)
theorem dX0_tugs_123 : decode cX0_tugs 123 = .ok (.iconst 2, 1) := dk_5 (dk_at dksX0_tugs_5 5 rfl rfl)
theorem dX0_tugs_124 : decode cX0_tugs 124 = .ok (.iaload, 1) := dk_46 (dk_at dksX0_tugs_5 6 rfl rfl)
theorem dX0_tugs_125 : decode cX0_tugs 125 = .ok (.isub, 1) := dk_100 (dk_at dksX0_tugs_5 7 rfl rfl)
theorem dX0_tugs_126 : decode cX0_tugs 126 = .ok (.istore_n 3, 1) := dk_62 (dk_at dksX0_tugs_5 8 rfl rfl)
theorem dX0_tugs_127 : decode cX0_tugs 127 = .ok (.iload_n 3, 1) := dk_29 (dk_at dksX0_tugs_5 9 rfl rfl)
theorem dX0_tugs_128 : decode cX0_tugs 128 = .ok (.invokestatic 257, 3) := dk_184 1 1 (dk_at dksX0_tugs_5 10 rfl rfl)
theorem dX0_tugs_131 : decode cX0_tugs 131 = .ok (.iconst 3, 1) := dk_6 (dk_at dksX0_tugs_5 13 rfl rfl)
theorem dX0_tugs_132 : decode cX0_tugs 132 = .ok (.idiv, 1) := dk_108 (dk_at dksX0_tugs_5 14 rfl rfl)
theorem dX0_tugs_133 : decode cX0_tugs 133 = .ok (.iconst 3, 1) := dk_6 (dk_at dksX0_tugs_5 15 rfl rfl)
theorem dX0_tugs_134 : decode cX0_tugs 134 = .ok (.invokestatic 217, 3) := dk_184 0 217 (dk_at dksX0_tugs_5 16 rfl rfl)
theorem dX0_tugs_137 : decode cX0_tugs 137 = .ok (.istore 4, 2) := dk_54 4 (dk_at dksX0_tugs_5 19 rfl rfl)
theorem dX0_tugs_139 : decode cX0_tugs 139 = .ok (.aload_n 0, 1) := dk_42 (dk_at dksX0_tugs_5 21 rfl rfl)
theorem dX0_tugs_140 : decode cX0_tugs 140 = .ok (.dup, 1) := dk_89 (dk_at dksX0_tugs_5 22 rfl rfl)
theorem dX0_tugs_141 : decode cX0_tugs 141 = .ok (.getfield 251, 3) := dk_180 0 251 (dk_at dksX0_tugs_6 0 rfl rfl)
theorem dX0_tugs_144 : decode cX0_tugs 144 = .ok (.iload_n 3, 1) := dk_29 (dk_at dksX0_tugs_6 3 rfl rfl)
theorem dX0_tugs_145 : decode cX0_tugs 145 = .ok (.ifCond .le 8, 3) := dk_158 0 8 (dk_at dksX0_tugs_6 4 rfl rfl)
theorem dX0_tugs_148 : decode cX0_tugs 148 = .ok (.iload 4, 2) := dk_21 4 (dk_at dksX0_tugs_6 7 rfl rfl)
theorem dX0_tugs_150 : decode cX0_tugs 150 = .ok (.goto 6, 3) := dk_167 0 6 (dk_at dksX0_tugs_6 9 rfl rfl)
theorem dX0_tugs_153 : decode cX0_tugs 153 = .ok (.iload 4, 2) := dk_21 4 (dk_at dksX0_tugs_6 12 rfl rfl)
theorem dX0_tugs_155 : decode cX0_tugs 155 = .ok (.ineg, 1) := dk_116 (dk_at dksX0_tugs_6 14 rfl rfl)
theorem dX0_tugs_156 : decode cX0_tugs 156 = .ok (.iadd, 1) := dk_96 (dk_at dksX0_tugs_6 15 rfl rfl)
theorem dX0_tugs_157 : decode cX0_tugs 157 = .ok (.putfield 251, 3) := dk_181 0 251 (dk_at dksX0_tugs_6 16 rfl rfl)
theorem dX0_tugs_160 : decode cX0_tugs 160 = .ok (.aload_n 0, 1) := dk_42 (dk_at dksX0_tugs_6 19 rfl rfl)
theorem dX0_tugs_161 : decode cX0_tugs 161 = .ok (.dup, 1) := dk_89 (dk_at dksX0_tugs_6 20 rfl rfl)
theorem dX0_tugs_162 : decode cX0_tugs 162 = .ok (.getfield 260, 3) := dk_180 1 4 (dk_at dksX0_tugs_6 21 rfl rfl)
theorem dX0_tugs_165 : decode cX0_tugs 165 = .ok (.iload_n 3, 1) := dk_29 (dk_at dksX0_tugs_7 0 rfl rfl)
theorem dX0_tugs_166 : decode cX0_tugs 166 = .ok (.ifCond .ne 7, 3) := dk_154 0 7 (dk_at dksX0_tugs_7 1 rfl rfl)
theorem dX0_tugs_169 : decode cX0_tugs 169 = .ok (.iconst 1, 1) := dk_4 (dk_at dksX0_tugs_7 4 rfl rfl)
theorem dX0_tugs_170 : decode cX0_tugs 170 = .ok (.goto 4, 3) := dk_167 0 4 (dk_at dksX0_tugs_7 5 rfl rfl)
theorem dX0_tugs_173 : decode cX0_tugs 173 = .ok (.iconst 0, 1) := dk_3 (dk_at dksX0_tugs_7 8 rfl rfl)
theorem dX0_tugs_174 : decode cX0_tugs 174 = .ok (.iadd, 1) := dk_96 (dk_at dksX0_tugs_7 9 rfl rfl)
theorem dX0_tugs_175 : decode cX0_tugs 175 = .ok (.putfield 260, 3) := dk_181 1 4 (dk_at dksX0_tugs_7 10 rfl rfl)
theorem dX0_tugs_178 : decode cX0_tugs 178 = .ok (.aload_n 0, 1) := dk_42 (dk_at dksX0_tugs_7 13 rfl rfl)
theorem dX0_tugs_179 : decode cX0_tugs 179 = .ok (.invokevirtual 263, 3) := dk_182 1 7 (dk_at dksX0_tugs_7 14 rfl rfl)
theorem dX0_tugs_182 : decode cX0_tugs 182 = .ok (.ifCond .eq 8, 3) := dk_153 0 8 (dk_at dksX0_tugs_7 17 rfl rfl)
theorem dX0_tugs_185 : decode cX0_tugs 185 = .ok (.aload_n 0, 1) := dk_42 (dk_at dksX0_tugs_7 20 rfl rfl)
theorem dX0_tugs_186 : decode cX0_tugs 186 = .ok (.iload_n 1, 1) := dk_27 (dk_at dksX0_tugs_7 21 rfl rfl)
theorem dX0_tugs_187 : decode cX0_tugs 187 = .ok (.putfield 266, 3) := dk_181 1 10 (dk_at dksX0_tugs_8 0 rfl rfl)
theorem dX0_tugs_190 : decode cX0_tugs 190 = .ok (.return_, 1) := dk_177 (dk_at dksX0_tugs_8 3 rfl rfl)
abbrev cX0_isTold : ByteArray := prog_1_method_27_code
def yX0_isTold : MethodName := ⟨RX0, "isTold", "(III)Z"⟩
def dkwX0_isTold_3 : List UInt8 := [172, 132, 4, 1, 167, 255, 185, 3, 172]
abbrev dktX0_isTold_3 : List UInt8 := dkwX0_isTold_3 ++ []
def dkwX0_isTold_2 : List UInt8 := [180, 0, 244, 21, 4, 184, 0, 247, 154, 0, 17, 27, 157, 0, 11, 25, 5, 5, 46, 29, 160, 0, 5, 4]
abbrev dktX0_isTold_2 : List UInt8 := dkwX0_isTold_2 ++ dktX0_isTold_3
def dkwX0_isTold_1 : List UInt8 := [192, 0, 243, 58, 5, 25, 5, 3, 46, 27, 160, 0, 37, 25, 5, 4, 46, 28, 160, 0, 29, 42]
abbrev dktX0_isTold_1 : List UInt8 := dkwX0_isTold_1 ++ dktX0_isTold_2
def dkwX0_isTold_0 : List UInt8 := [3, 54, 4, 21, 4, 42, 180, 0, 36, 182, 0, 162, 162, 0, 65, 42, 180, 0, 36, 21, 4, 182, 0, 126]
abbrev dktX0_isTold_0 : List UInt8 := dkwX0_isTold_0 ++ dktX0_isTold_1
theorem dksX0_isTold_0 : cX0_isTold.data.toList.drop 0 = dktX0_isTold_0 := by decide +kernel
theorem dksX0_isTold_1 : cX0_isTold.data.toList.drop 24 = dktX0_isTold_1 := dk_seg dksX0_isTold_0 24 rfl rfl
theorem dksX0_isTold_2 : cX0_isTold.data.toList.drop 46 = dktX0_isTold_2 := dk_seg dksX0_isTold_1 22 rfl rfl
theorem dksX0_isTold_3 : cX0_isTold.data.toList.drop 70 = dktX0_isTold_3 := dk_seg dksX0_isTold_2 24 rfl rfl
theorem dX0_isTold_0 : decode cX0_isTold 0 = .ok (.iconst 0, 1) := dk_3 (dk_at dksX0_isTold_0 0 rfl rfl)
theorem dX0_isTold_1 : decode cX0_isTold 1 = .ok (.istore 4, 2) := dk_54 4 (dk_at dksX0_isTold_0 1 rfl rfl)
theorem dX0_isTold_3 : decode cX0_isTold 3 = .ok (.iload 4, 2) := dk_21 4 (dk_at dksX0_isTold_0 3 rfl rfl)
theorem dX0_isTold_5 : decode cX0_isTold 5 = .ok (.aload_n 0, 1) := dk_42 (dk_at dksX0_isTold_0 5 rfl rfl)
theorem dX0_isTold_6 : decode cX0_isTold 6 = .ok (.getfield 36, 3) := dk_180 0 36 (dk_at dksX0_isTold_0 6 rfl rfl)
theorem dX0_isTold_9 : decode cX0_isTold 9 = .ok (.invokevirtual 162, 3) := dk_182 0 162 (dk_at dksX0_isTold_0 9 rfl rfl)
theorem dX0_isTold_12 : decode cX0_isTold 12 = .ok (.if_icmp .ge 65, 3) := dk_162 0 65 (dk_at dksX0_isTold_0 12 rfl rfl)
theorem dX0_isTold_15 : decode cX0_isTold 15 = .ok (.aload_n 0, 1) := dk_42 (dk_at dksX0_isTold_0 15 rfl rfl)
theorem dX0_isTold_16 : decode cX0_isTold 16 = .ok (.getfield 36, 3) := dk_180 0 36 (dk_at dksX0_isTold_0 16 rfl rfl)
theorem dX0_isTold_19 : decode cX0_isTold 19 = .ok (.iload 4, 2) := dk_21 4 (dk_at dksX0_isTold_0 19 rfl rfl)
theorem dX0_isTold_21 : decode cX0_isTold 21 = .ok (.invokevirtual 126, 3) := dk_182 0 126 (dk_at dksX0_isTold_0 21 rfl rfl)
theorem dX0_isTold_24 : decode cX0_isTold 24 = .ok (.checkcast 243, 3) := dk_192 0 243 (dk_at dksX0_isTold_1 0 rfl rfl)
theorem dX0_isTold_27 : decode cX0_isTold 27 = .ok (.astore 5, 2) := dk_58 5 (dk_at dksX0_isTold_1 3 rfl rfl)
theorem dX0_isTold_29 : decode cX0_isTold 29 = .ok (.aload 5, 2) := dk_25 5 (dk_at dksX0_isTold_1 5 rfl rfl)
theorem dX0_isTold_31 : decode cX0_isTold 31 = .ok (.iconst 0, 1) := dk_3 (dk_at dksX0_isTold_1 7 rfl rfl)
theorem dX0_isTold_32 : decode cX0_isTold 32 = .ok (.iaload, 1) := dk_46 (dk_at dksX0_isTold_1 8 rfl rfl)
theorem dX0_isTold_33 : decode cX0_isTold 33 = .ok (.iload_n 1, 1) := dk_27 (dk_at dksX0_isTold_1 9 rfl rfl)
theorem dX0_isTold_34 : decode cX0_isTold 34 = .ok (.if_icmp .ne 37, 3) := dk_160 0 37 (dk_at dksX0_isTold_1 10 rfl rfl)
theorem dX0_isTold_37 : decode cX0_isTold 37 = .ok (.aload 5, 2) := dk_25 5 (dk_at dksX0_isTold_1 13 rfl rfl)
theorem dX0_isTold_39 : decode cX0_isTold 39 = .ok (.iconst 1, 1) := dk_4 (dk_at dksX0_isTold_1 15 rfl rfl)
theorem dX0_isTold_40 : decode cX0_isTold 40 = .ok (.iaload, 1) := dk_46 (dk_at dksX0_isTold_1 16 rfl rfl)
theorem dX0_isTold_41 : decode cX0_isTold 41 = .ok (.iload_n 2, 1) := dk_28 (dk_at dksX0_isTold_1 17 rfl rfl)
theorem dX0_isTold_42 : decode cX0_isTold 42 = .ok (.if_icmp .ne 29, 3) := dk_160 0 29 (dk_at dksX0_isTold_1 18 rfl rfl)
theorem dX0_isTold_45 : decode cX0_isTold 45 = .ok (.aload_n 0, 1) := dk_42 (dk_at dksX0_isTold_1 21 rfl rfl)
theorem dX0_isTold_46 : decode cX0_isTold 46 = .ok (.getfield 244, 3) := dk_180 0 244 (dk_at dksX0_isTold_2 0 rfl rfl)
theorem dX0_isTold_49 : decode cX0_isTold 49 = .ok (.iload 4, 2) := dk_21 4 (dk_at dksX0_isTold_2 3 rfl rfl)
theorem dX0_isTold_51 : decode cX0_isTold 51 = .ok (.invokestatic 247, 3) := dk_184 0 247 (dk_at dksX0_isTold_2 5 rfl rfl)
theorem dX0_isTold_54 : decode cX0_isTold 54 = .ok (.ifCond .ne 17, 3) := dk_154 0 17 (dk_at dksX0_isTold_2 8 rfl rfl)
theorem dX0_isTold_57 : decode cX0_isTold 57 = .ok (.iload_n 1, 1) := dk_27 (dk_at dksX0_isTold_2 11 rfl rfl)
theorem dX0_isTold_58 : decode cX0_isTold 58 = .ok (.ifCond .gt 11, 3) := dk_157 0 11 (dk_at dksX0_isTold_2 12 rfl rfl)
theorem dX0_isTold_61 : decode cX0_isTold 61 = .ok (.aload 5, 2) := dk_25 5 (dk_at dksX0_isTold_2 15 rfl rfl)
theorem dX0_isTold_63 : decode cX0_isTold 63 = .ok (.iconst 2, 1) := dk_5 (dk_at dksX0_isTold_2 17 rfl rfl)
theorem dX0_isTold_64 : decode cX0_isTold 64 = .ok (.iaload, 1) := dk_46 (dk_at dksX0_isTold_2 18 rfl rfl)
theorem dX0_isTold_65 : decode cX0_isTold 65 = .ok (.iload_n 3, 1) := dk_29 (dk_at dksX0_isTold_2 19 rfl rfl)
theorem dX0_isTold_66 : decode cX0_isTold 66 = .ok (.if_icmp .ne 5, 3) := dk_160 0 5 (dk_at dksX0_isTold_2 20 rfl rfl)
theorem dX0_isTold_69 : decode cX0_isTold 69 = .ok (.iconst 1, 1) := dk_4 (dk_at dksX0_isTold_2 23 rfl rfl)
theorem dX0_isTold_70 : decode cX0_isTold 70 = .ok (.ireturn, 1) := dk_172 (dk_at dksX0_isTold_3 0 rfl rfl)
theorem dX0_isTold_71 : decode cX0_isTold 71 = .ok (.iinc 4 1, 3) := dk_132 4 1 (dk_at dksX0_isTold_3 1 rfl rfl)
theorem dX0_isTold_74 : decode cX0_isTold 74 = .ok (.goto (-71), 3) := dk_167 255 185 (dk_at dksX0_isTold_3 4 rfl rfl)
theorem dX0_isTold_77 : decode cX0_isTold 77 = .ok (.iconst 0, 1) := dk_3 (dk_at dksX0_isTold_3 7 rfl rfl)
theorem dX0_isTold_78 : decode cX0_isTold 78 = .ok (.ireturn, 1) := dk_172 (dk_at dksX0_isTold_3 8 rfl rfl)
abbrev cX0_force : ByteArray := prog_1_method_26_code
def yX0_force : MethodName := ⟨RX0, "force", "(III)I"⟩
def dkwX0_force_3 : List UInt8 := [21, 5, 96, 79, 21, 5, 172]
abbrev dktX0_force_3 : List UInt8 := dkwX0_force_3 ++ []
def dkwX0_force_2 : List UInt8 := [42, 28, 25, 4, 29, 182, 0, 233, 42, 180, 0, 237, 182, 0, 240, 54, 5, 42, 180, 0, 44, 28, 92, 46]
abbrev dktX0_force_2 : List UInt8 := dkwX0_force_2 ++ dktX0_force_3
def dkwX0_force_1 : List UInt8 := [182, 0, 137, 58, 4, 25, 4, 180, 0, 199, 29, 154, 0, 13, 42, 28, 25, 4, 182, 0, 229, 167, 0, 11]
abbrev dktX0_force_1 : List UInt8 := dkwX0_force_1 ++ dktX0_force_2
def dkwX0_force_0 : List UInt8 := [28, 42, 180, 0, 61, 159, 0, 13, 42, 3, 27, 28, 182, 0, 225, 153, 0, 5, 3, 172, 42, 28]
abbrev dktX0_force_0 : List UInt8 := dkwX0_force_0 ++ dktX0_force_1
theorem dksX0_force_0 : cX0_force.data.toList.drop 0 = dktX0_force_0 := by decide +kernel
theorem dksX0_force_1 : cX0_force.data.toList.drop 22 = dktX0_force_1 := dk_seg dksX0_force_0 22 rfl rfl
theorem dksX0_force_2 : cX0_force.data.toList.drop 46 = dktX0_force_2 := dk_seg dksX0_force_1 24 rfl rfl
theorem dksX0_force_3 : cX0_force.data.toList.drop 70 = dktX0_force_3 := dk_seg dksX0_force_2 24 rfl rfl
theorem dX0_force_0 : decode cX0_force 0 = .ok (.iload_n 2, 1) := dk_28 (dk_at dksX0_force_0 0 rfl rfl)
theorem dX0_force_1 : decode cX0_force 1 = .ok (.aload_n 0, 1) := dk_42 (dk_at dksX0_force_0 1 rfl rfl)
theorem dX0_force_2 : decode cX0_force 2 = .ok (.getfield 61, 3) := dk_180 0 61 (dk_at dksX0_force_0 2 rfl rfl)
theorem dX0_force_5 : decode cX0_force 5 = .ok (.if_icmp .eq 13, 3) := dk_159 0 13 (dk_at dksX0_force_0 5 rfl rfl)
theorem dX0_force_8 : decode cX0_force 8 = .ok (.aload_n 0, 1) := dk_42 (dk_at dksX0_force_0 8 rfl rfl)
theorem dX0_force_9 : decode cX0_force 9 = .ok (.iconst 0, 1) := dk_3 (dk_at dksX0_force_0 9 rfl rfl)
theorem dX0_force_10 : decode cX0_force 10 = .ok (.iload_n 1, 1) := dk_27 (dk_at dksX0_force_0 10 rfl rfl)
theorem dX0_force_11 : decode cX0_force 11 = .ok (.iload_n 2, 1) := dk_28 (dk_at dksX0_force_0 11 rfl rfl)
theorem dX0_force_12 : decode cX0_force 12 = .ok (.invokevirtual 225, 3) := dk_182 0 225 (dk_at dksX0_force_0 12 rfl rfl)
theorem dX0_force_15 : decode cX0_force 15 = .ok (.ifCond .eq 5, 3) := dk_153 0 5 (dk_at dksX0_force_0 15 rfl rfl)
theorem dX0_force_18 : decode cX0_force 18 = .ok (.iconst 0, 1) := dk_3 (dk_at dksX0_force_0 18 rfl rfl)
theorem dX0_force_19 : decode cX0_force 19 = .ok (.ireturn, 1) := dk_172 (dk_at dksX0_force_0 19 rfl rfl)
theorem dX0_force_20 : decode cX0_force 20 = .ok (.aload_n 0, 1) := dk_42 (dk_at dksX0_force_0 20 rfl rfl)
theorem dX0_force_21 : decode cX0_force 21 = .ok (.iload_n 2, 1) := dk_28 (dk_at dksX0_force_0 21 rfl rfl)
theorem dX0_force_22 : decode cX0_force 22 = .ok (.invokevirtual 137, 3) := dk_182 0 137 (dk_at dksX0_force_1 0 rfl rfl)
theorem dX0_force_25 : decode cX0_force 25 = .ok (.astore 4, 2) := dk_58 4 (dk_at dksX0_force_1 3 rfl rfl)
theorem dX0_force_27 : decode cX0_force 27 = .ok (.aload 4, 2) := dk_25 4 (dk_at dksX0_force_1 5 rfl rfl)
theorem dX0_force_29 : decode cX0_force 29 = .ok (.getfield 199, 3) := dk_180 0 199 (dk_at dksX0_force_1 7 rfl rfl)
theorem dX0_force_32 : decode cX0_force 32 = .ok (.iload_n 3, 1) := dk_29 (dk_at dksX0_force_1 10 rfl rfl)
theorem dX0_force_33 : decode cX0_force 33 = .ok (.ifCond .ne 13, 3) := dk_154 0 13 (dk_at dksX0_force_1 11 rfl rfl)
theorem dX0_force_36 : decode cX0_force 36 = .ok (.aload_n 0, 1) := dk_42 (dk_at dksX0_force_1 14 rfl rfl)
theorem dX0_force_37 : decode cX0_force 37 = .ok (.iload_n 2, 1) := dk_28 (dk_at dksX0_force_1 15 rfl rfl)
theorem dX0_force_38 : decode cX0_force 38 = .ok (.aload 4, 2) := dk_25 4 (dk_at dksX0_force_1 16 rfl rfl)
theorem dX0_force_40 : decode cX0_force 40 = .ok (.invokevirtual 229, 3) := dk_182 0 229 (dk_at dksX0_force_1 18 rfl rfl)
theorem dX0_force_43 : decode cX0_force 43 = .ok (.goto 11, 3) := dk_167 0 11 (dk_at dksX0_force_1 21 rfl rfl)
theorem dX0_force_46 : decode cX0_force 46 = .ok (.aload_n 0, 1) := dk_42 (dk_at dksX0_force_2 0 rfl rfl)
theorem dX0_force_47 : decode cX0_force 47 = .ok (.iload_n 2, 1) := dk_28 (dk_at dksX0_force_2 1 rfl rfl)
theorem dX0_force_48 : decode cX0_force 48 = .ok (.aload 4, 2) := dk_25 4 (dk_at dksX0_force_2 2 rfl rfl)
theorem dX0_force_50 : decode cX0_force 50 = .ok (.iload_n 3, 1) := dk_29 (dk_at dksX0_force_2 4 rfl rfl)
theorem dX0_force_51 : decode cX0_force 51 = .ok (.invokevirtual 233, 3) := dk_182 0 233 (dk_at dksX0_force_2 5 rfl rfl)
theorem dX0_force_54 : decode cX0_force 54 = .ok (.aload_n 0, 1) := dk_42 (dk_at dksX0_force_2 8 rfl rfl)
theorem dX0_force_55 : decode cX0_force 55 = .ok (.getfield 237, 3) := dk_180 0 237 (dk_at dksX0_force_2 9 rfl rfl)
theorem dX0_force_58 : decode cX0_force 58 = .ok (.invokevirtual 240, 3) := dk_182 0 240 (dk_at dksX0_force_2 12 rfl rfl)
theorem dX0_force_61 : decode cX0_force 61 = .ok (.istore 5, 2) := dk_54 5 (dk_at dksX0_force_2 15 rfl rfl)
theorem dX0_force_63 : decode cX0_force 63 = .ok (.aload_n 0, 1) := dk_42 (dk_at dksX0_force_2 17 rfl rfl)
theorem dX0_force_64 : decode cX0_force 64 = .ok (.getfield 44, 3) := dk_180 0 44 (dk_at dksX0_force_2 18 rfl rfl)
theorem dX0_force_67 : decode cX0_force 67 = .ok (.iload_n 2, 1) := dk_28 (dk_at dksX0_force_2 21 rfl rfl)
theorem dX0_force_68 : decode cX0_force 68 = .ok (.dup2, 1) := dk_92 (dk_at dksX0_force_2 22 rfl rfl)
theorem dX0_force_69 : decode cX0_force 69 = .ok (.iaload, 1) := dk_46 (dk_at dksX0_force_2 23 rfl rfl)
theorem dX0_force_70 : decode cX0_force 70 = .ok (.iload 5, 2) := dk_21 5 (dk_at dksX0_force_3 0 rfl rfl)
theorem dX0_force_72 : decode cX0_force 72 = .ok (.iadd, 1) := dk_96 (dk_at dksX0_force_3 2 rfl rfl)
theorem dX0_force_73 : decode cX0_force 73 = .ok (.iastore, 1) := dk_79 (dk_at dksX0_force_3 3 rfl rfl)
theorem dX0_force_74 : decode cX0_force 74 = .ok (.iload 5, 2) := dk_21 5 (dk_at dksX0_force_3 4 rfl rfl)
theorem dX0_force_76 : decode cX0_force 76 = .ok (.ireturn, 1) := dk_172 (dk_at dksX0_force_3 6 rfl rfl)
abbrev cX0_rests : ByteArray := prog_1_method_24_code
def yX0_rests : MethodName := ⟨RX0, "rests", "(ILTugOfWar$Puller;)I"⟩
def dkwX0_rests_2 : List UInt8 := [180, 0, 214, 184, 0, 217, 79, 3, 172]
abbrev dktX0_rests_2 : List UInt8 := dkwX0_rests_2 ++ []
def dkwX0_rests_1 : List UInt8 := [180, 0, 208, 172, 42, 180, 0, 40, 27, 42, 180, 0, 40, 27, 46, 44, 180, 0, 199, 182, 0, 211, 96, 44]
abbrev dktX0_rests_1 : List UInt8 := dkwX0_rests_1 ++ dktX0_rests_2
def dkwX0_rests_0 : List UInt8 := [27, 42, 180, 0, 58, 27, 16, 8, 108, 46, 160, 0, 18, 44, 180, 0, 199, 182, 0, 203, 153, 0, 8, 44]
abbrev dktX0_rests_0 : List UInt8 := dkwX0_rests_0 ++ dktX0_rests_1
theorem dksX0_rests_0 : cX0_rests.data.toList.drop 0 = dktX0_rests_0 := by decide +kernel
theorem dksX0_rests_1 : cX0_rests.data.toList.drop 24 = dktX0_rests_1 := dk_seg dksX0_rests_0 24 rfl rfl
theorem dksX0_rests_2 : cX0_rests.data.toList.drop 48 = dktX0_rests_2 := dk_seg dksX0_rests_1 24 rfl rfl
theorem dX0_rests_0 : decode cX0_rests 0 = .ok (.iload_n 1, 1) := dk_27 (dk_at dksX0_rests_0 0 rfl rfl)
theorem dX0_rests_1 : decode cX0_rests 1 = .ok (.aload_n 0, 1) := dk_42 (dk_at dksX0_rests_0 1 rfl rfl)
theorem dX0_rests_2 : decode cX0_rests 2 = .ok (.getfield 58, 3) := dk_180 0 58 (dk_at dksX0_rests_0 2 rfl rfl)
theorem dX0_rests_5 : decode cX0_rests 5 = .ok (.iload_n 1, 1) := dk_27 (dk_at dksX0_rests_0 5 rfl rfl)
theorem dX0_rests_6 : decode cX0_rests 6 = .ok (.bipush 8, 2) := dk_16 8 (dk_at dksX0_rests_0 6 rfl rfl)
theorem dX0_rests_8 : decode cX0_rests 8 = .ok (.idiv, 1) := dk_108 (dk_at dksX0_rests_0 8 rfl rfl)
theorem dX0_rests_9 : decode cX0_rests 9 = .ok (.iaload, 1) := dk_46 (dk_at dksX0_rests_0 9 rfl rfl)
theorem dX0_rests_10 : decode cX0_rests 10 = .ok (.if_icmp .ne 18, 3) := dk_160 0 18 (dk_at dksX0_rests_0 10 rfl rfl)
theorem dX0_rests_13 : decode cX0_rests 13 = .ok (.aload_n 2, 1) := dk_44 (dk_at dksX0_rests_0 13 rfl rfl)
theorem dX0_rests_14 : decode cX0_rests 14 = .ok (.getfield 199, 3) := dk_180 0 199 (dk_at dksX0_rests_0 14 rfl rfl)
theorem dX0_rests_17 : decode cX0_rests 17 = .ok (.invokevirtual 203, 3) := dk_182 0 203 (dk_at dksX0_rests_0 17 rfl rfl)
theorem dX0_rests_20 : decode cX0_rests 20 = .ok (.ifCond .eq 8, 3) := dk_153 0 8 (dk_at dksX0_rests_0 20 rfl rfl)
theorem dX0_rests_23 : decode cX0_rests 23 = .ok (.aload_n 2, 1) := dk_44 (dk_at dksX0_rests_0 23 rfl rfl)
theorem dX0_rests_24 : decode cX0_rests 24 = .ok (.getfield 208, 3) := dk_180 0 208 (dk_at dksX0_rests_1 0 rfl rfl)
theorem dX0_rests_27 : decode cX0_rests 27 = .ok (.ireturn, 1) := dk_172 (dk_at dksX0_rests_1 3 rfl rfl)
theorem dX0_rests_28 : decode cX0_rests 28 = .ok (.aload_n 0, 1) := dk_42 (dk_at dksX0_rests_1 4 rfl rfl)
theorem dX0_rests_29 : decode cX0_rests 29 = .ok (.getfield 40, 3) := dk_180 0 40 (dk_at dksX0_rests_1 5 rfl rfl)
theorem dX0_rests_32 : decode cX0_rests 32 = .ok (.iload_n 1, 1) := dk_27 (dk_at dksX0_rests_1 8 rfl rfl)
theorem dX0_rests_33 : decode cX0_rests 33 = .ok (.aload_n 0, 1) := dk_42 (dk_at dksX0_rests_1 9 rfl rfl)
theorem dX0_rests_34 : decode cX0_rests 34 = .ok (.getfield 40, 3) := dk_180 0 40 (dk_at dksX0_rests_1 10 rfl rfl)
theorem dX0_rests_37 : decode cX0_rests 37 = .ok (.iload_n 1, 1) := dk_27 (dk_at dksX0_rests_1 13 rfl rfl)
theorem dX0_rests_38 : decode cX0_rests 38 = .ok (.iaload, 1) := dk_46 (dk_at dksX0_rests_1 14 rfl rfl)
theorem dX0_rests_39 : decode cX0_rests 39 = .ok (.aload_n 2, 1) := dk_44 (dk_at dksX0_rests_1 15 rfl rfl)
theorem dX0_rests_40 : decode cX0_rests 40 = .ok (.getfield 199, 3) := dk_180 0 199 (dk_at dksX0_rests_1 16 rfl rfl)
theorem dX0_rests_43 : decode cX0_rests 43 = .ok (.invokevirtual 211, 3) := dk_182 0 211 (dk_at dksX0_rests_1 19 rfl rfl)
theorem dX0_rests_46 : decode cX0_rests 46 = .ok (.iadd, 1) := dk_96 (dk_at dksX0_rests_1 22 rfl rfl)
theorem dX0_rests_47 : decode cX0_rests 47 = .ok (.aload_n 2, 1) := dk_44 (dk_at dksX0_rests_1 23 rfl rfl)
theorem dX0_rests_48 : decode cX0_rests 48 = .ok (.getfield 214, 3) := dk_180 0 214 (dk_at dksX0_rests_2 0 rfl rfl)
theorem dX0_rests_51 : decode cX0_rests 51 = .ok (.invokestatic 217, 3) := dk_184 0 217 (dk_at dksX0_rests_2 3 rfl rfl)
theorem dX0_rests_54 : decode cX0_rests 54 = .ok (.iastore, 1) := dk_79 (dk_at dksX0_rests_2 6 rfl rfl)
theorem dX0_rests_55 : decode cX0_rests 55 = .ok (.iconst 0, 1) := dk_3 (dk_at dksX0_rests_2 7 rfl rfl)
theorem dX0_rests_56 : decode cX0_rests 56 = .ok (.ireturn, 1) := dk_172 (dk_at dksX0_rests_2 8 rfl rfl)
abbrev cX0_pulls : ByteArray := prog_1_method_25_code
def yX0_pulls : MethodName := ⟨RX0, "pulls", "(ILTugOfWar$Puller;I)I"⟩
def dkwX0_pulls_5 : List UInt8 := [182, 0, 203, 153, 0, 7, 5, 167, 0, 4, 3, 96, 172]
abbrev dktX0_pulls_5 : List UInt8 := dkwX0_pulls_5 ++ []
def dkwX0_pulls_4 : List UInt8 := [44, 180, 0, 208, 104, 27, 42, 180, 0, 58, 27, 16, 8, 108, 46, 160, 0, 17, 44, 180, 0, 199]
abbrev dktX0_pulls_4 : List UInt8 := dkwX0_pulls_4 ++ dktX0_pulls_5
def dkwX0_pulls_3 : List UInt8 := [3, 54, 5, 42, 180, 0, 40, 27, 92, 46, 21, 4, 100, 79, 21, 5, 153, 0, 7, 5, 167, 0, 4, 4]
abbrev dktX0_pulls_3 : List UInt8 := dkwX0_pulls_3 ++ dktX0_pulls_4
def dkwX0_pulls_2 : List UInt8 := [4, 159, 0, 23, 42, 180, 0, 40, 27, 46, 44, 180, 0, 199, 182, 0, 222, 161, 0, 7, 4, 167, 0, 4]
abbrev dktX0_pulls_2 : List UInt8 := dkwX0_pulls_2 ++ dktX0_pulls_3
def dkwX0_pulls_1 : List UInt8 := [167, 0, 10, 44, 180, 0, 199, 182, 0, 222, 54, 4, 42, 180, 0, 40, 27, 46, 154, 0, 5, 3, 172, 29]
abbrev dktX0_pulls_1 : List UInt8 := dkwX0_pulls_1 ++ dktX0_pulls_2
def dkwX0_pulls_0 : List UInt8 := [29, 4, 159, 0, 19, 42, 180, 0, 40, 27, 46, 44, 180, 0, 199, 182, 0, 222, 162, 0, 7, 4]
abbrev dktX0_pulls_0 : List UInt8 := dkwX0_pulls_0 ++ dktX0_pulls_1
theorem dksX0_pulls_0 : cX0_pulls.data.toList.drop 0 = dktX0_pulls_0 := by decide +kernel
theorem dksX0_pulls_1 : cX0_pulls.data.toList.drop 22 = dktX0_pulls_1 := dk_seg dksX0_pulls_0 22 rfl rfl
theorem dksX0_pulls_2 : cX0_pulls.data.toList.drop 46 = dktX0_pulls_2 := dk_seg dksX0_pulls_1 24 rfl rfl
theorem dksX0_pulls_3 : cX0_pulls.data.toList.drop 70 = dktX0_pulls_3 := dk_seg dksX0_pulls_2 24 rfl rfl
theorem dksX0_pulls_4 : cX0_pulls.data.toList.drop 94 = dktX0_pulls_4 := dk_seg dksX0_pulls_3 24 rfl rfl
theorem dksX0_pulls_5 : cX0_pulls.data.toList.drop 116 = dktX0_pulls_5 := dk_seg dksX0_pulls_4 22 rfl rfl
theorem dX0_pulls_0 : decode cX0_pulls 0 = .ok (.iload_n 3, 1) := dk_29 (dk_at dksX0_pulls_0 0 rfl rfl)
theorem dX0_pulls_1 : decode cX0_pulls 1 = .ok (.iconst 1, 1) := dk_4 (dk_at dksX0_pulls_0 1 rfl rfl)
theorem dX0_pulls_2 : decode cX0_pulls 2 = .ok (.if_icmp .eq 19, 3) := dk_159 0 19 (dk_at dksX0_pulls_0 2 rfl rfl)
theorem dX0_pulls_5 : decode cX0_pulls 5 = .ok (.aload_n 0, 1) := dk_42 (dk_at dksX0_pulls_0 5 rfl rfl)
theorem dX0_pulls_6 : decode cX0_pulls 6 = .ok (.getfield 40, 3) := dk_180 0 40 (dk_at dksX0_pulls_0 6 rfl rfl)
theorem dX0_pulls_9 : decode cX0_pulls 9 = .ok (.iload_n 1, 1) := dk_27 (dk_at dksX0_pulls_0 9 rfl rfl)
theorem dX0_pulls_10 : decode cX0_pulls 10 = .ok (.iaload, 1) := dk_46 (dk_at dksX0_pulls_0 10 rfl rfl)
theorem dX0_pulls_11 : decode cX0_pulls 11 = .ok (.aload_n 2, 1) := dk_44 (dk_at dksX0_pulls_0 11 rfl rfl)
theorem dX0_pulls_12 : decode cX0_pulls 12 = .ok (.getfield 199, 3) := dk_180 0 199 (dk_at dksX0_pulls_0 12 rfl rfl)
theorem dX0_pulls_15 : decode cX0_pulls 15 = .ok (.invokevirtual 222, 3) := dk_182 0 222 (dk_at dksX0_pulls_0 15 rfl rfl)
theorem dX0_pulls_18 : decode cX0_pulls 18 = .ok (.if_icmp .ge 7, 3) := dk_162 0 7 (dk_at dksX0_pulls_0 18 rfl rfl)
theorem dX0_pulls_21 : decode cX0_pulls 21 = .ok (.iconst 1, 1) := dk_4 (dk_at dksX0_pulls_0 21 rfl rfl)
theorem dX0_pulls_22 : decode cX0_pulls 22 = .ok (.goto 10, 3) := dk_167 0 10 (dk_at dksX0_pulls_1 0 rfl rfl)
theorem dX0_pulls_25 : decode cX0_pulls 25 = .ok (.aload_n 2, 1) := dk_44 (dk_at dksX0_pulls_1 3 rfl rfl)
theorem dX0_pulls_26 : decode cX0_pulls 26 = .ok (.getfield 199, 3) := dk_180 0 199 (dk_at dksX0_pulls_1 4 rfl rfl)
theorem dX0_pulls_29 : decode cX0_pulls 29 = .ok (.invokevirtual 222, 3) := dk_182 0 222 (dk_at dksX0_pulls_1 7 rfl rfl)
theorem dX0_pulls_32 : decode cX0_pulls 32 = .ok (.istore 4, 2) := dk_54 4 (dk_at dksX0_pulls_1 10 rfl rfl)
theorem dX0_pulls_34 : decode cX0_pulls 34 = .ok (.aload_n 0, 1) := dk_42 (dk_at dksX0_pulls_1 12 rfl rfl)
theorem dX0_pulls_35 : decode cX0_pulls 35 = .ok (.getfield 40, 3) := dk_180 0 40 (dk_at dksX0_pulls_1 13 rfl rfl)
theorem dX0_pulls_38 : decode cX0_pulls 38 = .ok (.iload_n 1, 1) := dk_27 (dk_at dksX0_pulls_1 16 rfl rfl)
theorem dX0_pulls_39 : decode cX0_pulls 39 = .ok (.iaload, 1) := dk_46 (dk_at dksX0_pulls_1 17 rfl rfl)
theorem dX0_pulls_40 : decode cX0_pulls 40 = .ok (.ifCond .ne 5, 3) := dk_154 0 5 (dk_at dksX0_pulls_1 18 rfl rfl)
theorem dX0_pulls_43 : decode cX0_pulls 43 = .ok (.iconst 0, 1) := dk_3 (dk_at dksX0_pulls_1 21 rfl rfl)
theorem dX0_pulls_44 : decode cX0_pulls 44 = .ok (.ireturn, 1) := dk_172 (dk_at dksX0_pulls_1 22 rfl rfl)
theorem dX0_pulls_45 : decode cX0_pulls 45 = .ok (.iload_n 3, 1) := dk_29 (dk_at dksX0_pulls_1 23 rfl rfl)
theorem dX0_pulls_46 : decode cX0_pulls 46 = .ok (.iconst 1, 1) := dk_4 (dk_at dksX0_pulls_2 0 rfl rfl)
theorem dX0_pulls_47 : decode cX0_pulls 47 = .ok (.if_icmp .eq 23, 3) := dk_159 0 23 (dk_at dksX0_pulls_2 1 rfl rfl)
theorem dX0_pulls_50 : decode cX0_pulls 50 = .ok (.aload_n 0, 1) := dk_42 (dk_at dksX0_pulls_2 4 rfl rfl)
theorem dX0_pulls_51 : decode cX0_pulls 51 = .ok (.getfield 40, 3) := dk_180 0 40 (dk_at dksX0_pulls_2 5 rfl rfl)
theorem dX0_pulls_54 : decode cX0_pulls 54 = .ok (.iload_n 1, 1) := dk_27 (dk_at dksX0_pulls_2 8 rfl rfl)
theorem dX0_pulls_55 : decode cX0_pulls 55 = .ok (.iaload, 1) := dk_46 (dk_at dksX0_pulls_2 9 rfl rfl)
theorem dX0_pulls_56 : decode cX0_pulls 56 = .ok (.aload_n 2, 1) := dk_44 (dk_at dksX0_pulls_2 10 rfl rfl)
theorem dX0_pulls_57 : decode cX0_pulls 57 = .ok (.getfield 199, 3) := dk_180 0 199 (dk_at dksX0_pulls_2 11 rfl rfl)
theorem dX0_pulls_60 : decode cX0_pulls 60 = .ok (.invokevirtual 222, 3) := dk_182 0 222 (dk_at dksX0_pulls_2 14 rfl rfl)
theorem dX0_pulls_63 : decode cX0_pulls 63 = .ok (.if_icmp .lt 7, 3) := dk_161 0 7 (dk_at dksX0_pulls_2 17 rfl rfl)
theorem dX0_pulls_66 : decode cX0_pulls 66 = .ok (.iconst 1, 1) := dk_4 (dk_at dksX0_pulls_2 20 rfl rfl)
theorem dX0_pulls_67 : decode cX0_pulls 67 = .ok (.goto 4, 3) := dk_167 0 4 (dk_at dksX0_pulls_2 21 rfl rfl)
theorem dX0_pulls_70 : decode cX0_pulls 70 = .ok (.iconst 0, 1) := dk_3 (dk_at dksX0_pulls_3 0 rfl rfl)
theorem dX0_pulls_71 : decode cX0_pulls 71 = .ok (.istore 5, 2) := dk_54 5 (dk_at dksX0_pulls_3 1 rfl rfl)
theorem dX0_pulls_73 : decode cX0_pulls 73 = .ok (.aload_n 0, 1) := dk_42 (dk_at dksX0_pulls_3 3 rfl rfl)
theorem dX0_pulls_74 : decode cX0_pulls 74 = .ok (.getfield 40, 3) := dk_180 0 40 (dk_at dksX0_pulls_3 4 rfl rfl)
theorem dX0_pulls_77 : decode cX0_pulls 77 = .ok (.iload_n 1, 1) := dk_27 (dk_at dksX0_pulls_3 7 rfl rfl)
theorem dX0_pulls_78 : decode cX0_pulls 78 = .ok (.dup2, 1) := dk_92 (dk_at dksX0_pulls_3 8 rfl rfl)
theorem dX0_pulls_79 : decode cX0_pulls 79 = .ok (.iaload, 1) := dk_46 (dk_at dksX0_pulls_3 9 rfl rfl)
theorem dX0_pulls_80 : decode cX0_pulls 80 = .ok (.iload 4, 2) := dk_21 4 (dk_at dksX0_pulls_3 10 rfl rfl)
theorem dX0_pulls_82 : decode cX0_pulls 82 = .ok (.isub, 1) := dk_100 (dk_at dksX0_pulls_3 12 rfl rfl)
theorem dX0_pulls_83 : decode cX0_pulls 83 = .ok (.iastore, 1) := dk_79 (dk_at dksX0_pulls_3 13 rfl rfl)
theorem dX0_pulls_84 : decode cX0_pulls 84 = .ok (.iload 5, 2) := dk_21 5 (dk_at dksX0_pulls_3 14 rfl rfl)
theorem dX0_pulls_86 : decode cX0_pulls 86 = .ok (.ifCond .eq 7, 3) := dk_153 0 7 (dk_at dksX0_pulls_3 16 rfl rfl)
theorem dX0_pulls_89 : decode cX0_pulls 89 = .ok (.iconst 2, 1) := dk_5 (dk_at dksX0_pulls_3 19 rfl rfl)
theorem dX0_pulls_90 : decode cX0_pulls 90 = .ok (.goto 4, 3) := dk_167 0 4 (dk_at dksX0_pulls_3 20 rfl rfl)
theorem dX0_pulls_93 : decode cX0_pulls 93 = .ok (.iconst 1, 1) := dk_4 (dk_at dksX0_pulls_3 23 rfl rfl)
theorem dX0_pulls_94 : decode cX0_pulls 94 = .ok (.aload_n 2, 1) := dk_44 (dk_at dksX0_pulls_4 0 rfl rfl)
theorem dX0_pulls_95 : decode cX0_pulls 95 = .ok (.getfield 208, 3) := dk_180 0 208 (dk_at dksX0_pulls_4 1 rfl rfl)
theorem dX0_pulls_98 : decode cX0_pulls 98 = .ok (.imul, 1) := dk_104 (dk_at dksX0_pulls_4 4 rfl rfl)
theorem dX0_pulls_99 : decode cX0_pulls 99 = .ok (.iload_n 1, 1) := dk_27 (dk_at dksX0_pulls_4 5 rfl rfl)
theorem dX0_pulls_100 : decode cX0_pulls 100 = .ok (.aload_n 0, 1) := dk_42 (dk_at dksX0_pulls_4 6 rfl rfl)
theorem dX0_pulls_101 : decode cX0_pulls 101 = .ok (.getfield 58, 3) := dk_180 0 58 (dk_at dksX0_pulls_4 7 rfl rfl)
theorem dX0_pulls_104 : decode cX0_pulls 104 = .ok (.iload_n 1, 1) := dk_27 (dk_at dksX0_pulls_4 10 rfl rfl)
theorem dX0_pulls_105 : decode cX0_pulls 105 = .ok (.bipush 8, 2) := dk_16 8 (dk_at dksX0_pulls_4 11 rfl rfl)
theorem dX0_pulls_107 : decode cX0_pulls 107 = .ok (.idiv, 1) := dk_108 (dk_at dksX0_pulls_4 13 rfl rfl)
theorem dX0_pulls_108 : decode cX0_pulls 108 = .ok (.iaload, 1) := dk_46 (dk_at dksX0_pulls_4 14 rfl rfl)
theorem dX0_pulls_109 : decode cX0_pulls 109 = .ok (.if_icmp .ne 17, 3) := dk_160 0 17 (dk_at dksX0_pulls_4 15 rfl rfl)
theorem dX0_pulls_112 : decode cX0_pulls 112 = .ok (.aload_n 2, 1) := dk_44 (dk_at dksX0_pulls_4 18 rfl rfl)
theorem dX0_pulls_113 : decode cX0_pulls 113 = .ok (.getfield 199, 3) := dk_180 0 199 (dk_at dksX0_pulls_4 19 rfl rfl)
theorem dX0_pulls_116 : decode cX0_pulls 116 = .ok (.invokevirtual 203, 3) := dk_182 0 203 (dk_at dksX0_pulls_5 0 rfl rfl)
theorem dX0_pulls_119 : decode cX0_pulls 119 = .ok (.ifCond .eq 7, 3) := dk_153 0 7 (dk_at dksX0_pulls_5 3 rfl rfl)
theorem dX0_pulls_122 : decode cX0_pulls 122 = .ok (.iconst 2, 1) := dk_5 (dk_at dksX0_pulls_5 6 rfl rfl)
theorem dX0_pulls_123 : decode cX0_pulls 123 = .ok (.goto 4, 3) := dk_167 0 4 (dk_at dksX0_pulls_5 7 rfl rfl)
theorem dX0_pulls_126 : decode cX0_pulls 126 = .ok (.iconst 0, 1) := dk_3 (dk_at dksX0_pulls_5 10 rfl rfl)
theorem dX0_pulls_127 : decode cX0_pulls 127 = .ok (.iadd, 1) := dk_96 (dk_at dksX0_pulls_5 11 rfl rfl)
theorem dX0_pulls_128 : decode cX0_pulls 128 = .ok (.ireturn, 1) := dk_172 (dk_at dksX0_pulls_5 12 rfl rfl)
abbrev cX0_at : ByteArray := prog_1_method_35_code
def yX0_at : MethodName := ⟨RX0, "at", "(III)I"⟩
def dkwX0_at_1 : List UInt8 := [153, 0, 13, 42, 27, 28, 29, 182, 1, 41, 167, 0, 5, 16, 254, 172]
abbrev dktX0_at_1 : List UInt8 := dkwX0_at_1 ++ []
def dkwX0_at_0 : List UInt8 := [42, 182, 1, 38, 27, 184, 0, 150, 153, 0, 28, 42, 28, 182, 0, 132, 153, 0, 20, 29, 184, 0, 147]
abbrev dktX0_at_0 : List UInt8 := dkwX0_at_0 ++ dktX0_at_1
theorem dksX0_at_0 : cX0_at.data.toList.drop 0 = dktX0_at_0 := by decide +kernel
theorem dksX0_at_1 : cX0_at.data.toList.drop 23 = dktX0_at_1 := dk_seg dksX0_at_0 23 rfl rfl
theorem dX0_at_0 : decode cX0_at 0 = .ok (.aload_n 0, 1) := dk_42 (dk_at dksX0_at_0 0 rfl rfl)
theorem dX0_at_1 : decode cX0_at 1 = .ok (.invokevirtual 294, 3) := dk_182 1 38 (dk_at dksX0_at_0 1 rfl rfl)
theorem dX0_at_4 : decode cX0_at 4 = .ok (.iload_n 1, 1) := dk_27 (dk_at dksX0_at_0 4 rfl rfl)
theorem dX0_at_5 : decode cX0_at 5 = .ok (.invokestatic 150, 3) := dk_184 0 150 (dk_at dksX0_at_0 5 rfl rfl)
theorem dX0_at_8 : decode cX0_at 8 = .ok (.ifCond .eq 28, 3) := dk_153 0 28 (dk_at dksX0_at_0 8 rfl rfl)
theorem dX0_at_11 : decode cX0_at 11 = .ok (.aload_n 0, 1) := dk_42 (dk_at dksX0_at_0 11 rfl rfl)
theorem dX0_at_12 : decode cX0_at 12 = .ok (.iload_n 2, 1) := dk_28 (dk_at dksX0_at_0 12 rfl rfl)
theorem dX0_at_13 : decode cX0_at 13 = .ok (.invokevirtual 132, 3) := dk_182 0 132 (dk_at dksX0_at_0 13 rfl rfl)
theorem dX0_at_16 : decode cX0_at 16 = .ok (.ifCond .eq 20, 3) := dk_153 0 20 (dk_at dksX0_at_0 16 rfl rfl)
theorem dX0_at_19 : decode cX0_at 19 = .ok (.iload_n 3, 1) := dk_29 (dk_at dksX0_at_0 19 rfl rfl)
theorem dX0_at_20 : decode cX0_at 20 = .ok (.invokestatic 147, 3) := dk_184 0 147 (dk_at dksX0_at_0 20 rfl rfl)
theorem dX0_at_23 : decode cX0_at 23 = .ok (.ifCond .eq 13, 3) := dk_153 0 13 (dk_at dksX0_at_1 0 rfl rfl)
theorem dX0_at_26 : decode cX0_at 26 = .ok (.aload_n 0, 1) := dk_42 (dk_at dksX0_at_1 3 rfl rfl)
theorem dX0_at_27 : decode cX0_at 27 = .ok (.iload_n 1, 1) := dk_27 (dk_at dksX0_at_1 4 rfl rfl)
theorem dX0_at_28 : decode cX0_at 28 = .ok (.iload_n 2, 1) := dk_28 (dk_at dksX0_at_1 5 rfl rfl)
theorem dX0_at_29 : decode cX0_at 29 = .ok (.iload_n 3, 1) := dk_29 (dk_at dksX0_at_1 6 rfl rfl)
theorem dX0_at_30 : decode cX0_at 30 = .ok (.invokevirtual 297, 3) := dk_182 1 41 (dk_at dksX0_at_1 7 rfl rfl)
theorem dX0_at_33 : decode cX0_at 33 = .ok (.goto 5, 3) := dk_167 0 5 (dk_at dksX0_at_1 10 rfl rfl)
theorem dX0_at_36 : decode cX0_at 36 = .ok (.bipush (-2), 2) := dk_16 254 (dk_at dksX0_at_1 13 rfl rfl)
theorem dX0_at_38 : decode cX0_at 38 = .ok (.ireturn, 1) := dk_172 (dk_at dksX0_at_1 15 rfl rfl)
abbrev cX0_atBy : ByteArray := prog_1_method_34_code
def yX0_atBy : MethodName := ⟨RX0, "atBy", "(III)I"⟩
def dkwX0_atBy_0 : List UInt8 := [29, 154, 0, 14, 42, 180, 0, 52, 27, 50, 28, 46, 167, 0, 11, 42, 180, 0, 55, 27, 50, 28, 46, 172]
abbrev dktX0_atBy_0 : List UInt8 := dkwX0_atBy_0 ++ []
theorem dksX0_atBy_0 : cX0_atBy.data.toList.drop 0 = dktX0_atBy_0 := by decide +kernel
theorem dX0_atBy_0 : decode cX0_atBy 0 = .ok (.iload_n 3, 1) := dk_29 (dk_at dksX0_atBy_0 0 rfl rfl)
theorem dX0_atBy_1 : decode cX0_atBy 1 = .ok (.ifCond .ne 14, 3) := dk_154 0 14 (dk_at dksX0_atBy_0 1 rfl rfl)
theorem dX0_atBy_4 : decode cX0_atBy 4 = .ok (.aload_n 0, 1) := dk_42 (dk_at dksX0_atBy_0 4 rfl rfl)
theorem dX0_atBy_5 : decode cX0_atBy 5 = .ok (.getfield 52, 3) := dk_180 0 52 (dk_at dksX0_atBy_0 5 rfl rfl)
theorem dX0_atBy_8 : decode cX0_atBy 8 = .ok (.iload_n 1, 1) := dk_27 (dk_at dksX0_atBy_0 8 rfl rfl)
theorem dX0_atBy_9 : decode cX0_atBy 9 = .ok (.aaload, 1) := dk_50 (dk_at dksX0_atBy_0 9 rfl rfl)
theorem dX0_atBy_10 : decode cX0_atBy 10 = .ok (.iload_n 2, 1) := dk_28 (dk_at dksX0_atBy_0 10 rfl rfl)
theorem dX0_atBy_11 : decode cX0_atBy 11 = .ok (.iaload, 1) := dk_46 (dk_at dksX0_atBy_0 11 rfl rfl)
theorem dX0_atBy_12 : decode cX0_atBy 12 = .ok (.goto 11, 3) := dk_167 0 11 (dk_at dksX0_atBy_0 12 rfl rfl)
theorem dX0_atBy_15 : decode cX0_atBy 15 = .ok (.aload_n 0, 1) := dk_42 (dk_at dksX0_atBy_0 15 rfl rfl)
theorem dX0_atBy_16 : decode cX0_atBy 16 = .ok (.getfield 55, 3) := dk_180 0 55 (dk_at dksX0_atBy_0 16 rfl rfl)
theorem dX0_atBy_19 : decode cX0_atBy 19 = .ok (.iload_n 1, 1) := dk_27 (dk_at dksX0_atBy_0 19 rfl rfl)
theorem dX0_atBy_20 : decode cX0_atBy 20 = .ok (.aaload, 1) := dk_50 (dk_at dksX0_atBy_0 20 rfl rfl)
theorem dX0_atBy_21 : decode cX0_atBy 21 = .ok (.iload_n 2, 1) := dk_28 (dk_at dksX0_atBy_0 21 rfl rfl)
theorem dX0_atBy_22 : decode cX0_atBy 22 = .ok (.iaload, 1) := dk_46 (dk_at dksX0_atBy_0 22 rfl rfl)
theorem dX0_atBy_23 : decode cX0_atBy 23 = .ok (.ireturn, 1) := dk_172 (dk_at dksX0_atBy_0 23 rfl rfl)
abbrev cX0_won : ByteArray := prog_1_method_37_code
def yX0_won : MethodName := ⟨RX0, "won", "(I)I"⟩
def dkwX0_won_1 : List UInt8 := [180, 1, 10, 167, 0, 5, 16, 254, 172]
abbrev dktX0_won_1 : List UInt8 := dkwX0_won_1 ++ []
def dkwX0_won_0 : List UInt8 := [42, 182, 1, 38, 27, 184, 0, 147, 153, 0, 21, 27, 154, 0, 10, 42, 182, 1, 44, 167, 0, 12, 42]
abbrev dktX0_won_0 : List UInt8 := dkwX0_won_0 ++ dktX0_won_1
theorem dksX0_won_0 : cX0_won.data.toList.drop 0 = dktX0_won_0 := by decide +kernel
theorem dksX0_won_1 : cX0_won.data.toList.drop 23 = dktX0_won_1 := dk_seg dksX0_won_0 23 rfl rfl
theorem dX0_won_0 : decode cX0_won 0 = .ok (.aload_n 0, 1) := dk_42 (dk_at dksX0_won_0 0 rfl rfl)
theorem dX0_won_1 : decode cX0_won 1 = .ok (.invokevirtual 294, 3) := dk_182 1 38 (dk_at dksX0_won_0 1 rfl rfl)
theorem dX0_won_4 : decode cX0_won 4 = .ok (.iload_n 1, 1) := dk_27 (dk_at dksX0_won_0 4 rfl rfl)
theorem dX0_won_5 : decode cX0_won 5 = .ok (.invokestatic 147, 3) := dk_184 0 147 (dk_at dksX0_won_0 5 rfl rfl)
theorem dX0_won_8 : decode cX0_won 8 = .ok (.ifCond .eq 21, 3) := dk_153 0 21 (dk_at dksX0_won_0 8 rfl rfl)
theorem dX0_won_11 : decode cX0_won 11 = .ok (.iload_n 1, 1) := dk_27 (dk_at dksX0_won_0 11 rfl rfl)
theorem dX0_won_12 : decode cX0_won 12 = .ok (.ifCond .ne 10, 3) := dk_154 0 10 (dk_at dksX0_won_0 12 rfl rfl)
theorem dX0_won_15 : decode cX0_won 15 = .ok (.aload_n 0, 1) := dk_42 (dk_at dksX0_won_0 15 rfl rfl)
theorem dX0_won_16 : decode cX0_won 16 = .ok (.invokevirtual 300, 3) := dk_182 1 44 (dk_at dksX0_won_0 16 rfl rfl)
theorem dX0_won_19 : decode cX0_won 19 = .ok (.goto 12, 3) := dk_167 0 12 (dk_at dksX0_won_0 19 rfl rfl)
theorem dX0_won_22 : decode cX0_won 22 = .ok (.aload_n 0, 1) := dk_42 (dk_at dksX0_won_0 22 rfl rfl)
theorem dX0_won_23 : decode cX0_won 23 = .ok (.getfield 266, 3) := dk_180 1 10 (dk_at dksX0_won_1 0 rfl rfl)
theorem dX0_won_26 : decode cX0_won 26 = .ok (.goto 5, 3) := dk_167 0 5 (dk_at dksX0_won_1 3 rfl rfl)
theorem dX0_won_29 : decode cX0_won 29 = .ok (.bipush (-2), 2) := dk_16 254 (dk_at dksX0_won_1 6 rfl rfl)
theorem dX0_won_31 : decode cX0_won 31 = .ok (.ireturn, 1) := dk_172 (dk_at dksX0_won_1 8 rfl rfl)
abbrev cX0_winner : ByteArray := prog_1_method_36_code
def yX0_winner : MethodName := ⟨RX0, "winner", "()I"⟩
def dkwX0_winner_1 : List UInt8 := [167, 0, 4, 2, 172]
abbrev dktX0_winner_1 : List UInt8 := dkwX0_winner_1 ++ []
def dkwX0_winner_0 : List UInt8 := [42, 180, 0, 251, 16, 22, 161, 0, 7, 3, 167, 0, 16, 42, 180, 0, 251, 5, 163, 0, 7, 4]
abbrev dktX0_winner_0 : List UInt8 := dkwX0_winner_0 ++ dktX0_winner_1
theorem dksX0_winner_0 : cX0_winner.data.toList.drop 0 = dktX0_winner_0 := by decide +kernel
theorem dksX0_winner_1 : cX0_winner.data.toList.drop 22 = dktX0_winner_1 := dk_seg dksX0_winner_0 22 rfl rfl
theorem dX0_winner_0 : decode cX0_winner 0 = .ok (.aload_n 0, 1) := dk_42 (dk_at dksX0_winner_0 0 rfl rfl)
theorem dX0_winner_1 : decode cX0_winner 1 = .ok (.getfield 251, 3) := dk_180 0 251 (dk_at dksX0_winner_0 1 rfl rfl)
theorem dX0_winner_4 : decode cX0_winner 4 = .ok (.bipush 22, 2) := dk_16 22 (dk_at dksX0_winner_0 4 rfl rfl)
theorem dX0_winner_6 : decode cX0_winner 6 = .ok (.if_icmp .lt 7, 3) := dk_161 0 7 (dk_at dksX0_winner_0 6 rfl rfl)
theorem dX0_winner_9 : decode cX0_winner 9 = .ok (.iconst 0, 1) := dk_3 (dk_at dksX0_winner_0 9 rfl rfl)
theorem dX0_winner_10 : decode cX0_winner 10 = .ok (.goto 16, 3) := dk_167 0 16 (dk_at dksX0_winner_0 10 rfl rfl)
theorem dX0_winner_13 : decode cX0_winner 13 = .ok (.aload_n 0, 1) := dk_42 (dk_at dksX0_winner_0 13 rfl rfl)
theorem dX0_winner_14 : decode cX0_winner 14 = .ok (.getfield 251, 3) := dk_180 0 251 (dk_at dksX0_winner_0 14 rfl rfl)
theorem dX0_winner_17 : decode cX0_winner 17 = .ok (.iconst 2, 1) := dk_5 (dk_at dksX0_winner_0 17 rfl rfl)
theorem dX0_winner_18 : decode cX0_winner 18 = .ok (.if_icmp .gt 7, 3) := dk_163 0 7 (dk_at dksX0_winner_0 18 rfl rfl)
theorem dX0_winner_21 : decode cX0_winner 21 = .ok (.iconst 1, 1) := dk_4 (dk_at dksX0_winner_0 21 rfl rfl)
theorem dX0_winner_22 : decode cX0_winner 22 = .ok (.goto 4, 3) := dk_167 0 4 (dk_at dksX0_winner_1 0 rfl rfl)
theorem dX0_winner_25 : decode cX0_winner 25 = .ok (.iconst (-1), 1) := dk_2 (dk_at dksX0_winner_1 3 rfl rfl)
theorem dX0_winner_26 : decode cX0_winner 26 = .ok (.ireturn, 1) := dk_172 (dk_at dksX0_winner_1 4 rfl rfl)
abbrev cX0_furthest : ByteArray := prog_1_method_39_code
def yX0_furthest : MethodName := ⟨RX0, "furthest", "(I)I"⟩
def dkwX0_furthest_0 : List UInt8 := [42, 182, 1, 38, 27, 184, 0, 147, 153, 0, 11, 42, 27, 182, 1, 50, 167, 0, 5, 16, 254, 172]
abbrev dktX0_furthest_0 : List UInt8 := dkwX0_furthest_0 ++ []
theorem dksX0_furthest_0 : cX0_furthest.data.toList.drop 0 = dktX0_furthest_0 := by decide +kernel
theorem dX0_furthest_0 : decode cX0_furthest 0 = .ok (.aload_n 0, 1) := dk_42 (dk_at dksX0_furthest_0 0 rfl rfl)
theorem dX0_furthest_1 : decode cX0_furthest 1 = .ok (.invokevirtual 294, 3) := dk_182 1 38 (dk_at dksX0_furthest_0 1 rfl rfl)
theorem dX0_furthest_4 : decode cX0_furthest 4 = .ok (.iload_n 1, 1) := dk_27 (dk_at dksX0_furthest_0 4 rfl rfl)
theorem dX0_furthest_5 : decode cX0_furthest 5 = .ok (.invokestatic 147, 3) := dk_184 0 147 (dk_at dksX0_furthest_0 5 rfl rfl)
theorem dX0_furthest_8 : decode cX0_furthest 8 = .ok (.ifCond .eq 11, 3) := dk_153 0 11 (dk_at dksX0_furthest_0 8 rfl rfl)
theorem dX0_furthest_11 : decode cX0_furthest 11 = .ok (.aload_n 0, 1) := dk_42 (dk_at dksX0_furthest_0 11 rfl rfl)
theorem dX0_furthest_12 : decode cX0_furthest 12 = .ok (.iload_n 1, 1) := dk_27 (dk_at dksX0_furthest_0 12 rfl rfl)
theorem dX0_furthest_13 : decode cX0_furthest 13 = .ok (.invokevirtual 306, 3) := dk_182 1 50 (dk_at dksX0_furthest_0 13 rfl rfl)
theorem dX0_furthest_16 : decode cX0_furthest 16 = .ok (.goto 5, 3) := dk_167 0 5 (dk_at dksX0_furthest_0 16 rfl rfl)
theorem dX0_furthest_19 : decode cX0_furthest 19 = .ok (.bipush (-2), 2) := dk_16 254 (dk_at dksX0_furthest_0 19 rfl rfl)
theorem dX0_furthest_21 : decode cX0_furthest 21 = .ok (.ireturn, 1) := dk_172 (dk_at dksX0_furthest_0 21 rfl rfl)
abbrev cX0_furthestBy : ByteArray := prog_1_method_38_code
def yX0_furthestBy : MethodName := ⟨RX0, "furthestBy", "(I)I"⟩
def dkwX0_furthestBy_2 : List UInt8 := [167, 255, 215, 28, 172]
abbrev dktX0_furthestBy_2 : List UInt8 := dkwX0_furthestBy_2 ++ []
def dkwX0_furthestBy_1 : List UInt8 := [184, 1, 47, 167, 0, 15, 42, 180, 0, 49, 29, 50, 3, 46, 28, 184, 0, 217, 61, 132, 3, 1]
abbrev dktX0_furthestBy_1 : List UInt8 := dkwX0_furthestBy_1 ++ dktX0_furthestBy_2
def dkwX0_furthestBy_0 : List UInt8 := [16, 12, 61, 3, 62, 29, 16, 24, 162, 0, 41, 27, 154, 0, 18, 42, 180, 0, 49, 29, 50, 3, 46, 28]
abbrev dktX0_furthestBy_0 : List UInt8 := dkwX0_furthestBy_0 ++ dktX0_furthestBy_1
theorem dksX0_furthestBy_0 : cX0_furthestBy.data.toList.drop 0 = dktX0_furthestBy_0 := by decide +kernel
theorem dksX0_furthestBy_1 : cX0_furthestBy.data.toList.drop 24 = dktX0_furthestBy_1 := dk_seg dksX0_furthestBy_0 24 rfl rfl
theorem dksX0_furthestBy_2 : cX0_furthestBy.data.toList.drop 46 = dktX0_furthestBy_2 := dk_seg dksX0_furthestBy_1 22 rfl rfl
theorem dX0_furthestBy_0 : decode cX0_furthestBy 0 = .ok (.bipush 12, 2) := dk_16 12 (dk_at dksX0_furthestBy_0 0 rfl rfl)
theorem dX0_furthestBy_2 : decode cX0_furthestBy 2 = .ok (.istore_n 2, 1) := dk_61 (dk_at dksX0_furthestBy_0 2 rfl rfl)
theorem dX0_furthestBy_3 : decode cX0_furthestBy 3 = .ok (.iconst 0, 1) := dk_3 (dk_at dksX0_furthestBy_0 3 rfl rfl)
theorem dX0_furthestBy_4 : decode cX0_furthestBy 4 = .ok (.istore_n 3, 1) := dk_62 (dk_at dksX0_furthestBy_0 4 rfl rfl)
theorem dX0_furthestBy_5 : decode cX0_furthestBy 5 = .ok (.iload_n 3, 1) := dk_29 (dk_at dksX0_furthestBy_0 5 rfl rfl)
theorem dX0_furthestBy_6 : decode cX0_furthestBy 6 = .ok (.bipush 24, 2) := dk_16 24 (dk_at dksX0_furthestBy_0 6 rfl rfl)
theorem dX0_furthestBy_8 : decode cX0_furthestBy 8 = .ok (.if_icmp .ge 41, 3) := dk_162 0 41 (dk_at dksX0_furthestBy_0 8 rfl rfl)
theorem dX0_furthestBy_11 : decode cX0_furthestBy 11 = .ok (.iload_n 1, 1) := dk_27 (dk_at dksX0_furthestBy_0 11 rfl rfl)
theorem dX0_furthestBy_12 : decode cX0_furthestBy 12 = .ok (.ifCond .ne 18, 3) := dk_154 0 18 (dk_at dksX0_furthestBy_0 12 rfl rfl)
theorem dX0_furthestBy_15 : decode cX0_furthestBy 15 = .ok (.aload_n 0, 1) := dk_42 (dk_at dksX0_furthestBy_0 15 rfl rfl)
theorem dX0_furthestBy_16 : decode cX0_furthestBy 16 = .ok (.getfield 49, 3) := dk_180 0 49 (dk_at dksX0_furthestBy_0 16 rfl rfl)
theorem dX0_furthestBy_19 : decode cX0_furthestBy 19 = .ok (.iload_n 3, 1) := dk_29 (dk_at dksX0_furthestBy_0 19 rfl rfl)
theorem dX0_furthestBy_20 : decode cX0_furthestBy 20 = .ok (.aaload, 1) := dk_50 (dk_at dksX0_furthestBy_0 20 rfl rfl)
theorem dX0_furthestBy_21 : decode cX0_furthestBy 21 = .ok (.iconst 0, 1) := dk_3 (dk_at dksX0_furthestBy_0 21 rfl rfl)
theorem dX0_furthestBy_22 : decode cX0_furthestBy 22 = .ok (.iaload, 1) := dk_46 (dk_at dksX0_furthestBy_0 22 rfl rfl)
theorem dX0_furthestBy_23 : decode cX0_furthestBy 23 = .ok (.iload_n 2, 1) := dk_28 (dk_at dksX0_furthestBy_0 23 rfl rfl)
theorem dX0_furthestBy_24 : decode cX0_furthestBy 24 = .ok (.invokestatic 303, 3) := dk_184 1 47 (dk_at dksX0_furthestBy_1 0 rfl rfl)
theorem dX0_furthestBy_27 : decode cX0_furthestBy 27 = .ok (.goto 15, 3) := dk_167 0 15 (dk_at dksX0_furthestBy_1 3 rfl rfl)
theorem dX0_furthestBy_30 : decode cX0_furthestBy 30 = .ok (.aload_n 0, 1) := dk_42 (dk_at dksX0_furthestBy_1 6 rfl rfl)
theorem dX0_furthestBy_31 : decode cX0_furthestBy 31 = .ok (.getfield 49, 3) := dk_180 0 49 (dk_at dksX0_furthestBy_1 7 rfl rfl)
theorem dX0_furthestBy_34 : decode cX0_furthestBy 34 = .ok (.iload_n 3, 1) := dk_29 (dk_at dksX0_furthestBy_1 10 rfl rfl)
theorem dX0_furthestBy_35 : decode cX0_furthestBy 35 = .ok (.aaload, 1) := dk_50 (dk_at dksX0_furthestBy_1 11 rfl rfl)
theorem dX0_furthestBy_36 : decode cX0_furthestBy 36 = .ok (.iconst 0, 1) := dk_3 (dk_at dksX0_furthestBy_1 12 rfl rfl)
theorem dX0_furthestBy_37 : decode cX0_furthestBy 37 = .ok (.iaload, 1) := dk_46 (dk_at dksX0_furthestBy_1 13 rfl rfl)
theorem dX0_furthestBy_38 : decode cX0_furthestBy 38 = .ok (.iload_n 2, 1) := dk_28 (dk_at dksX0_furthestBy_1 14 rfl rfl)
theorem dX0_furthestBy_39 : decode cX0_furthestBy 39 = .ok (.invokestatic 217, 3) := dk_184 0 217 (dk_at dksX0_furthestBy_1 15 rfl rfl)
theorem dX0_furthestBy_42 : decode cX0_furthestBy 42 = .ok (.istore_n 2, 1) := dk_61 (dk_at dksX0_furthestBy_1 18 rfl rfl)
theorem dX0_furthestBy_43 : decode cX0_furthestBy 43 = .ok (.iinc 3 1, 3) := dk_132 3 1 (dk_at dksX0_furthestBy_1 19 rfl rfl)
theorem dX0_furthestBy_46 : decode cX0_furthestBy 46 = .ok (.goto (-41), 3) := dk_167 255 215 (dk_at dksX0_furthestBy_2 0 rfl rfl)
theorem dX0_furthestBy_49 : decode cX0_furthestBy 49 = .ok (.iload_n 2, 1) := dk_28 (dk_at dksX0_furthestBy_2 3 rfl rfl)
theorem dX0_furthestBy_50 : decode cX0_furthestBy 50 = .ok (.ireturn, 1) := dk_172 (dk_at dksX0_furthestBy_2 4 rfl rfl)
abbrev cX0_done : ByteArray := prog_1_method_40_code
def yX0_done : MethodName := ⟨RX0, "done", "(I)I"⟩
def dkwX0_done_0 : List UInt8 := [42, 182, 1, 38, 42, 27, 182, 0, 132, 153, 0, 12, 42, 180, 0, 44, 27, 46, 167, 0, 5, 16, 254, 172]
abbrev dktX0_done_0 : List UInt8 := dkwX0_done_0 ++ []
theorem dksX0_done_0 : cX0_done.data.toList.drop 0 = dktX0_done_0 := by decide +kernel
theorem dX0_done_0 : decode cX0_done 0 = .ok (.aload_n 0, 1) := dk_42 (dk_at dksX0_done_0 0 rfl rfl)
theorem dX0_done_1 : decode cX0_done 1 = .ok (.invokevirtual 294, 3) := dk_182 1 38 (dk_at dksX0_done_0 1 rfl rfl)
theorem dX0_done_4 : decode cX0_done 4 = .ok (.aload_n 0, 1) := dk_42 (dk_at dksX0_done_0 4 rfl rfl)
theorem dX0_done_5 : decode cX0_done 5 = .ok (.iload_n 1, 1) := dk_27 (dk_at dksX0_done_0 5 rfl rfl)
theorem dX0_done_6 : decode cX0_done 6 = .ok (.invokevirtual 132, 3) := dk_182 0 132 (dk_at dksX0_done_0 6 rfl rfl)
theorem dX0_done_9 : decode cX0_done 9 = .ok (.ifCond .eq 12, 3) := dk_153 0 12 (dk_at dksX0_done_0 9 rfl rfl)
theorem dX0_done_12 : decode cX0_done 12 = .ok (.aload_n 0, 1) := dk_42 (dk_at dksX0_done_0 12 rfl rfl)
theorem dX0_done_13 : decode cX0_done 13 = .ok (.getfield 44, 3) := dk_180 0 44 (dk_at dksX0_done_0 13 rfl rfl)
theorem dX0_done_16 : decode cX0_done 16 = .ok (.iload_n 1, 1) := dk_27 (dk_at dksX0_done_0 16 rfl rfl)
theorem dX0_done_17 : decode cX0_done 17 = .ok (.iaload, 1) := dk_46 (dk_at dksX0_done_0 17 rfl rfl)
theorem dX0_done_18 : decode cX0_done 18 = .ok (.goto 5, 3) := dk_167 0 5 (dk_at dksX0_done_0 18 rfl rfl)
theorem dX0_done_21 : decode cX0_done 21 = .ok (.bipush (-2), 2) := dk_16 254 (dk_at dksX0_done_0 21 rfl rfl)
theorem dX0_done_23 : decode cX0_done 23 = .ok (.ireturn, 1) := dk_172 (dk_at dksX0_done_0 23 rfl rfl)
abbrev cX0_spent : ByteArray := prog_1_method_42_code
def yX0_spent : MethodName := ⟨RX0, "spent", "()I"⟩
def dkwX0_spent_0 : List UInt8 := [42, 182, 1, 38, 42, 182, 1, 53, 172]
abbrev dktX0_spent_0 : List UInt8 := dkwX0_spent_0 ++ []
theorem dksX0_spent_0 : cX0_spent.data.toList.drop 0 = dktX0_spent_0 := by decide +kernel
theorem dX0_spent_0 : decode cX0_spent 0 = .ok (.aload_n 0, 1) := dk_42 (dk_at dksX0_spent_0 0 rfl rfl)
theorem dX0_spent_1 : decode cX0_spent 1 = .ok (.invokevirtual 294, 3) := dk_182 1 38 (dk_at dksX0_spent_0 1 rfl rfl)
theorem dX0_spent_4 : decode cX0_spent 4 = .ok (.aload_n 0, 1) := dk_42 (dk_at dksX0_spent_0 4 rfl rfl)
theorem dX0_spent_5 : decode cX0_spent 5 = .ok (.invokevirtual 309, 3) := dk_182 1 53 (dk_at dksX0_spent_0 5 rfl rfl)
theorem dX0_spent_8 : decode cX0_spent 8 = .ok (.ireturn, 1) := dk_172 (dk_at dksX0_spent_0 8 rfl rfl)
abbrev cX0_spentNow : ByteArray := prog_1_method_41_code
def yX0_spentNow : MethodName := ⟨RX0, "spentNow", "()I"⟩
def dkwX0_spentNow_1 : List UInt8 := [46, 154, 0, 9, 4, 28, 120, 167, 0, 4, 3, 128, 60, 132, 2, 1, 167, 255, 220, 27, 172]
abbrev dktX0_spentNow_1 : List UInt8 := dkwX0_spentNow_1 ++ []
def dkwX0_spentNow_0 : List UInt8 := [3, 60, 3, 61, 28, 16, 16, 162, 0, 36, 27, 42, 28, 182, 0, 132, 153, 0, 18, 42, 180, 0, 40, 28]
abbrev dktX0_spentNow_0 : List UInt8 := dkwX0_spentNow_0 ++ dktX0_spentNow_1
theorem dksX0_spentNow_0 : cX0_spentNow.data.toList.drop 0 = dktX0_spentNow_0 := by decide +kernel
theorem dksX0_spentNow_1 : cX0_spentNow.data.toList.drop 24 = dktX0_spentNow_1 := dk_seg dksX0_spentNow_0 24 rfl rfl
theorem dX0_spentNow_0 : decode cX0_spentNow 0 = .ok (.iconst 0, 1) := dk_3 (dk_at dksX0_spentNow_0 0 rfl rfl)
theorem dX0_spentNow_1 : decode cX0_spentNow 1 = .ok (.istore_n 1, 1) := dk_60 (dk_at dksX0_spentNow_0 1 rfl rfl)
theorem dX0_spentNow_2 : decode cX0_spentNow 2 = .ok (.iconst 0, 1) := dk_3 (dk_at dksX0_spentNow_0 2 rfl rfl)
theorem dX0_spentNow_3 : decode cX0_spentNow 3 = .ok (.istore_n 2, 1) := dk_61 (dk_at dksX0_spentNow_0 3 rfl rfl)
theorem dX0_spentNow_4 : decode cX0_spentNow 4 = .ok (.iload_n 2, 1) := dk_28 (dk_at dksX0_spentNow_0 4 rfl rfl)
theorem dX0_spentNow_5 : decode cX0_spentNow 5 = .ok (.bipush 16, 2) := dk_16 16 (dk_at dksX0_spentNow_0 5 rfl rfl)
theorem dX0_spentNow_7 : decode cX0_spentNow 7 = .ok (.if_icmp .ge 36, 3) := dk_162 0 36 (dk_at dksX0_spentNow_0 7 rfl rfl)
theorem dX0_spentNow_10 : decode cX0_spentNow 10 = .ok (.iload_n 1, 1) := dk_27 (dk_at dksX0_spentNow_0 10 rfl rfl)
theorem dX0_spentNow_11 : decode cX0_spentNow 11 = .ok (.aload_n 0, 1) := dk_42 (dk_at dksX0_spentNow_0 11 rfl rfl)
theorem dX0_spentNow_12 : decode cX0_spentNow 12 = .ok (.iload_n 2, 1) := dk_28 (dk_at dksX0_spentNow_0 12 rfl rfl)
theorem dX0_spentNow_13 : decode cX0_spentNow 13 = .ok (.invokevirtual 132, 3) := dk_182 0 132 (dk_at dksX0_spentNow_0 13 rfl rfl)
theorem dX0_spentNow_16 : decode cX0_spentNow 16 = .ok (.ifCond .eq 18, 3) := dk_153 0 18 (dk_at dksX0_spentNow_0 16 rfl rfl)
theorem dX0_spentNow_19 : decode cX0_spentNow 19 = .ok (.aload_n 0, 1) := dk_42 (dk_at dksX0_spentNow_0 19 rfl rfl)
theorem dX0_spentNow_20 : decode cX0_spentNow 20 = .ok (.getfield 40, 3) := dk_180 0 40 (dk_at dksX0_spentNow_0 20 rfl rfl)
theorem dX0_spentNow_23 : decode cX0_spentNow 23 = .ok (.iload_n 2, 1) := dk_28 (dk_at dksX0_spentNow_0 23 rfl rfl)
theorem dX0_spentNow_24 : decode cX0_spentNow 24 = .ok (.iaload, 1) := dk_46 (dk_at dksX0_spentNow_1 0 rfl rfl)
theorem dX0_spentNow_25 : decode cX0_spentNow 25 = .ok (.ifCond .ne 9, 3) := dk_154 0 9 (dk_at dksX0_spentNow_1 1 rfl rfl)
theorem dX0_spentNow_28 : decode cX0_spentNow 28 = .ok (.iconst 1, 1) := dk_4 (dk_at dksX0_spentNow_1 4 rfl rfl)
theorem dX0_spentNow_29 : decode cX0_spentNow 29 = .ok (.iload_n 2, 1) := dk_28 (dk_at dksX0_spentNow_1 5 rfl rfl)
theorem dX0_spentNow_30 : decode cX0_spentNow 30 = .ok (.ishl, 1) := dk_120 (dk_at dksX0_spentNow_1 6 rfl rfl)
theorem dX0_spentNow_31 : decode cX0_spentNow 31 = .ok (.goto 4, 3) := dk_167 0 4 (dk_at dksX0_spentNow_1 7 rfl rfl)
theorem dX0_spentNow_34 : decode cX0_spentNow 34 = .ok (.iconst 0, 1) := dk_3 (dk_at dksX0_spentNow_1 10 rfl rfl)
theorem dX0_spentNow_35 : decode cX0_spentNow 35 = .ok (.ior, 1) := dk_128 (dk_at dksX0_spentNow_1 11 rfl rfl)
theorem dX0_spentNow_36 : decode cX0_spentNow 36 = .ok (.istore_n 1, 1) := dk_60 (dk_at dksX0_spentNow_1 12 rfl rfl)
theorem dX0_spentNow_37 : decode cX0_spentNow 37 = .ok (.iinc 2 1, 3) := dk_132 2 1 (dk_at dksX0_spentNow_1 13 rfl rfl)
theorem dX0_spentNow_40 : decode cX0_spentNow 40 = .ok (.goto (-36), 3) := dk_167 255 220 (dk_at dksX0_spentNow_1 16 rfl rfl)
theorem dX0_spentNow_43 : decode cX0_spentNow 43 = .ok (.iload_n 1, 1) := dk_27 (dk_at dksX0_spentNow_1 19 rfl rfl)
theorem dX0_spentNow_44 : decode cX0_spentNow 44 = .ok (.ireturn, 1) := dk_172 (dk_at dksX0_spentNow_1 20 rfl rfl)
abbrev cX0_best : ByteArray := prog_1_method_44_code
def yX0_best : MethodName := ⟨RX0, "best", "()I"⟩
def dkwX0_best_0 : List UInt8 := [42, 182, 1, 38, 42, 182, 1, 56, 172]
abbrev dktX0_best_0 : List UInt8 := dkwX0_best_0 ++ []
theorem dksX0_best_0 : cX0_best.data.toList.drop 0 = dktX0_best_0 := by decide +kernel
theorem dX0_best_0 : decode cX0_best 0 = .ok (.aload_n 0, 1) := dk_42 (dk_at dksX0_best_0 0 rfl rfl)
theorem dX0_best_1 : decode cX0_best 1 = .ok (.invokevirtual 294, 3) := dk_182 1 38 (dk_at dksX0_best_0 1 rfl rfl)
theorem dX0_best_4 : decode cX0_best 4 = .ok (.aload_n 0, 1) := dk_42 (dk_at dksX0_best_0 4 rfl rfl)
theorem dX0_best_5 : decode cX0_best 5 = .ok (.invokevirtual 312, 3) := dk_182 1 56 (dk_at dksX0_best_0 5 rfl rfl)
theorem dX0_best_8 : decode cX0_best 8 = .ok (.ireturn, 1) := dk_172 (dk_at dksX0_best_0 8 rfl rfl)
abbrev cX0_bestNow : ByteArray := prog_1_method_43_code
def yX0_bestNow : MethodName := ⟨RX0, "bestNow", "()I"⟩
def dkwX0_bestNow_2 : List UInt8 := [167, 255, 213, 27, 172]
abbrev dktX0_bestNow_2 : List UInt8 := dkwX0_bestNow_2 ++ []
def dkwX0_bestNow_1 : List UInt8 := [27, 2, 160, 0, 7, 3, 167, 0, 9, 42, 180, 0, 44, 27, 46, 164, 0, 5, 28, 60, 132, 2, 1]
abbrev dktX0_bestNow_1 : List UInt8 := dkwX0_bestNow_1 ++ dktX0_bestNow_2
def dkwX0_bestNow_0 : List UInt8 := [2, 60, 3, 61, 28, 16, 16, 162, 0, 43, 42, 28, 182, 0, 132, 153, 0, 29, 42, 180, 0, 44, 28, 46]
abbrev dktX0_bestNow_0 : List UInt8 := dkwX0_bestNow_0 ++ dktX0_bestNow_1
theorem dksX0_bestNow_0 : cX0_bestNow.data.toList.drop 0 = dktX0_bestNow_0 := by decide +kernel
theorem dksX0_bestNow_1 : cX0_bestNow.data.toList.drop 24 = dktX0_bestNow_1 := dk_seg dksX0_bestNow_0 24 rfl rfl
theorem dksX0_bestNow_2 : cX0_bestNow.data.toList.drop 47 = dktX0_bestNow_2 := dk_seg dksX0_bestNow_1 23 rfl rfl
theorem dX0_bestNow_0 : decode cX0_bestNow 0 = .ok (.iconst (-1), 1) := dk_2 (dk_at dksX0_bestNow_0 0 rfl rfl)
theorem dX0_bestNow_1 : decode cX0_bestNow 1 = .ok (.istore_n 1, 1) := dk_60 (dk_at dksX0_bestNow_0 1 rfl rfl)
theorem dX0_bestNow_2 : decode cX0_bestNow 2 = .ok (.iconst 0, 1) := dk_3 (dk_at dksX0_bestNow_0 2 rfl rfl)
theorem dX0_bestNow_3 : decode cX0_bestNow 3 = .ok (.istore_n 2, 1) := dk_61 (dk_at dksX0_bestNow_0 3 rfl rfl)
theorem dX0_bestNow_4 : decode cX0_bestNow 4 = .ok (.iload_n 2, 1) := dk_28 (dk_at dksX0_bestNow_0 4 rfl rfl)
theorem dX0_bestNow_5 : decode cX0_bestNow 5 = .ok (.bipush 16, 2) := dk_16 16 (dk_at dksX0_bestNow_0 5 rfl rfl)
theorem dX0_bestNow_7 : decode cX0_bestNow 7 = .ok (.if_icmp .ge 43, 3) := dk_162 0 43 (dk_at dksX0_bestNow_0 7 rfl rfl)
theorem dX0_bestNow_10 : decode cX0_bestNow 10 = .ok (.aload_n 0, 1) := dk_42 (dk_at dksX0_bestNow_0 10 rfl rfl)
theorem dX0_bestNow_11 : decode cX0_bestNow 11 = .ok (.iload_n 2, 1) := dk_28 (dk_at dksX0_bestNow_0 11 rfl rfl)
theorem dX0_bestNow_12 : decode cX0_bestNow 12 = .ok (.invokevirtual 132, 3) := dk_182 0 132 (dk_at dksX0_bestNow_0 12 rfl rfl)
theorem dX0_bestNow_15 : decode cX0_bestNow 15 = .ok (.ifCond .eq 29, 3) := dk_153 0 29 (dk_at dksX0_bestNow_0 15 rfl rfl)
theorem dX0_bestNow_18 : decode cX0_bestNow 18 = .ok (.aload_n 0, 1) := dk_42 (dk_at dksX0_bestNow_0 18 rfl rfl)
theorem dX0_bestNow_19 : decode cX0_bestNow 19 = .ok (.getfield 44, 3) := dk_180 0 44 (dk_at dksX0_bestNow_0 19 rfl rfl)
theorem dX0_bestNow_22 : decode cX0_bestNow 22 = .ok (.iload_n 2, 1) := dk_28 (dk_at dksX0_bestNow_0 22 rfl rfl)
theorem dX0_bestNow_23 : decode cX0_bestNow 23 = .ok (.iaload, 1) := dk_46 (dk_at dksX0_bestNow_0 23 rfl rfl)
theorem dX0_bestNow_24 : decode cX0_bestNow 24 = .ok (.iload_n 1, 1) := dk_27 (dk_at dksX0_bestNow_1 0 rfl rfl)
theorem dX0_bestNow_25 : decode cX0_bestNow 25 = .ok (.iconst (-1), 1) := dk_2 (dk_at dksX0_bestNow_1 1 rfl rfl)
theorem dX0_bestNow_26 : decode cX0_bestNow 26 = .ok (.if_icmp .ne 7, 3) := dk_160 0 7 (dk_at dksX0_bestNow_1 2 rfl rfl)
theorem dX0_bestNow_29 : decode cX0_bestNow 29 = .ok (.iconst 0, 1) := dk_3 (dk_at dksX0_bestNow_1 5 rfl rfl)
theorem dX0_bestNow_30 : decode cX0_bestNow 30 = .ok (.goto 9, 3) := dk_167 0 9 (dk_at dksX0_bestNow_1 6 rfl rfl)
theorem dX0_bestNow_33 : decode cX0_bestNow 33 = .ok (.aload_n 0, 1) := dk_42 (dk_at dksX0_bestNow_1 9 rfl rfl)
theorem dX0_bestNow_34 : decode cX0_bestNow 34 = .ok (.getfield 44, 3) := dk_180 0 44 (dk_at dksX0_bestNow_1 10 rfl rfl)
theorem dX0_bestNow_37 : decode cX0_bestNow 37 = .ok (.iload_n 1, 1) := dk_27 (dk_at dksX0_bestNow_1 13 rfl rfl)
theorem dX0_bestNow_38 : decode cX0_bestNow 38 = .ok (.iaload, 1) := dk_46 (dk_at dksX0_bestNow_1 14 rfl rfl)
theorem dX0_bestNow_39 : decode cX0_bestNow 39 = .ok (.if_icmp .le 5, 3) := dk_164 0 5 (dk_at dksX0_bestNow_1 15 rfl rfl)
theorem dX0_bestNow_42 : decode cX0_bestNow 42 = .ok (.iload_n 2, 1) := dk_28 (dk_at dksX0_bestNow_1 18 rfl rfl)
theorem dX0_bestNow_43 : decode cX0_bestNow 43 = .ok (.istore_n 1, 1) := dk_60 (dk_at dksX0_bestNow_1 19 rfl rfl)
theorem dX0_bestNow_44 : decode cX0_bestNow 44 = .ok (.iinc 2 1, 3) := dk_132 2 1 (dk_at dksX0_bestNow_1 20 rfl rfl)
theorem dX0_bestNow_47 : decode cX0_bestNow 47 = .ok (.goto (-43), 3) := dk_167 255 213 (dk_at dksX0_bestNow_2 0 rfl rfl)
theorem dX0_bestNow_50 : decode cX0_bestNow 50 = .ok (.iload_n 1, 1) := dk_27 (dk_at dksX0_bestNow_2 3 rfl rfl)
theorem dX0_bestNow_51 : decode cX0_bestNow 51 = .ok (.ireturn, 1) := dk_172 (dk_at dksX0_bestNow_2 4 rfl rfl)
abbrev cX0_level : ByteArray := prog_1_method_45_code
def yX0_level : MethodName := ⟨RX0, "level", "()I"⟩
def dkwX0_level_0 : List UInt8 := [42, 182, 1, 38, 42, 180, 1, 4, 172]
abbrev dktX0_level_0 : List UInt8 := dkwX0_level_0 ++ []
theorem dksX0_level_0 : cX0_level.data.toList.drop 0 = dktX0_level_0 := by decide +kernel
theorem dX0_level_0 : decode cX0_level 0 = .ok (.aload_n 0, 1) := dk_42 (dk_at dksX0_level_0 0 rfl rfl)
theorem dX0_level_1 : decode cX0_level 1 = .ok (.invokevirtual 294, 3) := dk_182 1 38 (dk_at dksX0_level_0 1 rfl rfl)
theorem dX0_level_4 : decode cX0_level 4 = .ok (.aload_n 0, 1) := dk_42 (dk_at dksX0_level_0 4 rfl rfl)
theorem dX0_level_5 : decode cX0_level 5 = .ok (.getfield 260, 3) := dk_180 1 4 (dk_at dksX0_level_0 5 rfl rfl)
theorem dX0_level_8 : decode cX0_level 8 = .ok (.ireturn, 1) := dk_172 (dk_at dksX0_level_0 8 rfl rfl)
abbrev cX0_better : ByteArray := prog_1_method_49_code
def yX0_better : MethodName := ⟨RX0, "better", "(III)I"⟩
def dkwX0_better_1 : List UInt8 := [29, 182, 1, 65, 167, 0, 5, 16, 254, 172]
abbrev dktX0_better_1 : List UInt8 := dkwX0_better_1 ++ []
def dkwX0_better_0 : List UInt8 := [27, 184, 0, 147, 153, 0, 27, 28, 184, 0, 150, 153, 0, 20, 29, 184, 0, 147, 153, 0, 13, 42, 27, 28]
abbrev dktX0_better_0 : List UInt8 := dkwX0_better_0 ++ dktX0_better_1
theorem dksX0_better_0 : cX0_better.data.toList.drop 0 = dktX0_better_0 := by decide +kernel
theorem dksX0_better_1 : cX0_better.data.toList.drop 24 = dktX0_better_1 := dk_seg dksX0_better_0 24 rfl rfl
theorem dX0_better_0 : decode cX0_better 0 = .ok (.iload_n 1, 1) := dk_27 (dk_at dksX0_better_0 0 rfl rfl)
theorem dX0_better_1 : decode cX0_better 1 = .ok (.invokestatic 147, 3) := dk_184 0 147 (dk_at dksX0_better_0 1 rfl rfl)
theorem dX0_better_4 : decode cX0_better 4 = .ok (.ifCond .eq 27, 3) := dk_153 0 27 (dk_at dksX0_better_0 4 rfl rfl)
theorem dX0_better_7 : decode cX0_better 7 = .ok (.iload_n 2, 1) := dk_28 (dk_at dksX0_better_0 7 rfl rfl)
theorem dX0_better_8 : decode cX0_better 8 = .ok (.invokestatic 150, 3) := dk_184 0 150 (dk_at dksX0_better_0 8 rfl rfl)
theorem dX0_better_11 : decode cX0_better 11 = .ok (.ifCond .eq 20, 3) := dk_153 0 20 (dk_at dksX0_better_0 11 rfl rfl)
theorem dX0_better_14 : decode cX0_better 14 = .ok (.iload_n 3, 1) := dk_29 (dk_at dksX0_better_0 14 rfl rfl)
theorem dX0_better_15 : decode cX0_better 15 = .ok (.invokestatic 147, 3) := dk_184 0 147 (dk_at dksX0_better_0 15 rfl rfl)
theorem dX0_better_18 : decode cX0_better 18 = .ok (.ifCond .eq 13, 3) := dk_153 0 13 (dk_at dksX0_better_0 18 rfl rfl)
theorem dX0_better_21 : decode cX0_better 21 = .ok (.aload_n 0, 1) := dk_42 (dk_at dksX0_better_0 21 rfl rfl)
theorem dX0_better_22 : decode cX0_better 22 = .ok (.iload_n 1, 1) := dk_27 (dk_at dksX0_better_0 22 rfl rfl)
theorem dX0_better_23 : decode cX0_better 23 = .ok (.iload_n 2, 1) := dk_28 (dk_at dksX0_better_0 23 rfl rfl)
theorem dX0_better_24 : decode cX0_better 24 = .ok (.iload_n 3, 1) := dk_29 (dk_at dksX0_better_1 0 rfl rfl)
theorem dX0_better_25 : decode cX0_better 25 = .ok (.invokevirtual 321, 3) := dk_182 1 65 (dk_at dksX0_better_1 1 rfl rfl)
theorem dX0_better_28 : decode cX0_better 28 = .ok (.goto 5, 3) := dk_167 0 5 (dk_at dksX0_better_1 4 rfl rfl)
theorem dX0_better_31 : decode cX0_better 31 = .ok (.bipush (-2), 2) := dk_16 254 (dk_at dksX0_better_1 7 rfl rfl)
theorem dX0_better_33 : decode cX0_better 33 = .ok (.ireturn, 1) := dk_172 (dk_at dksX0_better_1 9 rfl rfl)
abbrev cX0_betterOf : ByteArray := prog_1_method_48_code
def yX0_betterOf : MethodName := ⟨RX0, "betterOf", "(III)I"⟩
def dkwX0_betterOf_4 : List UInt8 := [79, 25, 8, 191, 29, 154, 0, 8, 21, 6, 167, 0, 9, 27, 21, 7, 184, 1, 62, 172]
abbrev dktX0_betterOf_4 : List UInt8 := dkwX0_betterOf_4 ++ []
def dkwX0_betterOf_3 : List UInt8 := [92, 46, 4, 96, 79, 167, 255, 210, 25, 5, 28, 21, 4, 79, 167, 0, 14, 58, 8, 25, 5, 28, 21, 4]
abbrev dktX0_betterOf_3 : List UInt8 := dkwX0_betterOf_3 ++ dktX0_betterOf_4
def dkwX0_betterOf_2 : List UInt8 := [21, 7, 163, 0, 6, 167, 0, 16, 25, 5, 28, 46, 54, 6, 42, 27, 182, 1, 59, 54, 7, 25, 5, 28]
abbrev dktX0_betterOf_2 : List UInt8 := dkwX0_betterOf_2 ++ dktX0_betterOf_3
def dkwX0_betterOf_1 : List UInt8 := [54, 7, 25, 5, 28, 3, 79, 25, 5, 28, 46, 6, 162, 0, 44, 42, 182, 1, 38, 42, 27, 182, 1, 59]
abbrev dktX0_betterOf_1 : List UInt8 := dkwX0_betterOf_1 ++ dktX0_betterOf_2
def dkwX0_betterOf_0 : List UInt8 := [42, 27, 28, 182, 0, 153, 54, 4, 42, 180, 0, 23, 27, 50, 180, 0, 145, 58, 5, 2, 54, 6, 2]
abbrev dktX0_betterOf_0 : List UInt8 := dkwX0_betterOf_0 ++ dktX0_betterOf_1
theorem dksX0_betterOf_0 : cX0_betterOf.data.toList.drop 0 = dktX0_betterOf_0 := by decide +kernel
theorem dksX0_betterOf_1 : cX0_betterOf.data.toList.drop 23 = dktX0_betterOf_1 := dk_seg dksX0_betterOf_0 23 rfl rfl
theorem dksX0_betterOf_2 : cX0_betterOf.data.toList.drop 47 = dktX0_betterOf_2 := dk_seg dksX0_betterOf_1 24 rfl rfl
theorem dksX0_betterOf_3 : cX0_betterOf.data.toList.drop 71 = dktX0_betterOf_3 := dk_seg dksX0_betterOf_2 24 rfl rfl
theorem dksX0_betterOf_4 : cX0_betterOf.data.toList.drop 95 = dktX0_betterOf_4 := dk_seg dksX0_betterOf_3 24 rfl rfl
theorem dX0_betterOf_0 : decode cX0_betterOf 0 = .ok (.aload_n 0, 1) := dk_42 (dk_at dksX0_betterOf_0 0 rfl rfl)
theorem dX0_betterOf_1 : decode cX0_betterOf 1 = .ok (.iload_n 1, 1) := dk_27 (dk_at dksX0_betterOf_0 1 rfl rfl)
theorem dX0_betterOf_2 : decode cX0_betterOf 2 = .ok (.iload_n 2, 1) := dk_28 (dk_at dksX0_betterOf_0 2 rfl rfl)
theorem dX0_betterOf_3 : decode cX0_betterOf 3 = .ok (.invokevirtual 153, 3) := dk_182 0 153 (dk_at dksX0_betterOf_0 3 rfl rfl)
theorem dX0_betterOf_6 : decode cX0_betterOf 6 = .ok (.istore 4, 2) := dk_54 4 (dk_at dksX0_betterOf_0 6 rfl rfl)
theorem dX0_betterOf_8 : decode cX0_betterOf 8 = .ok (.aload_n 0, 1) := dk_42 (dk_at dksX0_betterOf_0 8 rfl rfl)
theorem dX0_betterOf_9 : decode cX0_betterOf 9 = .ok (.getfield 23, 3) := dk_180 0 23 (dk_at dksX0_betterOf_0 9 rfl rfl)
theorem dX0_betterOf_12 : decode cX0_betterOf 12 = .ok (.iload_n 1, 1) := dk_27 (dk_at dksX0_betterOf_0 12 rfl rfl)
theorem dX0_betterOf_13 : decode cX0_betterOf 13 = .ok (.aaload, 1) := dk_50 (dk_at dksX0_betterOf_0 13 rfl rfl)
theorem dX0_betterOf_14 : decode cX0_betterOf 14 = .ok (.getfield 145, 3) := dk_180 0 145 (dk_at dksX0_betterOf_0 14 rfl rfl)
theorem dX0_betterOf_17 : decode cX0_betterOf 17 = .ok (.astore 5, 2) := dk_58 5 (dk_at dksX0_betterOf_0 17 rfl rfl)
theorem dX0_betterOf_19 : decode cX0_betterOf 19 = .ok (.iconst (-1), 1) := dk_2 (dk_at dksX0_betterOf_0 19 rfl rfl)
theorem dX0_betterOf_20 : decode cX0_betterOf 20 = .ok (.istore 6, 2) := dk_54 6 (dk_at dksX0_betterOf_0 20 rfl rfl)
theorem dX0_betterOf_22 : decode cX0_betterOf 22 = .ok (.iconst (-1), 1) := dk_2 (dk_at dksX0_betterOf_0 22 rfl rfl)
theorem dX0_betterOf_23 : decode cX0_betterOf 23 = .ok (.istore 7, 2) := dk_54 7 (dk_at dksX0_betterOf_1 0 rfl rfl)
theorem dX0_betterOf_25 : decode cX0_betterOf 25 = .ok (.aload 5, 2) := dk_25 5 (dk_at dksX0_betterOf_1 2 rfl rfl)
theorem dX0_betterOf_27 : decode cX0_betterOf 27 = .ok (.iload_n 2, 1) := dk_28 (dk_at dksX0_betterOf_1 4 rfl rfl)
theorem dX0_betterOf_28 : decode cX0_betterOf 28 = .ok (.iconst 0, 1) := dk_3 (dk_at dksX0_betterOf_1 5 rfl rfl)
theorem dX0_betterOf_29 : decode cX0_betterOf 29 = .ok (.iastore, 1) := dk_79 (dk_at dksX0_betterOf_1 6 rfl rfl)
theorem dX0_betterOf_30 : decode cX0_betterOf 30 = .ok (.aload 5, 2) := dk_25 5 (dk_at dksX0_betterOf_1 7 rfl rfl)
theorem dX0_betterOf_32 : decode cX0_betterOf 32 = .ok (.iload_n 2, 1) := dk_28 (dk_at dksX0_betterOf_1 9 rfl rfl)
theorem dX0_betterOf_33 : decode cX0_betterOf 33 = .ok (.iaload, 1) := dk_46 (dk_at dksX0_betterOf_1 10 rfl rfl)
theorem dX0_betterOf_34 : decode cX0_betterOf 34 = .ok (.iconst 3, 1) := dk_6 (dk_at dksX0_betterOf_1 11 rfl rfl)
theorem dX0_betterOf_35 : decode cX0_betterOf 35 = .ok (.if_icmp .ge 44, 3) := dk_162 0 44 (dk_at dksX0_betterOf_1 12 rfl rfl)
theorem dX0_betterOf_38 : decode cX0_betterOf 38 = .ok (.aload_n 0, 1) := dk_42 (dk_at dksX0_betterOf_1 15 rfl rfl)
theorem dX0_betterOf_39 : decode cX0_betterOf 39 = .ok (.invokevirtual 294, 3) := dk_182 1 38 (dk_at dksX0_betterOf_1 16 rfl rfl)
theorem dX0_betterOf_42 : decode cX0_betterOf 42 = .ok (.aload_n 0, 1) := dk_42 (dk_at dksX0_betterOf_1 19 rfl rfl)
theorem dX0_betterOf_43 : decode cX0_betterOf 43 = .ok (.iload_n 1, 1) := dk_27 (dk_at dksX0_betterOf_1 20 rfl rfl)
theorem dX0_betterOf_44 : decode cX0_betterOf 44 = .ok (.invokevirtual 315, 3) := dk_182 1 59 (dk_at dksX0_betterOf_1 21 rfl rfl)
theorem dX0_betterOf_47 : decode cX0_betterOf 47 = .ok (.iload 7, 2) := dk_21 7 (dk_at dksX0_betterOf_2 0 rfl rfl)
theorem dX0_betterOf_49 : decode cX0_betterOf 49 = .ok (.if_icmp .gt 6, 3) := dk_163 0 6 (dk_at dksX0_betterOf_2 2 rfl rfl)
theorem dX0_betterOf_52 : decode cX0_betterOf 52 = .ok (.goto 16, 3) := dk_167 0 16 (dk_at dksX0_betterOf_2 5 rfl rfl)
theorem dX0_betterOf_55 : decode cX0_betterOf 55 = .ok (.aload 5, 2) := dk_25 5 (dk_at dksX0_betterOf_2 8 rfl rfl)
theorem dX0_betterOf_57 : decode cX0_betterOf 57 = .ok (.iload_n 2, 1) := dk_28 (dk_at dksX0_betterOf_2 10 rfl rfl)
theorem dX0_betterOf_58 : decode cX0_betterOf 58 = .ok (.iaload, 1) := dk_46 (dk_at dksX0_betterOf_2 11 rfl rfl)
theorem dX0_betterOf_59 : decode cX0_betterOf 59 = .ok (.istore 6, 2) := dk_54 6 (dk_at dksX0_betterOf_2 12 rfl rfl)
theorem dX0_betterOf_61 : decode cX0_betterOf 61 = .ok (.aload_n 0, 1) := dk_42 (dk_at dksX0_betterOf_2 14 rfl rfl)
theorem dX0_betterOf_62 : decode cX0_betterOf 62 = .ok (.iload_n 1, 1) := dk_27 (dk_at dksX0_betterOf_2 15 rfl rfl)
theorem dX0_betterOf_63 : decode cX0_betterOf 63 = .ok (.invokevirtual 315, 3) := dk_182 1 59 (dk_at dksX0_betterOf_2 16 rfl rfl)
theorem dX0_betterOf_66 : decode cX0_betterOf 66 = .ok (.istore 7, 2) := dk_54 7 (dk_at dksX0_betterOf_2 19 rfl rfl)
theorem dX0_betterOf_68 : decode cX0_betterOf 68 = .ok (.aload 5, 2) := dk_25 5 (dk_at dksX0_betterOf_2 21 rfl rfl)
theorem dX0_betterOf_70 : decode cX0_betterOf 70 = .ok (.iload_n 2, 1) := dk_28 (dk_at dksX0_betterOf_2 23 rfl rfl)
theorem dX0_betterOf_71 : decode cX0_betterOf 71 = .ok (.dup2, 1) := dk_92 (dk_at dksX0_betterOf_3 0 rfl rfl)
theorem dX0_betterOf_72 : decode cX0_betterOf 72 = .ok (.iaload, 1) := dk_46 (dk_at dksX0_betterOf_3 1 rfl rfl)
theorem dX0_betterOf_73 : decode cX0_betterOf 73 = .ok (.iconst 1, 1) := dk_4 (dk_at dksX0_betterOf_3 2 rfl rfl)
theorem dX0_betterOf_74 : decode cX0_betterOf 74 = .ok (.iadd, 1) := dk_96 (dk_at dksX0_betterOf_3 3 rfl rfl)
theorem dX0_betterOf_75 : decode cX0_betterOf 75 = .ok (.iastore, 1) := dk_79 (dk_at dksX0_betterOf_3 4 rfl rfl)
theorem dX0_betterOf_76 : decode cX0_betterOf 76 = .ok (.goto (-46), 3) := dk_167 255 210 (dk_at dksX0_betterOf_3 5 rfl rfl)
theorem dX0_betterOf_79 : decode cX0_betterOf 79 = .ok (.aload 5, 2) := dk_25 5 (dk_at dksX0_betterOf_3 8 rfl rfl)
theorem dX0_betterOf_81 : decode cX0_betterOf 81 = .ok (.iload_n 2, 1) := dk_28 (dk_at dksX0_betterOf_3 10 rfl rfl)
theorem dX0_betterOf_82 : decode cX0_betterOf 82 = .ok (.iload 4, 2) := dk_21 4 (dk_at dksX0_betterOf_3 11 rfl rfl)
theorem dX0_betterOf_84 : decode cX0_betterOf 84 = .ok (.iastore, 1) := dk_79 (dk_at dksX0_betterOf_3 13 rfl rfl)
theorem dX0_betterOf_85 : decode cX0_betterOf 85 = .ok (.goto 14, 3) := dk_167 0 14 (dk_at dksX0_betterOf_3 14 rfl rfl)
theorem dX0_betterOf_88 : decode cX0_betterOf 88 = .ok (.astore 8, 2) := dk_58 8 (dk_at dksX0_betterOf_3 17 rfl rfl)
theorem dX0_betterOf_90 : decode cX0_betterOf 90 = .ok (.aload 5, 2) := dk_25 5 (dk_at dksX0_betterOf_3 19 rfl rfl)
theorem dX0_betterOf_92 : decode cX0_betterOf 92 = .ok (.iload_n 2, 1) := dk_28 (dk_at dksX0_betterOf_3 21 rfl rfl)
theorem dX0_betterOf_93 : decode cX0_betterOf 93 = .ok (.iload 4, 2) := dk_21 4 (dk_at dksX0_betterOf_3 22 rfl rfl)
theorem dX0_betterOf_95 : decode cX0_betterOf 95 = .ok (.iastore, 1) := dk_79 (dk_at dksX0_betterOf_4 0 rfl rfl)
theorem dX0_betterOf_96 : decode cX0_betterOf 96 = .ok (.aload 8, 2) := dk_25 8 (dk_at dksX0_betterOf_4 1 rfl rfl)
theorem dX0_betterOf_98 : decode cX0_betterOf 98 = .ok (.athrow, 1) := dk_191 (dk_at dksX0_betterOf_4 3 rfl rfl)
theorem dX0_betterOf_99 : decode cX0_betterOf 99 = .ok (.iload_n 3, 1) := dk_29 (dk_at dksX0_betterOf_4 4 rfl rfl)
theorem dX0_betterOf_100 : decode cX0_betterOf 100 = .ok (.ifCond .ne 8, 3) := dk_154 0 8 (dk_at dksX0_betterOf_4 5 rfl rfl)
theorem dX0_betterOf_103 : decode cX0_betterOf 103 = .ok (.iload 6, 2) := dk_21 6 (dk_at dksX0_betterOf_4 8 rfl rfl)
theorem dX0_betterOf_105 : decode cX0_betterOf 105 = .ok (.goto 9, 3) := dk_167 0 9 (dk_at dksX0_betterOf_4 10 rfl rfl)
theorem dX0_betterOf_108 : decode cX0_betterOf 108 = .ok (.iload_n 1, 1) := dk_27 (dk_at dksX0_betterOf_4 13 rfl rfl)
theorem dX0_betterOf_109 : decode cX0_betterOf 109 = .ok (.iload 7, 2) := dk_21 7 (dk_at dksX0_betterOf_4 14 rfl rfl)
theorem dX0_betterOf_111 : decode cX0_betterOf 111 = .ok (.invokestatic 318, 3) := dk_184 1 62 (dk_at dksX0_betterOf_4 16 rfl rfl)
theorem dX0_betterOf_114 : decode cX0_betterOf 114 = .ok (.ireturn, 1) := dk_172 (dk_at dksX0_betterOf_4 19 rfl rfl)
abbrev cX0_far : ByteArray := prog_1_method_46_code
def yX0_far : MethodName := ⟨RX0, "far", "(I)I"⟩
def dkwX0_far_0 : List UInt8 := [27, 154, 0, 10, 42, 180, 0, 251, 167, 0, 10, 16, 24, 42, 180, 0, 251, 100, 172]
abbrev dktX0_far_0 : List UInt8 := dkwX0_far_0 ++ []
theorem dksX0_far_0 : cX0_far.data.toList.drop 0 = dktX0_far_0 := by decide +kernel
theorem dX0_far_0 : decode cX0_far 0 = .ok (.iload_n 1, 1) := dk_27 (dk_at dksX0_far_0 0 rfl rfl)
theorem dX0_far_1 : decode cX0_far 1 = .ok (.ifCond .ne 10, 3) := dk_154 0 10 (dk_at dksX0_far_0 1 rfl rfl)
theorem dX0_far_4 : decode cX0_far 4 = .ok (.aload_n 0, 1) := dk_42 (dk_at dksX0_far_0 4 rfl rfl)
theorem dX0_far_5 : decode cX0_far 5 = .ok (.getfield 251, 3) := dk_180 0 251 (dk_at dksX0_far_0 5 rfl rfl)
theorem dX0_far_8 : decode cX0_far 8 = .ok (.goto 10, 3) := dk_167 0 10 (dk_at dksX0_far_0 8 rfl rfl)
theorem dX0_far_11 : decode cX0_far 11 = .ok (.bipush 24, 2) := dk_16 24 (dk_at dksX0_far_0 11 rfl rfl)
theorem dX0_far_13 : decode cX0_far 13 = .ok (.aload_n 0, 1) := dk_42 (dk_at dksX0_far_0 13 rfl rfl)
theorem dX0_far_14 : decode cX0_far 14 = .ok (.getfield 251, 3) := dk_180 0 251 (dk_at dksX0_far_0 14 rfl rfl)
theorem dX0_far_17 : decode cX0_far 17 = .ok (.isub, 1) := dk_100 (dk_at dksX0_far_0 17 rfl rfl)
theorem dX0_far_18 : decode cX0_far 18 = .ok (.ireturn, 1) := dk_172 (dk_at dksX0_far_0 18 rfl rfl)
abbrev cX0_place : ByteArray := prog_1_method_47_code
def yX0_place : MethodName := ⟨RX0, "place", "(II)I"⟩
def dkwX0_place_0 : List UInt8 := [26, 154, 0, 7, 27, 167, 0, 7, 16, 24, 27, 100, 172]
abbrev dktX0_place_0 : List UInt8 := dkwX0_place_0 ++ []
theorem dksX0_place_0 : cX0_place.data.toList.drop 0 = dktX0_place_0 := by decide +kernel
theorem dX0_place_0 : decode cX0_place 0 = .ok (.iload_n 0, 1) := dk_26 (dk_at dksX0_place_0 0 rfl rfl)
theorem dX0_place_1 : decode cX0_place 1 = .ok (.ifCond .ne 7, 3) := dk_154 0 7 (dk_at dksX0_place_0 1 rfl rfl)
theorem dX0_place_4 : decode cX0_place 4 = .ok (.iload_n 1, 1) := dk_27 (dk_at dksX0_place_0 4 rfl rfl)
theorem dX0_place_5 : decode cX0_place 5 = .ok (.goto 7, 3) := dk_167 0 7 (dk_at dksX0_place_0 5 rfl rfl)
theorem dX0_place_8 : decode cX0_place 8 = .ok (.bipush 24, 2) := dk_16 24 (dk_at dksX0_place_0 8 rfl rfl)
theorem dX0_place_10 : decode cX0_place 10 = .ok (.iload_n 1, 1) := dk_27 (dk_at dksX0_place_0 10 rfl rfl)
theorem dX0_place_11 : decode cX0_place 11 = .ok (.isub, 1) := dk_100 (dk_at dksX0_place_0 11 rfl rfl)
theorem dX0_place_12 : decode cX0_place 12 = .ok (.ireturn, 1) := dk_172 (dk_at dksX0_place_0 12 rfl rfl)
abbrev cX0_swap : ByteArray := prog_1_method_51_code
def yX0_swap : MethodName := ⟨RX0, "swap", "(II)I"⟩
def dkwX0_swap_1 : List UInt8 := [182, 1, 68, 167, 0, 5, 16, 254, 172]
abbrev dktX0_swap_1 : List UInt8 := dkwX0_swap_1 ++ []
def dkwX0_swap_0 : List UInt8 := [27, 184, 0, 147, 153, 0, 24, 28, 133, 9, 20, 0, 135, 184, 0, 90, 153, 0, 12, 42, 27, 28]
abbrev dktX0_swap_0 : List UInt8 := dkwX0_swap_0 ++ dktX0_swap_1
theorem dksX0_swap_0 : cX0_swap.data.toList.drop 0 = dktX0_swap_0 := by decide +kernel
theorem dksX0_swap_1 : cX0_swap.data.toList.drop 22 = dktX0_swap_1 := dk_seg dksX0_swap_0 22 rfl rfl
theorem dX0_swap_0 : decode cX0_swap 0 = .ok (.iload_n 1, 1) := dk_27 (dk_at dksX0_swap_0 0 rfl rfl)
theorem dX0_swap_1 : decode cX0_swap 1 = .ok (.invokestatic 147, 3) := dk_184 0 147 (dk_at dksX0_swap_0 1 rfl rfl)
theorem dX0_swap_4 : decode cX0_swap 4 = .ok (.ifCond .eq 24, 3) := dk_153 0 24 (dk_at dksX0_swap_0 4 rfl rfl)
theorem dX0_swap_7 : decode cX0_swap 7 = .ok (.iload_n 2, 1) := dk_28 (dk_at dksX0_swap_0 7 rfl rfl)
theorem dX0_swap_8 : decode cX0_swap 8 = .ok (.i2l, 1) := dk_133 (dk_at dksX0_swap_0 8 rfl rfl)
theorem dX0_swap_9 : decode cX0_swap 9 = .ok (.lconst 0, 1) := dk_9 (dk_at dksX0_swap_0 9 rfl rfl)
theorem dX0_swap_10 : decode cX0_swap 10 = .ok (.ldc2_w 135, 3) := dk_20 0 135 (dk_at dksX0_swap_0 10 rfl rfl)
theorem dX0_swap_13 : decode cX0_swap 13 = .ok (.invokestatic 90, 3) := dk_184 0 90 (dk_at dksX0_swap_0 13 rfl rfl)
theorem dX0_swap_16 : decode cX0_swap 16 = .ok (.ifCond .eq 12, 3) := dk_153 0 12 (dk_at dksX0_swap_0 16 rfl rfl)
theorem dX0_swap_19 : decode cX0_swap 19 = .ok (.aload_n 0, 1) := dk_42 (dk_at dksX0_swap_0 19 rfl rfl)
theorem dX0_swap_20 : decode cX0_swap 20 = .ok (.iload_n 1, 1) := dk_27 (dk_at dksX0_swap_0 20 rfl rfl)
theorem dX0_swap_21 : decode cX0_swap 21 = .ok (.iload_n 2, 1) := dk_28 (dk_at dksX0_swap_0 21 rfl rfl)
theorem dX0_swap_22 : decode cX0_swap 22 = .ok (.invokevirtual 324, 3) := dk_182 1 68 (dk_at dksX0_swap_1 0 rfl rfl)
theorem dX0_swap_25 : decode cX0_swap 25 = .ok (.goto 5, 3) := dk_167 0 5 (dk_at dksX0_swap_1 3 rfl rfl)
theorem dX0_swap_28 : decode cX0_swap 28 = .ok (.bipush (-2), 2) := dk_16 254 (dk_at dksX0_swap_1 6 rfl rfl)
theorem dX0_swap_30 : decode cX0_swap 30 = .ok (.ireturn, 1) := dk_172 (dk_at dksX0_swap_1 8 rfl rfl)
abbrev cX0_swapOf : ByteArray := prog_1_method_50_code
def yX0_swapOf : MethodName := ⟨RX0, "swapOf", "(II)I"⟩
def dkwX0_swapOf_7 : List UInt8 := [184, 1, 62, 172]
abbrev dktX0_swapOf_7 : List UInt8 := dkwX0_swapOf_7 ++ []
def dkwX0_swapOf_6 : List UInt8 := [21, 4, 16, 16, 108, 167, 0, 22, 28, 4, 160, 0, 11, 21, 4, 16, 16, 112, 167, 0, 9, 27, 21, 5]
abbrev dktX0_swapOf_6 : List UInt8 := dkwX0_swapOf_6 ++ dktX0_swapOf_7
def dkwX0_swapOf_5 : List UInt8 := [58, 7, 42, 2, 181, 0, 65, 25, 7, 191, 21, 4, 2, 160, 0, 7, 2, 167, 0, 34, 28, 154, 0, 11]
abbrev dktX0_swapOf_5 : List UInt8 := dkwX0_swapOf_5 ++ dktX0_swapOf_6
def dkwX0_swapOf_4 : List UInt8 := [54, 4, 42, 27, 182, 1, 59, 54, 5, 132, 6, 1, 167, 255, 167, 42, 2, 181, 0, 65, 167, 0, 13]
abbrev dktX0_swapOf_4 : List UInt8 := dkwX0_swapOf_4 ++ dktX0_swapOf_5
def dkwX0_swapOf_3 : List UInt8 := [27, 182, 1, 59, 21, 5, 163, 0, 6, 167, 0, 24, 16, 16, 42, 180, 0, 65, 104, 42, 180, 0, 196, 96]
abbrev dktX0_swapOf_3 : List UInt8 := dkwX0_swapOf_3 ++ dktX0_swapOf_4
def dkwX0_swapOf_2 : List UInt8 := [29, 108, 96, 181, 0, 65, 42, 16, 8, 27, 104, 21, 6, 29, 112, 96, 181, 0, 196, 42, 182, 1, 38, 42]
abbrev dktX0_swapOf_2 : List UInt8 := dkwX0_swapOf_2 ++ dktX0_swapOf_3
def dkwX0_swapOf_1 : List UInt8 := [162, 0, 87, 21, 6, 29, 108, 21, 6, 29, 112, 161, 0, 6, 167, 0, 67, 42, 16, 8, 27, 104, 21, 6]
abbrev dktX0_swapOf_1 : List UInt8 := dkwX0_swapOf_1 ++ dktX0_swapOf_2
def dkwX0_swapOf_0 : List UInt8 := [42, 180, 0, 14, 27, 50, 182, 0, 120, 62, 2, 54, 4, 2, 54, 5, 3, 54, 6, 21, 6, 29, 29, 104]
abbrev dktX0_swapOf_0 : List UInt8 := dkwX0_swapOf_0 ++ dktX0_swapOf_1
theorem dksX0_swapOf_0 : cX0_swapOf.data.toList.drop 0 = dktX0_swapOf_0 := by decide +kernel
theorem dksX0_swapOf_1 : cX0_swapOf.data.toList.drop 24 = dktX0_swapOf_1 := dk_seg dksX0_swapOf_0 24 rfl rfl
theorem dksX0_swapOf_2 : cX0_swapOf.data.toList.drop 48 = dktX0_swapOf_2 := dk_seg dksX0_swapOf_1 24 rfl rfl
theorem dksX0_swapOf_3 : cX0_swapOf.data.toList.drop 72 = dktX0_swapOf_3 := dk_seg dksX0_swapOf_2 24 rfl rfl
theorem dksX0_swapOf_4 : cX0_swapOf.data.toList.drop 96 = dktX0_swapOf_4 := dk_seg dksX0_swapOf_3 24 rfl rfl
theorem dksX0_swapOf_5 : cX0_swapOf.data.toList.drop 119 = dktX0_swapOf_5 := dk_seg dksX0_swapOf_4 23 rfl rfl
theorem dksX0_swapOf_6 : cX0_swapOf.data.toList.drop 143 = dktX0_swapOf_6 := dk_seg dksX0_swapOf_5 24 rfl rfl
theorem dksX0_swapOf_7 : cX0_swapOf.data.toList.drop 167 = dktX0_swapOf_7 := dk_seg dksX0_swapOf_6 24 rfl rfl
theorem dX0_swapOf_0 : decode cX0_swapOf 0 = .ok (.aload_n 0, 1) := dk_42 (dk_at dksX0_swapOf_0 0 rfl rfl)
theorem dX0_swapOf_1 : decode cX0_swapOf 1 = .ok (.getfield 14, 3) := dk_180 0 14 (dk_at dksX0_swapOf_0 1 rfl rfl)
theorem dX0_swapOf_4 : decode cX0_swapOf 4 = .ok (.iload_n 1, 1) := dk_27 (dk_at dksX0_swapOf_0 4 rfl rfl)
theorem dX0_swapOf_5 : decode cX0_swapOf 5 = .ok (.aaload, 1) := dk_50 (dk_at dksX0_swapOf_0 5 rfl rfl)
theorem dX0_swapOf_6 : decode cX0_swapOf 6 = .ok (.invokevirtual 120, 3) := dk_182 0 120 (dk_at dksX0_swapOf_0 6 rfl rfl)
theorem dX0_swapOf_9 : decode cX0_swapOf 9 = .ok (.istore_n 3, 1) := dk_62 (dk_at dksX0_swapOf_0 9 rfl rfl)
theorem dX0_swapOf_10 : decode cX0_swapOf 10 = .ok (.iconst (-1), 1) := dk_2 (dk_at dksX0_swapOf_0 10 rfl rfl)
theorem dX0_swapOf_11 : decode cX0_swapOf 11 = .ok (.istore 4, 2) := dk_54 4 (dk_at dksX0_swapOf_0 11 rfl rfl)
theorem dX0_swapOf_13 : decode cX0_swapOf 13 = .ok (.iconst (-1), 1) := dk_2 (dk_at dksX0_swapOf_0 13 rfl rfl)
theorem dX0_swapOf_14 : decode cX0_swapOf 14 = .ok (.istore 5, 2) := dk_54 5 (dk_at dksX0_swapOf_0 14 rfl rfl)
theorem dX0_swapOf_16 : decode cX0_swapOf 16 = .ok (.iconst 0, 1) := dk_3 (dk_at dksX0_swapOf_0 16 rfl rfl)
theorem dX0_swapOf_17 : decode cX0_swapOf 17 = .ok (.istore 6, 2) := dk_54 6 (dk_at dksX0_swapOf_0 17 rfl rfl)
theorem dX0_swapOf_19 : decode cX0_swapOf 19 = .ok (.iload 6, 2) := dk_21 6 (dk_at dksX0_swapOf_0 19 rfl rfl)
theorem dX0_swapOf_21 : decode cX0_swapOf 21 = .ok (.iload_n 3, 1) := dk_29 (dk_at dksX0_swapOf_0 21 rfl rfl)
theorem dX0_swapOf_22 : decode cX0_swapOf 22 = .ok (.iload_n 3, 1) := dk_29 (dk_at dksX0_swapOf_0 22 rfl rfl)
theorem dX0_swapOf_23 : decode cX0_swapOf 23 = .ok (.imul, 1) := dk_104 (dk_at dksX0_swapOf_0 23 rfl rfl)
theorem dX0_swapOf_24 : decode cX0_swapOf 24 = .ok (.if_icmp .ge 87, 3) := dk_162 0 87 (dk_at dksX0_swapOf_1 0 rfl rfl)
theorem dX0_swapOf_27 : decode cX0_swapOf 27 = .ok (.iload 6, 2) := dk_21 6 (dk_at dksX0_swapOf_1 3 rfl rfl)
theorem dX0_swapOf_29 : decode cX0_swapOf 29 = .ok (.iload_n 3, 1) := dk_29 (dk_at dksX0_swapOf_1 5 rfl rfl)
theorem dX0_swapOf_30 : decode cX0_swapOf 30 = .ok (.idiv, 1) := dk_108 (dk_at dksX0_swapOf_1 6 rfl rfl)
theorem dX0_swapOf_31 : decode cX0_swapOf 31 = .ok (.iload 6, 2) := dk_21 6 (dk_at dksX0_swapOf_1 7 rfl rfl)
theorem dX0_swapOf_33 : decode cX0_swapOf 33 = .ok (.iload_n 3, 1) := dk_29 (dk_at dksX0_swapOf_1 9 rfl rfl)
theorem dX0_swapOf_34 : decode cX0_swapOf 34 = .ok (.irem, 1) := dk_112 (dk_at dksX0_swapOf_1 10 rfl rfl)
theorem dX0_swapOf_35 : decode cX0_swapOf 35 = .ok (.if_icmp .lt 6, 3) := dk_161 0 6 (dk_at dksX0_swapOf_1 11 rfl rfl)
theorem dX0_swapOf_38 : decode cX0_swapOf 38 = .ok (.goto 67, 3) := dk_167 0 67 (dk_at dksX0_swapOf_1 14 rfl rfl)
theorem dX0_swapOf_41 : decode cX0_swapOf 41 = .ok (.aload_n 0, 1) := dk_42 (dk_at dksX0_swapOf_1 17 rfl rfl)
theorem dX0_swapOf_42 : decode cX0_swapOf 42 = .ok (.bipush 8, 2) := dk_16 8 (dk_at dksX0_swapOf_1 18 rfl rfl)
theorem dX0_swapOf_44 : decode cX0_swapOf 44 = .ok (.iload_n 1, 1) := dk_27 (dk_at dksX0_swapOf_1 20 rfl rfl)
theorem dX0_swapOf_45 : decode cX0_swapOf 45 = .ok (.imul, 1) := dk_104 (dk_at dksX0_swapOf_1 21 rfl rfl)
theorem dX0_swapOf_46 : decode cX0_swapOf 46 = .ok (.iload 6, 2) := dk_21 6 (dk_at dksX0_swapOf_1 22 rfl rfl)
theorem dX0_swapOf_48 : decode cX0_swapOf 48 = .ok (.iload_n 3, 1) := dk_29 (dk_at dksX0_swapOf_2 0 rfl rfl)
theorem dX0_swapOf_49 : decode cX0_swapOf 49 = .ok (.idiv, 1) := dk_108 (dk_at dksX0_swapOf_2 1 rfl rfl)
theorem dX0_swapOf_50 : decode cX0_swapOf 50 = .ok (.iadd, 1) := dk_96 (dk_at dksX0_swapOf_2 2 rfl rfl)
theorem dX0_swapOf_51 : decode cX0_swapOf 51 = .ok (.putfield 65, 3) := dk_181 0 65 (dk_at dksX0_swapOf_2 3 rfl rfl)
theorem dX0_swapOf_54 : decode cX0_swapOf 54 = .ok (.aload_n 0, 1) := dk_42 (dk_at dksX0_swapOf_2 6 rfl rfl)
theorem dX0_swapOf_55 : decode cX0_swapOf 55 = .ok (.bipush 8, 2) := dk_16 8 (dk_at dksX0_swapOf_2 7 rfl rfl)
theorem dX0_swapOf_57 : decode cX0_swapOf 57 = .ok (.iload_n 1, 1) := dk_27 (dk_at dksX0_swapOf_2 9 rfl rfl)
theorem dX0_swapOf_58 : decode cX0_swapOf 58 = .ok (.imul, 1) := dk_104 (dk_at dksX0_swapOf_2 10 rfl rfl)
theorem dX0_swapOf_59 : decode cX0_swapOf 59 = .ok (.iload 6, 2) := dk_21 6 (dk_at dksX0_swapOf_2 11 rfl rfl)
theorem dX0_swapOf_61 : decode cX0_swapOf 61 = .ok (.iload_n 3, 1) := dk_29 (dk_at dksX0_swapOf_2 13 rfl rfl)
theorem dX0_swapOf_62 : decode cX0_swapOf 62 = .ok (.irem, 1) := dk_112 (dk_at dksX0_swapOf_2 14 rfl rfl)
theorem dX0_swapOf_63 : decode cX0_swapOf 63 = .ok (.iadd, 1) := dk_96 (dk_at dksX0_swapOf_2 15 rfl rfl)
theorem dX0_swapOf_64 : decode cX0_swapOf 64 = .ok (.putfield 196, 3) := dk_181 0 196 (dk_at dksX0_swapOf_2 16 rfl rfl)
theorem dX0_swapOf_67 : decode cX0_swapOf 67 = .ok (.aload_n 0, 1) := dk_42 (dk_at dksX0_swapOf_2 19 rfl rfl)
theorem dX0_swapOf_68 : decode cX0_swapOf 68 = .ok (.invokevirtual 294, 3) := dk_182 1 38 (dk_at dksX0_swapOf_2 20 rfl rfl)
theorem dX0_swapOf_71 : decode cX0_swapOf 71 = .ok (.aload_n 0, 1) := dk_42 (dk_at dksX0_swapOf_2 23 rfl rfl)
theorem dX0_swapOf_72 : decode cX0_swapOf 72 = .ok (.iload_n 1, 1) := dk_27 (dk_at dksX0_swapOf_3 0 rfl rfl)
theorem dX0_swapOf_73 : decode cX0_swapOf 73 = .ok (.invokevirtual 315, 3) := dk_182 1 59 (dk_at dksX0_swapOf_3 1 rfl rfl)
theorem dX0_swapOf_76 : decode cX0_swapOf 76 = .ok (.iload 5, 2) := dk_21 5 (dk_at dksX0_swapOf_3 4 rfl rfl)
theorem dX0_swapOf_78 : decode cX0_swapOf 78 = .ok (.if_icmp .gt 6, 3) := dk_163 0 6 (dk_at dksX0_swapOf_3 6 rfl rfl)
theorem dX0_swapOf_81 : decode cX0_swapOf 81 = .ok (.goto 24, 3) := dk_167 0 24 (dk_at dksX0_swapOf_3 9 rfl rfl)
theorem dX0_swapOf_84 : decode cX0_swapOf 84 = .ok (.bipush 16, 2) := dk_16 16 (dk_at dksX0_swapOf_3 12 rfl rfl)
theorem dX0_swapOf_86 : decode cX0_swapOf 86 = .ok (.aload_n 0, 1) := dk_42 (dk_at dksX0_swapOf_3 14 rfl rfl)
theorem dX0_swapOf_87 : decode cX0_swapOf 87 = .ok (.getfield 65, 3) := dk_180 0 65 (dk_at dksX0_swapOf_3 15 rfl rfl)
theorem dX0_swapOf_90 : decode cX0_swapOf 90 = .ok (.imul, 1) := dk_104 (dk_at dksX0_swapOf_3 18 rfl rfl)
theorem dX0_swapOf_91 : decode cX0_swapOf 91 = .ok (.aload_n 0, 1) := dk_42 (dk_at dksX0_swapOf_3 19 rfl rfl)
theorem dX0_swapOf_92 : decode cX0_swapOf 92 = .ok (.getfield 196, 3) := dk_180 0 196 (dk_at dksX0_swapOf_3 20 rfl rfl)
theorem dX0_swapOf_95 : decode cX0_swapOf 95 = .ok (.iadd, 1) := dk_96 (dk_at dksX0_swapOf_3 23 rfl rfl)
theorem dX0_swapOf_96 : decode cX0_swapOf 96 = .ok (.istore 4, 2) := dk_54 4 (dk_at dksX0_swapOf_4 0 rfl rfl)
theorem dX0_swapOf_98 : decode cX0_swapOf 98 = .ok (.aload_n 0, 1) := dk_42 (dk_at dksX0_swapOf_4 2 rfl rfl)
theorem dX0_swapOf_99 : decode cX0_swapOf 99 = .ok (.iload_n 1, 1) := dk_27 (dk_at dksX0_swapOf_4 3 rfl rfl)
theorem dX0_swapOf_100 : decode cX0_swapOf 100 = .ok (.invokevirtual 315, 3) := dk_182 1 59 (dk_at dksX0_swapOf_4 4 rfl rfl)
theorem dX0_swapOf_103 : decode cX0_swapOf 103 = .ok (.istore 5, 2) := dk_54 5 (dk_at dksX0_swapOf_4 7 rfl rfl)
theorem dX0_swapOf_105 : decode cX0_swapOf 105 = .ok (.iinc 6 1, 3) := dk_132 6 1 (dk_at dksX0_swapOf_4 9 rfl rfl)
theorem dX0_swapOf_108 : decode cX0_swapOf 108 = .ok (.goto (-89), 3) := dk_167 255 167 (dk_at dksX0_swapOf_4 12 rfl rfl)
theorem dX0_swapOf_111 : decode cX0_swapOf 111 = .ok (.aload_n 0, 1) := dk_42 (dk_at dksX0_swapOf_4 15 rfl rfl)
theorem dX0_swapOf_112 : decode cX0_swapOf 112 = .ok (.iconst (-1), 1) := dk_2 (dk_at dksX0_swapOf_4 16 rfl rfl)
theorem dX0_swapOf_113 : decode cX0_swapOf 113 = .ok (.putfield 65, 3) := dk_181 0 65 (dk_at dksX0_swapOf_4 17 rfl rfl)
theorem dX0_swapOf_116 : decode cX0_swapOf 116 = .ok (.goto 13, 3) := dk_167 0 13 (dk_at dksX0_swapOf_4 20 rfl rfl)
theorem dX0_swapOf_119 : decode cX0_swapOf 119 = .ok (.astore 7, 2) := dk_58 7 (dk_at dksX0_swapOf_5 0 rfl rfl)
theorem dX0_swapOf_121 : decode cX0_swapOf 121 = .ok (.aload_n 0, 1) := dk_42 (dk_at dksX0_swapOf_5 2 rfl rfl)
theorem dX0_swapOf_122 : decode cX0_swapOf 122 = .ok (.iconst (-1), 1) := dk_2 (dk_at dksX0_swapOf_5 3 rfl rfl)
theorem dX0_swapOf_123 : decode cX0_swapOf 123 = .ok (.putfield 65, 3) := dk_181 0 65 (dk_at dksX0_swapOf_5 4 rfl rfl)
theorem dX0_swapOf_126 : decode cX0_swapOf 126 = .ok (.aload 7, 2) := dk_25 7 (dk_at dksX0_swapOf_5 7 rfl rfl)
theorem dX0_swapOf_128 : decode cX0_swapOf 128 = .ok (.athrow, 1) := dk_191 (dk_at dksX0_swapOf_5 9 rfl rfl)
theorem dX0_swapOf_129 : decode cX0_swapOf 129 = .ok (.iload 4, 2) := dk_21 4 (dk_at dksX0_swapOf_5 10 rfl rfl)
theorem dX0_swapOf_131 : decode cX0_swapOf 131 = .ok (.iconst (-1), 1) := dk_2 (dk_at dksX0_swapOf_5 12 rfl rfl)
theorem dX0_swapOf_132 : decode cX0_swapOf 132 = .ok (.if_icmp .ne 7, 3) := dk_160 0 7 (dk_at dksX0_swapOf_5 13 rfl rfl)
theorem dX0_swapOf_135 : decode cX0_swapOf 135 = .ok (.iconst (-1), 1) := dk_2 (dk_at dksX0_swapOf_5 16 rfl rfl)
theorem dX0_swapOf_136 : decode cX0_swapOf 136 = .ok (.goto 34, 3) := dk_167 0 34 (dk_at dksX0_swapOf_5 17 rfl rfl)
theorem dX0_swapOf_139 : decode cX0_swapOf 139 = .ok (.iload_n 2, 1) := dk_28 (dk_at dksX0_swapOf_5 20 rfl rfl)
theorem dX0_swapOf_140 : decode cX0_swapOf 140 = .ok (.ifCond .ne 11, 3) := dk_154 0 11 (dk_at dksX0_swapOf_5 21 rfl rfl)
theorem dX0_swapOf_143 : decode cX0_swapOf 143 = .ok (.iload 4, 2) := dk_21 4 (dk_at dksX0_swapOf_6 0 rfl rfl)
theorem dX0_swapOf_145 : decode cX0_swapOf 145 = .ok (.bipush 16, 2) := dk_16 16 (dk_at dksX0_swapOf_6 2 rfl rfl)
theorem dX0_swapOf_147 : decode cX0_swapOf 147 = .ok (.idiv, 1) := dk_108 (dk_at dksX0_swapOf_6 4 rfl rfl)
theorem dX0_swapOf_148 : decode cX0_swapOf 148 = .ok (.goto 22, 3) := dk_167 0 22 (dk_at dksX0_swapOf_6 5 rfl rfl)
theorem dX0_swapOf_151 : decode cX0_swapOf 151 = .ok (.iload_n 2, 1) := dk_28 (dk_at dksX0_swapOf_6 8 rfl rfl)
theorem dX0_swapOf_152 : decode cX0_swapOf 152 = .ok (.iconst 1, 1) := dk_4 (dk_at dksX0_swapOf_6 9 rfl rfl)
theorem dX0_swapOf_153 : decode cX0_swapOf 153 = .ok (.if_icmp .ne 11, 3) := dk_160 0 11 (dk_at dksX0_swapOf_6 10 rfl rfl)
theorem dX0_swapOf_156 : decode cX0_swapOf 156 = .ok (.iload 4, 2) := dk_21 4 (dk_at dksX0_swapOf_6 13 rfl rfl)
theorem dX0_swapOf_158 : decode cX0_swapOf 158 = .ok (.bipush 16, 2) := dk_16 16 (dk_at dksX0_swapOf_6 15 rfl rfl)
theorem dX0_swapOf_160 : decode cX0_swapOf 160 = .ok (.irem, 1) := dk_112 (dk_at dksX0_swapOf_6 17 rfl rfl)
theorem dX0_swapOf_161 : decode cX0_swapOf 161 = .ok (.goto 9, 3) := dk_167 0 9 (dk_at dksX0_swapOf_6 18 rfl rfl)
theorem dX0_swapOf_164 : decode cX0_swapOf 164 = .ok (.iload_n 1, 1) := dk_27 (dk_at dksX0_swapOf_6 21 rfl rfl)
theorem dX0_swapOf_165 : decode cX0_swapOf 165 = .ok (.iload 5, 2) := dk_21 5 (dk_at dksX0_swapOf_6 22 rfl rfl)
theorem dX0_swapOf_167 : decode cX0_swapOf 167 = .ok (.invokestatic 318, 3) := dk_184 1 62 (dk_at dksX0_swapOf_7 0 rfl rfl)
theorem dX0_swapOf_170 : decode cX0_swapOf 170 = .ok (.ireturn, 1) := dk_172 (dk_at dksX0_swapOf_7 3 rfl rfl)
abbrev cX0_out : ByteArray := prog_1_method_53_code
def yX0_out : MethodName := ⟨RX0, "out", "(II)I"⟩
def dkwX0_out_1 : List UInt8 := [16, 254, 172]
abbrev dktX0_out_1 : List UInt8 := dkwX0_out_1 ++ []
def dkwX0_out_0 : List UInt8 := [27, 184, 0, 147, 153, 0, 19, 28, 184, 0, 147, 153, 0, 12, 42, 27, 28, 182, 1, 71, 167, 0, 5]
abbrev dktX0_out_0 : List UInt8 := dkwX0_out_0 ++ dktX0_out_1
theorem dksX0_out_0 : cX0_out.data.toList.drop 0 = dktX0_out_0 := by decide +kernel
theorem dksX0_out_1 : cX0_out.data.toList.drop 23 = dktX0_out_1 := dk_seg dksX0_out_0 23 rfl rfl
theorem dX0_out_0 : decode cX0_out 0 = .ok (.iload_n 1, 1) := dk_27 (dk_at dksX0_out_0 0 rfl rfl)
theorem dX0_out_1 : decode cX0_out 1 = .ok (.invokestatic 147, 3) := dk_184 0 147 (dk_at dksX0_out_0 1 rfl rfl)
theorem dX0_out_4 : decode cX0_out 4 = .ok (.ifCond .eq 19, 3) := dk_153 0 19 (dk_at dksX0_out_0 4 rfl rfl)
theorem dX0_out_7 : decode cX0_out 7 = .ok (.iload_n 2, 1) := dk_28 (dk_at dksX0_out_0 7 rfl rfl)
theorem dX0_out_8 : decode cX0_out 8 = .ok (.invokestatic 147, 3) := dk_184 0 147 (dk_at dksX0_out_0 8 rfl rfl)
theorem dX0_out_11 : decode cX0_out 11 = .ok (.ifCond .eq 12, 3) := dk_153 0 12 (dk_at dksX0_out_0 11 rfl rfl)
theorem dX0_out_14 : decode cX0_out 14 = .ok (.aload_n 0, 1) := dk_42 (dk_at dksX0_out_0 14 rfl rfl)
theorem dX0_out_15 : decode cX0_out 15 = .ok (.iload_n 1, 1) := dk_27 (dk_at dksX0_out_0 15 rfl rfl)
theorem dX0_out_16 : decode cX0_out 16 = .ok (.iload_n 2, 1) := dk_28 (dk_at dksX0_out_0 16 rfl rfl)
theorem dX0_out_17 : decode cX0_out 17 = .ok (.invokevirtual 327, 3) := dk_182 1 71 (dk_at dksX0_out_0 17 rfl rfl)
theorem dX0_out_20 : decode cX0_out 20 = .ok (.goto 5, 3) := dk_167 0 5 (dk_at dksX0_out_0 20 rfl rfl)
theorem dX0_out_23 : decode cX0_out 23 = .ok (.bipush (-2), 2) := dk_16 254 (dk_at dksX0_out_1 0 rfl rfl)
theorem dX0_out_25 : decode cX0_out 25 = .ok (.ireturn, 1) := dk_172 (dk_at dksX0_out_1 2 rfl rfl)
abbrev cX0_outOf : ByteArray := prog_1_method_52_code
def yX0_outOf : MethodName := ⟨RX0, "outOf", "(II)I"⟩
def dkwX0_outOf_4 : List UInt8 := [154, 0, 7, 29, 167, 0, 9, 27, 21, 4, 184, 1, 62, 172]
abbrev dktX0_outOf_4 : List UInt8 := dkwX0_outOf_4 ++ []
def dkwX0_outOf_3 : List UInt8 := [181, 0, 61, 167, 0, 13, 58, 6, 42, 2, 181, 0, 61, 25, 6, 191, 29, 2, 159, 0, 7, 28]
abbrev dktX0_outOf_3 : List UInt8 := dkwX0_outOf_3 ++ dktX0_outOf_4
def dkwX0_outOf_2 : List UInt8 := [167, 0, 15, 42, 180, 0, 61, 62, 42, 27, 182, 1, 59, 54, 4, 132, 5, 1, 167, 255, 199, 42, 2]
abbrev dktX0_outOf_2 : List UInt8 := dkwX0_outOf_2 ++ dktX0_outOf_3
def dkwX0_outOf_1 : List UInt8 := [16, 8, 27, 104, 21, 5, 96, 181, 0, 61, 42, 182, 1, 38, 42, 27, 182, 1, 59, 21, 4, 163, 0, 6]
abbrev dktX0_outOf_1 : List UInt8 := dkwX0_outOf_1 ++ dktX0_outOf_2
def dkwX0_outOf_0 : List UInt8 := [2, 62, 2, 54, 4, 3, 54, 5, 21, 5, 42, 180, 0, 14, 27, 50, 182, 0, 120, 162, 0, 49, 42]
abbrev dktX0_outOf_0 : List UInt8 := dkwX0_outOf_0 ++ dktX0_outOf_1
theorem dksX0_outOf_0 : cX0_outOf.data.toList.drop 0 = dktX0_outOf_0 := by decide +kernel
theorem dksX0_outOf_1 : cX0_outOf.data.toList.drop 23 = dktX0_outOf_1 := dk_seg dksX0_outOf_0 23 rfl rfl
theorem dksX0_outOf_2 : cX0_outOf.data.toList.drop 47 = dktX0_outOf_2 := dk_seg dksX0_outOf_1 24 rfl rfl
theorem dksX0_outOf_3 : cX0_outOf.data.toList.drop 70 = dktX0_outOf_3 := dk_seg dksX0_outOf_2 23 rfl rfl
theorem dksX0_outOf_4 : cX0_outOf.data.toList.drop 92 = dktX0_outOf_4 := dk_seg dksX0_outOf_3 22 rfl rfl
theorem dX0_outOf_0 : decode cX0_outOf 0 = .ok (.iconst (-1), 1) := dk_2 (dk_at dksX0_outOf_0 0 rfl rfl)
theorem dX0_outOf_1 : decode cX0_outOf 1 = .ok (.istore_n 3, 1) := dk_62 (dk_at dksX0_outOf_0 1 rfl rfl)
theorem dX0_outOf_2 : decode cX0_outOf 2 = .ok (.iconst (-1), 1) := dk_2 (dk_at dksX0_outOf_0 2 rfl rfl)
theorem dX0_outOf_3 : decode cX0_outOf 3 = .ok (.istore 4, 2) := dk_54 4 (dk_at dksX0_outOf_0 3 rfl rfl)
theorem dX0_outOf_5 : decode cX0_outOf 5 = .ok (.iconst 0, 1) := dk_3 (dk_at dksX0_outOf_0 5 rfl rfl)
theorem dX0_outOf_6 : decode cX0_outOf 6 = .ok (.istore 5, 2) := dk_54 5 (dk_at dksX0_outOf_0 6 rfl rfl)
theorem dX0_outOf_8 : decode cX0_outOf 8 = .ok (.iload 5, 2) := dk_21 5 (dk_at dksX0_outOf_0 8 rfl rfl)
theorem dX0_outOf_10 : decode cX0_outOf 10 = .ok (.aload_n 0, 1) := dk_42 (dk_at dksX0_outOf_0 10 rfl rfl)
theorem dX0_outOf_11 : decode cX0_outOf 11 = .ok (.getfield 14, 3) := dk_180 0 14 (dk_at dksX0_outOf_0 11 rfl rfl)
theorem dX0_outOf_14 : decode cX0_outOf 14 = .ok (.iload_n 1, 1) := dk_27 (dk_at dksX0_outOf_0 14 rfl rfl)
theorem dX0_outOf_15 : decode cX0_outOf 15 = .ok (.aaload, 1) := dk_50 (dk_at dksX0_outOf_0 15 rfl rfl)
theorem dX0_outOf_16 : decode cX0_outOf 16 = .ok (.invokevirtual 120, 3) := dk_182 0 120 (dk_at dksX0_outOf_0 16 rfl rfl)
theorem dX0_outOf_19 : decode cX0_outOf 19 = .ok (.if_icmp .ge 49, 3) := dk_162 0 49 (dk_at dksX0_outOf_0 19 rfl rfl)
theorem dX0_outOf_22 : decode cX0_outOf 22 = .ok (.aload_n 0, 1) := dk_42 (dk_at dksX0_outOf_0 22 rfl rfl)
theorem dX0_outOf_23 : decode cX0_outOf 23 = .ok (.bipush 8, 2) := dk_16 8 (dk_at dksX0_outOf_1 0 rfl rfl)
theorem dX0_outOf_25 : decode cX0_outOf 25 = .ok (.iload_n 1, 1) := dk_27 (dk_at dksX0_outOf_1 2 rfl rfl)
theorem dX0_outOf_26 : decode cX0_outOf 26 = .ok (.imul, 1) := dk_104 (dk_at dksX0_outOf_1 3 rfl rfl)
theorem dX0_outOf_27 : decode cX0_outOf 27 = .ok (.iload 5, 2) := dk_21 5 (dk_at dksX0_outOf_1 4 rfl rfl)
theorem dX0_outOf_29 : decode cX0_outOf 29 = .ok (.iadd, 1) := dk_96 (dk_at dksX0_outOf_1 6 rfl rfl)
theorem dX0_outOf_30 : decode cX0_outOf 30 = .ok (.putfield 61, 3) := dk_181 0 61 (dk_at dksX0_outOf_1 7 rfl rfl)
theorem dX0_outOf_33 : decode cX0_outOf 33 = .ok (.aload_n 0, 1) := dk_42 (dk_at dksX0_outOf_1 10 rfl rfl)
theorem dX0_outOf_34 : decode cX0_outOf 34 = .ok (.invokevirtual 294, 3) := dk_182 1 38 (dk_at dksX0_outOf_1 11 rfl rfl)
theorem dX0_outOf_37 : decode cX0_outOf 37 = .ok (.aload_n 0, 1) := dk_42 (dk_at dksX0_outOf_1 14 rfl rfl)
theorem dX0_outOf_38 : decode cX0_outOf 38 = .ok (.iload_n 1, 1) := dk_27 (dk_at dksX0_outOf_1 15 rfl rfl)
theorem dX0_outOf_39 : decode cX0_outOf 39 = .ok (.invokevirtual 315, 3) := dk_182 1 59 (dk_at dksX0_outOf_1 16 rfl rfl)
theorem dX0_outOf_42 : decode cX0_outOf 42 = .ok (.iload 4, 2) := dk_21 4 (dk_at dksX0_outOf_1 19 rfl rfl)
theorem dX0_outOf_44 : decode cX0_outOf 44 = .ok (.if_icmp .gt 6, 3) := dk_163 0 6 (dk_at dksX0_outOf_1 21 rfl rfl)
theorem dX0_outOf_47 : decode cX0_outOf 47 = .ok (.goto 15, 3) := dk_167 0 15 (dk_at dksX0_outOf_2 0 rfl rfl)
theorem dX0_outOf_50 : decode cX0_outOf 50 = .ok (.aload_n 0, 1) := dk_42 (dk_at dksX0_outOf_2 3 rfl rfl)
theorem dX0_outOf_51 : decode cX0_outOf 51 = .ok (.getfield 61, 3) := dk_180 0 61 (dk_at dksX0_outOf_2 4 rfl rfl)
theorem dX0_outOf_54 : decode cX0_outOf 54 = .ok (.istore_n 3, 1) := dk_62 (dk_at dksX0_outOf_2 7 rfl rfl)
theorem dX0_outOf_55 : decode cX0_outOf 55 = .ok (.aload_n 0, 1) := dk_42 (dk_at dksX0_outOf_2 8 rfl rfl)
theorem dX0_outOf_56 : decode cX0_outOf 56 = .ok (.iload_n 1, 1) := dk_27 (dk_at dksX0_outOf_2 9 rfl rfl)
theorem dX0_outOf_57 : decode cX0_outOf 57 = .ok (.invokevirtual 315, 3) := dk_182 1 59 (dk_at dksX0_outOf_2 10 rfl rfl)
theorem dX0_outOf_60 : decode cX0_outOf 60 = .ok (.istore 4, 2) := dk_54 4 (dk_at dksX0_outOf_2 13 rfl rfl)
theorem dX0_outOf_62 : decode cX0_outOf 62 = .ok (.iinc 5 1, 3) := dk_132 5 1 (dk_at dksX0_outOf_2 15 rfl rfl)
theorem dX0_outOf_65 : decode cX0_outOf 65 = .ok (.goto (-57), 3) := dk_167 255 199 (dk_at dksX0_outOf_2 18 rfl rfl)
theorem dX0_outOf_68 : decode cX0_outOf 68 = .ok (.aload_n 0, 1) := dk_42 (dk_at dksX0_outOf_2 21 rfl rfl)
theorem dX0_outOf_69 : decode cX0_outOf 69 = .ok (.iconst (-1), 1) := dk_2 (dk_at dksX0_outOf_2 22 rfl rfl)
theorem dX0_outOf_70 : decode cX0_outOf 70 = .ok (.putfield 61, 3) := dk_181 0 61 (dk_at dksX0_outOf_3 0 rfl rfl)
theorem dX0_outOf_73 : decode cX0_outOf 73 = .ok (.goto 13, 3) := dk_167 0 13 (dk_at dksX0_outOf_3 3 rfl rfl)
theorem dX0_outOf_76 : decode cX0_outOf 76 = .ok (.astore 6, 2) := dk_58 6 (dk_at dksX0_outOf_3 6 rfl rfl)
theorem dX0_outOf_78 : decode cX0_outOf 78 = .ok (.aload_n 0, 1) := dk_42 (dk_at dksX0_outOf_3 8 rfl rfl)
theorem dX0_outOf_79 : decode cX0_outOf 79 = .ok (.iconst (-1), 1) := dk_2 (dk_at dksX0_outOf_3 9 rfl rfl)
theorem dX0_outOf_80 : decode cX0_outOf 80 = .ok (.putfield 61, 3) := dk_181 0 61 (dk_at dksX0_outOf_3 10 rfl rfl)
theorem dX0_outOf_83 : decode cX0_outOf 83 = .ok (.aload 6, 2) := dk_25 6 (dk_at dksX0_outOf_3 13 rfl rfl)
theorem dX0_outOf_85 : decode cX0_outOf 85 = .ok (.athrow, 1) := dk_191 (dk_at dksX0_outOf_3 15 rfl rfl)
theorem dX0_outOf_86 : decode cX0_outOf 86 = .ok (.iload_n 3, 1) := dk_29 (dk_at dksX0_outOf_3 16 rfl rfl)
theorem dX0_outOf_87 : decode cX0_outOf 87 = .ok (.iconst (-1), 1) := dk_2 (dk_at dksX0_outOf_3 17 rfl rfl)
theorem dX0_outOf_88 : decode cX0_outOf 88 = .ok (.if_icmp .eq 7, 3) := dk_159 0 7 (dk_at dksX0_outOf_3 18 rfl rfl)
theorem dX0_outOf_91 : decode cX0_outOf 91 = .ok (.iload_n 2, 1) := dk_28 (dk_at dksX0_outOf_3 21 rfl rfl)
theorem dX0_outOf_92 : decode cX0_outOf 92 = .ok (.ifCond .ne 7, 3) := dk_154 0 7 (dk_at dksX0_outOf_4 0 rfl rfl)
theorem dX0_outOf_95 : decode cX0_outOf 95 = .ok (.iload_n 3, 1) := dk_29 (dk_at dksX0_outOf_4 3 rfl rfl)
theorem dX0_outOf_96 : decode cX0_outOf 96 = .ok (.goto 9, 3) := dk_167 0 9 (dk_at dksX0_outOf_4 4 rfl rfl)
theorem dX0_outOf_99 : decode cX0_outOf 99 = .ok (.iload_n 1, 1) := dk_27 (dk_at dksX0_outOf_4 7 rfl rfl)
theorem dX0_outOf_100 : decode cX0_outOf 100 = .ok (.iload 4, 2) := dk_21 4 (dk_at dksX0_outOf_4 8 rfl rfl)
theorem dX0_outOf_102 : decode cX0_outOf 102 = .ok (.invokestatic 318, 3) := dk_184 1 62 (dk_at dksX0_outOf_4 10 rfl rfl)
theorem dX0_outOf_105 : decode cX0_outOf 105 = .ok (.ireturn, 1) := dk_172 (dk_at dksX0_outOf_4 13 rfl rfl)
abbrev cX0_spare : ByteArray := prog_1_method_56_code
def yX0_spare : MethodName := ⟨RX0, "spare", "(I)I"⟩
def dkwX0_spare_0 : List UInt8 := [27, 133, 20, 1, 77, 10, 184, 0, 90, 153, 0, 11, 42, 27, 182, 1, 79, 167, 0, 5, 16, 254, 172]
abbrev dktX0_spare_0 : List UInt8 := dkwX0_spare_0 ++ []
theorem dksX0_spare_0 : cX0_spare.data.toList.drop 0 = dktX0_spare_0 := by decide +kernel
theorem dX0_spare_0 : decode cX0_spare 0 = .ok (.iload_n 1, 1) := dk_27 (dk_at dksX0_spare_0 0 rfl rfl)
theorem dX0_spare_1 : decode cX0_spare 1 = .ok (.i2l, 1) := dk_133 (dk_at dksX0_spare_0 1 rfl rfl)
theorem dX0_spare_2 : decode cX0_spare 2 = .ok (.ldc2_w 333, 3) := dk_20 1 77 (dk_at dksX0_spare_0 2 rfl rfl)
theorem dX0_spare_5 : decode cX0_spare 5 = .ok (.lconst 1, 1) := dk_10 (dk_at dksX0_spare_0 5 rfl rfl)
theorem dX0_spare_6 : decode cX0_spare 6 = .ok (.invokestatic 90, 3) := dk_184 0 90 (dk_at dksX0_spare_0 6 rfl rfl)
theorem dX0_spare_9 : decode cX0_spare 9 = .ok (.ifCond .eq 11, 3) := dk_153 0 11 (dk_at dksX0_spare_0 9 rfl rfl)
theorem dX0_spare_12 : decode cX0_spare 12 = .ok (.aload_n 0, 1) := dk_42 (dk_at dksX0_spare_0 12 rfl rfl)
theorem dX0_spare_13 : decode cX0_spare 13 = .ok (.iload_n 1, 1) := dk_27 (dk_at dksX0_spare_0 13 rfl rfl)
theorem dX0_spare_14 : decode cX0_spare 14 = .ok (.invokevirtual 335, 3) := dk_182 1 79 (dk_at dksX0_spare_0 14 rfl rfl)
theorem dX0_spare_17 : decode cX0_spare 17 = .ok (.goto 5, 3) := dk_167 0 5 (dk_at dksX0_spare_0 17 rfl rfl)
theorem dX0_spare_20 : decode cX0_spare 20 = .ok (.bipush (-2), 2) := dk_16 254 (dk_at dksX0_spare_0 20 rfl rfl)
theorem dX0_spare_22 : decode cX0_spare 22 = .ok (.ireturn, 1) := dk_172 (dk_at dksX0_spare_0 22 rfl rfl)
abbrev cX0_spareBy : ByteArray := prog_1_method_55_code
def yX0_spareBy : MethodName := ⟨RX0, "spareBy", "(I)I"⟩
def dkwX0_spareBy_5 : List UInt8 := [167, 0, 5, 21, 4, 172, 132, 4, 1, 167, 255, 212, 132, 3, 1, 167, 255, 196, 2, 172]
abbrev dktX0_spareBy_5 : List UInt8 := dkwX0_spareBy_5 ++ []
def dkwX0_spareBy_4 : List UInt8 := [120, 128, 182, 1, 74, 153, 0, 23, 27, 2, 160, 0, 7, 5, 167, 0, 13, 27, 154, 0, 7, 29]
abbrev dktX0_spareBy_4 : List UInt8 := dkwX0_spareBy_4 ++ dktX0_spareBy_5
def dkwX0_spareBy_3 : List UInt8 := [62, 29, 28, 162, 0, 61, 29, 4, 96, 54, 4, 21, 4, 28, 162, 0, 44, 42, 4, 29, 120, 4, 21, 4]
abbrev dktX0_spareBy_3 : List UInt8 := dkwX0_spareBy_3 ++ dktX0_spareBy_4
def dkwX0_spareBy_2 : List UInt8 := [160, 0, 7, 4, 167, 0, 12, 27, 154, 0, 7, 29, 167, 0, 4, 2, 172, 132, 3, 1, 167, 255, 219, 3]
abbrev dktX0_spareBy_2 : List UInt8 := dkwX0_spareBy_2 ++ dktX0_spareBy_3
def dkwX0_spareBy_1 : List UInt8 := [182, 0, 162, 61, 3, 62, 29, 28, 162, 0, 38, 42, 4, 29, 120, 182, 1, 74, 153, 0, 22, 27, 2]
abbrev dktX0_spareBy_1 : List UInt8 := dkwX0_spareBy_1 ++ dktX0_spareBy_2
def dkwX0_spareBy_0 : List UInt8 := [42, 3, 182, 1, 74, 153, 0, 14, 27, 2, 160, 0, 7, 3, 167, 0, 4, 2, 172, 42, 180, 0, 36]
abbrev dktX0_spareBy_0 : List UInt8 := dkwX0_spareBy_0 ++ dktX0_spareBy_1
theorem dksX0_spareBy_0 : cX0_spareBy.data.toList.drop 0 = dktX0_spareBy_0 := by decide +kernel
theorem dksX0_spareBy_1 : cX0_spareBy.data.toList.drop 23 = dktX0_spareBy_1 := dk_seg dksX0_spareBy_0 23 rfl rfl
theorem dksX0_spareBy_2 : cX0_spareBy.data.toList.drop 46 = dktX0_spareBy_2 := dk_seg dksX0_spareBy_1 23 rfl rfl
theorem dksX0_spareBy_3 : cX0_spareBy.data.toList.drop 70 = dktX0_spareBy_3 := dk_seg dksX0_spareBy_2 24 rfl rfl
theorem dksX0_spareBy_4 : cX0_spareBy.data.toList.drop 94 = dktX0_spareBy_4 := dk_seg dksX0_spareBy_3 24 rfl rfl
theorem dksX0_spareBy_5 : cX0_spareBy.data.toList.drop 116 = dktX0_spareBy_5 := dk_seg dksX0_spareBy_4 22 rfl rfl
theorem dX0_spareBy_0 : decode cX0_spareBy 0 = .ok (.aload_n 0, 1) := dk_42 (dk_at dksX0_spareBy_0 0 rfl rfl)
theorem dX0_spareBy_1 : decode cX0_spareBy 1 = .ok (.iconst 0, 1) := dk_3 (dk_at dksX0_spareBy_0 1 rfl rfl)
theorem dX0_spareBy_2 : decode cX0_spareBy 2 = .ok (.invokevirtual 330, 3) := dk_182 1 74 (dk_at dksX0_spareBy_0 2 rfl rfl)
theorem dX0_spareBy_5 : decode cX0_spareBy 5 = .ok (.ifCond .eq 14, 3) := dk_153 0 14 (dk_at dksX0_spareBy_0 5 rfl rfl)
theorem dX0_spareBy_8 : decode cX0_spareBy 8 = .ok (.iload_n 1, 1) := dk_27 (dk_at dksX0_spareBy_0 8 rfl rfl)
theorem dX0_spareBy_9 : decode cX0_spareBy 9 = .ok (.iconst (-1), 1) := dk_2 (dk_at dksX0_spareBy_0 9 rfl rfl)
theorem dX0_spareBy_10 : decode cX0_spareBy 10 = .ok (.if_icmp .ne 7, 3) := dk_160 0 7 (dk_at dksX0_spareBy_0 10 rfl rfl)
theorem dX0_spareBy_13 : decode cX0_spareBy 13 = .ok (.iconst 0, 1) := dk_3 (dk_at dksX0_spareBy_0 13 rfl rfl)
theorem dX0_spareBy_14 : decode cX0_spareBy 14 = .ok (.goto 4, 3) := dk_167 0 4 (dk_at dksX0_spareBy_0 14 rfl rfl)
theorem dX0_spareBy_17 : decode cX0_spareBy 17 = .ok (.iconst (-1), 1) := dk_2 (dk_at dksX0_spareBy_0 17 rfl rfl)
theorem dX0_spareBy_18 : decode cX0_spareBy 18 = .ok (.ireturn, 1) := dk_172 (dk_at dksX0_spareBy_0 18 rfl rfl)
theorem dX0_spareBy_19 : decode cX0_spareBy 19 = .ok (.aload_n 0, 1) := dk_42 (dk_at dksX0_spareBy_0 19 rfl rfl)
theorem dX0_spareBy_20 : decode cX0_spareBy 20 = .ok (.getfield 36, 3) := dk_180 0 36 (dk_at dksX0_spareBy_0 20 rfl rfl)
theorem dX0_spareBy_23 : decode cX0_spareBy 23 = .ok (.invokevirtual 162, 3) := dk_182 0 162 (dk_at dksX0_spareBy_1 0 rfl rfl)
theorem dX0_spareBy_26 : decode cX0_spareBy 26 = .ok (.istore_n 2, 1) := dk_61 (dk_at dksX0_spareBy_1 3 rfl rfl)
theorem dX0_spareBy_27 : decode cX0_spareBy 27 = .ok (.iconst 0, 1) := dk_3 (dk_at dksX0_spareBy_1 4 rfl rfl)
theorem dX0_spareBy_28 : decode cX0_spareBy 28 = .ok (.istore_n 3, 1) := dk_62 (dk_at dksX0_spareBy_1 5 rfl rfl)
theorem dX0_spareBy_29 : decode cX0_spareBy 29 = .ok (.iload_n 3, 1) := dk_29 (dk_at dksX0_spareBy_1 6 rfl rfl)
theorem dX0_spareBy_30 : decode cX0_spareBy 30 = .ok (.iload_n 2, 1) := dk_28 (dk_at dksX0_spareBy_1 7 rfl rfl)
theorem dX0_spareBy_31 : decode cX0_spareBy 31 = .ok (.if_icmp .ge 38, 3) := dk_162 0 38 (dk_at dksX0_spareBy_1 8 rfl rfl)
theorem dX0_spareBy_34 : decode cX0_spareBy 34 = .ok (.aload_n 0, 1) := dk_42 (dk_at dksX0_spareBy_1 11 rfl rfl)
theorem dX0_spareBy_35 : decode cX0_spareBy 35 = .ok (.iconst 1, 1) := dk_4 (dk_at dksX0_spareBy_1 12 rfl rfl)
theorem dX0_spareBy_36 : decode cX0_spareBy 36 = .ok (.iload_n 3, 1) := dk_29 (dk_at dksX0_spareBy_1 13 rfl rfl)
theorem dX0_spareBy_37 : decode cX0_spareBy 37 = .ok (.ishl, 1) := dk_120 (dk_at dksX0_spareBy_1 14 rfl rfl)
theorem dX0_spareBy_38 : decode cX0_spareBy 38 = .ok (.invokevirtual 330, 3) := dk_182 1 74 (dk_at dksX0_spareBy_1 15 rfl rfl)
theorem dX0_spareBy_41 : decode cX0_spareBy 41 = .ok (.ifCond .eq 22, 3) := dk_153 0 22 (dk_at dksX0_spareBy_1 18 rfl rfl)
theorem dX0_spareBy_44 : decode cX0_spareBy 44 = .ok (.iload_n 1, 1) := dk_27 (dk_at dksX0_spareBy_1 21 rfl rfl)
theorem dX0_spareBy_45 : decode cX0_spareBy 45 = .ok (.iconst (-1), 1) := dk_2 (dk_at dksX0_spareBy_1 22 rfl rfl)
theorem dX0_spareBy_46 : decode cX0_spareBy 46 = .ok (.if_icmp .ne 7, 3) := dk_160 0 7 (dk_at dksX0_spareBy_2 0 rfl rfl)
theorem dX0_spareBy_49 : decode cX0_spareBy 49 = .ok (.iconst 1, 1) := dk_4 (dk_at dksX0_spareBy_2 3 rfl rfl)
theorem dX0_spareBy_50 : decode cX0_spareBy 50 = .ok (.goto 12, 3) := dk_167 0 12 (dk_at dksX0_spareBy_2 4 rfl rfl)
theorem dX0_spareBy_53 : decode cX0_spareBy 53 = .ok (.iload_n 1, 1) := dk_27 (dk_at dksX0_spareBy_2 7 rfl rfl)
theorem dX0_spareBy_54 : decode cX0_spareBy 54 = .ok (.ifCond .ne 7, 3) := dk_154 0 7 (dk_at dksX0_spareBy_2 8 rfl rfl)
theorem dX0_spareBy_57 : decode cX0_spareBy 57 = .ok (.iload_n 3, 1) := dk_29 (dk_at dksX0_spareBy_2 11 rfl rfl)
theorem dX0_spareBy_58 : decode cX0_spareBy 58 = .ok (.goto 4, 3) := dk_167 0 4 (dk_at dksX0_spareBy_2 12 rfl rfl)
theorem dX0_spareBy_61 : decode cX0_spareBy 61 = .ok (.iconst (-1), 1) := dk_2 (dk_at dksX0_spareBy_2 15 rfl rfl)
theorem dX0_spareBy_62 : decode cX0_spareBy 62 = .ok (.ireturn, 1) := dk_172 (dk_at dksX0_spareBy_2 16 rfl rfl)
theorem dX0_spareBy_63 : decode cX0_spareBy 63 = .ok (.iinc 3 1, 3) := dk_132 3 1 (dk_at dksX0_spareBy_2 17 rfl rfl)
theorem dX0_spareBy_66 : decode cX0_spareBy 66 = .ok (.goto (-37), 3) := dk_167 255 219 (dk_at dksX0_spareBy_2 20 rfl rfl)
theorem dX0_spareBy_69 : decode cX0_spareBy 69 = .ok (.iconst 0, 1) := dk_3 (dk_at dksX0_spareBy_2 23 rfl rfl)
theorem dX0_spareBy_70 : decode cX0_spareBy 70 = .ok (.istore_n 3, 1) := dk_62 (dk_at dksX0_spareBy_3 0 rfl rfl)
theorem dX0_spareBy_71 : decode cX0_spareBy 71 = .ok (.iload_n 3, 1) := dk_29 (dk_at dksX0_spareBy_3 1 rfl rfl)
theorem dX0_spareBy_72 : decode cX0_spareBy 72 = .ok (.iload_n 2, 1) := dk_28 (dk_at dksX0_spareBy_3 2 rfl rfl)
theorem dX0_spareBy_73 : decode cX0_spareBy 73 = .ok (.if_icmp .ge 61, 3) := dk_162 0 61 (dk_at dksX0_spareBy_3 3 rfl rfl)
theorem dX0_spareBy_76 : decode cX0_spareBy 76 = .ok (.iload_n 3, 1) := dk_29 (dk_at dksX0_spareBy_3 6 rfl rfl)
theorem dX0_spareBy_77 : decode cX0_spareBy 77 = .ok (.iconst 1, 1) := dk_4 (dk_at dksX0_spareBy_3 7 rfl rfl)
theorem dX0_spareBy_78 : decode cX0_spareBy 78 = .ok (.iadd, 1) := dk_96 (dk_at dksX0_spareBy_3 8 rfl rfl)
theorem dX0_spareBy_79 : decode cX0_spareBy 79 = .ok (.istore 4, 2) := dk_54 4 (dk_at dksX0_spareBy_3 9 rfl rfl)
theorem dX0_spareBy_81 : decode cX0_spareBy 81 = .ok (.iload 4, 2) := dk_21 4 (dk_at dksX0_spareBy_3 11 rfl rfl)
theorem dX0_spareBy_83 : decode cX0_spareBy 83 = .ok (.iload_n 2, 1) := dk_28 (dk_at dksX0_spareBy_3 13 rfl rfl)
theorem dX0_spareBy_84 : decode cX0_spareBy 84 = .ok (.if_icmp .ge 44, 3) := dk_162 0 44 (dk_at dksX0_spareBy_3 14 rfl rfl)
theorem dX0_spareBy_87 : decode cX0_spareBy 87 = .ok (.aload_n 0, 1) := dk_42 (dk_at dksX0_spareBy_3 17 rfl rfl)
theorem dX0_spareBy_88 : decode cX0_spareBy 88 = .ok (.iconst 1, 1) := dk_4 (dk_at dksX0_spareBy_3 18 rfl rfl)
theorem dX0_spareBy_89 : decode cX0_spareBy 89 = .ok (.iload_n 3, 1) := dk_29 (dk_at dksX0_spareBy_3 19 rfl rfl)
theorem dX0_spareBy_90 : decode cX0_spareBy 90 = .ok (.ishl, 1) := dk_120 (dk_at dksX0_spareBy_3 20 rfl rfl)
theorem dX0_spareBy_91 : decode cX0_spareBy 91 = .ok (.iconst 1, 1) := dk_4 (dk_at dksX0_spareBy_3 21 rfl rfl)
theorem dX0_spareBy_92 : decode cX0_spareBy 92 = .ok (.iload 4, 2) := dk_21 4 (dk_at dksX0_spareBy_3 22 rfl rfl)
theorem dX0_spareBy_94 : decode cX0_spareBy 94 = .ok (.ishl, 1) := dk_120 (dk_at dksX0_spareBy_4 0 rfl rfl)
theorem dX0_spareBy_95 : decode cX0_spareBy 95 = .ok (.ior, 1) := dk_128 (dk_at dksX0_spareBy_4 1 rfl rfl)
theorem dX0_spareBy_96 : decode cX0_spareBy 96 = .ok (.invokevirtual 330, 3) := dk_182 1 74 (dk_at dksX0_spareBy_4 2 rfl rfl)
theorem dX0_spareBy_99 : decode cX0_spareBy 99 = .ok (.ifCond .eq 23, 3) := dk_153 0 23 (dk_at dksX0_spareBy_4 5 rfl rfl)
theorem dX0_spareBy_102 : decode cX0_spareBy 102 = .ok (.iload_n 1, 1) := dk_27 (dk_at dksX0_spareBy_4 8 rfl rfl)
theorem dX0_spareBy_103 : decode cX0_spareBy 103 = .ok (.iconst (-1), 1) := dk_2 (dk_at dksX0_spareBy_4 9 rfl rfl)
theorem dX0_spareBy_104 : decode cX0_spareBy 104 = .ok (.if_icmp .ne 7, 3) := dk_160 0 7 (dk_at dksX0_spareBy_4 10 rfl rfl)
theorem dX0_spareBy_107 : decode cX0_spareBy 107 = .ok (.iconst 2, 1) := dk_5 (dk_at dksX0_spareBy_4 13 rfl rfl)
theorem dX0_spareBy_108 : decode cX0_spareBy 108 = .ok (.goto 13, 3) := dk_167 0 13 (dk_at dksX0_spareBy_4 14 rfl rfl)
theorem dX0_spareBy_111 : decode cX0_spareBy 111 = .ok (.iload_n 1, 1) := dk_27 (dk_at dksX0_spareBy_4 17 rfl rfl)
theorem dX0_spareBy_112 : decode cX0_spareBy 112 = .ok (.ifCond .ne 7, 3) := dk_154 0 7 (dk_at dksX0_spareBy_4 18 rfl rfl)
theorem dX0_spareBy_115 : decode cX0_spareBy 115 = .ok (.iload_n 3, 1) := dk_29 (dk_at dksX0_spareBy_4 21 rfl rfl)
theorem dX0_spareBy_116 : decode cX0_spareBy 116 = .ok (.goto 5, 3) := dk_167 0 5 (dk_at dksX0_spareBy_5 0 rfl rfl)
theorem dX0_spareBy_119 : decode cX0_spareBy 119 = .ok (.iload 4, 2) := dk_21 4 (dk_at dksX0_spareBy_5 3 rfl rfl)
theorem dX0_spareBy_121 : decode cX0_spareBy 121 = .ok (.ireturn, 1) := dk_172 (dk_at dksX0_spareBy_5 5 rfl rfl)
theorem dX0_spareBy_122 : decode cX0_spareBy 122 = .ok (.iinc 4 1, 3) := dk_132 4 1 (dk_at dksX0_spareBy_5 6 rfl rfl)
theorem dX0_spareBy_125 : decode cX0_spareBy 125 = .ok (.goto (-44), 3) := dk_167 255 212 (dk_at dksX0_spareBy_5 9 rfl rfl)
theorem dX0_spareBy_128 : decode cX0_spareBy 128 = .ok (.iinc 3 1, 3) := dk_132 3 1 (dk_at dksX0_spareBy_5 12 rfl rfl)
theorem dX0_spareBy_131 : decode cX0_spareBy 131 = .ok (.goto (-60), 3) := dk_167 255 196 (dk_at dksX0_spareBy_5 15 rfl rfl)
theorem dX0_spareBy_134 : decode cX0_spareBy 134 = .ok (.iconst (-1), 1) := dk_2 (dk_at dksX0_spareBy_5 18 rfl rfl)
theorem dX0_spareBy_135 : decode cX0_spareBy 135 = .ok (.ireturn, 1) := dk_172 (dk_at dksX0_spareBy_5 19 rfl rfl)
abbrev cX0_isSpared : ByteArray := prog_1_method_54_code
def yX0_isSpared : MethodName := ⟨RX0, "isSpared", "(I)Z"⟩
def dkwX0_isSpared_1 : List UInt8 := [3, 181, 0, 244, 28, 172, 78, 42, 3, 181, 0, 244, 45, 191]
abbrev dktX0_isSpared_1 : List UInt8 := dkwX0_isSpared_1 ++ []
def dkwX0_isSpared_0 : List UInt8 := [42, 27, 181, 0, 244, 42, 182, 1, 38, 42, 182, 1, 44, 4, 159, 0, 7, 4, 167, 0, 4, 3, 61, 42]
abbrev dktX0_isSpared_0 : List UInt8 := dkwX0_isSpared_0 ++ dktX0_isSpared_1
theorem dksX0_isSpared_0 : cX0_isSpared.data.toList.drop 0 = dktX0_isSpared_0 := by decide +kernel
theorem dksX0_isSpared_1 : cX0_isSpared.data.toList.drop 24 = dktX0_isSpared_1 := dk_seg dksX0_isSpared_0 24 rfl rfl
theorem dX0_isSpared_0 : decode cX0_isSpared 0 = .ok (.aload_n 0, 1) := dk_42 (dk_at dksX0_isSpared_0 0 rfl rfl)
theorem dX0_isSpared_1 : decode cX0_isSpared 1 = .ok (.iload_n 1, 1) := dk_27 (dk_at dksX0_isSpared_0 1 rfl rfl)
theorem dX0_isSpared_2 : decode cX0_isSpared 2 = .ok (.putfield 244, 3) := dk_181 0 244 (dk_at dksX0_isSpared_0 2 rfl rfl)
theorem dX0_isSpared_5 : decode cX0_isSpared 5 = .ok (.aload_n 0, 1) := dk_42 (dk_at dksX0_isSpared_0 5 rfl rfl)
theorem dX0_isSpared_6 : decode cX0_isSpared 6 = .ok (.invokevirtual 294, 3) := dk_182 1 38 (dk_at dksX0_isSpared_0 6 rfl rfl)
theorem dX0_isSpared_9 : decode cX0_isSpared 9 = .ok (.aload_n 0, 1) := dk_42 (dk_at dksX0_isSpared_0 9 rfl rfl)
theorem dX0_isSpared_10 : decode cX0_isSpared 10 = .ok (.invokevirtual 300, 3) := dk_182 1 44 (dk_at dksX0_isSpared_0 10 rfl rfl)
theorem dX0_isSpared_13 : decode cX0_isSpared 13 = .ok (.iconst 1, 1) := dk_4 (dk_at dksX0_isSpared_0 13 rfl rfl)
theorem dX0_isSpared_14 : decode cX0_isSpared 14 = .ok (.if_icmp .eq 7, 3) := dk_159 0 7 (dk_at dksX0_isSpared_0 14 rfl rfl)
theorem dX0_isSpared_17 : decode cX0_isSpared 17 = .ok (.iconst 1, 1) := dk_4 (dk_at dksX0_isSpared_0 17 rfl rfl)
theorem dX0_isSpared_18 : decode cX0_isSpared 18 = .ok (.goto 4, 3) := dk_167 0 4 (dk_at dksX0_isSpared_0 18 rfl rfl)
theorem dX0_isSpared_21 : decode cX0_isSpared 21 = .ok (.iconst 0, 1) := dk_3 (dk_at dksX0_isSpared_0 21 rfl rfl)
theorem dX0_isSpared_22 : decode cX0_isSpared 22 = .ok (.istore_n 2, 1) := dk_61 (dk_at dksX0_isSpared_0 22 rfl rfl)
theorem dX0_isSpared_23 : decode cX0_isSpared 23 = .ok (.aload_n 0, 1) := dk_42 (dk_at dksX0_isSpared_0 23 rfl rfl)
theorem dX0_isSpared_24 : decode cX0_isSpared 24 = .ok (.iconst 0, 1) := dk_3 (dk_at dksX0_isSpared_1 0 rfl rfl)
theorem dX0_isSpared_25 : decode cX0_isSpared 25 = .ok (.putfield 244, 3) := dk_181 0 244 (dk_at dksX0_isSpared_1 1 rfl rfl)
theorem dX0_isSpared_28 : decode cX0_isSpared 28 = .ok (.iload_n 2, 1) := dk_28 (dk_at dksX0_isSpared_1 4 rfl rfl)
theorem dX0_isSpared_29 : decode cX0_isSpared 29 = .ok (.ireturn, 1) := dk_172 (dk_at dksX0_isSpared_1 5 rfl rfl)
theorem dX0_isSpared_30 : decode cX0_isSpared 30 = .ok (.astore_n 3, 1) := dk_78 (dk_at dksX0_isSpared_1 6 rfl rfl)
theorem dX0_isSpared_31 : decode cX0_isSpared 31 = .ok (.aload_n 0, 1) := dk_42 (dk_at dksX0_isSpared_1 7 rfl rfl)
theorem dX0_isSpared_32 : decode cX0_isSpared 32 = .ok (.iconst 0, 1) := dk_3 (dk_at dksX0_isSpared_1 8 rfl rfl)
theorem dX0_isSpared_33 : decode cX0_isSpared 33 = .ok (.putfield 244, 3) := dk_181 0 244 (dk_at dksX0_isSpared_1 9 rfl rfl)
theorem dX0_isSpared_36 : decode cX0_isSpared 36 = .ok (.aload_n 3, 1) := dk_45 (dk_at dksX0_isSpared_1 12 rfl rfl)
theorem dX0_isSpared_37 : decode cX0_isSpared 37 = .ok (.athrow, 1) := dk_191 (dk_at dksX0_isSpared_1 13 rfl rfl)
abbrev cX0_seen : ByteArray := prog_1_method_57_code
def yX0_seen : MethodName := ⟨RX0, "seen", "(II)I"⟩
def dkwX0_seen_2 : List UInt8 := [79, 89, 4, 28, 79, 182, 0, 165, 87, 42, 180, 0, 68, 182, 0, 162, 172]
abbrev dktX0_seen_2 : List UInt8 := dkwX0_seen_2 ++ []
def dkwX0_seen_1 : List UInt8 := [180, 0, 68, 182, 0, 162, 16, 8, 160, 0, 6, 16, 252, 172, 42, 180, 0, 68, 5, 188, 10, 89, 3, 27]
abbrev dktX0_seen_1 : List UInt8 := dkwX0_seen_1 ++ dktX0_seen_2
def dkwX0_seen_0 : List UInt8 := [27, 184, 0, 150, 153, 0, 15, 28, 133, 9, 20, 1, 82, 184, 0, 90, 154, 0, 6, 16, 254, 172, 42]
abbrev dktX0_seen_0 : List UInt8 := dkwX0_seen_0 ++ dktX0_seen_1
theorem dksX0_seen_0 : cX0_seen.data.toList.drop 0 = dktX0_seen_0 := by decide +kernel
theorem dksX0_seen_1 : cX0_seen.data.toList.drop 23 = dktX0_seen_1 := dk_seg dksX0_seen_0 23 rfl rfl
theorem dksX0_seen_2 : cX0_seen.data.toList.drop 47 = dktX0_seen_2 := dk_seg dksX0_seen_1 24 rfl rfl
theorem dX0_seen_0 : decode cX0_seen 0 = .ok (.iload_n 1, 1) := dk_27 (dk_at dksX0_seen_0 0 rfl rfl)
theorem dX0_seen_1 : decode cX0_seen 1 = .ok (.invokestatic 150, 3) := dk_184 0 150 (dk_at dksX0_seen_0 1 rfl rfl)
theorem dX0_seen_4 : decode cX0_seen 4 = .ok (.ifCond .eq 15, 3) := dk_153 0 15 (dk_at dksX0_seen_0 4 rfl rfl)
theorem dX0_seen_7 : decode cX0_seen 7 = .ok (.iload_n 2, 1) := dk_28 (dk_at dksX0_seen_0 7 rfl rfl)
theorem dX0_seen_8 : decode cX0_seen 8 = .ok (.i2l, 1) := dk_133 (dk_at dksX0_seen_0 8 rfl rfl)
theorem dX0_seen_9 : decode cX0_seen 9 = .ok (.lconst 0, 1) := dk_9 (dk_at dksX0_seen_0 9 rfl rfl)
theorem dX0_seen_10 : decode cX0_seen 10 = .ok (.ldc2_w 338, 3) := dk_20 1 82 (dk_at dksX0_seen_0 10 rfl rfl)
theorem dX0_seen_13 : decode cX0_seen 13 = .ok (.invokestatic 90, 3) := dk_184 0 90 (dk_at dksX0_seen_0 13 rfl rfl)
theorem dX0_seen_16 : decode cX0_seen 16 = .ok (.ifCond .ne 6, 3) := dk_154 0 6 (dk_at dksX0_seen_0 16 rfl rfl)
theorem dX0_seen_19 : decode cX0_seen 19 = .ok (.bipush (-2), 2) := dk_16 254 (dk_at dksX0_seen_0 19 rfl rfl)
theorem dX0_seen_21 : decode cX0_seen 21 = .ok (.ireturn, 1) := dk_172 (dk_at dksX0_seen_0 21 rfl rfl)
theorem dX0_seen_22 : decode cX0_seen 22 = .ok (.aload_n 0, 1) := dk_42 (dk_at dksX0_seen_0 22 rfl rfl)
theorem dX0_seen_23 : decode cX0_seen 23 = .ok (.getfield 68, 3) := dk_180 0 68 (dk_at dksX0_seen_1 0 rfl rfl)
theorem dX0_seen_26 : decode cX0_seen 26 = .ok (.invokevirtual 162, 3) := dk_182 0 162 (dk_at dksX0_seen_1 3 rfl rfl)
theorem dX0_seen_29 : decode cX0_seen 29 = .ok (.bipush 8, 2) := dk_16 8 (dk_at dksX0_seen_1 6 rfl rfl)
theorem dX0_seen_31 : decode cX0_seen 31 = .ok (.if_icmp .ne 6, 3) := dk_160 0 6 (dk_at dksX0_seen_1 8 rfl rfl)
theorem dX0_seen_34 : decode cX0_seen 34 = .ok (.bipush (-4), 2) := dk_16 252 (dk_at dksX0_seen_1 11 rfl rfl)
theorem dX0_seen_36 : decode cX0_seen 36 = .ok (.ireturn, 1) := dk_172 (dk_at dksX0_seen_1 13 rfl rfl)
theorem dX0_seen_37 : decode cX0_seen 37 = .ok (.aload_n 0, 1) := dk_42 (dk_at dksX0_seen_1 14 rfl rfl)
theorem dX0_seen_38 : decode cX0_seen 38 = .ok (.getfield 68, 3) := dk_180 0 68 (dk_at dksX0_seen_1 15 rfl rfl)
theorem dX0_seen_41 : decode cX0_seen 41 = .ok (.iconst 2, 1) := dk_5 (dk_at dksX0_seen_1 18 rfl rfl)
theorem dX0_seen_42 : decode cX0_seen 42 = .ok (.newarray .int, 2) := dk_188_10 (dk_at dksX0_seen_1 19 rfl rfl)
theorem dX0_seen_44 : decode cX0_seen 44 = .ok (.dup, 1) := dk_89 (dk_at dksX0_seen_1 21 rfl rfl)
theorem dX0_seen_45 : decode cX0_seen 45 = .ok (.iconst 0, 1) := dk_3 (dk_at dksX0_seen_1 22 rfl rfl)
theorem dX0_seen_46 : decode cX0_seen 46 = .ok (.iload_n 1, 1) := dk_27 (dk_at dksX0_seen_1 23 rfl rfl)
theorem dX0_seen_47 : decode cX0_seen 47 = .ok (.iastore, 1) := dk_79 (dk_at dksX0_seen_2 0 rfl rfl)
theorem dX0_seen_48 : decode cX0_seen 48 = .ok (.dup, 1) := dk_89 (dk_at dksX0_seen_2 1 rfl rfl)
theorem dX0_seen_49 : decode cX0_seen 49 = .ok (.iconst 1, 1) := dk_4 (dk_at dksX0_seen_2 2 rfl rfl)
theorem dX0_seen_50 : decode cX0_seen 50 = .ok (.iload_n 2, 1) := dk_28 (dk_at dksX0_seen_2 3 rfl rfl)
theorem dX0_seen_51 : decode cX0_seen 51 = .ok (.iastore, 1) := dk_79 (dk_at dksX0_seen_2 4 rfl rfl)
theorem dX0_seen_52 : decode cX0_seen 52 = .ok (.invokevirtual 165, 3) := dk_182 0 165 (dk_at dksX0_seen_2 5 rfl rfl)
theorem dX0_seen_55 : decode cX0_seen 55 = .ok (.pop, 1) := dk_87 (dk_at dksX0_seen_2 8 rfl rfl)
theorem dX0_seen_56 : decode cX0_seen 56 = .ok (.aload_n 0, 1) := dk_42 (dk_at dksX0_seen_2 9 rfl rfl)
theorem dX0_seen_57 : decode cX0_seen 57 = .ok (.getfield 68, 3) := dk_180 0 68 (dk_at dksX0_seen_2 10 rfl rfl)
theorem dX0_seen_60 : decode cX0_seen 60 = .ok (.invokevirtual 162, 3) := dk_182 0 162 (dk_at dksX0_seen_2 13 rfl rfl)
theorem dX0_seen_63 : decode cX0_seen 63 = .ok (.ireturn, 1) := dk_172 (dk_at dksX0_seen_2 16 rfl rfl)
abbrev cX0_forget : ByteArray := prog_1_method_58_code
def yX0_forget : MethodName := ⟨RX0, "forget", "()I"⟩
def dkwX0_forget_0 : List UInt8 := [42, 180, 0, 68, 182, 0, 162, 60, 42, 180, 0, 68, 182, 1, 84, 27, 172]
abbrev dktX0_forget_0 : List UInt8 := dkwX0_forget_0 ++ []
theorem dksX0_forget_0 : cX0_forget.data.toList.drop 0 = dktX0_forget_0 := by decide +kernel
theorem dX0_forget_0 : decode cX0_forget 0 = .ok (.aload_n 0, 1) := dk_42 (dk_at dksX0_forget_0 0 rfl rfl)
theorem dX0_forget_1 : decode cX0_forget 1 = .ok (.getfield 68, 3) := dk_180 0 68 (dk_at dksX0_forget_0 1 rfl rfl)
theorem dX0_forget_4 : decode cX0_forget 4 = .ok (.invokevirtual 162, 3) := dk_182 0 162 (dk_at dksX0_forget_0 4 rfl rfl)
theorem dX0_forget_7 : decode cX0_forget 7 = .ok (.istore_n 1, 1) := dk_60 (dk_at dksX0_forget_0 7 rfl rfl)
theorem dX0_forget_8 : decode cX0_forget 8 = .ok (.aload_n 0, 1) := dk_42 (dk_at dksX0_forget_0 8 rfl rfl)
theorem dX0_forget_9 : decode cX0_forget 9 = .ok (.getfield 68, 3) := dk_180 0 68 (dk_at dksX0_forget_0 9 rfl rfl)
theorem dX0_forget_12 : decode cX0_forget 12 = .ok (.invokevirtual 340, 3) := dk_182 1 84 (dk_at dksX0_forget_0 12 rfl rfl)
theorem dX0_forget_15 : decode cX0_forget 15 = .ok (.iload_n 1, 1) := dk_27 (dk_at dksX0_forget_0 15 rfl rfl)
theorem dX0_forget_16 : decode cX0_forget 16 = .ok (.ireturn, 1) := dk_172 (dk_at dksX0_forget_0 16 rfl rfl)
abbrev cX0_never : ByteArray := prog_1_method_61_code
def yX0_never : MethodName := ⟨RX0, "never", "()I"⟩
theorem dX0_never_0 : decode cX0_never 0 = .ok (.aload_n 0, 1) := by decide +kernel
theorem dX0_never_1 : decode cX0_never 1 = .ok (.invokevirtual 346, 3) := by decide +kernel
theorem dX0_never_4 : decode cX0_never 4 = .ok (.ireturn, 1) := by decide +kernel
abbrev cX0_neverNow : ByteArray := prog_1_method_60_code
def yX0_neverNow : MethodName := ⟨RX0, "neverNow", "()I"⟩
def dkwX0_neverNow_2 : List UInt8 := [181, 0, 244, 167, 0, 11, 78, 42, 3, 181, 0, 244, 45, 191, 27, 172]
abbrev dktX0_neverNow_2 : List UInt8 := dkwX0_neverNow_2 ++ []
def dkwX0_neverNow_1 : List UInt8 := [182, 1, 87, 153, 0, 9, 4, 28, 120, 167, 0, 4, 3, 128, 60, 132, 2, 1, 167, 255, 218, 42, 3]
abbrev dktX0_neverNow_1 : List UInt8 := dkwX0_neverNow_1 ++ dktX0_neverNow_2
def dkwX0_neverNow_0 : List UInt8 := [3, 60, 3, 61, 28, 42, 180, 0, 36, 182, 0, 162, 162, 0, 33, 42, 4, 28, 120, 181, 0, 244, 27, 42]
abbrev dktX0_neverNow_0 : List UInt8 := dkwX0_neverNow_0 ++ dktX0_neverNow_1
theorem dksX0_neverNow_0 : cX0_neverNow.data.toList.drop 0 = dktX0_neverNow_0 := by decide +kernel
theorem dksX0_neverNow_1 : cX0_neverNow.data.toList.drop 24 = dktX0_neverNow_1 := dk_seg dksX0_neverNow_0 24 rfl rfl
theorem dksX0_neverNow_2 : cX0_neverNow.data.toList.drop 47 = dktX0_neverNow_2 := dk_seg dksX0_neverNow_1 23 rfl rfl
theorem dX0_neverNow_0 : decode cX0_neverNow 0 = .ok (.iconst 0, 1) := dk_3 (dk_at dksX0_neverNow_0 0 rfl rfl)
theorem dX0_neverNow_1 : decode cX0_neverNow 1 = .ok (.istore_n 1, 1) := dk_60 (dk_at dksX0_neverNow_0 1 rfl rfl)
theorem dX0_neverNow_2 : decode cX0_neverNow 2 = .ok (.iconst 0, 1) := dk_3 (dk_at dksX0_neverNow_0 2 rfl rfl)
theorem dX0_neverNow_3 : decode cX0_neverNow 3 = .ok (.istore_n 2, 1) := dk_61 (dk_at dksX0_neverNow_0 3 rfl rfl)
theorem dX0_neverNow_4 : decode cX0_neverNow 4 = .ok (.iload_n 2, 1) := dk_28 (dk_at dksX0_neverNow_0 4 rfl rfl)
theorem dX0_neverNow_5 : decode cX0_neverNow 5 = .ok (.aload_n 0, 1) := dk_42 (dk_at dksX0_neverNow_0 5 rfl rfl)
theorem dX0_neverNow_6 : decode cX0_neverNow 6 = .ok (.getfield 36, 3) := dk_180 0 36 (dk_at dksX0_neverNow_0 6 rfl rfl)
theorem dX0_neverNow_9 : decode cX0_neverNow 9 = .ok (.invokevirtual 162, 3) := dk_182 0 162 (dk_at dksX0_neverNow_0 9 rfl rfl)
theorem dX0_neverNow_12 : decode cX0_neverNow 12 = .ok (.if_icmp .ge 33, 3) := dk_162 0 33 (dk_at dksX0_neverNow_0 12 rfl rfl)
theorem dX0_neverNow_15 : decode cX0_neverNow 15 = .ok (.aload_n 0, 1) := dk_42 (dk_at dksX0_neverNow_0 15 rfl rfl)
theorem dX0_neverNow_16 : decode cX0_neverNow 16 = .ok (.iconst 1, 1) := dk_4 (dk_at dksX0_neverNow_0 16 rfl rfl)
theorem dX0_neverNow_17 : decode cX0_neverNow 17 = .ok (.iload_n 2, 1) := dk_28 (dk_at dksX0_neverNow_0 17 rfl rfl)
theorem dX0_neverNow_18 : decode cX0_neverNow 18 = .ok (.ishl, 1) := dk_120 (dk_at dksX0_neverNow_0 18 rfl rfl)
theorem dX0_neverNow_19 : decode cX0_neverNow 19 = .ok (.putfield 244, 3) := dk_181 0 244 (dk_at dksX0_neverNow_0 19 rfl rfl)
theorem dX0_neverNow_22 : decode cX0_neverNow 22 = .ok (.iload_n 1, 1) := dk_27 (dk_at dksX0_neverNow_0 22 rfl rfl)
theorem dX0_neverNow_23 : decode cX0_neverNow 23 = .ok (.aload_n 0, 1) := dk_42 (dk_at dksX0_neverNow_0 23 rfl rfl)
theorem dX0_neverNow_24 : decode cX0_neverNow 24 = .ok (.invokevirtual 343, 3) := dk_182 1 87 (dk_at dksX0_neverNow_1 0 rfl rfl)
theorem dX0_neverNow_27 : decode cX0_neverNow 27 = .ok (.ifCond .eq 9, 3) := dk_153 0 9 (dk_at dksX0_neverNow_1 3 rfl rfl)
theorem dX0_neverNow_30 : decode cX0_neverNow 30 = .ok (.iconst 1, 1) := dk_4 (dk_at dksX0_neverNow_1 6 rfl rfl)
theorem dX0_neverNow_31 : decode cX0_neverNow 31 = .ok (.iload_n 2, 1) := dk_28 (dk_at dksX0_neverNow_1 7 rfl rfl)
theorem dX0_neverNow_32 : decode cX0_neverNow 32 = .ok (.ishl, 1) := dk_120 (dk_at dksX0_neverNow_1 8 rfl rfl)
theorem dX0_neverNow_33 : decode cX0_neverNow 33 = .ok (.goto 4, 3) := dk_167 0 4 (dk_at dksX0_neverNow_1 9 rfl rfl)
theorem dX0_neverNow_36 : decode cX0_neverNow 36 = .ok (.iconst 0, 1) := dk_3 (dk_at dksX0_neverNow_1 12 rfl rfl)
theorem dX0_neverNow_37 : decode cX0_neverNow 37 = .ok (.ior, 1) := dk_128 (dk_at dksX0_neverNow_1 13 rfl rfl)
theorem dX0_neverNow_38 : decode cX0_neverNow 38 = .ok (.istore_n 1, 1) := dk_60 (dk_at dksX0_neverNow_1 14 rfl rfl)
theorem dX0_neverNow_39 : decode cX0_neverNow 39 = .ok (.iinc 2 1, 3) := dk_132 2 1 (dk_at dksX0_neverNow_1 15 rfl rfl)
theorem dX0_neverNow_42 : decode cX0_neverNow 42 = .ok (.goto (-38), 3) := dk_167 255 218 (dk_at dksX0_neverNow_1 18 rfl rfl)
theorem dX0_neverNow_45 : decode cX0_neverNow 45 = .ok (.aload_n 0, 1) := dk_42 (dk_at dksX0_neverNow_1 21 rfl rfl)
theorem dX0_neverNow_46 : decode cX0_neverNow 46 = .ok (.iconst 0, 1) := dk_3 (dk_at dksX0_neverNow_1 22 rfl rfl)
theorem dX0_neverNow_47 : decode cX0_neverNow 47 = .ok (.putfield 244, 3) := dk_181 0 244 (dk_at dksX0_neverNow_2 0 rfl rfl)
theorem dX0_neverNow_50 : decode cX0_neverNow 50 = .ok (.goto 11, 3) := dk_167 0 11 (dk_at dksX0_neverNow_2 3 rfl rfl)
theorem dX0_neverNow_53 : decode cX0_neverNow 53 = .ok (.astore_n 3, 1) := dk_78 (dk_at dksX0_neverNow_2 6 rfl rfl)
theorem dX0_neverNow_54 : decode cX0_neverNow 54 = .ok (.aload_n 0, 1) := dk_42 (dk_at dksX0_neverNow_2 7 rfl rfl)
theorem dX0_neverNow_55 : decode cX0_neverNow 55 = .ok (.iconst 0, 1) := dk_3 (dk_at dksX0_neverNow_2 8 rfl rfl)
theorem dX0_neverNow_56 : decode cX0_neverNow 56 = .ok (.putfield 244, 3) := dk_181 0 244 (dk_at dksX0_neverNow_2 9 rfl rfl)
theorem dX0_neverNow_59 : decode cX0_neverNow 59 = .ok (.aload_n 3, 1) := dk_45 (dk_at dksX0_neverNow_2 12 rfl rfl)
theorem dX0_neverNow_60 : decode cX0_neverNow 60 = .ok (.athrow, 1) := dk_191 (dk_at dksX0_neverNow_2 13 rfl rfl)
theorem dX0_neverNow_61 : decode cX0_neverNow 61 = .ok (.iload_n 1, 1) := dk_27 (dk_at dksX0_neverNow_2 14 rfl rfl)
theorem dX0_neverNow_62 : decode cX0_neverNow 62 = .ok (.ireturn, 1) := dk_172 (dk_at dksX0_neverNow_2 15 rfl rfl)
abbrev cX0_isSeen : ByteArray := prog_1_method_59_code
def yX0_isSeen : MethodName := ⟨RX0, "isSeen", "()Z"⟩
def dkwX0_isSeen_3 : List UInt8 := [172]
abbrev dktX0_isSeen_3 : List UInt8 := dkwX0_isSeen_3 ++ []
def dkwX0_isSeen_2 : List UInt8 := [182, 0, 126, 192, 0, 243, 4, 46, 160, 0, 7, 4, 167, 0, 4, 3, 60, 132, 2, 1, 167, 255, 196, 27]
abbrev dktX0_isSeen_2 : List UInt8 := dkwX0_isSeen_2 ++ dktX0_isSeen_3
def dkwX0_isSeen_1 : List UInt8 := [180, 0, 49, 42, 180, 0, 68, 28, 182, 0, 126, 192, 0, 243, 3, 46, 50, 3, 46, 42, 180, 0, 68, 28]
abbrev dktX0_isSeen_1 : List UInt8 := dkwX0_isSeen_1 ++ dktX0_isSeen_2
def dkwX0_isSeen_0 : List UInt8 := [42, 182, 1, 38, 4, 60, 3, 61, 28, 42, 180, 0, 68, 182, 0, 162, 162, 0, 55, 27, 153, 0, 51, 42]
abbrev dktX0_isSeen_0 : List UInt8 := dkwX0_isSeen_0 ++ dktX0_isSeen_1
theorem dksX0_isSeen_0 : cX0_isSeen.data.toList.drop 0 = dktX0_isSeen_0 := by decide +kernel
theorem dksX0_isSeen_1 : cX0_isSeen.data.toList.drop 24 = dktX0_isSeen_1 := dk_seg dksX0_isSeen_0 24 rfl rfl
theorem dksX0_isSeen_2 : cX0_isSeen.data.toList.drop 48 = dktX0_isSeen_2 := dk_seg dksX0_isSeen_1 24 rfl rfl
theorem dksX0_isSeen_3 : cX0_isSeen.data.toList.drop 72 = dktX0_isSeen_3 := dk_seg dksX0_isSeen_2 24 rfl rfl
theorem dX0_isSeen_0 : decode cX0_isSeen 0 = .ok (.aload_n 0, 1) := dk_42 (dk_at dksX0_isSeen_0 0 rfl rfl)
theorem dX0_isSeen_1 : decode cX0_isSeen 1 = .ok (.invokevirtual 294, 3) := dk_182 1 38 (dk_at dksX0_isSeen_0 1 rfl rfl)
theorem dX0_isSeen_4 : decode cX0_isSeen 4 = .ok (.iconst 1, 1) := dk_4 (dk_at dksX0_isSeen_0 4 rfl rfl)
theorem dX0_isSeen_5 : decode cX0_isSeen 5 = .ok (.istore_n 1, 1) := dk_60 (dk_at dksX0_isSeen_0 5 rfl rfl)
theorem dX0_isSeen_6 : decode cX0_isSeen 6 = .ok (.iconst 0, 1) := dk_3 (dk_at dksX0_isSeen_0 6 rfl rfl)
theorem dX0_isSeen_7 : decode cX0_isSeen 7 = .ok (.istore_n 2, 1) := dk_61 (dk_at dksX0_isSeen_0 7 rfl rfl)
theorem dX0_isSeen_8 : decode cX0_isSeen 8 = .ok (.iload_n 2, 1) := dk_28 (dk_at dksX0_isSeen_0 8 rfl rfl)
theorem dX0_isSeen_9 : decode cX0_isSeen 9 = .ok (.aload_n 0, 1) := dk_42 (dk_at dksX0_isSeen_0 9 rfl rfl)
theorem dX0_isSeen_10 : decode cX0_isSeen 10 = .ok (.getfield 68, 3) := dk_180 0 68 (dk_at dksX0_isSeen_0 10 rfl rfl)
theorem dX0_isSeen_13 : decode cX0_isSeen 13 = .ok (.invokevirtual 162, 3) := dk_182 0 162 (dk_at dksX0_isSeen_0 13 rfl rfl)
theorem dX0_isSeen_16 : decode cX0_isSeen 16 = .ok (.if_icmp .ge 55, 3) := dk_162 0 55 (dk_at dksX0_isSeen_0 16 rfl rfl)
theorem dX0_isSeen_19 : decode cX0_isSeen 19 = .ok (.iload_n 1, 1) := dk_27 (dk_at dksX0_isSeen_0 19 rfl rfl)
theorem dX0_isSeen_20 : decode cX0_isSeen 20 = .ok (.ifCond .eq 51, 3) := dk_153 0 51 (dk_at dksX0_isSeen_0 20 rfl rfl)
theorem dX0_isSeen_23 : decode cX0_isSeen 23 = .ok (.aload_n 0, 1) := dk_42 (dk_at dksX0_isSeen_0 23 rfl rfl)
theorem dX0_isSeen_24 : decode cX0_isSeen 24 = .ok (.getfield 49, 3) := dk_180 0 49 (dk_at dksX0_isSeen_1 0 rfl rfl)
theorem dX0_isSeen_27 : decode cX0_isSeen 27 = .ok (.aload_n 0, 1) := dk_42 (dk_at dksX0_isSeen_1 3 rfl rfl)
theorem dX0_isSeen_28 : decode cX0_isSeen 28 = .ok (.getfield 68, 3) := dk_180 0 68 (dk_at dksX0_isSeen_1 4 rfl rfl)
theorem dX0_isSeen_31 : decode cX0_isSeen 31 = .ok (.iload_n 2, 1) := dk_28 (dk_at dksX0_isSeen_1 7 rfl rfl)
theorem dX0_isSeen_32 : decode cX0_isSeen 32 = .ok (.invokevirtual 126, 3) := dk_182 0 126 (dk_at dksX0_isSeen_1 8 rfl rfl)
theorem dX0_isSeen_35 : decode cX0_isSeen 35 = .ok (.checkcast 243, 3) := dk_192 0 243 (dk_at dksX0_isSeen_1 11 rfl rfl)
theorem dX0_isSeen_38 : decode cX0_isSeen 38 = .ok (.iconst 0, 1) := dk_3 (dk_at dksX0_isSeen_1 14 rfl rfl)
theorem dX0_isSeen_39 : decode cX0_isSeen 39 = .ok (.iaload, 1) := dk_46 (dk_at dksX0_isSeen_1 15 rfl rfl)
theorem dX0_isSeen_40 : decode cX0_isSeen 40 = .ok (.aaload, 1) := dk_50 (dk_at dksX0_isSeen_1 16 rfl rfl)
theorem dX0_isSeen_41 : decode cX0_isSeen 41 = .ok (.iconst 0, 1) := dk_3 (dk_at dksX0_isSeen_1 17 rfl rfl)
theorem dX0_isSeen_42 : decode cX0_isSeen 42 = .ok (.iaload, 1) := dk_46 (dk_at dksX0_isSeen_1 18 rfl rfl)
theorem dX0_isSeen_43 : decode cX0_isSeen 43 = .ok (.aload_n 0, 1) := dk_42 (dk_at dksX0_isSeen_1 19 rfl rfl)
theorem dX0_isSeen_44 : decode cX0_isSeen 44 = .ok (.getfield 68, 3) := dk_180 0 68 (dk_at dksX0_isSeen_1 20 rfl rfl)
theorem dX0_isSeen_47 : decode cX0_isSeen 47 = .ok (.iload_n 2, 1) := dk_28 (dk_at dksX0_isSeen_1 23 rfl rfl)
theorem dX0_isSeen_48 : decode cX0_isSeen 48 = .ok (.invokevirtual 126, 3) := dk_182 0 126 (dk_at dksX0_isSeen_2 0 rfl rfl)
theorem dX0_isSeen_51 : decode cX0_isSeen 51 = .ok (.checkcast 243, 3) := dk_192 0 243 (dk_at dksX0_isSeen_2 3 rfl rfl)
theorem dX0_isSeen_54 : decode cX0_isSeen 54 = .ok (.iconst 1, 1) := dk_4 (dk_at dksX0_isSeen_2 6 rfl rfl)
theorem dX0_isSeen_55 : decode cX0_isSeen 55 = .ok (.iaload, 1) := dk_46 (dk_at dksX0_isSeen_2 7 rfl rfl)
theorem dX0_isSeen_56 : decode cX0_isSeen 56 = .ok (.if_icmp .ne 7, 3) := dk_160 0 7 (dk_at dksX0_isSeen_2 8 rfl rfl)
theorem dX0_isSeen_59 : decode cX0_isSeen 59 = .ok (.iconst 1, 1) := dk_4 (dk_at dksX0_isSeen_2 11 rfl rfl)
theorem dX0_isSeen_60 : decode cX0_isSeen 60 = .ok (.goto 4, 3) := dk_167 0 4 (dk_at dksX0_isSeen_2 12 rfl rfl)
theorem dX0_isSeen_63 : decode cX0_isSeen 63 = .ok (.iconst 0, 1) := dk_3 (dk_at dksX0_isSeen_2 15 rfl rfl)
theorem dX0_isSeen_64 : decode cX0_isSeen 64 = .ok (.istore_n 1, 1) := dk_60 (dk_at dksX0_isSeen_2 16 rfl rfl)
theorem dX0_isSeen_65 : decode cX0_isSeen 65 = .ok (.iinc 2 1, 3) := dk_132 2 1 (dk_at dksX0_isSeen_2 17 rfl rfl)
theorem dX0_isSeen_68 : decode cX0_isSeen 68 = .ok (.goto (-60), 3) := dk_167 255 196 (dk_at dksX0_isSeen_2 20 rfl rfl)
theorem dX0_isSeen_71 : decode cX0_isSeen 71 = .ok (.iload_n 1, 1) := dk_27 (dk_at dksX0_isSeen_2 23 rfl rfl)
theorem dX0_isSeen_72 : decode cX0_isSeen 72 = .ok (.ireturn, 1) := dk_172 (dk_at dksX0_isSeen_3 0 rfl rfl)
abbrev cX0_was : ByteArray := prog_1_method_65_code
def yX0_was : MethodName := ⟨RX0, "was", "(II)I"⟩
def dkwX0_was_1 : List UInt8 := [16, 254, 172]
abbrev dktX0_was_1 : List UInt8 := dkwX0_was_1 ++ []
def dkwX0_was_0 : List UInt8 := [42, 27, 182, 0, 132, 153, 0, 19, 28, 184, 0, 147, 153, 0, 12, 42, 27, 28, 182, 1, 104, 167, 0, 5]
abbrev dktX0_was_0 : List UInt8 := dkwX0_was_0 ++ dktX0_was_1
theorem dksX0_was_0 : cX0_was.data.toList.drop 0 = dktX0_was_0 := by decide +kernel
theorem dksX0_was_1 : cX0_was.data.toList.drop 24 = dktX0_was_1 := dk_seg dksX0_was_0 24 rfl rfl
theorem dX0_was_0 : decode cX0_was 0 = .ok (.aload_n 0, 1) := dk_42 (dk_at dksX0_was_0 0 rfl rfl)
theorem dX0_was_1 : decode cX0_was 1 = .ok (.iload_n 1, 1) := dk_27 (dk_at dksX0_was_0 1 rfl rfl)
theorem dX0_was_2 : decode cX0_was 2 = .ok (.invokevirtual 132, 3) := dk_182 0 132 (dk_at dksX0_was_0 2 rfl rfl)
theorem dX0_was_5 : decode cX0_was 5 = .ok (.ifCond .eq 19, 3) := dk_153 0 19 (dk_at dksX0_was_0 5 rfl rfl)
theorem dX0_was_8 : decode cX0_was 8 = .ok (.iload_n 2, 1) := dk_28 (dk_at dksX0_was_0 8 rfl rfl)
theorem dX0_was_9 : decode cX0_was 9 = .ok (.invokestatic 147, 3) := dk_184 0 147 (dk_at dksX0_was_0 9 rfl rfl)
theorem dX0_was_12 : decode cX0_was 12 = .ok (.ifCond .eq 12, 3) := dk_153 0 12 (dk_at dksX0_was_0 12 rfl rfl)
theorem dX0_was_15 : decode cX0_was 15 = .ok (.aload_n 0, 1) := dk_42 (dk_at dksX0_was_0 15 rfl rfl)
theorem dX0_was_16 : decode cX0_was 16 = .ok (.iload_n 1, 1) := dk_27 (dk_at dksX0_was_0 16 rfl rfl)
theorem dX0_was_17 : decode cX0_was 17 = .ok (.iload_n 2, 1) := dk_28 (dk_at dksX0_was_0 17 rfl rfl)
theorem dX0_was_18 : decode cX0_was 18 = .ok (.invokevirtual 360, 3) := dk_182 1 104 (dk_at dksX0_was_0 18 rfl rfl)
theorem dX0_was_21 : decode cX0_was 21 = .ok (.goto 5, 3) := dk_167 0 5 (dk_at dksX0_was_0 21 rfl rfl)
theorem dX0_was_24 : decode cX0_was 24 = .ok (.bipush (-2), 2) := dk_16 254 (dk_at dksX0_was_1 0 rfl rfl)
theorem dX0_was_26 : decode cX0_was 26 = .ok (.ireturn, 1) := dk_172 (dk_at dksX0_was_1 2 rfl rfl)
abbrev cX0_wasOf : ByteArray := prog_1_method_64_code
def yX0_wasOf : MethodName := ⟨RX0, "wasOf", "(II)I"⟩
def dkwX0_wasOf_1 : List UInt8 := [182, 1, 101, 172]
abbrev dktX0_wasOf_1 : List UInt8 := dkwX0_wasOf_1 ++ []
def dkwX0_wasOf_0 : List UInt8 := [28, 154, 0, 15, 42, 42, 27, 182, 0, 137, 182, 1, 97, 167, 0, 12, 42, 42, 27, 182, 0, 137]
abbrev dktX0_wasOf_0 : List UInt8 := dkwX0_wasOf_0 ++ dktX0_wasOf_1
theorem dksX0_wasOf_0 : cX0_wasOf.data.toList.drop 0 = dktX0_wasOf_0 := by decide +kernel
theorem dksX0_wasOf_1 : cX0_wasOf.data.toList.drop 22 = dktX0_wasOf_1 := dk_seg dksX0_wasOf_0 22 rfl rfl
theorem dX0_wasOf_0 : decode cX0_wasOf 0 = .ok (.iload_n 2, 1) := dk_28 (dk_at dksX0_wasOf_0 0 rfl rfl)
theorem dX0_wasOf_1 : decode cX0_wasOf 1 = .ok (.ifCond .ne 15, 3) := dk_154 0 15 (dk_at dksX0_wasOf_0 1 rfl rfl)
theorem dX0_wasOf_4 : decode cX0_wasOf 4 = .ok (.aload_n 0, 1) := dk_42 (dk_at dksX0_wasOf_0 4 rfl rfl)
theorem dX0_wasOf_5 : decode cX0_wasOf 5 = .ok (.aload_n 0, 1) := dk_42 (dk_at dksX0_wasOf_0 5 rfl rfl)
theorem dX0_wasOf_6 : decode cX0_wasOf 6 = .ok (.iload_n 1, 1) := dk_27 (dk_at dksX0_wasOf_0 6 rfl rfl)
theorem dX0_wasOf_7 : decode cX0_wasOf 7 = .ok (.invokevirtual 137, 3) := dk_182 0 137 (dk_at dksX0_wasOf_0 7 rfl rfl)
theorem dX0_wasOf_10 : decode cX0_wasOf 10 = .ok (.invokevirtual 353, 3) := dk_182 1 97 (dk_at dksX0_wasOf_0 10 rfl rfl)
theorem dX0_wasOf_13 : decode cX0_wasOf 13 = .ok (.goto 12, 3) := dk_167 0 12 (dk_at dksX0_wasOf_0 13 rfl rfl)
theorem dX0_wasOf_16 : decode cX0_wasOf 16 = .ok (.aload_n 0, 1) := dk_42 (dk_at dksX0_wasOf_0 16 rfl rfl)
theorem dX0_wasOf_17 : decode cX0_wasOf 17 = .ok (.aload_n 0, 1) := dk_42 (dk_at dksX0_wasOf_0 17 rfl rfl)
theorem dX0_wasOf_18 : decode cX0_wasOf 18 = .ok (.iload_n 1, 1) := dk_27 (dk_at dksX0_wasOf_0 18 rfl rfl)
theorem dX0_wasOf_19 : decode cX0_wasOf 19 = .ok (.invokevirtual 137, 3) := dk_182 0 137 (dk_at dksX0_wasOf_0 19 rfl rfl)
theorem dX0_wasOf_22 : decode cX0_wasOf 22 = .ok (.invokevirtual 357, 3) := dk_182 1 101 (dk_at dksX0_wasOf_1 0 rfl rfl)
theorem dX0_wasOf_25 : decode cX0_wasOf 25 = .ok (.ireturn, 1) := dk_172 (dk_at dksX0_wasOf_1 3 rfl rfl)
abbrev cX0_weightsBy : ByteArray := prog_1_method_62_code
def yX0_weightsBy : MethodName := ⟨RX0, "weightsBy", "(LTugOfWar$Puller;)I"⟩
def dkwX0_weightsBy_4 : List UInt8 := [181, 0, 208, 167, 0, 13, 58, 5, 43, 28, 181, 0, 208, 25, 5, 191, 29, 172]
abbrev dktX0_weightsBy_4 : List UInt8 := dkwX0_weightsBy_4 ++ []
def dkwX0_weightsBy_3 : List UInt8 := [46, 79, 132, 4, 1, 167, 255, 225, 43, 89, 180, 0, 208, 4, 96, 181, 0, 208, 167, 255, 180, 43, 28]
abbrev dktX0_weightsBy_3 : List UInt8 := dkwX0_weightsBy_3 ++ dktX0_weightsBy_4
def dkwX0_weightsBy_2 : List UInt8 := [16, 24, 162, 0, 30, 42, 180, 0, 71, 43, 180, 0, 208, 50, 21, 4, 42, 180, 0, 49, 21, 4, 50, 3]
abbrev dktX0_weightsBy_2 : List UInt8 := dkwX0_weightsBy_2 ++ dktX0_weightsBy_3
def dkwX0_weightsBy_1 : List UInt8 := [182, 1, 87, 153, 0, 12, 4, 43, 180, 0, 208, 120, 167, 0, 4, 3, 128, 62, 3, 54, 4, 21, 4]
abbrev dktX0_weightsBy_1 : List UInt8 := dkwX0_weightsBy_1 ++ dktX0_weightsBy_2
def dkwX0_weightsBy_0 : List UInt8 := [43, 180, 0, 208, 61, 3, 62, 43, 4, 181, 0, 208, 43, 180, 0, 208, 16, 9, 163, 0, 73, 29, 42]
abbrev dktX0_weightsBy_0 : List UInt8 := dkwX0_weightsBy_0 ++ dktX0_weightsBy_1
theorem dksX0_weightsBy_0 : cX0_weightsBy.data.toList.drop 0 = dktX0_weightsBy_0 := by decide +kernel
theorem dksX0_weightsBy_1 : cX0_weightsBy.data.toList.drop 23 = dktX0_weightsBy_1 := dk_seg dksX0_weightsBy_0 23 rfl rfl
theorem dksX0_weightsBy_2 : cX0_weightsBy.data.toList.drop 46 = dktX0_weightsBy_2 := dk_seg dksX0_weightsBy_1 23 rfl rfl
theorem dksX0_weightsBy_3 : cX0_weightsBy.data.toList.drop 70 = dktX0_weightsBy_3 := dk_seg dksX0_weightsBy_2 24 rfl rfl
theorem dksX0_weightsBy_4 : cX0_weightsBy.data.toList.drop 93 = dktX0_weightsBy_4 := dk_seg dksX0_weightsBy_3 23 rfl rfl
theorem dX0_weightsBy_0 : decode cX0_weightsBy 0 = .ok (.aload_n 1, 1) := dk_43 (dk_at dksX0_weightsBy_0 0 rfl rfl)
theorem dX0_weightsBy_1 : decode cX0_weightsBy 1 = .ok (.getfield 208, 3) := dk_180 0 208 (dk_at dksX0_weightsBy_0 1 rfl rfl)
theorem dX0_weightsBy_4 : decode cX0_weightsBy 4 = .ok (.istore_n 2, 1) := dk_61 (dk_at dksX0_weightsBy_0 4 rfl rfl)
theorem dX0_weightsBy_5 : decode cX0_weightsBy 5 = .ok (.iconst 0, 1) := dk_3 (dk_at dksX0_weightsBy_0 5 rfl rfl)
theorem dX0_weightsBy_6 : decode cX0_weightsBy 6 = .ok (.istore_n 3, 1) := dk_62 (dk_at dksX0_weightsBy_0 6 rfl rfl)
theorem dX0_weightsBy_7 : decode cX0_weightsBy 7 = .ok (.aload_n 1, 1) := dk_43 (dk_at dksX0_weightsBy_0 7 rfl rfl)
theorem dX0_weightsBy_8 : decode cX0_weightsBy 8 = .ok (.iconst 1, 1) := dk_4 (dk_at dksX0_weightsBy_0 8 rfl rfl)
theorem dX0_weightsBy_9 : decode cX0_weightsBy 9 = .ok (.putfield 208, 3) := dk_181 0 208 (dk_at dksX0_weightsBy_0 9 rfl rfl)
theorem dX0_weightsBy_12 : decode cX0_weightsBy 12 = .ok (.aload_n 1, 1) := dk_43 (dk_at dksX0_weightsBy_0 12 rfl rfl)
theorem dX0_weightsBy_13 : decode cX0_weightsBy 13 = .ok (.getfield 208, 3) := dk_180 0 208 (dk_at dksX0_weightsBy_0 13 rfl rfl)
theorem dX0_weightsBy_16 : decode cX0_weightsBy 16 = .ok (.bipush 9, 2) := dk_16 9 (dk_at dksX0_weightsBy_0 16 rfl rfl)
theorem dX0_weightsBy_18 : decode cX0_weightsBy 18 = .ok (.if_icmp .gt 73, 3) := dk_163 0 73 (dk_at dksX0_weightsBy_0 18 rfl rfl)
theorem dX0_weightsBy_21 : decode cX0_weightsBy 21 = .ok (.iload_n 3, 1) := dk_29 (dk_at dksX0_weightsBy_0 21 rfl rfl)
theorem dX0_weightsBy_22 : decode cX0_weightsBy 22 = .ok (.aload_n 0, 1) := dk_42 (dk_at dksX0_weightsBy_0 22 rfl rfl)
theorem dX0_weightsBy_23 : decode cX0_weightsBy 23 = .ok (.invokevirtual 343, 3) := dk_182 1 87 (dk_at dksX0_weightsBy_1 0 rfl rfl)
theorem dX0_weightsBy_26 : decode cX0_weightsBy 26 = .ok (.ifCond .eq 12, 3) := dk_153 0 12 (dk_at dksX0_weightsBy_1 3 rfl rfl)
theorem dX0_weightsBy_29 : decode cX0_weightsBy 29 = .ok (.iconst 1, 1) := dk_4 (dk_at dksX0_weightsBy_1 6 rfl rfl)
theorem dX0_weightsBy_30 : decode cX0_weightsBy 30 = .ok (.aload_n 1, 1) := dk_43 (dk_at dksX0_weightsBy_1 7 rfl rfl)
theorem dX0_weightsBy_31 : decode cX0_weightsBy 31 = .ok (.getfield 208, 3) := dk_180 0 208 (dk_at dksX0_weightsBy_1 8 rfl rfl)
theorem dX0_weightsBy_34 : decode cX0_weightsBy 34 = .ok (.ishl, 1) := dk_120 (dk_at dksX0_weightsBy_1 11 rfl rfl)
theorem dX0_weightsBy_35 : decode cX0_weightsBy 35 = .ok (.goto 4, 3) := dk_167 0 4 (dk_at dksX0_weightsBy_1 12 rfl rfl)
theorem dX0_weightsBy_38 : decode cX0_weightsBy 38 = .ok (.iconst 0, 1) := dk_3 (dk_at dksX0_weightsBy_1 15 rfl rfl)
theorem dX0_weightsBy_39 : decode cX0_weightsBy 39 = .ok (.ior, 1) := dk_128 (dk_at dksX0_weightsBy_1 16 rfl rfl)
theorem dX0_weightsBy_40 : decode cX0_weightsBy 40 = .ok (.istore_n 3, 1) := dk_62 (dk_at dksX0_weightsBy_1 17 rfl rfl)
theorem dX0_weightsBy_41 : decode cX0_weightsBy 41 = .ok (.iconst 0, 1) := dk_3 (dk_at dksX0_weightsBy_1 18 rfl rfl)
theorem dX0_weightsBy_42 : decode cX0_weightsBy 42 = .ok (.istore 4, 2) := dk_54 4 (dk_at dksX0_weightsBy_1 19 rfl rfl)
theorem dX0_weightsBy_44 : decode cX0_weightsBy 44 = .ok (.iload 4, 2) := dk_21 4 (dk_at dksX0_weightsBy_1 21 rfl rfl)
theorem dX0_weightsBy_46 : decode cX0_weightsBy 46 = .ok (.bipush 24, 2) := dk_16 24 (dk_at dksX0_weightsBy_2 0 rfl rfl)
theorem dX0_weightsBy_48 : decode cX0_weightsBy 48 = .ok (.if_icmp .ge 30, 3) := dk_162 0 30 (dk_at dksX0_weightsBy_2 2 rfl rfl)
theorem dX0_weightsBy_51 : decode cX0_weightsBy 51 = .ok (.aload_n 0, 1) := dk_42 (dk_at dksX0_weightsBy_2 5 rfl rfl)
theorem dX0_weightsBy_52 : decode cX0_weightsBy 52 = .ok (.getfield 71, 3) := dk_180 0 71 (dk_at dksX0_weightsBy_2 6 rfl rfl)
theorem dX0_weightsBy_55 : decode cX0_weightsBy 55 = .ok (.aload_n 1, 1) := dk_43 (dk_at dksX0_weightsBy_2 9 rfl rfl)
theorem dX0_weightsBy_56 : decode cX0_weightsBy 56 = .ok (.getfield 208, 3) := dk_180 0 208 (dk_at dksX0_weightsBy_2 10 rfl rfl)
theorem dX0_weightsBy_59 : decode cX0_weightsBy 59 = .ok (.aaload, 1) := dk_50 (dk_at dksX0_weightsBy_2 13 rfl rfl)
theorem dX0_weightsBy_60 : decode cX0_weightsBy 60 = .ok (.iload 4, 2) := dk_21 4 (dk_at dksX0_weightsBy_2 14 rfl rfl)
theorem dX0_weightsBy_62 : decode cX0_weightsBy 62 = .ok (.aload_n 0, 1) := dk_42 (dk_at dksX0_weightsBy_2 16 rfl rfl)
theorem dX0_weightsBy_63 : decode cX0_weightsBy 63 = .ok (.getfield 49, 3) := dk_180 0 49 (dk_at dksX0_weightsBy_2 17 rfl rfl)
theorem dX0_weightsBy_66 : decode cX0_weightsBy 66 = .ok (.iload 4, 2) := dk_21 4 (dk_at dksX0_weightsBy_2 20 rfl rfl)
theorem dX0_weightsBy_68 : decode cX0_weightsBy 68 = .ok (.aaload, 1) := dk_50 (dk_at dksX0_weightsBy_2 22 rfl rfl)
theorem dX0_weightsBy_69 : decode cX0_weightsBy 69 = .ok (.iconst 0, 1) := dk_3 (dk_at dksX0_weightsBy_2 23 rfl rfl)
theorem dX0_weightsBy_70 : decode cX0_weightsBy 70 = .ok (.iaload, 1) := dk_46 (dk_at dksX0_weightsBy_3 0 rfl rfl)
theorem dX0_weightsBy_71 : decode cX0_weightsBy 71 = .ok (.iastore, 1) := dk_79 (dk_at dksX0_weightsBy_3 1 rfl rfl)
theorem dX0_weightsBy_72 : decode cX0_weightsBy 72 = .ok (.iinc 4 1, 3) := dk_132 4 1 (dk_at dksX0_weightsBy_3 2 rfl rfl)
theorem dX0_weightsBy_75 : decode cX0_weightsBy 75 = .ok (.goto (-31), 3) := dk_167 255 225 (dk_at dksX0_weightsBy_3 5 rfl rfl)
theorem dX0_weightsBy_78 : decode cX0_weightsBy 78 = .ok (.aload_n 1, 1) := dk_43 (dk_at dksX0_weightsBy_3 8 rfl rfl)
theorem dX0_weightsBy_79 : decode cX0_weightsBy 79 = .ok (.dup, 1) := dk_89 (dk_at dksX0_weightsBy_3 9 rfl rfl)
theorem dX0_weightsBy_80 : decode cX0_weightsBy 80 = .ok (.getfield 208, 3) := dk_180 0 208 (dk_at dksX0_weightsBy_3 10 rfl rfl)
theorem dX0_weightsBy_83 : decode cX0_weightsBy 83 = .ok (.iconst 1, 1) := dk_4 (dk_at dksX0_weightsBy_3 13 rfl rfl)
theorem dX0_weightsBy_84 : decode cX0_weightsBy 84 = .ok (.iadd, 1) := dk_96 (dk_at dksX0_weightsBy_3 14 rfl rfl)
theorem dX0_weightsBy_85 : decode cX0_weightsBy 85 = .ok (.putfield 208, 3) := dk_181 0 208 (dk_at dksX0_weightsBy_3 15 rfl rfl)
theorem dX0_weightsBy_88 : decode cX0_weightsBy 88 = .ok (.goto (-76), 3) := dk_167 255 180 (dk_at dksX0_weightsBy_3 18 rfl rfl)
theorem dX0_weightsBy_91 : decode cX0_weightsBy 91 = .ok (.aload_n 1, 1) := dk_43 (dk_at dksX0_weightsBy_3 21 rfl rfl)
theorem dX0_weightsBy_92 : decode cX0_weightsBy 92 = .ok (.iload_n 2, 1) := dk_28 (dk_at dksX0_weightsBy_3 22 rfl rfl)
theorem dX0_weightsBy_93 : decode cX0_weightsBy 93 = .ok (.putfield 208, 3) := dk_181 0 208 (dk_at dksX0_weightsBy_4 0 rfl rfl)
theorem dX0_weightsBy_96 : decode cX0_weightsBy 96 = .ok (.goto 13, 3) := dk_167 0 13 (dk_at dksX0_weightsBy_4 3 rfl rfl)
theorem dX0_weightsBy_99 : decode cX0_weightsBy 99 = .ok (.astore 5, 2) := dk_58 5 (dk_at dksX0_weightsBy_4 6 rfl rfl)
theorem dX0_weightsBy_101 : decode cX0_weightsBy 101 = .ok (.aload_n 1, 1) := dk_43 (dk_at dksX0_weightsBy_4 8 rfl rfl)
theorem dX0_weightsBy_102 : decode cX0_weightsBy 102 = .ok (.iload_n 2, 1) := dk_28 (dk_at dksX0_weightsBy_4 9 rfl rfl)
theorem dX0_weightsBy_103 : decode cX0_weightsBy 103 = .ok (.putfield 208, 3) := dk_181 0 208 (dk_at dksX0_weightsBy_4 10 rfl rfl)
theorem dX0_weightsBy_106 : decode cX0_weightsBy 106 = .ok (.aload 5, 2) := dk_25 5 (dk_at dksX0_weightsBy_4 13 rfl rfl)
theorem dX0_weightsBy_108 : decode cX0_weightsBy 108 = .ok (.athrow, 1) := dk_191 (dk_at dksX0_weightsBy_4 15 rfl rfl)
theorem dX0_weightsBy_109 : decode cX0_weightsBy 109 = .ok (.iload_n 3, 1) := dk_29 (dk_at dksX0_weightsBy_4 16 rfl rfl)
theorem dX0_weightsBy_110 : decode cX0_weightsBy 110 = .ok (.ireturn, 1) := dk_172 (dk_at dksX0_weightsBy_4 17 rfl rfl)
abbrev cX0_sortBy : ByteArray := prog_1_method_63_code
def yX0_sortBy : MethodName := ⟨RX0, "sortBy", "(LTugOfWar$Puller;)I"⟩
def dkwX0_sortBy_2 : List UInt8 := [167, 255, 219, 43, 44, 181, 0, 199, 167, 0, 13, 58, 5, 43, 44, 181, 0, 199, 25, 5, 191, 29, 172]
abbrev dktX0_sortBy_2 : List UInt8 := dkwX0_sortBy_2 ++ []
def dkwX0_sortBy_1 : List UInt8 := [181, 0, 199, 29, 42, 182, 1, 87, 153, 0, 10, 4, 21, 4, 120, 167, 0, 4, 3, 128, 62, 132, 4, 1]
abbrev dktX0_sortBy_1 : List UInt8 := dkwX0_sortBy_1 ++ dktX0_sortBy_2
def dkwX0_sortBy_0 : List UInt8 := [43, 180, 0, 199, 77, 3, 62, 3, 54, 4, 21, 4, 6, 162, 0, 37, 43, 178, 1, 93, 21, 4, 50]
abbrev dktX0_sortBy_0 : List UInt8 := dkwX0_sortBy_0 ++ dktX0_sortBy_1
theorem dksX0_sortBy_0 : cX0_sortBy.data.toList.drop 0 = dktX0_sortBy_0 := by decide +kernel
theorem dksX0_sortBy_1 : cX0_sortBy.data.toList.drop 23 = dktX0_sortBy_1 := dk_seg dksX0_sortBy_0 23 rfl rfl
theorem dksX0_sortBy_2 : cX0_sortBy.data.toList.drop 47 = dktX0_sortBy_2 := dk_seg dksX0_sortBy_1 24 rfl rfl
theorem dX0_sortBy_0 : decode cX0_sortBy 0 = .ok (.aload_n 1, 1) := dk_43 (dk_at dksX0_sortBy_0 0 rfl rfl)
theorem dX0_sortBy_1 : decode cX0_sortBy 1 = .ok (.getfield 199, 3) := dk_180 0 199 (dk_at dksX0_sortBy_0 1 rfl rfl)
theorem dX0_sortBy_4 : decode cX0_sortBy 4 = .ok (.astore_n 2, 1) := dk_77 (dk_at dksX0_sortBy_0 4 rfl rfl)
theorem dX0_sortBy_5 : decode cX0_sortBy 5 = .ok (.iconst 0, 1) := dk_3 (dk_at dksX0_sortBy_0 5 rfl rfl)
theorem dX0_sortBy_6 : decode cX0_sortBy 6 = .ok (.istore_n 3, 1) := dk_62 (dk_at dksX0_sortBy_0 6 rfl rfl)
theorem dX0_sortBy_7 : decode cX0_sortBy 7 = .ok (.iconst 0, 1) := dk_3 (dk_at dksX0_sortBy_0 7 rfl rfl)
theorem dX0_sortBy_8 : decode cX0_sortBy 8 = .ok (.istore 4, 2) := dk_54 4 (dk_at dksX0_sortBy_0 8 rfl rfl)
theorem dX0_sortBy_10 : decode cX0_sortBy 10 = .ok (.iload 4, 2) := dk_21 4 (dk_at dksX0_sortBy_0 10 rfl rfl)
theorem dX0_sortBy_12 : decode cX0_sortBy 12 = .ok (.iconst 3, 1) := dk_6 (dk_at dksX0_sortBy_0 12 rfl rfl)
theorem dX0_sortBy_13 : decode cX0_sortBy 13 = .ok (.if_icmp .ge 37, 3) := dk_162 0 37 (dk_at dksX0_sortBy_0 13 rfl rfl)
theorem dX0_sortBy_16 : decode cX0_sortBy 16 = .ok (.aload_n 1, 1) := dk_43 (dk_at dksX0_sortBy_0 16 rfl rfl)
theorem dX0_sortBy_17 : decode cX0_sortBy 17 = .ok (.getstatic 349, 3) := dk_178 1 93 (dk_at dksX0_sortBy_0 17 rfl rfl)
theorem dX0_sortBy_20 : decode cX0_sortBy 20 = .ok (.iload 4, 2) := dk_21 4 (dk_at dksX0_sortBy_0 20 rfl rfl)
theorem dX0_sortBy_22 : decode cX0_sortBy 22 = .ok (.aaload, 1) := dk_50 (dk_at dksX0_sortBy_0 22 rfl rfl)
theorem dX0_sortBy_23 : decode cX0_sortBy 23 = .ok (.putfield 199, 3) := dk_181 0 199 (dk_at dksX0_sortBy_1 0 rfl rfl)
theorem dX0_sortBy_26 : decode cX0_sortBy 26 = .ok (.iload_n 3, 1) := dk_29 (dk_at dksX0_sortBy_1 3 rfl rfl)
theorem dX0_sortBy_27 : decode cX0_sortBy 27 = .ok (.aload_n 0, 1) := dk_42 (dk_at dksX0_sortBy_1 4 rfl rfl)
theorem dX0_sortBy_28 : decode cX0_sortBy 28 = .ok (.invokevirtual 343, 3) := dk_182 1 87 (dk_at dksX0_sortBy_1 5 rfl rfl)
theorem dX0_sortBy_31 : decode cX0_sortBy 31 = .ok (.ifCond .eq 10, 3) := dk_153 0 10 (dk_at dksX0_sortBy_1 8 rfl rfl)
theorem dX0_sortBy_34 : decode cX0_sortBy 34 = .ok (.iconst 1, 1) := dk_4 (dk_at dksX0_sortBy_1 11 rfl rfl)
theorem dX0_sortBy_35 : decode cX0_sortBy 35 = .ok (.iload 4, 2) := dk_21 4 (dk_at dksX0_sortBy_1 12 rfl rfl)
theorem dX0_sortBy_37 : decode cX0_sortBy 37 = .ok (.ishl, 1) := dk_120 (dk_at dksX0_sortBy_1 14 rfl rfl)
theorem dX0_sortBy_38 : decode cX0_sortBy 38 = .ok (.goto 4, 3) := dk_167 0 4 (dk_at dksX0_sortBy_1 15 rfl rfl)
theorem dX0_sortBy_41 : decode cX0_sortBy 41 = .ok (.iconst 0, 1) := dk_3 (dk_at dksX0_sortBy_1 18 rfl rfl)
theorem dX0_sortBy_42 : decode cX0_sortBy 42 = .ok (.ior, 1) := dk_128 (dk_at dksX0_sortBy_1 19 rfl rfl)
theorem dX0_sortBy_43 : decode cX0_sortBy 43 = .ok (.istore_n 3, 1) := dk_62 (dk_at dksX0_sortBy_1 20 rfl rfl)
theorem dX0_sortBy_44 : decode cX0_sortBy 44 = .ok (.iinc 4 1, 3) := dk_132 4 1 (dk_at dksX0_sortBy_1 21 rfl rfl)
theorem dX0_sortBy_47 : decode cX0_sortBy 47 = .ok (.goto (-37), 3) := dk_167 255 219 (dk_at dksX0_sortBy_2 0 rfl rfl)
theorem dX0_sortBy_50 : decode cX0_sortBy 50 = .ok (.aload_n 1, 1) := dk_43 (dk_at dksX0_sortBy_2 3 rfl rfl)
theorem dX0_sortBy_51 : decode cX0_sortBy 51 = .ok (.aload_n 2, 1) := dk_44 (dk_at dksX0_sortBy_2 4 rfl rfl)
theorem dX0_sortBy_52 : decode cX0_sortBy 52 = .ok (.putfield 199, 3) := dk_181 0 199 (dk_at dksX0_sortBy_2 5 rfl rfl)
theorem dX0_sortBy_55 : decode cX0_sortBy 55 = .ok (.goto 13, 3) := dk_167 0 13 (dk_at dksX0_sortBy_2 8 rfl rfl)
theorem dX0_sortBy_58 : decode cX0_sortBy 58 = .ok (.astore 5, 2) := dk_58 5 (dk_at dksX0_sortBy_2 11 rfl rfl)
theorem dX0_sortBy_60 : decode cX0_sortBy 60 = .ok (.aload_n 1, 1) := dk_43 (dk_at dksX0_sortBy_2 13 rfl rfl)
theorem dX0_sortBy_61 : decode cX0_sortBy 61 = .ok (.aload_n 2, 1) := dk_44 (dk_at dksX0_sortBy_2 14 rfl rfl)
theorem dX0_sortBy_62 : decode cX0_sortBy 62 = .ok (.putfield 199, 3) := dk_181 0 199 (dk_at dksX0_sortBy_2 15 rfl rfl)
theorem dX0_sortBy_65 : decode cX0_sortBy 65 = .ok (.aload 5, 2) := dk_25 5 (dk_at dksX0_sortBy_2 18 rfl rfl)
theorem dX0_sortBy_67 : decode cX0_sortBy 67 = .ok (.athrow, 1) := dk_191 (dk_at dksX0_sortBy_2 20 rfl rfl)
theorem dX0_sortBy_68 : decode cX0_sortBy 68 = .ok (.iload_n 3, 1) := dk_29 (dk_at dksX0_sortBy_2 21 rfl rfl)
theorem dX0_sortBy_69 : decode cX0_sortBy 69 = .ok (.ireturn, 1) := dk_172 (dk_at dksX0_sortBy_2 22 rfl rfl)
abbrev cX0_ask : ByteArray := prog_1_method_68_code
def yX0_ask : MethodName := ⟨RX0, "ask", "(I)I"⟩
def dkwX0_ask_0 : List UInt8 := [42, 27, 182, 0, 132, 153, 0, 11, 42, 27, 182, 1, 110, 167, 0, 5, 16, 254, 172]
abbrev dktX0_ask_0 : List UInt8 := dkwX0_ask_0 ++ []
theorem dksX0_ask_0 : cX0_ask.data.toList.drop 0 = dktX0_ask_0 := by decide +kernel
theorem dX0_ask_0 : decode cX0_ask 0 = .ok (.aload_n 0, 1) := dk_42 (dk_at dksX0_ask_0 0 rfl rfl)
theorem dX0_ask_1 : decode cX0_ask 1 = .ok (.iload_n 1, 1) := dk_27 (dk_at dksX0_ask_0 1 rfl rfl)
theorem dX0_ask_2 : decode cX0_ask 2 = .ok (.invokevirtual 132, 3) := dk_182 0 132 (dk_at dksX0_ask_0 2 rfl rfl)
theorem dX0_ask_5 : decode cX0_ask 5 = .ok (.ifCond .eq 11, 3) := dk_153 0 11 (dk_at dksX0_ask_0 5 rfl rfl)
theorem dX0_ask_8 : decode cX0_ask 8 = .ok (.aload_n 0, 1) := dk_42 (dk_at dksX0_ask_0 8 rfl rfl)
theorem dX0_ask_9 : decode cX0_ask 9 = .ok (.iload_n 1, 1) := dk_27 (dk_at dksX0_ask_0 9 rfl rfl)
theorem dX0_ask_10 : decode cX0_ask 10 = .ok (.invokevirtual 366, 3) := dk_182 1 110 (dk_at dksX0_ask_0 10 rfl rfl)
theorem dX0_ask_13 : decode cX0_ask 13 = .ok (.goto 5, 3) := dk_167 0 5 (dk_at dksX0_ask_0 13 rfl rfl)
theorem dX0_ask_16 : decode cX0_ask 16 = .ok (.bipush (-2), 2) := dk_16 254 (dk_at dksX0_ask_0 16 rfl rfl)
theorem dX0_ask_18 : decode cX0_ask 18 = .ok (.ireturn, 1) := dk_172 (dk_at dksX0_ask_0 18 rfl rfl)
abbrev cX0_askOf : ByteArray := prog_1_method_67_code
def yX0_askOf : MethodName := ⟨RX0, "askOf", "(I)I"⟩
def dkwX0_askOf_2 : List UInt8 := [167, 255, 223, 29, 172]
abbrev dktX0_askOf_2 : List UInt8 := dkwX0_askOf_2 ++ []
def dkwX0_askOf_1 : List UInt8 := [21, 4, 182, 1, 107, 42, 28, 29, 182, 1, 107, 162, 0, 8, 21, 4, 167, 0, 4, 29, 62, 132, 4, 1]
abbrev dktX0_askOf_1 : List UInt8 := dkwX0_askOf_1 ++ dktX0_askOf_2
def dkwX0_askOf_0 : List UInt8 := [42, 42, 27, 182, 0, 137, 182, 1, 97, 61, 3, 62, 4, 54, 4, 21, 4, 16, 24, 162, 0, 32, 42, 28]
abbrev dktX0_askOf_0 : List UInt8 := dkwX0_askOf_0 ++ dktX0_askOf_1
theorem dksX0_askOf_0 : cX0_askOf.data.toList.drop 0 = dktX0_askOf_0 := by decide +kernel
theorem dksX0_askOf_1 : cX0_askOf.data.toList.drop 24 = dktX0_askOf_1 := dk_seg dksX0_askOf_0 24 rfl rfl
theorem dksX0_askOf_2 : cX0_askOf.data.toList.drop 48 = dktX0_askOf_2 := dk_seg dksX0_askOf_1 24 rfl rfl
theorem dX0_askOf_0 : decode cX0_askOf 0 = .ok (.aload_n 0, 1) := dk_42 (dk_at dksX0_askOf_0 0 rfl rfl)
theorem dX0_askOf_1 : decode cX0_askOf 1 = .ok (.aload_n 0, 1) := dk_42 (dk_at dksX0_askOf_0 1 rfl rfl)
theorem dX0_askOf_2 : decode cX0_askOf 2 = .ok (.iload_n 1, 1) := dk_27 (dk_at dksX0_askOf_0 2 rfl rfl)
theorem dX0_askOf_3 : decode cX0_askOf 3 = .ok (.invokevirtual 137, 3) := dk_182 0 137 (dk_at dksX0_askOf_0 3 rfl rfl)
theorem dX0_askOf_6 : decode cX0_askOf 6 = .ok (.invokevirtual 353, 3) := dk_182 1 97 (dk_at dksX0_askOf_0 6 rfl rfl)
theorem dX0_askOf_9 : decode cX0_askOf 9 = .ok (.istore_n 2, 1) := dk_61 (dk_at dksX0_askOf_0 9 rfl rfl)
theorem dX0_askOf_10 : decode cX0_askOf 10 = .ok (.iconst 0, 1) := dk_3 (dk_at dksX0_askOf_0 10 rfl rfl)
theorem dX0_askOf_11 : decode cX0_askOf 11 = .ok (.istore_n 3, 1) := dk_62 (dk_at dksX0_askOf_0 11 rfl rfl)
theorem dX0_askOf_12 : decode cX0_askOf 12 = .ok (.iconst 1, 1) := dk_4 (dk_at dksX0_askOf_0 12 rfl rfl)
theorem dX0_askOf_13 : decode cX0_askOf 13 = .ok (.istore 4, 2) := dk_54 4 (dk_at dksX0_askOf_0 13 rfl rfl)
theorem dX0_askOf_15 : decode cX0_askOf 15 = .ok (.iload 4, 2) := dk_21 4 (dk_at dksX0_askOf_0 15 rfl rfl)
theorem dX0_askOf_17 : decode cX0_askOf 17 = .ok (.bipush 24, 2) := dk_16 24 (dk_at dksX0_askOf_0 17 rfl rfl)
theorem dX0_askOf_19 : decode cX0_askOf 19 = .ok (.if_icmp .ge 32, 3) := dk_162 0 32 (dk_at dksX0_askOf_0 19 rfl rfl)
theorem dX0_askOf_22 : decode cX0_askOf 22 = .ok (.aload_n 0, 1) := dk_42 (dk_at dksX0_askOf_0 22 rfl rfl)
theorem dX0_askOf_23 : decode cX0_askOf 23 = .ok (.iload_n 2, 1) := dk_28 (dk_at dksX0_askOf_0 23 rfl rfl)
theorem dX0_askOf_24 : decode cX0_askOf 24 = .ok (.iload 4, 2) := dk_21 4 (dk_at dksX0_askOf_1 0 rfl rfl)
theorem dX0_askOf_26 : decode cX0_askOf 26 = .ok (.invokevirtual 363, 3) := dk_182 1 107 (dk_at dksX0_askOf_1 2 rfl rfl)
theorem dX0_askOf_29 : decode cX0_askOf 29 = .ok (.aload_n 0, 1) := dk_42 (dk_at dksX0_askOf_1 5 rfl rfl)
theorem dX0_askOf_30 : decode cX0_askOf 30 = .ok (.iload_n 2, 1) := dk_28 (dk_at dksX0_askOf_1 6 rfl rfl)
theorem dX0_askOf_31 : decode cX0_askOf 31 = .ok (.iload_n 3, 1) := dk_29 (dk_at dksX0_askOf_1 7 rfl rfl)
theorem dX0_askOf_32 : decode cX0_askOf 32 = .ok (.invokevirtual 363, 3) := dk_182 1 107 (dk_at dksX0_askOf_1 8 rfl rfl)
theorem dX0_askOf_35 : decode cX0_askOf 35 = .ok (.if_icmp .ge 8, 3) := dk_162 0 8 (dk_at dksX0_askOf_1 11 rfl rfl)
theorem dX0_askOf_38 : decode cX0_askOf 38 = .ok (.iload 4, 2) := dk_21 4 (dk_at dksX0_askOf_1 14 rfl rfl)
theorem dX0_askOf_40 : decode cX0_askOf 40 = .ok (.goto 4, 3) := dk_167 0 4 (dk_at dksX0_askOf_1 16 rfl rfl)
theorem dX0_askOf_43 : decode cX0_askOf 43 = .ok (.iload_n 3, 1) := dk_29 (dk_at dksX0_askOf_1 19 rfl rfl)
theorem dX0_askOf_44 : decode cX0_askOf 44 = .ok (.istore_n 3, 1) := dk_62 (dk_at dksX0_askOf_1 20 rfl rfl)
theorem dX0_askOf_45 : decode cX0_askOf 45 = .ok (.iinc 4 1, 3) := dk_132 4 1 (dk_at dksX0_askOf_1 21 rfl rfl)
theorem dX0_askOf_48 : decode cX0_askOf 48 = .ok (.goto (-33), 3) := dk_167 255 223 (dk_at dksX0_askOf_2 0 rfl rfl)
theorem dX0_askOf_51 : decode cX0_askOf 51 = .ok (.iload_n 3, 1) := dk_29 (dk_at dksX0_askOf_2 3 rfl rfl)
theorem dX0_askOf_52 : decode cX0_askOf 52 = .ok (.ireturn, 1) := dk_172 (dk_at dksX0_askOf_2 4 rfl rfl)
abbrev cX0_alike : ByteArray := prog_1_method_66_code
def yX0_alike : MethodName := ⟨RX0, "alike", "(II)I"⟩
def dkwX0_alike_4 : List UInt8 := [172]
abbrev dktX0_alike_4 : List UInt8 := dkwX0_alike_4 ++ []
def dkwX0_alike_3 : List UInt8 := [3, 96, 54, 5, 132, 6, 1, 167, 255, 197, 21, 5, 29, 184, 1, 47, 62, 132, 4, 1, 167, 255, 171, 29]
abbrev dktX0_alike_3 : List UInt8 := dkwX0_alike_3 ++ dktX0_alike_4
def dkwX0_alike_2 : List UInt8 := [180, 0, 71, 21, 4, 50, 28, 46, 42, 180, 0, 71, 21, 6, 50, 28, 46, 160, 0, 7, 4, 167, 0, 4]
abbrev dktX0_alike_2 : List UInt8 := dkwX0_alike_2 ++ dktX0_alike_3
def dkwX0_alike_1 : List UInt8 := [163, 0, 58, 21, 5, 27, 21, 4, 184, 0, 247, 153, 0, 37, 27, 21, 6, 184, 0, 247, 153, 0, 28, 42]
abbrev dktX0_alike_1 : List UInt8 := dkwX0_alike_1 ++ dktX0_alike_2
def dkwX0_alike_0 : List UInt8 := [3, 62, 4, 54, 4, 21, 4, 16, 9, 163, 0, 84, 3, 54, 5, 4, 54, 6, 21, 6, 16, 9]
abbrev dktX0_alike_0 : List UInt8 := dkwX0_alike_0 ++ dktX0_alike_1
theorem dksX0_alike_0 : cX0_alike.data.toList.drop 0 = dktX0_alike_0 := by decide +kernel
theorem dksX0_alike_1 : cX0_alike.data.toList.drop 22 = dktX0_alike_1 := dk_seg dksX0_alike_0 22 rfl rfl
theorem dksX0_alike_2 : cX0_alike.data.toList.drop 46 = dktX0_alike_2 := dk_seg dksX0_alike_1 24 rfl rfl
theorem dksX0_alike_3 : cX0_alike.data.toList.drop 70 = dktX0_alike_3 := dk_seg dksX0_alike_2 24 rfl rfl
theorem dksX0_alike_4 : cX0_alike.data.toList.drop 94 = dktX0_alike_4 := dk_seg dksX0_alike_3 24 rfl rfl
theorem dX0_alike_0 : decode cX0_alike 0 = .ok (.iconst 0, 1) := dk_3 (dk_at dksX0_alike_0 0 rfl rfl)
theorem dX0_alike_1 : decode cX0_alike 1 = .ok (.istore_n 3, 1) := dk_62 (dk_at dksX0_alike_0 1 rfl rfl)
theorem dX0_alike_2 : decode cX0_alike 2 = .ok (.iconst 1, 1) := dk_4 (dk_at dksX0_alike_0 2 rfl rfl)
theorem dX0_alike_3 : decode cX0_alike 3 = .ok (.istore 4, 2) := dk_54 4 (dk_at dksX0_alike_0 3 rfl rfl)
theorem dX0_alike_5 : decode cX0_alike 5 = .ok (.iload 4, 2) := dk_21 4 (dk_at dksX0_alike_0 5 rfl rfl)
theorem dX0_alike_7 : decode cX0_alike 7 = .ok (.bipush 9, 2) := dk_16 9 (dk_at dksX0_alike_0 7 rfl rfl)
theorem dX0_alike_9 : decode cX0_alike 9 = .ok (.if_icmp .gt 84, 3) := dk_163 0 84 (dk_at dksX0_alike_0 9 rfl rfl)
theorem dX0_alike_12 : decode cX0_alike 12 = .ok (.iconst 0, 1) := dk_3 (dk_at dksX0_alike_0 12 rfl rfl)
theorem dX0_alike_13 : decode cX0_alike 13 = .ok (.istore 5, 2) := dk_54 5 (dk_at dksX0_alike_0 13 rfl rfl)
theorem dX0_alike_15 : decode cX0_alike 15 = .ok (.iconst 1, 1) := dk_4 (dk_at dksX0_alike_0 15 rfl rfl)
theorem dX0_alike_16 : decode cX0_alike 16 = .ok (.istore 6, 2) := dk_54 6 (dk_at dksX0_alike_0 16 rfl rfl)
theorem dX0_alike_18 : decode cX0_alike 18 = .ok (.iload 6, 2) := dk_21 6 (dk_at dksX0_alike_0 18 rfl rfl)
theorem dX0_alike_20 : decode cX0_alike 20 = .ok (.bipush 9, 2) := dk_16 9 (dk_at dksX0_alike_0 20 rfl rfl)
theorem dX0_alike_22 : decode cX0_alike 22 = .ok (.if_icmp .gt 58, 3) := dk_163 0 58 (dk_at dksX0_alike_1 0 rfl rfl)
theorem dX0_alike_25 : decode cX0_alike 25 = .ok (.iload 5, 2) := dk_21 5 (dk_at dksX0_alike_1 3 rfl rfl)
theorem dX0_alike_27 : decode cX0_alike 27 = .ok (.iload_n 1, 1) := dk_27 (dk_at dksX0_alike_1 5 rfl rfl)
theorem dX0_alike_28 : decode cX0_alike 28 = .ok (.iload 4, 2) := dk_21 4 (dk_at dksX0_alike_1 6 rfl rfl)
theorem dX0_alike_30 : decode cX0_alike 30 = .ok (.invokestatic 247, 3) := dk_184 0 247 (dk_at dksX0_alike_1 8 rfl rfl)
theorem dX0_alike_33 : decode cX0_alike 33 = .ok (.ifCond .eq 37, 3) := dk_153 0 37 (dk_at dksX0_alike_1 11 rfl rfl)
theorem dX0_alike_36 : decode cX0_alike 36 = .ok (.iload_n 1, 1) := dk_27 (dk_at dksX0_alike_1 14 rfl rfl)
theorem dX0_alike_37 : decode cX0_alike 37 = .ok (.iload 6, 2) := dk_21 6 (dk_at dksX0_alike_1 15 rfl rfl)
theorem dX0_alike_39 : decode cX0_alike 39 = .ok (.invokestatic 247, 3) := dk_184 0 247 (dk_at dksX0_alike_1 17 rfl rfl)
theorem dX0_alike_42 : decode cX0_alike 42 = .ok (.ifCond .eq 28, 3) := dk_153 0 28 (dk_at dksX0_alike_1 20 rfl rfl)
theorem dX0_alike_45 : decode cX0_alike 45 = .ok (.aload_n 0, 1) := dk_42 (dk_at dksX0_alike_1 23 rfl rfl)
theorem dX0_alike_46 : decode cX0_alike 46 = .ok (.getfield 71, 3) := dk_180 0 71 (dk_at dksX0_alike_2 0 rfl rfl)
theorem dX0_alike_49 : decode cX0_alike 49 = .ok (.iload 4, 2) := dk_21 4 (dk_at dksX0_alike_2 3 rfl rfl)
theorem dX0_alike_51 : decode cX0_alike 51 = .ok (.aaload, 1) := dk_50 (dk_at dksX0_alike_2 5 rfl rfl)
theorem dX0_alike_52 : decode cX0_alike 52 = .ok (.iload_n 2, 1) := dk_28 (dk_at dksX0_alike_2 6 rfl rfl)
theorem dX0_alike_53 : decode cX0_alike 53 = .ok (.iaload, 1) := dk_46 (dk_at dksX0_alike_2 7 rfl rfl)
theorem dX0_alike_54 : decode cX0_alike 54 = .ok (.aload_n 0, 1) := dk_42 (dk_at dksX0_alike_2 8 rfl rfl)
theorem dX0_alike_55 : decode cX0_alike 55 = .ok (.getfield 71, 3) := dk_180 0 71 (dk_at dksX0_alike_2 9 rfl rfl)
theorem dX0_alike_58 : decode cX0_alike 58 = .ok (.iload 6, 2) := dk_21 6 (dk_at dksX0_alike_2 12 rfl rfl)
theorem dX0_alike_60 : decode cX0_alike 60 = .ok (.aaload, 1) := dk_50 (dk_at dksX0_alike_2 14 rfl rfl)
theorem dX0_alike_61 : decode cX0_alike 61 = .ok (.iload_n 2, 1) := dk_28 (dk_at dksX0_alike_2 15 rfl rfl)
theorem dX0_alike_62 : decode cX0_alike 62 = .ok (.iaload, 1) := dk_46 (dk_at dksX0_alike_2 16 rfl rfl)
theorem dX0_alike_63 : decode cX0_alike 63 = .ok (.if_icmp .ne 7, 3) := dk_160 0 7 (dk_at dksX0_alike_2 17 rfl rfl)
theorem dX0_alike_66 : decode cX0_alike 66 = .ok (.iconst 1, 1) := dk_4 (dk_at dksX0_alike_2 20 rfl rfl)
theorem dX0_alike_67 : decode cX0_alike 67 = .ok (.goto 4, 3) := dk_167 0 4 (dk_at dksX0_alike_2 21 rfl rfl)
theorem dX0_alike_70 : decode cX0_alike 70 = .ok (.iconst 0, 1) := dk_3 (dk_at dksX0_alike_3 0 rfl rfl)
theorem dX0_alike_71 : decode cX0_alike 71 = .ok (.iadd, 1) := dk_96 (dk_at dksX0_alike_3 1 rfl rfl)
theorem dX0_alike_72 : decode cX0_alike 72 = .ok (.istore 5, 2) := dk_54 5 (dk_at dksX0_alike_3 2 rfl rfl)
theorem dX0_alike_74 : decode cX0_alike 74 = .ok (.iinc 6 1, 3) := dk_132 6 1 (dk_at dksX0_alike_3 4 rfl rfl)
theorem dX0_alike_77 : decode cX0_alike 77 = .ok (.goto (-59), 3) := dk_167 255 197 (dk_at dksX0_alike_3 7 rfl rfl)
theorem dX0_alike_80 : decode cX0_alike 80 = .ok (.iload 5, 2) := dk_21 5 (dk_at dksX0_alike_3 10 rfl rfl)
theorem dX0_alike_82 : decode cX0_alike 82 = .ok (.iload_n 3, 1) := dk_29 (dk_at dksX0_alike_3 12 rfl rfl)
theorem dX0_alike_83 : decode cX0_alike 83 = .ok (.invokestatic 303, 3) := dk_184 1 47 (dk_at dksX0_alike_3 13 rfl rfl)
theorem dX0_alike_86 : decode cX0_alike 86 = .ok (.istore_n 3, 1) := dk_62 (dk_at dksX0_alike_3 16 rfl rfl)
theorem dX0_alike_87 : decode cX0_alike 87 = .ok (.iinc 4 1, 3) := dk_132 4 1 (dk_at dksX0_alike_3 17 rfl rfl)
theorem dX0_alike_90 : decode cX0_alike 90 = .ok (.goto (-85), 3) := dk_167 255 171 (dk_at dksX0_alike_3 20 rfl rfl)
theorem dX0_alike_93 : decode cX0_alike 93 = .ok (.iload_n 3, 1) := dk_29 (dk_at dksX0_alike_3 23 rfl rfl)
theorem dX0_alike_94 : decode cX0_alike 94 = .ok (.ireturn, 1) := dk_172 (dk_at dksX0_alike_4 0 rfl rfl)
abbrev cX0_chance : ByteArray := prog_1_method_72_code
def yX0_chance : MethodName := ⟨RX0, "chance", "(III)J"⟩
def dkwX0_chance_1 : List UInt8 := [153, 0, 13, 42, 27, 28, 29, 182, 1, 123, 167, 0, 8, 16, 254, 184, 1, 127, 173]
abbrev dktX0_chance_1 : List UInt8 := dkwX0_chance_1 ++ []
def dkwX0_chance_0 : List UInt8 := [27, 133, 9, 20, 1, 121, 184, 0, 90, 153, 0, 27, 28, 184, 0, 147, 153, 0, 20, 29, 184, 0, 147]
abbrev dktX0_chance_0 : List UInt8 := dkwX0_chance_0 ++ dktX0_chance_1
theorem dksX0_chance_0 : cX0_chance.data.toList.drop 0 = dktX0_chance_0 := by decide +kernel
theorem dksX0_chance_1 : cX0_chance.data.toList.drop 23 = dktX0_chance_1 := dk_seg dksX0_chance_0 23 rfl rfl
theorem dX0_chance_0 : decode cX0_chance 0 = .ok (.iload_n 1, 1) := dk_27 (dk_at dksX0_chance_0 0 rfl rfl)
theorem dX0_chance_1 : decode cX0_chance 1 = .ok (.i2l, 1) := dk_133 (dk_at dksX0_chance_0 1 rfl rfl)
theorem dX0_chance_2 : decode cX0_chance 2 = .ok (.lconst 0, 1) := dk_9 (dk_at dksX0_chance_0 2 rfl rfl)
theorem dX0_chance_3 : decode cX0_chance 3 = .ok (.ldc2_w 377, 3) := dk_20 1 121 (dk_at dksX0_chance_0 3 rfl rfl)
theorem dX0_chance_6 : decode cX0_chance 6 = .ok (.invokestatic 90, 3) := dk_184 0 90 (dk_at dksX0_chance_0 6 rfl rfl)
theorem dX0_chance_9 : decode cX0_chance 9 = .ok (.ifCond .eq 27, 3) := dk_153 0 27 (dk_at dksX0_chance_0 9 rfl rfl)
theorem dX0_chance_12 : decode cX0_chance 12 = .ok (.iload_n 2, 1) := dk_28 (dk_at dksX0_chance_0 12 rfl rfl)
theorem dX0_chance_13 : decode cX0_chance 13 = .ok (.invokestatic 147, 3) := dk_184 0 147 (dk_at dksX0_chance_0 13 rfl rfl)
theorem dX0_chance_16 : decode cX0_chance 16 = .ok (.ifCond .eq 20, 3) := dk_153 0 20 (dk_at dksX0_chance_0 16 rfl rfl)
theorem dX0_chance_19 : decode cX0_chance 19 = .ok (.iload_n 3, 1) := dk_29 (dk_at dksX0_chance_0 19 rfl rfl)
theorem dX0_chance_20 : decode cX0_chance 20 = .ok (.invokestatic 147, 3) := dk_184 0 147 (dk_at dksX0_chance_0 20 rfl rfl)
theorem dX0_chance_23 : decode cX0_chance 23 = .ok (.ifCond .eq 13, 3) := dk_153 0 13 (dk_at dksX0_chance_1 0 rfl rfl)
theorem dX0_chance_26 : decode cX0_chance 26 = .ok (.aload_n 0, 1) := dk_42 (dk_at dksX0_chance_1 3 rfl rfl)
theorem dX0_chance_27 : decode cX0_chance 27 = .ok (.iload_n 1, 1) := dk_27 (dk_at dksX0_chance_1 4 rfl rfl)
theorem dX0_chance_28 : decode cX0_chance 28 = .ok (.iload_n 2, 1) := dk_28 (dk_at dksX0_chance_1 5 rfl rfl)
theorem dX0_chance_29 : decode cX0_chance 29 = .ok (.iload_n 3, 1) := dk_29 (dk_at dksX0_chance_1 6 rfl rfl)
theorem dX0_chance_30 : decode cX0_chance 30 = .ok (.invokevirtual 379, 3) := dk_182 1 123 (dk_at dksX0_chance_1 7 rfl rfl)
theorem dX0_chance_33 : decode cX0_chance 33 = .ok (.goto 8, 3) := dk_167 0 8 (dk_at dksX0_chance_1 10 rfl rfl)
theorem dX0_chance_36 : decode cX0_chance 36 = .ok (.bipush (-2), 2) := dk_16 254 (dk_at dksX0_chance_1 13 rfl rfl)
theorem dX0_chance_38 : decode cX0_chance 38 = .ok (.invokestatic 383, 3) := dk_184 1 127 (dk_at dksX0_chance_1 15 rfl rfl)
theorem dX0_chance_41 : decode cX0_chance 41 = .ok (.lreturn, 1) := dk_173 (dk_at dksX0_chance_1 18 rfl rfl)
abbrev cX0_chanceOf : ByteArray := prog_1_method_71_code
def yX0_chanceOf : MethodName := ⟨RX0, "chanceOf", "(III)J"⟩
def dkwX0_chanceOf_5 : List UInt8 := [58, 10, 42, 3, 181, 0, 244, 25, 10, 191, 22, 5, 10, 7, 21, 4, 104, 121, 29, 184, 1, 117, 173]
abbrev dktX0_chanceOf_5 : List UInt8 := dkwX0_chanceOf_5 ++ []
def dkwX0_chanceOf_4 : List UInt8 := [55, 5, 42, 89, 180, 0, 244, 4, 96, 181, 0, 244, 167, 255, 167, 42, 3, 181, 0, 244, 167, 0, 13]
abbrev dktX0_chanceOf_4 : List UInt8 := dkwX0_chanceOf_4 ++ dktX0_chanceOf_5
def dkwX0_chanceOf_3 : List UInt8 := [16, 16, 27, 100, 133, 167, 0, 5, 27, 133, 105, 55, 7, 132, 9, 1, 167, 255, 219, 22, 5, 22, 7, 97]
abbrev dktX0_chanceOf_3 : List UInt8 := dkwX0_chanceOf_3 ++ dktX0_chanceOf_4
def dkwX0_chanceOf_2 : List UInt8 := [54, 9, 21, 9, 21, 4, 162, 0, 36, 22, 7, 42, 180, 0, 244, 21, 9, 184, 0, 247, 153, 0, 11]
abbrev dktX0_chanceOf_2 : List UInt8 := dkwX0_chanceOf_2 ++ dktX0_chanceOf_3
def dkwX0_chanceOf_1 : List UInt8 := [120, 162, 0, 84, 42, 182, 1, 38, 42, 182, 1, 44, 28, 159, 0, 6, 167, 0, 56, 10, 55, 7, 3]
abbrev dktX0_chanceOf_1 : List UInt8 := dkwX0_chanceOf_1 ++ dktX0_chanceOf_2
def dkwX0_chanceOf_0 : List UInt8 := [42, 180, 0, 36, 182, 0, 162, 54, 4, 9, 55, 5, 42, 3, 181, 0, 244, 42, 180, 0, 244, 4, 21, 4]
abbrev dktX0_chanceOf_0 : List UInt8 := dkwX0_chanceOf_0 ++ dktX0_chanceOf_1
theorem dksX0_chanceOf_0 : cX0_chanceOf.data.toList.drop 0 = dktX0_chanceOf_0 := by decide +kernel
theorem dksX0_chanceOf_1 : cX0_chanceOf.data.toList.drop 24 = dktX0_chanceOf_1 := dk_seg dksX0_chanceOf_0 24 rfl rfl
theorem dksX0_chanceOf_2 : cX0_chanceOf.data.toList.drop 47 = dktX0_chanceOf_2 := dk_seg dksX0_chanceOf_1 23 rfl rfl
theorem dksX0_chanceOf_3 : cX0_chanceOf.data.toList.drop 70 = dktX0_chanceOf_3 := dk_seg dksX0_chanceOf_2 23 rfl rfl
theorem dksX0_chanceOf_4 : cX0_chanceOf.data.toList.drop 94 = dktX0_chanceOf_4 := dk_seg dksX0_chanceOf_3 24 rfl rfl
theorem dksX0_chanceOf_5 : cX0_chanceOf.data.toList.drop 117 = dktX0_chanceOf_5 := dk_seg dksX0_chanceOf_4 23 rfl rfl
theorem dX0_chanceOf_0 : decode cX0_chanceOf 0 = .ok (.aload_n 0, 1) := dk_42 (dk_at dksX0_chanceOf_0 0 rfl rfl)
theorem dX0_chanceOf_1 : decode cX0_chanceOf 1 = .ok (.getfield 36, 3) := dk_180 0 36 (dk_at dksX0_chanceOf_0 1 rfl rfl)
theorem dX0_chanceOf_4 : decode cX0_chanceOf 4 = .ok (.invokevirtual 162, 3) := dk_182 0 162 (dk_at dksX0_chanceOf_0 4 rfl rfl)
theorem dX0_chanceOf_7 : decode cX0_chanceOf 7 = .ok (.istore 4, 2) := dk_54 4 (dk_at dksX0_chanceOf_0 7 rfl rfl)
theorem dX0_chanceOf_9 : decode cX0_chanceOf 9 = .ok (.lconst 0, 1) := dk_9 (dk_at dksX0_chanceOf_0 9 rfl rfl)
theorem dX0_chanceOf_10 : decode cX0_chanceOf 10 = .ok (.lstore 5, 2) := dk_55 5 (dk_at dksX0_chanceOf_0 10 rfl rfl)
theorem dX0_chanceOf_12 : decode cX0_chanceOf 12 = .ok (.aload_n 0, 1) := dk_42 (dk_at dksX0_chanceOf_0 12 rfl rfl)
theorem dX0_chanceOf_13 : decode cX0_chanceOf 13 = .ok (.iconst 0, 1) := dk_3 (dk_at dksX0_chanceOf_0 13 rfl rfl)
theorem dX0_chanceOf_14 : decode cX0_chanceOf 14 = .ok (.putfield 244, 3) := dk_181 0 244 (dk_at dksX0_chanceOf_0 14 rfl rfl)
theorem dX0_chanceOf_17 : decode cX0_chanceOf 17 = .ok (.aload_n 0, 1) := dk_42 (dk_at dksX0_chanceOf_0 17 rfl rfl)
theorem dX0_chanceOf_18 : decode cX0_chanceOf 18 = .ok (.getfield 244, 3) := dk_180 0 244 (dk_at dksX0_chanceOf_0 18 rfl rfl)
theorem dX0_chanceOf_21 : decode cX0_chanceOf 21 = .ok (.iconst 1, 1) := dk_4 (dk_at dksX0_chanceOf_0 21 rfl rfl)
theorem dX0_chanceOf_22 : decode cX0_chanceOf 22 = .ok (.iload 4, 2) := dk_21 4 (dk_at dksX0_chanceOf_0 22 rfl rfl)
theorem dX0_chanceOf_24 : decode cX0_chanceOf 24 = .ok (.ishl, 1) := dk_120 (dk_at dksX0_chanceOf_1 0 rfl rfl)
theorem dX0_chanceOf_25 : decode cX0_chanceOf 25 = .ok (.if_icmp .ge 84, 3) := dk_162 0 84 (dk_at dksX0_chanceOf_1 1 rfl rfl)
theorem dX0_chanceOf_28 : decode cX0_chanceOf 28 = .ok (.aload_n 0, 1) := dk_42 (dk_at dksX0_chanceOf_1 4 rfl rfl)
theorem dX0_chanceOf_29 : decode cX0_chanceOf 29 = .ok (.invokevirtual 294, 3) := dk_182 1 38 (dk_at dksX0_chanceOf_1 5 rfl rfl)
theorem dX0_chanceOf_32 : decode cX0_chanceOf 32 = .ok (.aload_n 0, 1) := dk_42 (dk_at dksX0_chanceOf_1 8 rfl rfl)
theorem dX0_chanceOf_33 : decode cX0_chanceOf 33 = .ok (.invokevirtual 300, 3) := dk_182 1 44 (dk_at dksX0_chanceOf_1 9 rfl rfl)
theorem dX0_chanceOf_36 : decode cX0_chanceOf 36 = .ok (.iload_n 2, 1) := dk_28 (dk_at dksX0_chanceOf_1 12 rfl rfl)
theorem dX0_chanceOf_37 : decode cX0_chanceOf 37 = .ok (.if_icmp .eq 6, 3) := dk_159 0 6 (dk_at dksX0_chanceOf_1 13 rfl rfl)
theorem dX0_chanceOf_40 : decode cX0_chanceOf 40 = .ok (.goto 56, 3) := dk_167 0 56 (dk_at dksX0_chanceOf_1 16 rfl rfl)
theorem dX0_chanceOf_43 : decode cX0_chanceOf 43 = .ok (.lconst 1, 1) := dk_10 (dk_at dksX0_chanceOf_1 19 rfl rfl)
theorem dX0_chanceOf_44 : decode cX0_chanceOf 44 = .ok (.lstore 7, 2) := dk_55 7 (dk_at dksX0_chanceOf_1 20 rfl rfl)
theorem dX0_chanceOf_46 : decode cX0_chanceOf 46 = .ok (.iconst 0, 1) := dk_3 (dk_at dksX0_chanceOf_1 22 rfl rfl)
theorem dX0_chanceOf_47 : decode cX0_chanceOf 47 = .ok (.istore 9, 2) := dk_54 9 (dk_at dksX0_chanceOf_2 0 rfl rfl)
theorem dX0_chanceOf_49 : decode cX0_chanceOf 49 = .ok (.iload 9, 2) := dk_21 9 (dk_at dksX0_chanceOf_2 2 rfl rfl)
theorem dX0_chanceOf_51 : decode cX0_chanceOf 51 = .ok (.iload 4, 2) := dk_21 4 (dk_at dksX0_chanceOf_2 4 rfl rfl)
theorem dX0_chanceOf_53 : decode cX0_chanceOf 53 = .ok (.if_icmp .ge 36, 3) := dk_162 0 36 (dk_at dksX0_chanceOf_2 6 rfl rfl)
theorem dX0_chanceOf_56 : decode cX0_chanceOf 56 = .ok (.lload 7, 2) := dk_22 7 (dk_at dksX0_chanceOf_2 9 rfl rfl)
theorem dX0_chanceOf_58 : decode cX0_chanceOf 58 = .ok (.aload_n 0, 1) := dk_42 (dk_at dksX0_chanceOf_2 11 rfl rfl)
theorem dX0_chanceOf_59 : decode cX0_chanceOf 59 = .ok (.getfield 244, 3) := dk_180 0 244 (dk_at dksX0_chanceOf_2 12 rfl rfl)
theorem dX0_chanceOf_62 : decode cX0_chanceOf 62 = .ok (.iload 9, 2) := dk_21 9 (dk_at dksX0_chanceOf_2 15 rfl rfl)
theorem dX0_chanceOf_64 : decode cX0_chanceOf 64 = .ok (.invokestatic 247, 3) := dk_184 0 247 (dk_at dksX0_chanceOf_2 17 rfl rfl)
theorem dX0_chanceOf_67 : decode cX0_chanceOf 67 = .ok (.ifCond .eq 11, 3) := dk_153 0 11 (dk_at dksX0_chanceOf_2 20 rfl rfl)
theorem dX0_chanceOf_70 : decode cX0_chanceOf 70 = .ok (.bipush 16, 2) := dk_16 16 (dk_at dksX0_chanceOf_3 0 rfl rfl)
theorem dX0_chanceOf_72 : decode cX0_chanceOf 72 = .ok (.iload_n 1, 1) := dk_27 (dk_at dksX0_chanceOf_3 2 rfl rfl)
theorem dX0_chanceOf_73 : decode cX0_chanceOf 73 = .ok (.isub, 1) := dk_100 (dk_at dksX0_chanceOf_3 3 rfl rfl)
theorem dX0_chanceOf_74 : decode cX0_chanceOf 74 = .ok (.i2l, 1) := dk_133 (dk_at dksX0_chanceOf_3 4 rfl rfl)
theorem dX0_chanceOf_75 : decode cX0_chanceOf 75 = .ok (.goto 5, 3) := dk_167 0 5 (dk_at dksX0_chanceOf_3 5 rfl rfl)
theorem dX0_chanceOf_78 : decode cX0_chanceOf 78 = .ok (.iload_n 1, 1) := dk_27 (dk_at dksX0_chanceOf_3 8 rfl rfl)
theorem dX0_chanceOf_79 : decode cX0_chanceOf 79 = .ok (.i2l, 1) := dk_133 (dk_at dksX0_chanceOf_3 9 rfl rfl)
theorem dX0_chanceOf_80 : decode cX0_chanceOf 80 = .ok (.lmul, 1) := dk_105 (dk_at dksX0_chanceOf_3 10 rfl rfl)
theorem dX0_chanceOf_81 : decode cX0_chanceOf 81 = .ok (.lstore 7, 2) := dk_55 7 (dk_at dksX0_chanceOf_3 11 rfl rfl)
theorem dX0_chanceOf_83 : decode cX0_chanceOf 83 = .ok (.iinc 9 1, 3) := dk_132 9 1 (dk_at dksX0_chanceOf_3 13 rfl rfl)
theorem dX0_chanceOf_86 : decode cX0_chanceOf 86 = .ok (.goto (-37), 3) := dk_167 255 219 (dk_at dksX0_chanceOf_3 16 rfl rfl)
theorem dX0_chanceOf_89 : decode cX0_chanceOf 89 = .ok (.lload 5, 2) := dk_22 5 (dk_at dksX0_chanceOf_3 19 rfl rfl)
theorem dX0_chanceOf_91 : decode cX0_chanceOf 91 = .ok (.lload 7, 2) := dk_22 7 (dk_at dksX0_chanceOf_3 21 rfl rfl)
theorem dX0_chanceOf_93 : decode cX0_chanceOf 93 = .ok (.ladd, 1) := dk_97 (dk_at dksX0_chanceOf_3 23 rfl rfl)
theorem dX0_chanceOf_94 : decode cX0_chanceOf 94 = .ok (.lstore 5, 2) := dk_55 5 (dk_at dksX0_chanceOf_4 0 rfl rfl)
theorem dX0_chanceOf_96 : decode cX0_chanceOf 96 = .ok (.aload_n 0, 1) := dk_42 (dk_at dksX0_chanceOf_4 2 rfl rfl)
theorem dX0_chanceOf_97 : decode cX0_chanceOf 97 = .ok (.dup, 1) := dk_89 (dk_at dksX0_chanceOf_4 3 rfl rfl)
theorem dX0_chanceOf_98 : decode cX0_chanceOf 98 = .ok (.getfield 244, 3) := dk_180 0 244 (dk_at dksX0_chanceOf_4 4 rfl rfl)
theorem dX0_chanceOf_101 : decode cX0_chanceOf 101 = .ok (.iconst 1, 1) := dk_4 (dk_at dksX0_chanceOf_4 7 rfl rfl)
theorem dX0_chanceOf_102 : decode cX0_chanceOf 102 = .ok (.iadd, 1) := dk_96 (dk_at dksX0_chanceOf_4 8 rfl rfl)
theorem dX0_chanceOf_103 : decode cX0_chanceOf 103 = .ok (.putfield 244, 3) := dk_181 0 244 (dk_at dksX0_chanceOf_4 9 rfl rfl)
theorem dX0_chanceOf_106 : decode cX0_chanceOf 106 = .ok (.goto (-89), 3) := dk_167 255 167 (dk_at dksX0_chanceOf_4 12 rfl rfl)
theorem dX0_chanceOf_109 : decode cX0_chanceOf 109 = .ok (.aload_n 0, 1) := dk_42 (dk_at dksX0_chanceOf_4 15 rfl rfl)
theorem dX0_chanceOf_110 : decode cX0_chanceOf 110 = .ok (.iconst 0, 1) := dk_3 (dk_at dksX0_chanceOf_4 16 rfl rfl)
theorem dX0_chanceOf_111 : decode cX0_chanceOf 111 = .ok (.putfield 244, 3) := dk_181 0 244 (dk_at dksX0_chanceOf_4 17 rfl rfl)
theorem dX0_chanceOf_114 : decode cX0_chanceOf 114 = .ok (.goto 13, 3) := dk_167 0 13 (dk_at dksX0_chanceOf_4 20 rfl rfl)
theorem dX0_chanceOf_117 : decode cX0_chanceOf 117 = .ok (.astore 10, 2) := dk_58 10 (dk_at dksX0_chanceOf_5 0 rfl rfl)
theorem dX0_chanceOf_119 : decode cX0_chanceOf 119 = .ok (.aload_n 0, 1) := dk_42 (dk_at dksX0_chanceOf_5 2 rfl rfl)
theorem dX0_chanceOf_120 : decode cX0_chanceOf 120 = .ok (.iconst 0, 1) := dk_3 (dk_at dksX0_chanceOf_5 3 rfl rfl)
theorem dX0_chanceOf_121 : decode cX0_chanceOf 121 = .ok (.putfield 244, 3) := dk_181 0 244 (dk_at dksX0_chanceOf_5 4 rfl rfl)
theorem dX0_chanceOf_124 : decode cX0_chanceOf 124 = .ok (.aload 10, 2) := dk_25 10 (dk_at dksX0_chanceOf_5 7 rfl rfl)
theorem dX0_chanceOf_126 : decode cX0_chanceOf 126 = .ok (.athrow, 1) := dk_191 (dk_at dksX0_chanceOf_5 9 rfl rfl)
theorem dX0_chanceOf_127 : decode cX0_chanceOf 127 = .ok (.lload 5, 2) := dk_22 5 (dk_at dksX0_chanceOf_5 10 rfl rfl)
theorem dX0_chanceOf_129 : decode cX0_chanceOf 129 = .ok (.lconst 1, 1) := dk_10 (dk_at dksX0_chanceOf_5 12 rfl rfl)
theorem dX0_chanceOf_130 : decode cX0_chanceOf 130 = .ok (.iconst 4, 1) := dk_7 (dk_at dksX0_chanceOf_5 13 rfl rfl)
theorem dX0_chanceOf_131 : decode cX0_chanceOf 131 = .ok (.iload 4, 2) := dk_21 4 (dk_at dksX0_chanceOf_5 14 rfl rfl)
theorem dX0_chanceOf_133 : decode cX0_chanceOf 133 = .ok (.imul, 1) := dk_104 (dk_at dksX0_chanceOf_5 16 rfl rfl)
theorem dX0_chanceOf_134 : decode cX0_chanceOf 134 = .ok (.lshl, 1) := dk_121 (dk_at dksX0_chanceOf_5 17 rfl rfl)
theorem dX0_chanceOf_135 : decode cX0_chanceOf 135 = .ok (.iload_n 3, 1) := dk_29 (dk_at dksX0_chanceOf_5 18 rfl rfl)
theorem dX0_chanceOf_136 : decode cX0_chanceOf 136 = .ok (.invokestatic 373, 3) := dk_184 1 117 (dk_at dksX0_chanceOf_5 19 rfl rfl)
theorem dX0_chanceOf_139 : decode cX0_chanceOf 139 = .ok (.lreturn, 1) := dk_173 (dk_at dksX0_chanceOf_5 22 rfl rfl)
abbrev cX0_part : ByteArray := prog_1_method_70_code
def yX0_part : MethodName := ⟨RX0, "part", "(JJI)J"⟩
def dkwX0_part_0 : List UInt8 := [21, 4, 154, 0, 7, 30, 167, 0, 4, 32, 30, 32, 184, 1, 113, 109, 173]
abbrev dktX0_part_0 : List UInt8 := dkwX0_part_0 ++ []
theorem dksX0_part_0 : cX0_part.data.toList.drop 0 = dktX0_part_0 := by decide +kernel
theorem dX0_part_0 : decode cX0_part 0 = .ok (.iload 4, 2) := dk_21 4 (dk_at dksX0_part_0 0 rfl rfl)
theorem dX0_part_2 : decode cX0_part 2 = .ok (.ifCond .ne 7, 3) := dk_154 0 7 (dk_at dksX0_part_0 2 rfl rfl)
theorem dX0_part_5 : decode cX0_part 5 = .ok (.lload_n 0, 1) := dk_30 (dk_at dksX0_part_0 5 rfl rfl)
theorem dX0_part_6 : decode cX0_part 6 = .ok (.goto 4, 3) := dk_167 0 4 (dk_at dksX0_part_0 6 rfl rfl)
theorem dX0_part_9 : decode cX0_part 9 = .ok (.lload_n 2, 1) := dk_32 (dk_at dksX0_part_0 9 rfl rfl)
theorem dX0_part_10 : decode cX0_part 10 = .ok (.lload_n 0, 1) := dk_30 (dk_at dksX0_part_0 10 rfl rfl)
theorem dX0_part_11 : decode cX0_part 11 = .ok (.lload_n 2, 1) := dk_32 (dk_at dksX0_part_0 11 rfl rfl)
theorem dX0_part_12 : decode cX0_part 12 = .ok (.invokestatic 369, 3) := dk_184 1 113 (dk_at dksX0_part_0 12 rfl rfl)
theorem dX0_part_15 : decode cX0_part 15 = .ok (.ldiv, 1) := dk_109 (dk_at dksX0_part_0 15 rfl rfl)
theorem dX0_part_16 : decode cX0_part 16 = .ok (.lreturn, 1) := dk_173 (dk_at dksX0_part_0 16 rfl rfl)
abbrev cX0_divisor : ByteArray := prog_1_method_69_code
def yX0_divisor : MethodName := ⟨RX0, "divisor", "(JJ)J"⟩
def dkwX0_divisor_0 : List UInt8 := [32, 9, 148, 154, 0, 7, 30, 167, 0, 10, 32, 30, 32, 113, 184, 1, 113, 173]
abbrev dktX0_divisor_0 : List UInt8 := dkwX0_divisor_0 ++ []
theorem dksX0_divisor_0 : cX0_divisor.data.toList.drop 0 = dktX0_divisor_0 := by decide +kernel
theorem dX0_divisor_0 : decode cX0_divisor 0 = .ok (.lload_n 2, 1) := dk_32 (dk_at dksX0_divisor_0 0 rfl rfl)
theorem dX0_divisor_1 : decode cX0_divisor 1 = .ok (.lconst 0, 1) := dk_9 (dk_at dksX0_divisor_0 1 rfl rfl)
theorem dX0_divisor_2 : decode cX0_divisor 2 = .ok (.lcmp, 1) := dk_148 (dk_at dksX0_divisor_0 2 rfl rfl)
theorem dX0_divisor_3 : decode cX0_divisor 3 = .ok (.ifCond .ne 7, 3) := dk_154 0 7 (dk_at dksX0_divisor_0 3 rfl rfl)
theorem dX0_divisor_6 : decode cX0_divisor 6 = .ok (.lload_n 0, 1) := dk_30 (dk_at dksX0_divisor_0 6 rfl rfl)
theorem dX0_divisor_7 : decode cX0_divisor 7 = .ok (.goto 10, 3) := dk_167 0 10 (dk_at dksX0_divisor_0 7 rfl rfl)
theorem dX0_divisor_10 : decode cX0_divisor 10 = .ok (.lload_n 2, 1) := dk_32 (dk_at dksX0_divisor_0 10 rfl rfl)
theorem dX0_divisor_11 : decode cX0_divisor 11 = .ok (.lload_n 0, 1) := dk_30 (dk_at dksX0_divisor_0 11 rfl rfl)
theorem dX0_divisor_12 : decode cX0_divisor 12 = .ok (.lload_n 2, 1) := dk_32 (dk_at dksX0_divisor_0 12 rfl rfl)
theorem dX0_divisor_13 : decode cX0_divisor 13 = .ok (.lrem, 1) := dk_113 (dk_at dksX0_divisor_0 13 rfl rfl)
theorem dX0_divisor_14 : decode cX0_divisor 14 = .ok (.invokestatic 369, 3) := dk_184 1 113 (dk_at dksX0_divisor_0 14 rfl rfl)
theorem dX0_divisor_17 : decode cX0_divisor 17 = .ok (.lreturn, 1) := dk_173 (dk_at dksX0_divisor_0 17 rfl rfl)
abbrev cX0_no : ByteArray := prog_1_method_3_code
def yX0_no : MethodName := ⟨RX0, "no", "(I)J"⟩
def dkwX0_no_0 : List UInt8 := [20, 0, 84, 26, 133, 101, 173]
abbrev dktX0_no_0 : List UInt8 := dkwX0_no_0 ++ []
theorem dksX0_no_0 : cX0_no.data.toList.drop 0 = dktX0_no_0 := by decide +kernel
theorem dX0_no_0 : decode cX0_no 0 = .ok (.ldc2_w 84, 3) := dk_20 0 84 (dk_at dksX0_no_0 0 rfl rfl)
theorem dX0_no_3 : decode cX0_no 3 = .ok (.iload_n 0, 1) := dk_26 (dk_at dksX0_no_0 3 rfl rfl)
theorem dX0_no_4 : decode cX0_no 4 = .ok (.i2l, 1) := dk_133 (dk_at dksX0_no_0 4 rfl rfl)
theorem dX0_no_5 : decode cX0_no 5 = .ok (.lsub, 1) := dk_101 (dk_at dksX0_no_0 5 rfl rfl)
theorem dX0_no_6 : decode cX0_no 6 = .ok (.lreturn, 1) := dk_173 (dk_at dksX0_no_0 6 rfl rfl)
abbrev cX0_years : ByteArray := prog_1_method_75_code
def yX0_years : MethodName := ⟨RX0, "years", "(III)I"⟩
def dkwX0_years_1 : List UInt8 := [182, 1, 138, 167, 0, 5, 16, 254, 172]
abbrev dktX0_years_1 : List UInt8 := dkwX0_years_1 ++ []
def dkwX0_years_0 : List UInt8 := [28, 133, 9, 20, 1, 82, 184, 0, 90, 153, 0, 20, 29, 184, 0, 147, 153, 0, 13, 42, 27, 28, 29]
abbrev dktX0_years_0 : List UInt8 := dkwX0_years_0 ++ dktX0_years_1
theorem dksX0_years_0 : cX0_years.data.toList.drop 0 = dktX0_years_0 := by decide +kernel
theorem dksX0_years_1 : cX0_years.data.toList.drop 23 = dktX0_years_1 := dk_seg dksX0_years_0 23 rfl rfl
theorem dX0_years_0 : decode cX0_years 0 = .ok (.iload_n 2, 1) := dk_28 (dk_at dksX0_years_0 0 rfl rfl)
theorem dX0_years_1 : decode cX0_years 1 = .ok (.i2l, 1) := dk_133 (dk_at dksX0_years_0 1 rfl rfl)
theorem dX0_years_2 : decode cX0_years 2 = .ok (.lconst 0, 1) := dk_9 (dk_at dksX0_years_0 2 rfl rfl)
theorem dX0_years_3 : decode cX0_years 3 = .ok (.ldc2_w 338, 3) := dk_20 1 82 (dk_at dksX0_years_0 3 rfl rfl)
theorem dX0_years_6 : decode cX0_years 6 = .ok (.invokestatic 90, 3) := dk_184 0 90 (dk_at dksX0_years_0 6 rfl rfl)
theorem dX0_years_9 : decode cX0_years 9 = .ok (.ifCond .eq 20, 3) := dk_153 0 20 (dk_at dksX0_years_0 9 rfl rfl)
theorem dX0_years_12 : decode cX0_years 12 = .ok (.iload_n 3, 1) := dk_29 (dk_at dksX0_years_0 12 rfl rfl)
theorem dX0_years_13 : decode cX0_years 13 = .ok (.invokestatic 147, 3) := dk_184 0 147 (dk_at dksX0_years_0 13 rfl rfl)
theorem dX0_years_16 : decode cX0_years 16 = .ok (.ifCond .eq 13, 3) := dk_153 0 13 (dk_at dksX0_years_0 16 rfl rfl)
theorem dX0_years_19 : decode cX0_years 19 = .ok (.aload_n 0, 1) := dk_42 (dk_at dksX0_years_0 19 rfl rfl)
theorem dX0_years_20 : decode cX0_years 20 = .ok (.iload_n 1, 1) := dk_27 (dk_at dksX0_years_0 20 rfl rfl)
theorem dX0_years_21 : decode cX0_years 21 = .ok (.iload_n 2, 1) := dk_28 (dk_at dksX0_years_0 21 rfl rfl)
theorem dX0_years_22 : decode cX0_years 22 = .ok (.iload_n 3, 1) := dk_29 (dk_at dksX0_years_0 22 rfl rfl)
theorem dX0_years_23 : decode cX0_years 23 = .ok (.invokevirtual 394, 3) := dk_182 1 138 (dk_at dksX0_years_1 0 rfl rfl)
theorem dX0_years_26 : decode cX0_years 26 = .ok (.goto 5, 3) := dk_167 0 5 (dk_at dksX0_years_1 3 rfl rfl)
theorem dX0_years_29 : decode cX0_years 29 = .ok (.bipush (-2), 2) := dk_16 254 (dk_at dksX0_years_1 6 rfl rfl)
theorem dX0_years_31 : decode cX0_years 31 = .ok (.ireturn, 1) := dk_172 (dk_at dksX0_years_1 8 rfl rfl)
abbrev cX0_yearsOf : ByteArray := prog_1_method_74_code
def yX0_yearsOf : MethodName := ⟨RX0, "yearsOf", "(III)I"⟩
def dkwX0_yearsOf_5 : List UInt8 := [180, 0, 74, 3, 25, 4, 3, 16, 24, 184, 1, 26, 25, 6, 191]
abbrev dktX0_yearsOf_5 : List UInt8 := dkwX0_yearsOf_5 ++ []
def dkwX0_yearsOf_4 : List UInt8 := [182, 1, 44, 54, 5, 42, 180, 0, 74, 3, 25, 4, 3, 16, 24, 184, 1, 26, 21, 5, 172, 58, 6, 42]
abbrev dktX0_yearsOf_4 : List UInt8 := dkwX0_yearsOf_4 ++ dktX0_yearsOf_5
def dkwX0_yearsOf_3 : List UInt8 := [132, 5, 1, 167, 255, 226, 42, 182, 1, 38, 29, 154, 0, 10, 42, 180, 0, 251, 167, 0, 7, 42]
abbrev dktX0_yearsOf_3 : List UInt8 := dkwX0_yearsOf_3 ++ dktX0_yearsOf_4
def dkwX0_yearsOf_2 : List UInt8 := [162, 0, 29, 25, 4, 21, 5, 21, 5, 28, 162, 0, 11, 42, 6, 182, 1, 135, 167, 0, 4, 4, 79]
abbrev dktX0_yearsOf_2 : List UInt8 := dkwX0_yearsOf_2 ++ dktX0_yearsOf_3
def dkwX0_yearsOf_1 : List UInt8 := [42, 180, 0, 74, 3, 16, 24, 184, 1, 26, 42, 27, 181, 1, 132, 3, 54, 5, 21, 5, 16, 24]
abbrev dktX0_yearsOf_1 : List UInt8 := dkwX0_yearsOf_1 ++ dktX0_yearsOf_2
def dkwX0_yearsOf_0 : List UInt8 := [42, 180, 0, 23, 4, 50, 182, 0, 144, 87, 42, 180, 0, 23, 4, 50, 180, 0, 145, 58, 4, 25, 4, 3]
abbrev dktX0_yearsOf_0 : List UInt8 := dkwX0_yearsOf_0 ++ dktX0_yearsOf_1
theorem dksX0_yearsOf_0 : cX0_yearsOf.data.toList.drop 0 = dktX0_yearsOf_0 := by decide +kernel
theorem dksX0_yearsOf_1 : cX0_yearsOf.data.toList.drop 24 = dktX0_yearsOf_1 := dk_seg dksX0_yearsOf_0 24 rfl rfl
theorem dksX0_yearsOf_2 : cX0_yearsOf.data.toList.drop 46 = dktX0_yearsOf_2 := dk_seg dksX0_yearsOf_1 22 rfl rfl
theorem dksX0_yearsOf_3 : cX0_yearsOf.data.toList.drop 69 = dktX0_yearsOf_3 := dk_seg dksX0_yearsOf_2 23 rfl rfl
theorem dksX0_yearsOf_4 : cX0_yearsOf.data.toList.drop 91 = dktX0_yearsOf_4 := dk_seg dksX0_yearsOf_3 22 rfl rfl
theorem dksX0_yearsOf_5 : cX0_yearsOf.data.toList.drop 115 = dktX0_yearsOf_5 := dk_seg dksX0_yearsOf_4 24 rfl rfl
theorem dX0_yearsOf_0 : decode cX0_yearsOf 0 = .ok (.aload_n 0, 1) := dk_42 (dk_at dksX0_yearsOf_0 0 rfl rfl)
theorem dX0_yearsOf_1 : decode cX0_yearsOf 1 = .ok (.getfield 23, 3) := dk_180 0 23 (dk_at dksX0_yearsOf_0 1 rfl rfl)
theorem dX0_yearsOf_4 : decode cX0_yearsOf 4 = .ok (.iconst 1, 1) := dk_4 (dk_at dksX0_yearsOf_0 4 rfl rfl)
theorem dX0_yearsOf_5 : decode cX0_yearsOf 5 = .ok (.aaload, 1) := dk_50 (dk_at dksX0_yearsOf_0 5 rfl rfl)
theorem dX0_yearsOf_6 : decode cX0_yearsOf 6 = .ok (.invokevirtual 144, 3) := dk_182 0 144 (dk_at dksX0_yearsOf_0 6 rfl rfl)
theorem dX0_yearsOf_9 : decode cX0_yearsOf 9 = .ok (.pop, 1) := dk_87 (dk_at dksX0_yearsOf_0 9 rfl rfl)
theorem dX0_yearsOf_10 : decode cX0_yearsOf 10 = .ok (.aload_n 0, 1) := dk_42 (dk_at dksX0_yearsOf_0 10 rfl rfl)
theorem dX0_yearsOf_11 : decode cX0_yearsOf 11 = .ok (.getfield 23, 3) := dk_180 0 23 (dk_at dksX0_yearsOf_0 11 rfl rfl)
theorem dX0_yearsOf_14 : decode cX0_yearsOf 14 = .ok (.iconst 1, 1) := dk_4 (dk_at dksX0_yearsOf_0 14 rfl rfl)
theorem dX0_yearsOf_15 : decode cX0_yearsOf 15 = .ok (.aaload, 1) := dk_50 (dk_at dksX0_yearsOf_0 15 rfl rfl)
theorem dX0_yearsOf_16 : decode cX0_yearsOf 16 = .ok (.getfield 145, 3) := dk_180 0 145 (dk_at dksX0_yearsOf_0 16 rfl rfl)
theorem dX0_yearsOf_19 : decode cX0_yearsOf 19 = .ok (.astore 4, 2) := dk_58 4 (dk_at dksX0_yearsOf_0 19 rfl rfl)
theorem dX0_yearsOf_21 : decode cX0_yearsOf 21 = .ok (.aload 4, 2) := dk_25 4 (dk_at dksX0_yearsOf_0 21 rfl rfl)
theorem dX0_yearsOf_23 : decode cX0_yearsOf 23 = .ok (.iconst 0, 1) := dk_3 (dk_at dksX0_yearsOf_0 23 rfl rfl)
theorem dX0_yearsOf_24 : decode cX0_yearsOf 24 = .ok (.aload_n 0, 1) := dk_42 (dk_at dksX0_yearsOf_1 0 rfl rfl)
theorem dX0_yearsOf_25 : decode cX0_yearsOf 25 = .ok (.getfield 74, 3) := dk_180 0 74 (dk_at dksX0_yearsOf_1 1 rfl rfl)
theorem dX0_yearsOf_28 : decode cX0_yearsOf 28 = .ok (.iconst 0, 1) := dk_3 (dk_at dksX0_yearsOf_1 4 rfl rfl)
theorem dX0_yearsOf_29 : decode cX0_yearsOf 29 = .ok (.bipush 24, 2) := dk_16 24 (dk_at dksX0_yearsOf_1 5 rfl rfl)
theorem dX0_yearsOf_31 : decode cX0_yearsOf 31 = .ok (.invokestatic 282, 3) := dk_184 1 26 (dk_at dksX0_yearsOf_1 7 rfl rfl)
theorem dX0_yearsOf_34 : decode cX0_yearsOf 34 = .ok (.aload_n 0, 1) := dk_42 (dk_at dksX0_yearsOf_1 10 rfl rfl)
theorem dX0_yearsOf_35 : decode cX0_yearsOf 35 = .ok (.iload_n 1, 1) := dk_27 (dk_at dksX0_yearsOf_1 11 rfl rfl)
theorem dX0_yearsOf_36 : decode cX0_yearsOf 36 = .ok (.putfield 388, 3) := dk_181 1 132 (dk_at dksX0_yearsOf_1 12 rfl rfl)
theorem dX0_yearsOf_39 : decode cX0_yearsOf 39 = .ok (.iconst 0, 1) := dk_3 (dk_at dksX0_yearsOf_1 15 rfl rfl)
theorem dX0_yearsOf_40 : decode cX0_yearsOf 40 = .ok (.istore 5, 2) := dk_54 5 (dk_at dksX0_yearsOf_1 16 rfl rfl)
theorem dX0_yearsOf_42 : decode cX0_yearsOf 42 = .ok (.iload 5, 2) := dk_21 5 (dk_at dksX0_yearsOf_1 18 rfl rfl)
theorem dX0_yearsOf_44 : decode cX0_yearsOf 44 = .ok (.bipush 24, 2) := dk_16 24 (dk_at dksX0_yearsOf_1 20 rfl rfl)
theorem dX0_yearsOf_46 : decode cX0_yearsOf 46 = .ok (.if_icmp .ge 29, 3) := dk_162 0 29 (dk_at dksX0_yearsOf_2 0 rfl rfl)
theorem dX0_yearsOf_49 : decode cX0_yearsOf 49 = .ok (.aload 4, 2) := dk_25 4 (dk_at dksX0_yearsOf_2 3 rfl rfl)
theorem dX0_yearsOf_51 : decode cX0_yearsOf 51 = .ok (.iload 5, 2) := dk_21 5 (dk_at dksX0_yearsOf_2 5 rfl rfl)
theorem dX0_yearsOf_53 : decode cX0_yearsOf 53 = .ok (.iload 5, 2) := dk_21 5 (dk_at dksX0_yearsOf_2 7 rfl rfl)
theorem dX0_yearsOf_55 : decode cX0_yearsOf 55 = .ok (.iload_n 2, 1) := dk_28 (dk_at dksX0_yearsOf_2 9 rfl rfl)
theorem dX0_yearsOf_56 : decode cX0_yearsOf 56 = .ok (.if_icmp .ge 11, 3) := dk_162 0 11 (dk_at dksX0_yearsOf_2 10 rfl rfl)
theorem dX0_yearsOf_59 : decode cX0_yearsOf 59 = .ok (.aload_n 0, 1) := dk_42 (dk_at dksX0_yearsOf_2 13 rfl rfl)
theorem dX0_yearsOf_60 : decode cX0_yearsOf 60 = .ok (.iconst 3, 1) := dk_6 (dk_at dksX0_yearsOf_2 14 rfl rfl)
theorem dX0_yearsOf_61 : decode cX0_yearsOf 61 = .ok (.invokevirtual 391, 3) := dk_182 1 135 (dk_at dksX0_yearsOf_2 15 rfl rfl)
theorem dX0_yearsOf_64 : decode cX0_yearsOf 64 = .ok (.goto 4, 3) := dk_167 0 4 (dk_at dksX0_yearsOf_2 18 rfl rfl)
theorem dX0_yearsOf_67 : decode cX0_yearsOf 67 = .ok (.iconst 1, 1) := dk_4 (dk_at dksX0_yearsOf_2 21 rfl rfl)
theorem dX0_yearsOf_68 : decode cX0_yearsOf 68 = .ok (.iastore, 1) := dk_79 (dk_at dksX0_yearsOf_2 22 rfl rfl)
theorem dX0_yearsOf_69 : decode cX0_yearsOf 69 = .ok (.iinc 5 1, 3) := dk_132 5 1 (dk_at dksX0_yearsOf_3 0 rfl rfl)
theorem dX0_yearsOf_72 : decode cX0_yearsOf 72 = .ok (.goto (-30), 3) := dk_167 255 226 (dk_at dksX0_yearsOf_3 3 rfl rfl)
theorem dX0_yearsOf_75 : decode cX0_yearsOf 75 = .ok (.aload_n 0, 1) := dk_42 (dk_at dksX0_yearsOf_3 6 rfl rfl)
theorem dX0_yearsOf_76 : decode cX0_yearsOf 76 = .ok (.invokevirtual 294, 3) := dk_182 1 38 (dk_at dksX0_yearsOf_3 7 rfl rfl)
theorem dX0_yearsOf_79 : decode cX0_yearsOf 79 = .ok (.iload_n 3, 1) := dk_29 (dk_at dksX0_yearsOf_3 10 rfl rfl)
theorem dX0_yearsOf_80 : decode cX0_yearsOf 80 = .ok (.ifCond .ne 10, 3) := dk_154 0 10 (dk_at dksX0_yearsOf_3 11 rfl rfl)
theorem dX0_yearsOf_83 : decode cX0_yearsOf 83 = .ok (.aload_n 0, 1) := dk_42 (dk_at dksX0_yearsOf_3 14 rfl rfl)
theorem dX0_yearsOf_84 : decode cX0_yearsOf 84 = .ok (.getfield 251, 3) := dk_180 0 251 (dk_at dksX0_yearsOf_3 15 rfl rfl)
theorem dX0_yearsOf_87 : decode cX0_yearsOf 87 = .ok (.goto 7, 3) := dk_167 0 7 (dk_at dksX0_yearsOf_3 18 rfl rfl)
theorem dX0_yearsOf_90 : decode cX0_yearsOf 90 = .ok (.aload_n 0, 1) := dk_42 (dk_at dksX0_yearsOf_3 21 rfl rfl)
theorem dX0_yearsOf_91 : decode cX0_yearsOf 91 = .ok (.invokevirtual 300, 3) := dk_182 1 44 (dk_at dksX0_yearsOf_4 0 rfl rfl)
theorem dX0_yearsOf_94 : decode cX0_yearsOf 94 = .ok (.istore 5, 2) := dk_54 5 (dk_at dksX0_yearsOf_4 3 rfl rfl)
theorem dX0_yearsOf_96 : decode cX0_yearsOf 96 = .ok (.aload_n 0, 1) := dk_42 (dk_at dksX0_yearsOf_4 5 rfl rfl)
theorem dX0_yearsOf_97 : decode cX0_yearsOf 97 = .ok (.getfield 74, 3) := dk_180 0 74 (dk_at dksX0_yearsOf_4 6 rfl rfl)
theorem dX0_yearsOf_100 : decode cX0_yearsOf 100 = .ok (.iconst 0, 1) := dk_3 (dk_at dksX0_yearsOf_4 9 rfl rfl)
theorem dX0_yearsOf_101 : decode cX0_yearsOf 101 = .ok (.aload 4, 2) := dk_25 4 (dk_at dksX0_yearsOf_4 10 rfl rfl)
theorem dX0_yearsOf_103 : decode cX0_yearsOf 103 = .ok (.iconst 0, 1) := dk_3 (dk_at dksX0_yearsOf_4 12 rfl rfl)
theorem dX0_yearsOf_104 : decode cX0_yearsOf 104 = .ok (.bipush 24, 2) := dk_16 24 (dk_at dksX0_yearsOf_4 13 rfl rfl)
theorem dX0_yearsOf_106 : decode cX0_yearsOf 106 = .ok (.invokestatic 282, 3) := dk_184 1 26 (dk_at dksX0_yearsOf_4 15 rfl rfl)
theorem dX0_yearsOf_109 : decode cX0_yearsOf 109 = .ok (.iload 5, 2) := dk_21 5 (dk_at dksX0_yearsOf_4 18 rfl rfl)
theorem dX0_yearsOf_111 : decode cX0_yearsOf 111 = .ok (.ireturn, 1) := dk_172 (dk_at dksX0_yearsOf_4 20 rfl rfl)
theorem dX0_yearsOf_112 : decode cX0_yearsOf 112 = .ok (.astore 6, 2) := dk_58 6 (dk_at dksX0_yearsOf_4 21 rfl rfl)
theorem dX0_yearsOf_114 : decode cX0_yearsOf 114 = .ok (.aload_n 0, 1) := dk_42 (dk_at dksX0_yearsOf_4 23 rfl rfl)
theorem dX0_yearsOf_115 : decode cX0_yearsOf 115 = .ok (.getfield 74, 3) := dk_180 0 74 (dk_at dksX0_yearsOf_5 0 rfl rfl)
theorem dX0_yearsOf_118 : decode cX0_yearsOf 118 = .ok (.iconst 0, 1) := dk_3 (dk_at dksX0_yearsOf_5 3 rfl rfl)
theorem dX0_yearsOf_119 : decode cX0_yearsOf 119 = .ok (.aload 4, 2) := dk_25 4 (dk_at dksX0_yearsOf_5 4 rfl rfl)
theorem dX0_yearsOf_121 : decode cX0_yearsOf 121 = .ok (.iconst 0, 1) := dk_3 (dk_at dksX0_yearsOf_5 6 rfl rfl)
theorem dX0_yearsOf_122 : decode cX0_yearsOf 122 = .ok (.bipush 24, 2) := dk_16 24 (dk_at dksX0_yearsOf_5 7 rfl rfl)
theorem dX0_yearsOf_124 : decode cX0_yearsOf 124 = .ok (.invokestatic 282, 3) := dk_184 1 26 (dk_at dksX0_yearsOf_5 9 rfl rfl)
theorem dX0_yearsOf_127 : decode cX0_yearsOf 127 = .ok (.aload 6, 2) := dk_25 6 (dk_at dksX0_yearsOf_5 12 rfl rfl)
theorem dX0_yearsOf_129 : decode cX0_yearsOf 129 = .ok (.athrow, 1) := dk_191 (dk_at dksX0_yearsOf_5 14 rfl rfl)
abbrev cX0_lot : ByteArray := prog_1_method_73_code
def yX0_lot : MethodName := ⟨RX0, "lot", "(I)I"⟩
def dkwX0_lot_1 : List UInt8 := [112, 172]
abbrev dktX0_lot_1 : List UInt8 := dkwX0_lot_1 ++ []
def dkwX0_lot_0 : List UInt8 := [42, 19, 1, 131, 42, 180, 1, 132, 104, 17, 48, 57, 96, 181, 1, 132, 42, 180, 1, 132, 16, 16, 124, 27]
abbrev dktX0_lot_0 : List UInt8 := dkwX0_lot_0 ++ dktX0_lot_1
theorem dksX0_lot_0 : cX0_lot.data.toList.drop 0 = dktX0_lot_0 := by decide +kernel
theorem dksX0_lot_1 : cX0_lot.data.toList.drop 24 = dktX0_lot_1 := dk_seg dksX0_lot_0 24 rfl rfl
theorem dX0_lot_0 : decode cX0_lot 0 = .ok (.aload_n 0, 1) := dk_42 (dk_at dksX0_lot_0 0 rfl rfl)
theorem dX0_lot_1 : decode cX0_lot 1 = .ok (.ldc_w 387, 3) := dk_19 1 131 (dk_at dksX0_lot_0 1 rfl rfl)
theorem dX0_lot_4 : decode cX0_lot 4 = .ok (.aload_n 0, 1) := dk_42 (dk_at dksX0_lot_0 4 rfl rfl)
theorem dX0_lot_5 : decode cX0_lot 5 = .ok (.getfield 388, 3) := dk_180 1 132 (dk_at dksX0_lot_0 5 rfl rfl)
theorem dX0_lot_8 : decode cX0_lot 8 = .ok (.imul, 1) := dk_104 (dk_at dksX0_lot_0 8 rfl rfl)
theorem dX0_lot_9 : decode cX0_lot 9 = .ok (.sipush 12345, 3) := dk_17 48 57 (dk_at dksX0_lot_0 9 rfl rfl)
theorem dX0_lot_12 : decode cX0_lot 12 = .ok (.iadd, 1) := dk_96 (dk_at dksX0_lot_0 12 rfl rfl)
theorem dX0_lot_13 : decode cX0_lot 13 = .ok (.putfield 388, 3) := dk_181 1 132 (dk_at dksX0_lot_0 13 rfl rfl)
theorem dX0_lot_16 : decode cX0_lot 16 = .ok (.aload_n 0, 1) := dk_42 (dk_at dksX0_lot_0 16 rfl rfl)
theorem dX0_lot_17 : decode cX0_lot 17 = .ok (.getfield 388, 3) := dk_180 1 132 (dk_at dksX0_lot_0 17 rfl rfl)
theorem dX0_lot_20 : decode cX0_lot 20 = .ok (.bipush 16, 2) := dk_16 16 (dk_at dksX0_lot_0 20 rfl rfl)
theorem dX0_lot_22 : decode cX0_lot 22 = .ok (.iushr, 1) := dk_124 (dk_at dksX0_lot_0 22 rfl rfl)
theorem dX0_lot_23 : decode cX0_lot 23 = .ok (.iload_n 1, 1) := dk_27 (dk_at dksX0_lot_0 23 rfl rfl)
theorem dX0_lot_24 : decode cX0_lot 24 = .ok (.irem, 1) := dk_112 (dk_at dksX0_lot_1 0 rfl rfl)
theorem dX0_lot_25 : decode cX0_lot 25 = .ok (.ireturn, 1) := dk_172 (dk_at dksX0_lot_1 1 rfl rfl)
abbrev cX0_sheet : ByteArray := prog_1_method_78_code
def yX0_sheet : MethodName := ⟨RX0, "sheet", "(III)I"⟩
def dkwX0_sheet_2 : List UInt8 := [42, 8, 182, 0, 183, 172]
abbrev dktX0_sheet_2 : List UInt8 := dkwX0_sheet_2 ++ []
def dkwX0_sheet_1 : List UInt8 := [164, 0, 6, 16, 254, 172, 42, 180, 0, 80, 27, 50, 28, 29, 184, 1, 141, 181, 0, 179, 29, 172, 58, 4]
abbrev dktX0_sheet_1 : List UInt8 := dkwX0_sheet_1 ++ dktX0_sheet_2
def dkwX0_sheet_0 : List UInt8 := [27, 184, 0, 176, 153, 0, 21, 28, 133, 9, 20, 0, 135, 184, 0, 90, 153, 0, 9, 29, 16, 60]
abbrev dktX0_sheet_0 : List UInt8 := dkwX0_sheet_0 ++ dktX0_sheet_1
theorem dksX0_sheet_0 : cX0_sheet.data.toList.drop 0 = dktX0_sheet_0 := by decide +kernel
theorem dksX0_sheet_1 : cX0_sheet.data.toList.drop 22 = dktX0_sheet_1 := dk_seg dksX0_sheet_0 22 rfl rfl
theorem dksX0_sheet_2 : cX0_sheet.data.toList.drop 46 = dktX0_sheet_2 := dk_seg dksX0_sheet_1 24 rfl rfl
theorem dX0_sheet_0 : decode cX0_sheet 0 = .ok (.iload_n 1, 1) := dk_27 (dk_at dksX0_sheet_0 0 rfl rfl)
theorem dX0_sheet_1 : decode cX0_sheet 1 = .ok (.invokestatic 176, 3) := dk_184 0 176 (dk_at dksX0_sheet_0 1 rfl rfl)
theorem dX0_sheet_4 : decode cX0_sheet 4 = .ok (.ifCond .eq 21, 3) := dk_153 0 21 (dk_at dksX0_sheet_0 4 rfl rfl)
theorem dX0_sheet_7 : decode cX0_sheet 7 = .ok (.iload_n 2, 1) := dk_28 (dk_at dksX0_sheet_0 7 rfl rfl)
theorem dX0_sheet_8 : decode cX0_sheet 8 = .ok (.i2l, 1) := dk_133 (dk_at dksX0_sheet_0 8 rfl rfl)
theorem dX0_sheet_9 : decode cX0_sheet 9 = .ok (.lconst 0, 1) := dk_9 (dk_at dksX0_sheet_0 9 rfl rfl)
theorem dX0_sheet_10 : decode cX0_sheet 10 = .ok (.ldc2_w 135, 3) := dk_20 0 135 (dk_at dksX0_sheet_0 10 rfl rfl)
theorem dX0_sheet_13 : decode cX0_sheet 13 = .ok (.invokestatic 90, 3) := dk_184 0 90 (dk_at dksX0_sheet_0 13 rfl rfl)
theorem dX0_sheet_16 : decode cX0_sheet 16 = .ok (.ifCond .eq 9, 3) := dk_153 0 9 (dk_at dksX0_sheet_0 16 rfl rfl)
theorem dX0_sheet_19 : decode cX0_sheet 19 = .ok (.iload_n 3, 1) := dk_29 (dk_at dksX0_sheet_0 19 rfl rfl)
theorem dX0_sheet_20 : decode cX0_sheet 20 = .ok (.bipush 60, 2) := dk_16 60 (dk_at dksX0_sheet_0 20 rfl rfl)
theorem dX0_sheet_22 : decode cX0_sheet 22 = .ok (.if_icmp .le 6, 3) := dk_164 0 6 (dk_at dksX0_sheet_1 0 rfl rfl)
theorem dX0_sheet_25 : decode cX0_sheet 25 = .ok (.bipush (-2), 2) := dk_16 254 (dk_at dksX0_sheet_1 3 rfl rfl)
theorem dX0_sheet_27 : decode cX0_sheet 27 = .ok (.ireturn, 1) := dk_172 (dk_at dksX0_sheet_1 5 rfl rfl)
theorem dX0_sheet_28 : decode cX0_sheet 28 = .ok (.aload_n 0, 1) := dk_42 (dk_at dksX0_sheet_1 6 rfl rfl)
theorem dX0_sheet_29 : decode cX0_sheet 29 = .ok (.getfield 80, 3) := dk_180 0 80 (dk_at dksX0_sheet_1 7 rfl rfl)
theorem dX0_sheet_32 : decode cX0_sheet 32 = .ok (.iload_n 1, 1) := dk_27 (dk_at dksX0_sheet_1 10 rfl rfl)
theorem dX0_sheet_33 : decode cX0_sheet 33 = .ok (.aaload, 1) := dk_50 (dk_at dksX0_sheet_1 11 rfl rfl)
theorem dX0_sheet_34 : decode cX0_sheet 34 = .ok (.iload_n 2, 1) := dk_28 (dk_at dksX0_sheet_1 12 rfl rfl)
theorem dX0_sheet_35 : decode cX0_sheet 35 = .ok (.iload_n 3, 1) := dk_29 (dk_at dksX0_sheet_1 13 rfl rfl)
theorem dX0_sheet_36 : decode cX0_sheet 36 = .ok (.invokestatic 397, 3) := dk_184 1 141 (dk_at dksX0_sheet_1 14 rfl rfl)
theorem dX0_sheet_39 : decode cX0_sheet 39 = .ok (.putfield 179, 3) := dk_181 0 179 (dk_at dksX0_sheet_1 17 rfl rfl)
theorem dX0_sheet_42 : decode cX0_sheet 42 = .ok (.iload_n 3, 1) := dk_29 (dk_at dksX0_sheet_1 20 rfl rfl)
theorem dX0_sheet_43 : decode cX0_sheet 43 = .ok (.ireturn, 1) := dk_172 (dk_at dksX0_sheet_1 21 rfl rfl)
theorem dX0_sheet_44 : decode cX0_sheet 44 = .ok (.astore 4, 2) := dk_58 4 (dk_at dksX0_sheet_1 22 rfl rfl)
theorem dX0_sheet_46 : decode cX0_sheet 46 = .ok (.aload_n 0, 1) := dk_42 (dk_at dksX0_sheet_2 0 rfl rfl)
theorem dX0_sheet_47 : decode cX0_sheet 47 = .ok (.iconst 5, 1) := dk_8 (dk_at dksX0_sheet_2 1 rfl rfl)
theorem dX0_sheet_48 : decode cX0_sheet 48 = .ok (.invokevirtual 183, 3) := dk_182 0 183 (dk_at dksX0_sheet_2 2 rfl rfl)
theorem dX0_sheet_51 : decode cX0_sheet 51 = .ok (.ireturn, 1) := dk_172 (dk_at dksX0_sheet_2 5 rfl rfl)
abbrev cX0_rowOf : ByteArray := prog_1_method_77_code
def yX0_rowOf : MethodName := ⟨RX0, "rowOf", "(II)Ljava/lang/Object;"⟩
def dkwX0_rowOf_2 : List UInt8 := [27, 188, 8, 176, 27, 188, 9, 176, 27, 188, 10, 176]
abbrev dktX0_rowOf_2 : List UInt8 := dkwX0_rowOf_2 ++ []
def dkwX0_rowOf_1 : List UInt8 := [171, 0, 0, 0, 0, 0, 35, 0, 0, 0, 2, 0, 0, 0, 0, 0, 0, 0, 27, 0, 0, 0, 1, 0, 0, 0, 31]
abbrev dktX0_rowOf_1 : List UInt8 := dkwX0_rowOf_1 ++ dktX0_rowOf_2
def dkwX0_rowOf_0 : List UInt8 := [26]
abbrev dktX0_rowOf_0 : List UInt8 := dkwX0_rowOf_0 ++ dktX0_rowOf_1
theorem dksX0_rowOf_0 : cX0_rowOf.data.toList.drop 0 = dktX0_rowOf_0 := by decide +kernel
theorem dksX0_rowOf_1 : cX0_rowOf.data.toList.drop 1 = dktX0_rowOf_1 := dk_seg dksX0_rowOf_0 1 rfl rfl
theorem dksX0_rowOf_2 : cX0_rowOf.data.toList.drop 28 = dktX0_rowOf_2 := dk_seg dksX0_rowOf_1 27 rfl rfl
theorem dX0_rowOf_0 : decode cX0_rowOf 0 = .ok (.iload_n 0, 1) := dk_26 (dk_at dksX0_rowOf_0 0 rfl rfl)
theorem dX0_rowOf_1 : decode cX0_rowOf 1 = .ok (.lookupswitch 35 #[(0, 27), (1, 31)], 27) := by decide +kernel
theorem dX0_rowOf_28 : decode cX0_rowOf 28 = .ok (.iload_n 1, 1) := dk_27 (dk_at dksX0_rowOf_2 0 rfl rfl)
theorem dX0_rowOf_29 : decode cX0_rowOf 29 = .ok (.newarray .byte, 2) := dk_188_8 (dk_at dksX0_rowOf_2 1 rfl rfl)
theorem dX0_rowOf_31 : decode cX0_rowOf 31 = .ok (.areturn, 1) := dk_176 (dk_at dksX0_rowOf_2 3 rfl rfl)
theorem dX0_rowOf_32 : decode cX0_rowOf 32 = .ok (.iload_n 1, 1) := dk_27 (dk_at dksX0_rowOf_2 4 rfl rfl)
theorem dX0_rowOf_33 : decode cX0_rowOf 33 = .ok (.newarray .short, 2) := dk_188_9 (dk_at dksX0_rowOf_2 5 rfl rfl)
theorem dX0_rowOf_35 : decode cX0_rowOf 35 = .ok (.areturn, 1) := dk_176 (dk_at dksX0_rowOf_2 7 rfl rfl)
theorem dX0_rowOf_36 : decode cX0_rowOf 36 = .ok (.iload_n 1, 1) := dk_27 (dk_at dksX0_rowOf_2 8 rfl rfl)
theorem dX0_rowOf_37 : decode cX0_rowOf 37 = .ok (.newarray .int, 2) := dk_188_10 (dk_at dksX0_rowOf_2 9 rfl rfl)
theorem dX0_rowOf_39 : decode cX0_rowOf 39 = .ok (.areturn, 1) := dk_176 (dk_at dksX0_rowOf_2 11 rfl rfl)
abbrev cX0_lose : ByteArray := prog_1_method_79_code
def yX0_lose : MethodName := ⟨RX0, "lose", "(I)I"⟩
def dkwX0_lose_2 : List UInt8 := [28, 172]
abbrev dktX0_lose_2 : List UInt8 := dkwX0_lose_2 ++ []
def dkwX0_lose_1 : List UInt8 := [182, 0, 183, 172, 42, 180, 0, 80, 27, 50, 182, 0, 186, 61, 42, 180, 0, 80, 27, 50, 1, 181, 0, 179]
abbrev dktX0_lose_1 : List UInt8 := dkwX0_lose_1 ++ dktX0_lose_2
def dkwX0_lose_0 : List UInt8 := [27, 184, 0, 176, 154, 0, 6, 16, 254, 172, 42, 180, 0, 80, 27, 50, 180, 0, 179, 199, 0, 9, 42, 4]
abbrev dktX0_lose_0 : List UInt8 := dkwX0_lose_0 ++ dktX0_lose_1
theorem dksX0_lose_0 : cX0_lose.data.toList.drop 0 = dktX0_lose_0 := by decide +kernel
theorem dksX0_lose_1 : cX0_lose.data.toList.drop 24 = dktX0_lose_1 := dk_seg dksX0_lose_0 24 rfl rfl
theorem dksX0_lose_2 : cX0_lose.data.toList.drop 48 = dktX0_lose_2 := dk_seg dksX0_lose_1 24 rfl rfl
theorem dX0_lose_0 : decode cX0_lose 0 = .ok (.iload_n 1, 1) := dk_27 (dk_at dksX0_lose_0 0 rfl rfl)
theorem dX0_lose_1 : decode cX0_lose 1 = .ok (.invokestatic 176, 3) := dk_184 0 176 (dk_at dksX0_lose_0 1 rfl rfl)
theorem dX0_lose_4 : decode cX0_lose 4 = .ok (.ifCond .ne 6, 3) := dk_154 0 6 (dk_at dksX0_lose_0 4 rfl rfl)
theorem dX0_lose_7 : decode cX0_lose 7 = .ok (.bipush (-2), 2) := dk_16 254 (dk_at dksX0_lose_0 7 rfl rfl)
theorem dX0_lose_9 : decode cX0_lose 9 = .ok (.ireturn, 1) := dk_172 (dk_at dksX0_lose_0 9 rfl rfl)
theorem dX0_lose_10 : decode cX0_lose 10 = .ok (.aload_n 0, 1) := dk_42 (dk_at dksX0_lose_0 10 rfl rfl)
theorem dX0_lose_11 : decode cX0_lose 11 = .ok (.getfield 80, 3) := dk_180 0 80 (dk_at dksX0_lose_0 11 rfl rfl)
theorem dX0_lose_14 : decode cX0_lose 14 = .ok (.iload_n 1, 1) := dk_27 (dk_at dksX0_lose_0 14 rfl rfl)
theorem dX0_lose_15 : decode cX0_lose 15 = .ok (.aaload, 1) := dk_50 (dk_at dksX0_lose_0 15 rfl rfl)
theorem dX0_lose_16 : decode cX0_lose 16 = .ok (.getfield 179, 3) := dk_180 0 179 (dk_at dksX0_lose_0 16 rfl rfl)
theorem dX0_lose_19 : decode cX0_lose 19 = .ok (.ifnonnull 9, 3) := dk_199 0 9 (dk_at dksX0_lose_0 19 rfl rfl)
theorem dX0_lose_22 : decode cX0_lose 22 = .ok (.aload_n 0, 1) := dk_42 (dk_at dksX0_lose_0 22 rfl rfl)
theorem dX0_lose_23 : decode cX0_lose 23 = .ok (.iconst 1, 1) := dk_4 (dk_at dksX0_lose_0 23 rfl rfl)
theorem dX0_lose_24 : decode cX0_lose 24 = .ok (.invokevirtual 183, 3) := dk_182 0 183 (dk_at dksX0_lose_1 0 rfl rfl)
theorem dX0_lose_27 : decode cX0_lose 27 = .ok (.ireturn, 1) := dk_172 (dk_at dksX0_lose_1 3 rfl rfl)
theorem dX0_lose_28 : decode cX0_lose 28 = .ok (.aload_n 0, 1) := dk_42 (dk_at dksX0_lose_1 4 rfl rfl)
theorem dX0_lose_29 : decode cX0_lose 29 = .ok (.getfield 80, 3) := dk_180 0 80 (dk_at dksX0_lose_1 5 rfl rfl)
theorem dX0_lose_32 : decode cX0_lose 32 = .ok (.iload_n 1, 1) := dk_27 (dk_at dksX0_lose_1 8 rfl rfl)
theorem dX0_lose_33 : decode cX0_lose 33 = .ok (.aaload, 1) := dk_50 (dk_at dksX0_lose_1 9 rfl rfl)
theorem dX0_lose_34 : decode cX0_lose 34 = .ok (.invokevirtual 186, 3) := dk_182 0 186 (dk_at dksX0_lose_1 10 rfl rfl)
theorem dX0_lose_37 : decode cX0_lose 37 = .ok (.istore_n 2, 1) := dk_61 (dk_at dksX0_lose_1 13 rfl rfl)
theorem dX0_lose_38 : decode cX0_lose 38 = .ok (.aload_n 0, 1) := dk_42 (dk_at dksX0_lose_1 14 rfl rfl)
theorem dX0_lose_39 : decode cX0_lose 39 = .ok (.getfield 80, 3) := dk_180 0 80 (dk_at dksX0_lose_1 15 rfl rfl)
theorem dX0_lose_42 : decode cX0_lose 42 = .ok (.iload_n 1, 1) := dk_27 (dk_at dksX0_lose_1 18 rfl rfl)
theorem dX0_lose_43 : decode cX0_lose 43 = .ok (.aaload, 1) := dk_50 (dk_at dksX0_lose_1 19 rfl rfl)
theorem dX0_lose_44 : decode cX0_lose 44 = .ok (.aconst_null, 1) := dk_1 (dk_at dksX0_lose_1 20 rfl rfl)
theorem dX0_lose_45 : decode cX0_lose 45 = .ok (.putfield 179, 3) := dk_181 0 179 (dk_at dksX0_lose_1 21 rfl rfl)
theorem dX0_lose_48 : decode cX0_lose 48 = .ok (.iload_n 2, 1) := dk_28 (dk_at dksX0_lose_2 0 rfl rfl)
theorem dX0_lose_49 : decode cX0_lose 49 = .ok (.ireturn, 1) := dk_172 (dk_at dksX0_lose_2 1 rfl rfl)
abbrev cX0_put : ByteArray := prog_1_method_80_code
def yX0_put : MethodName := ⟨RX0, "put", "(IIII)I"⟩
def dkwX0_put_2 : List UInt8 := [29, 21, 4, 182, 1, 147, 4, 172, 58, 5, 42, 6, 182, 0, 183, 172, 58, 5, 42, 5, 182, 0, 183, 172]
abbrev dktX0_put_2 : List UInt8 := dkwX0_put_2 ++ []
def dkwX0_put_1 : List UInt8 := [180, 0, 80, 27, 50, 180, 0, 179, 199, 0, 9, 42, 4, 182, 0, 183, 172, 42, 180, 0, 80, 27, 50, 28]
abbrev dktX0_put_1 : List UInt8 := dkwX0_put_1 ++ dktX0_put_2
def dkwX0_put_0 : List UInt8 := [27, 184, 0, 176, 153, 0, 15, 28, 133, 9, 20, 0, 135, 184, 0, 90, 154, 0, 6, 16, 254, 172, 42]
abbrev dktX0_put_0 : List UInt8 := dkwX0_put_0 ++ dktX0_put_1
theorem dksX0_put_0 : cX0_put.data.toList.drop 0 = dktX0_put_0 := by decide +kernel
theorem dksX0_put_1 : cX0_put.data.toList.drop 23 = dktX0_put_1 := dk_seg dksX0_put_0 23 rfl rfl
theorem dksX0_put_2 : cX0_put.data.toList.drop 47 = dktX0_put_2 := dk_seg dksX0_put_1 24 rfl rfl
theorem dX0_put_0 : decode cX0_put 0 = .ok (.iload_n 1, 1) := dk_27 (dk_at dksX0_put_0 0 rfl rfl)
theorem dX0_put_1 : decode cX0_put 1 = .ok (.invokestatic 176, 3) := dk_184 0 176 (dk_at dksX0_put_0 1 rfl rfl)
theorem dX0_put_4 : decode cX0_put 4 = .ok (.ifCond .eq 15, 3) := dk_153 0 15 (dk_at dksX0_put_0 4 rfl rfl)
theorem dX0_put_7 : decode cX0_put 7 = .ok (.iload_n 2, 1) := dk_28 (dk_at dksX0_put_0 7 rfl rfl)
theorem dX0_put_8 : decode cX0_put 8 = .ok (.i2l, 1) := dk_133 (dk_at dksX0_put_0 8 rfl rfl)
theorem dX0_put_9 : decode cX0_put 9 = .ok (.lconst 0, 1) := dk_9 (dk_at dksX0_put_0 9 rfl rfl)
theorem dX0_put_10 : decode cX0_put 10 = .ok (.ldc2_w 135, 3) := dk_20 0 135 (dk_at dksX0_put_0 10 rfl rfl)
theorem dX0_put_13 : decode cX0_put 13 = .ok (.invokestatic 90, 3) := dk_184 0 90 (dk_at dksX0_put_0 13 rfl rfl)
theorem dX0_put_16 : decode cX0_put 16 = .ok (.ifCond .ne 6, 3) := dk_154 0 6 (dk_at dksX0_put_0 16 rfl rfl)
theorem dX0_put_19 : decode cX0_put 19 = .ok (.bipush (-2), 2) := dk_16 254 (dk_at dksX0_put_0 19 rfl rfl)
theorem dX0_put_21 : decode cX0_put 21 = .ok (.ireturn, 1) := dk_172 (dk_at dksX0_put_0 21 rfl rfl)
theorem dX0_put_22 : decode cX0_put 22 = .ok (.aload_n 0, 1) := dk_42 (dk_at dksX0_put_0 22 rfl rfl)
theorem dX0_put_23 : decode cX0_put 23 = .ok (.getfield 80, 3) := dk_180 0 80 (dk_at dksX0_put_1 0 rfl rfl)
theorem dX0_put_26 : decode cX0_put 26 = .ok (.iload_n 1, 1) := dk_27 (dk_at dksX0_put_1 3 rfl rfl)
theorem dX0_put_27 : decode cX0_put 27 = .ok (.aaload, 1) := dk_50 (dk_at dksX0_put_1 4 rfl rfl)
theorem dX0_put_28 : decode cX0_put 28 = .ok (.getfield 179, 3) := dk_180 0 179 (dk_at dksX0_put_1 5 rfl rfl)
theorem dX0_put_31 : decode cX0_put 31 = .ok (.ifnonnull 9, 3) := dk_199 0 9 (dk_at dksX0_put_1 8 rfl rfl)
theorem dX0_put_34 : decode cX0_put 34 = .ok (.aload_n 0, 1) := dk_42 (dk_at dksX0_put_1 11 rfl rfl)
theorem dX0_put_35 : decode cX0_put 35 = .ok (.iconst 1, 1) := dk_4 (dk_at dksX0_put_1 12 rfl rfl)
theorem dX0_put_36 : decode cX0_put 36 = .ok (.invokevirtual 183, 3) := dk_182 0 183 (dk_at dksX0_put_1 13 rfl rfl)
theorem dX0_put_39 : decode cX0_put 39 = .ok (.ireturn, 1) := dk_172 (dk_at dksX0_put_1 16 rfl rfl)
theorem dX0_put_40 : decode cX0_put 40 = .ok (.aload_n 0, 1) := dk_42 (dk_at dksX0_put_1 17 rfl rfl)
theorem dX0_put_41 : decode cX0_put 41 = .ok (.getfield 80, 3) := dk_180 0 80 (dk_at dksX0_put_1 18 rfl rfl)
theorem dX0_put_44 : decode cX0_put 44 = .ok (.iload_n 1, 1) := dk_27 (dk_at dksX0_put_1 21 rfl rfl)
theorem dX0_put_45 : decode cX0_put 45 = .ok (.aaload, 1) := dk_50 (dk_at dksX0_put_1 22 rfl rfl)
theorem dX0_put_46 : decode cX0_put 46 = .ok (.iload_n 2, 1) := dk_28 (dk_at dksX0_put_1 23 rfl rfl)
theorem dX0_put_47 : decode cX0_put 47 = .ok (.iload_n 3, 1) := dk_29 (dk_at dksX0_put_2 0 rfl rfl)
theorem dX0_put_48 : decode cX0_put 48 = .ok (.iload 4, 2) := dk_21 4 (dk_at dksX0_put_2 1 rfl rfl)
theorem dX0_put_50 : decode cX0_put 50 = .ok (.invokevirtual 403, 3) := dk_182 1 147 (dk_at dksX0_put_2 3 rfl rfl)
theorem dX0_put_53 : decode cX0_put 53 = .ok (.iconst 1, 1) := dk_4 (dk_at dksX0_put_2 6 rfl rfl)
theorem dX0_put_54 : decode cX0_put 54 = .ok (.ireturn, 1) := dk_172 (dk_at dksX0_put_2 7 rfl rfl)
theorem dX0_put_55 : decode cX0_put 55 = .ok (.astore 5, 2) := dk_58 5 (dk_at dksX0_put_2 8 rfl rfl)
theorem dX0_put_57 : decode cX0_put 57 = .ok (.aload_n 0, 1) := dk_42 (dk_at dksX0_put_2 10 rfl rfl)
theorem dX0_put_58 : decode cX0_put 58 = .ok (.iconst 3, 1) := dk_6 (dk_at dksX0_put_2 11 rfl rfl)
theorem dX0_put_59 : decode cX0_put 59 = .ok (.invokevirtual 183, 3) := dk_182 0 183 (dk_at dksX0_put_2 12 rfl rfl)
theorem dX0_put_62 : decode cX0_put 62 = .ok (.ireturn, 1) := dk_172 (dk_at dksX0_put_2 15 rfl rfl)
theorem dX0_put_63 : decode cX0_put 63 = .ok (.astore 5, 2) := dk_58 5 (dk_at dksX0_put_2 16 rfl rfl)
theorem dX0_put_65 : decode cX0_put 65 = .ok (.aload_n 0, 1) := dk_42 (dk_at dksX0_put_2 18 rfl rfl)
theorem dX0_put_66 : decode cX0_put 66 = .ok (.iconst 2, 1) := dk_5 (dk_at dksX0_put_2 19 rfl rfl)
theorem dX0_put_67 : decode cX0_put 67 = .ok (.invokevirtual 183, 3) := dk_182 0 183 (dk_at dksX0_put_2 20 rfl rfl)
theorem dX0_put_70 : decode cX0_put 70 = .ok (.ireturn, 1) := dk_172 (dk_at dksX0_put_2 23 rfl rfl)
abbrev cX0_get : ByteArray := prog_1_method_81_code
def yX0_get : MethodName := ⟨RX0, "get", "(III)I"⟩
def dkwX0_get_2 : List UInt8 := [29, 182, 0, 189, 172, 58, 4, 42, 6, 182, 1, 155, 172, 58, 4, 42, 5, 182, 1, 155, 172]
abbrev dktX0_get_2 : List UInt8 := dkwX0_get_2 ++ []
def dkwX0_get_1 : List UInt8 := [180, 0, 80, 27, 50, 180, 0, 179, 199, 0, 9, 42, 4, 182, 1, 155, 172, 42, 180, 0, 80, 27, 50, 28]
abbrev dktX0_get_1 : List UInt8 := dkwX0_get_1 ++ dktX0_get_2
def dkwX0_get_0 : List UInt8 := [27, 184, 0, 176, 153, 0, 15, 28, 133, 9, 20, 0, 135, 184, 0, 90, 154, 0, 6, 18, 89, 172, 42]
abbrev dktX0_get_0 : List UInt8 := dkwX0_get_0 ++ dktX0_get_1
theorem dksX0_get_0 : cX0_get.data.toList.drop 0 = dktX0_get_0 := by decide +kernel
theorem dksX0_get_1 : cX0_get.data.toList.drop 23 = dktX0_get_1 := dk_seg dksX0_get_0 23 rfl rfl
theorem dksX0_get_2 : cX0_get.data.toList.drop 47 = dktX0_get_2 := dk_seg dksX0_get_1 24 rfl rfl
theorem dX0_get_0 : decode cX0_get 0 = .ok (.iload_n 1, 1) := dk_27 (dk_at dksX0_get_0 0 rfl rfl)
theorem dX0_get_1 : decode cX0_get 1 = .ok (.invokestatic 176, 3) := dk_184 0 176 (dk_at dksX0_get_0 1 rfl rfl)
theorem dX0_get_4 : decode cX0_get 4 = .ok (.ifCond .eq 15, 3) := dk_153 0 15 (dk_at dksX0_get_0 4 rfl rfl)
theorem dX0_get_7 : decode cX0_get 7 = .ok (.iload_n 2, 1) := dk_28 (dk_at dksX0_get_0 7 rfl rfl)
theorem dX0_get_8 : decode cX0_get 8 = .ok (.i2l, 1) := dk_133 (dk_at dksX0_get_0 8 rfl rfl)
theorem dX0_get_9 : decode cX0_get 9 = .ok (.lconst 0, 1) := dk_9 (dk_at dksX0_get_0 9 rfl rfl)
theorem dX0_get_10 : decode cX0_get 10 = .ok (.ldc2_w 135, 3) := dk_20 0 135 (dk_at dksX0_get_0 10 rfl rfl)
theorem dX0_get_13 : decode cX0_get 13 = .ok (.invokestatic 90, 3) := dk_184 0 90 (dk_at dksX0_get_0 13 rfl rfl)
theorem dX0_get_16 : decode cX0_get 16 = .ok (.ifCond .ne 6, 3) := dk_154 0 6 (dk_at dksX0_get_0 16 rfl rfl)
theorem dX0_get_19 : decode cX0_get 19 = .ok (.ldc 89, 2) := dk_18 89 (dk_at dksX0_get_0 19 rfl rfl)
theorem dX0_get_21 : decode cX0_get 21 = .ok (.ireturn, 1) := dk_172 (dk_at dksX0_get_0 21 rfl rfl)
theorem dX0_get_22 : decode cX0_get 22 = .ok (.aload_n 0, 1) := dk_42 (dk_at dksX0_get_0 22 rfl rfl)
theorem dX0_get_23 : decode cX0_get 23 = .ok (.getfield 80, 3) := dk_180 0 80 (dk_at dksX0_get_1 0 rfl rfl)
theorem dX0_get_26 : decode cX0_get 26 = .ok (.iload_n 1, 1) := dk_27 (dk_at dksX0_get_1 3 rfl rfl)
theorem dX0_get_27 : decode cX0_get 27 = .ok (.aaload, 1) := dk_50 (dk_at dksX0_get_1 4 rfl rfl)
theorem dX0_get_28 : decode cX0_get 28 = .ok (.getfield 179, 3) := dk_180 0 179 (dk_at dksX0_get_1 5 rfl rfl)
theorem dX0_get_31 : decode cX0_get 31 = .ok (.ifnonnull 9, 3) := dk_199 0 9 (dk_at dksX0_get_1 8 rfl rfl)
theorem dX0_get_34 : decode cX0_get 34 = .ok (.aload_n 0, 1) := dk_42 (dk_at dksX0_get_1 11 rfl rfl)
theorem dX0_get_35 : decode cX0_get 35 = .ok (.iconst 1, 1) := dk_4 (dk_at dksX0_get_1 12 rfl rfl)
theorem dX0_get_36 : decode cX0_get 36 = .ok (.invokevirtual 411, 3) := dk_182 1 155 (dk_at dksX0_get_1 13 rfl rfl)
theorem dX0_get_39 : decode cX0_get 39 = .ok (.ireturn, 1) := dk_172 (dk_at dksX0_get_1 16 rfl rfl)
theorem dX0_get_40 : decode cX0_get 40 = .ok (.aload_n 0, 1) := dk_42 (dk_at dksX0_get_1 17 rfl rfl)
theorem dX0_get_41 : decode cX0_get 41 = .ok (.getfield 80, 3) := dk_180 0 80 (dk_at dksX0_get_1 18 rfl rfl)
theorem dX0_get_44 : decode cX0_get 44 = .ok (.iload_n 1, 1) := dk_27 (dk_at dksX0_get_1 21 rfl rfl)
theorem dX0_get_45 : decode cX0_get 45 = .ok (.aaload, 1) := dk_50 (dk_at dksX0_get_1 22 rfl rfl)
theorem dX0_get_46 : decode cX0_get 46 = .ok (.iload_n 2, 1) := dk_28 (dk_at dksX0_get_1 23 rfl rfl)
theorem dX0_get_47 : decode cX0_get 47 = .ok (.iload_n 3, 1) := dk_29 (dk_at dksX0_get_2 0 rfl rfl)
theorem dX0_get_48 : decode cX0_get 48 = .ok (.invokevirtual 189, 3) := dk_182 0 189 (dk_at dksX0_get_2 1 rfl rfl)
theorem dX0_get_51 : decode cX0_get 51 = .ok (.ireturn, 1) := dk_172 (dk_at dksX0_get_2 4 rfl rfl)
theorem dX0_get_52 : decode cX0_get 52 = .ok (.astore 4, 2) := dk_58 4 (dk_at dksX0_get_2 5 rfl rfl)
theorem dX0_get_54 : decode cX0_get 54 = .ok (.aload_n 0, 1) := dk_42 (dk_at dksX0_get_2 7 rfl rfl)
theorem dX0_get_55 : decode cX0_get 55 = .ok (.iconst 3, 1) := dk_6 (dk_at dksX0_get_2 8 rfl rfl)
theorem dX0_get_56 : decode cX0_get 56 = .ok (.invokevirtual 411, 3) := dk_182 1 155 (dk_at dksX0_get_2 9 rfl rfl)
theorem dX0_get_59 : decode cX0_get 59 = .ok (.ireturn, 1) := dk_172 (dk_at dksX0_get_2 12 rfl rfl)
theorem dX0_get_60 : decode cX0_get 60 = .ok (.astore 4, 2) := dk_58 4 (dk_at dksX0_get_2 13 rfl rfl)
theorem dX0_get_62 : decode cX0_get 62 = .ok (.aload_n 0, 1) := dk_42 (dk_at dksX0_get_2 15 rfl rfl)
theorem dX0_get_63 : decode cX0_get 63 = .ok (.iconst 2, 1) := dk_5 (dk_at dksX0_get_2 16 rfl rfl)
theorem dX0_get_64 : decode cX0_get 64 = .ok (.invokevirtual 411, 3) := dk_182 1 155 (dk_at dksX0_get_2 17 rfl rfl)
theorem dX0_get_67 : decode cX0_get 67 = .ok (.ireturn, 1) := dk_172 (dk_at dksX0_get_2 20 rfl rfl)
abbrev cX0_lowest : ByteArray := prog_1_method_5_code
def yX0_lowest : MethodName := ⟨RX0, "lowest", "(I)I"⟩
def dkwX0_lowest_0 : List UInt8 := [42, 27, 181, 0, 86, 18, 89, 172]
abbrev dktX0_lowest_0 : List UInt8 := dkwX0_lowest_0 ++ []
theorem dksX0_lowest_0 : cX0_lowest.data.toList.drop 0 = dktX0_lowest_0 := by decide +kernel
theorem dX0_lowest_0 : decode cX0_lowest 0 = .ok (.aload_n 0, 1) := dk_42 (dk_at dksX0_lowest_0 0 rfl rfl)
theorem dX0_lowest_1 : decode cX0_lowest 1 = .ok (.iload_n 1, 1) := dk_27 (dk_at dksX0_lowest_0 1 rfl rfl)
theorem dX0_lowest_2 : decode cX0_lowest 2 = .ok (.putfield 86, 3) := dk_181 0 86 (dk_at dksX0_lowest_0 2 rfl rfl)
theorem dX0_lowest_5 : decode cX0_lowest 5 = .ok (.ldc 89, 2) := dk_18 89 (dk_at dksX0_lowest_0 5 rfl rfl)
theorem dX0_lowest_7 : decode cX0_lowest 7 = .ok (.ireturn, 1) := dk_172 (dk_at dksX0_lowest_0 7 rfl rfl)
abbrev cX0_copy : ByteArray := prog_1_method_82_code
def yX0_copy : MethodName := ⟨RX0, "copy", "(IIIII)I"⟩
def dkwX0_copy_4 : List UInt8 := [21, 4, 21, 5, 184, 1, 26, 4, 172, 58, 6, 42, 5, 182, 0, 183, 172]
abbrev dktX0_copy_4 : List UInt8 := dkwX0_copy_4 ++ []
def dkwX0_copy_3 : List UInt8 := [182, 0, 183, 172, 42, 180, 0, 80, 27, 50, 180, 0, 179, 28, 42, 180, 0, 80, 29, 50, 180, 0, 179]
abbrev dktX0_copy_3 : List UInt8 := dkwX0_copy_3 ++ dktX0_copy_4
def dkwX0_copy_2 : List UInt8 := [42, 180, 0, 80, 27, 50, 182, 0, 187, 42, 180, 0, 80, 29, 50, 182, 0, 187, 159, 0, 9, 42, 7]
abbrev dktX0_copy_2 : List UInt8 := dkwX0_copy_2 ++ dktX0_copy_3
def dkwX0_copy_1 : List UInt8 := [180, 0, 179, 198, 0, 15, 42, 180, 0, 80, 29, 50, 180, 0, 179, 199, 0, 9, 42, 4, 182, 0, 183, 172]
abbrev dktX0_copy_1 : List UInt8 := dkwX0_copy_1 ++ dktX0_copy_2
def dkwX0_copy_0 : List UInt8 := [27, 184, 0, 176, 153, 0, 10, 29, 184, 0, 176, 154, 0, 6, 16, 254, 172, 42, 180, 0, 80, 27, 50]
abbrev dktX0_copy_0 : List UInt8 := dkwX0_copy_0 ++ dktX0_copy_1
theorem dksX0_copy_0 : cX0_copy.data.toList.drop 0 = dktX0_copy_0 := by decide +kernel
theorem dksX0_copy_1 : cX0_copy.data.toList.drop 23 = dktX0_copy_1 := dk_seg dksX0_copy_0 23 rfl rfl
theorem dksX0_copy_2 : cX0_copy.data.toList.drop 47 = dktX0_copy_2 := dk_seg dksX0_copy_1 24 rfl rfl
theorem dksX0_copy_3 : cX0_copy.data.toList.drop 70 = dktX0_copy_3 := dk_seg dksX0_copy_2 23 rfl rfl
theorem dksX0_copy_4 : cX0_copy.data.toList.drop 93 = dktX0_copy_4 := dk_seg dksX0_copy_3 23 rfl rfl
theorem dX0_copy_0 : decode cX0_copy 0 = .ok (.iload_n 1, 1) := dk_27 (dk_at dksX0_copy_0 0 rfl rfl)
theorem dX0_copy_1 : decode cX0_copy 1 = .ok (.invokestatic 176, 3) := dk_184 0 176 (dk_at dksX0_copy_0 1 rfl rfl)
theorem dX0_copy_4 : decode cX0_copy 4 = .ok (.ifCond .eq 10, 3) := dk_153 0 10 (dk_at dksX0_copy_0 4 rfl rfl)
theorem dX0_copy_7 : decode cX0_copy 7 = .ok (.iload_n 3, 1) := dk_29 (dk_at dksX0_copy_0 7 rfl rfl)
theorem dX0_copy_8 : decode cX0_copy 8 = .ok (.invokestatic 176, 3) := dk_184 0 176 (dk_at dksX0_copy_0 8 rfl rfl)
theorem dX0_copy_11 : decode cX0_copy 11 = .ok (.ifCond .ne 6, 3) := dk_154 0 6 (dk_at dksX0_copy_0 11 rfl rfl)
theorem dX0_copy_14 : decode cX0_copy 14 = .ok (.bipush (-2), 2) := dk_16 254 (dk_at dksX0_copy_0 14 rfl rfl)
theorem dX0_copy_16 : decode cX0_copy 16 = .ok (.ireturn, 1) := dk_172 (dk_at dksX0_copy_0 16 rfl rfl)
theorem dX0_copy_17 : decode cX0_copy 17 = .ok (.aload_n 0, 1) := dk_42 (dk_at dksX0_copy_0 17 rfl rfl)
theorem dX0_copy_18 : decode cX0_copy 18 = .ok (.getfield 80, 3) := dk_180 0 80 (dk_at dksX0_copy_0 18 rfl rfl)
theorem dX0_copy_21 : decode cX0_copy 21 = .ok (.iload_n 1, 1) := dk_27 (dk_at dksX0_copy_0 21 rfl rfl)
theorem dX0_copy_22 : decode cX0_copy 22 = .ok (.aaload, 1) := dk_50 (dk_at dksX0_copy_0 22 rfl rfl)
theorem dX0_copy_23 : decode cX0_copy 23 = .ok (.getfield 179, 3) := dk_180 0 179 (dk_at dksX0_copy_1 0 rfl rfl)
theorem dX0_copy_26 : decode cX0_copy 26 = .ok (.ifnull 15, 3) := dk_198 0 15 (dk_at dksX0_copy_1 3 rfl rfl)
theorem dX0_copy_29 : decode cX0_copy 29 = .ok (.aload_n 0, 1) := dk_42 (dk_at dksX0_copy_1 6 rfl rfl)
theorem dX0_copy_30 : decode cX0_copy 30 = .ok (.getfield 80, 3) := dk_180 0 80 (dk_at dksX0_copy_1 7 rfl rfl)
theorem dX0_copy_33 : decode cX0_copy 33 = .ok (.iload_n 3, 1) := dk_29 (dk_at dksX0_copy_1 10 rfl rfl)
theorem dX0_copy_34 : decode cX0_copy 34 = .ok (.aaload, 1) := dk_50 (dk_at dksX0_copy_1 11 rfl rfl)
theorem dX0_copy_35 : decode cX0_copy 35 = .ok (.getfield 179, 3) := dk_180 0 179 (dk_at dksX0_copy_1 12 rfl rfl)
theorem dX0_copy_38 : decode cX0_copy 38 = .ok (.ifnonnull 9, 3) := dk_199 0 9 (dk_at dksX0_copy_1 15 rfl rfl)
theorem dX0_copy_41 : decode cX0_copy 41 = .ok (.aload_n 0, 1) := dk_42 (dk_at dksX0_copy_1 18 rfl rfl)
theorem dX0_copy_42 : decode cX0_copy 42 = .ok (.iconst 1, 1) := dk_4 (dk_at dksX0_copy_1 19 rfl rfl)
theorem dX0_copy_43 : decode cX0_copy 43 = .ok (.invokevirtual 183, 3) := dk_182 0 183 (dk_at dksX0_copy_1 20 rfl rfl)
theorem dX0_copy_46 : decode cX0_copy 46 = .ok (.ireturn, 1) := dk_172 (dk_at dksX0_copy_1 23 rfl rfl)
theorem dX0_copy_47 : decode cX0_copy 47 = .ok (.aload_n 0, 1) := dk_42 (dk_at dksX0_copy_2 0 rfl rfl)
theorem dX0_copy_48 : decode cX0_copy 48 = .ok (.getfield 80, 3) := dk_180 0 80 (dk_at dksX0_copy_2 1 rfl rfl)
theorem dX0_copy_51 : decode cX0_copy 51 = .ok (.iload_n 1, 1) := dk_27 (dk_at dksX0_copy_2 4 rfl rfl)
theorem dX0_copy_52 : decode cX0_copy 52 = .ok (.aaload, 1) := dk_50 (dk_at dksX0_copy_2 5 rfl rfl)
theorem dX0_copy_53 : decode cX0_copy 53 = .ok (.invokevirtual 187, 3) := dk_182 0 187 (dk_at dksX0_copy_2 6 rfl rfl)
theorem dX0_copy_56 : decode cX0_copy 56 = .ok (.aload_n 0, 1) := dk_42 (dk_at dksX0_copy_2 9 rfl rfl)
theorem dX0_copy_57 : decode cX0_copy 57 = .ok (.getfield 80, 3) := dk_180 0 80 (dk_at dksX0_copy_2 10 rfl rfl)
theorem dX0_copy_60 : decode cX0_copy 60 = .ok (.iload_n 3, 1) := dk_29 (dk_at dksX0_copy_2 13 rfl rfl)
theorem dX0_copy_61 : decode cX0_copy 61 = .ok (.aaload, 1) := dk_50 (dk_at dksX0_copy_2 14 rfl rfl)
theorem dX0_copy_62 : decode cX0_copy 62 = .ok (.invokevirtual 187, 3) := dk_182 0 187 (dk_at dksX0_copy_2 15 rfl rfl)
theorem dX0_copy_65 : decode cX0_copy 65 = .ok (.if_icmp .eq 9, 3) := dk_159 0 9 (dk_at dksX0_copy_2 18 rfl rfl)
theorem dX0_copy_68 : decode cX0_copy 68 = .ok (.aload_n 0, 1) := dk_42 (dk_at dksX0_copy_2 21 rfl rfl)
theorem dX0_copy_69 : decode cX0_copy 69 = .ok (.iconst 4, 1) := dk_7 (dk_at dksX0_copy_2 22 rfl rfl)
theorem dX0_copy_70 : decode cX0_copy 70 = .ok (.invokevirtual 183, 3) := dk_182 0 183 (dk_at dksX0_copy_3 0 rfl rfl)
theorem dX0_copy_73 : decode cX0_copy 73 = .ok (.ireturn, 1) := dk_172 (dk_at dksX0_copy_3 3 rfl rfl)
theorem dX0_copy_74 : decode cX0_copy 74 = .ok (.aload_n 0, 1) := dk_42 (dk_at dksX0_copy_3 4 rfl rfl)
theorem dX0_copy_75 : decode cX0_copy 75 = .ok (.getfield 80, 3) := dk_180 0 80 (dk_at dksX0_copy_3 5 rfl rfl)
theorem dX0_copy_78 : decode cX0_copy 78 = .ok (.iload_n 1, 1) := dk_27 (dk_at dksX0_copy_3 8 rfl rfl)
theorem dX0_copy_79 : decode cX0_copy 79 = .ok (.aaload, 1) := dk_50 (dk_at dksX0_copy_3 9 rfl rfl)
theorem dX0_copy_80 : decode cX0_copy 80 = .ok (.getfield 179, 3) := dk_180 0 179 (dk_at dksX0_copy_3 10 rfl rfl)
theorem dX0_copy_83 : decode cX0_copy 83 = .ok (.iload_n 2, 1) := dk_28 (dk_at dksX0_copy_3 13 rfl rfl)
theorem dX0_copy_84 : decode cX0_copy 84 = .ok (.aload_n 0, 1) := dk_42 (dk_at dksX0_copy_3 14 rfl rfl)
theorem dX0_copy_85 : decode cX0_copy 85 = .ok (.getfield 80, 3) := dk_180 0 80 (dk_at dksX0_copy_3 15 rfl rfl)
theorem dX0_copy_88 : decode cX0_copy 88 = .ok (.iload_n 3, 1) := dk_29 (dk_at dksX0_copy_3 18 rfl rfl)
theorem dX0_copy_89 : decode cX0_copy 89 = .ok (.aaload, 1) := dk_50 (dk_at dksX0_copy_3 19 rfl rfl)
theorem dX0_copy_90 : decode cX0_copy 90 = .ok (.getfield 179, 3) := dk_180 0 179 (dk_at dksX0_copy_3 20 rfl rfl)
theorem dX0_copy_93 : decode cX0_copy 93 = .ok (.iload 4, 2) := dk_21 4 (dk_at dksX0_copy_4 0 rfl rfl)
theorem dX0_copy_95 : decode cX0_copy 95 = .ok (.iload 5, 2) := dk_21 5 (dk_at dksX0_copy_4 2 rfl rfl)
theorem dX0_copy_97 : decode cX0_copy 97 = .ok (.invokestatic 282, 3) := dk_184 1 26 (dk_at dksX0_copy_4 4 rfl rfl)
theorem dX0_copy_100 : decode cX0_copy 100 = .ok (.iconst 1, 1) := dk_4 (dk_at dksX0_copy_4 7 rfl rfl)
theorem dX0_copy_101 : decode cX0_copy 101 = .ok (.ireturn, 1) := dk_172 (dk_at dksX0_copy_4 8 rfl rfl)
theorem dX0_copy_102 : decode cX0_copy 102 = .ok (.astore 6, 2) := dk_58 6 (dk_at dksX0_copy_4 9 rfl rfl)
theorem dX0_copy_104 : decode cX0_copy 104 = .ok (.aload_n 0, 1) := dk_42 (dk_at dksX0_copy_4 11 rfl rfl)
theorem dX0_copy_105 : decode cX0_copy 105 = .ok (.iconst 2, 1) := dk_5 (dk_at dksX0_copy_4 12 rfl rfl)
theorem dX0_copy_106 : decode cX0_copy 106 = .ok (.invokevirtual 183, 3) := dk_182 0 183 (dk_at dksX0_copy_4 13 rfl rfl)
theorem dX0_copy_109 : decode cX0_copy 109 = .ok (.ireturn, 1) := dk_172 (dk_at dksX0_copy_4 16 rfl rfl)
abbrev cX0_write : ByteArray := prog_1_method_83_code
def yX0_write : MethodName := ⟨RX0, "write", "(I)I"⟩
def dkwX0_write_3 : List UInt8 := [182, 1, 147, 132, 4, 1, 167, 255, 228, 29, 172]
abbrev dktX0_write_3 : List UInt8 := dkwX0_write_3 ++ []
def dkwX0_write_2 : List UInt8 := [21, 4, 29, 162, 0, 28, 44, 44, 182, 0, 187, 21, 4, 42, 180, 0, 49, 21, 4, 50, 3, 46]
abbrev dktX0_write_2 : List UInt8 := dkwX0_write_2 ++ dktX0_write_3
def dkwX0_write_1 : List UInt8 := [42, 4, 182, 0, 183, 172, 42, 182, 1, 38, 16, 24, 44, 182, 0, 186, 184, 0, 217, 62, 3, 54, 4]
abbrev dktX0_write_1 : List UInt8 := dkwX0_write_1 ++ dktX0_write_2
def dkwX0_write_0 : List UInt8 := [27, 184, 0, 176, 154, 0, 6, 16, 254, 172, 42, 180, 0, 80, 27, 50, 77, 44, 180, 0, 179, 199, 0, 9]
abbrev dktX0_write_0 : List UInt8 := dkwX0_write_0 ++ dktX0_write_1
theorem dksX0_write_0 : cX0_write.data.toList.drop 0 = dktX0_write_0 := by decide +kernel
theorem dksX0_write_1 : cX0_write.data.toList.drop 24 = dktX0_write_1 := dk_seg dksX0_write_0 24 rfl rfl
theorem dksX0_write_2 : cX0_write.data.toList.drop 47 = dktX0_write_2 := dk_seg dksX0_write_1 23 rfl rfl
theorem dksX0_write_3 : cX0_write.data.toList.drop 69 = dktX0_write_3 := dk_seg dksX0_write_2 22 rfl rfl
theorem dX0_write_0 : decode cX0_write 0 = .ok (.iload_n 1, 1) := dk_27 (dk_at dksX0_write_0 0 rfl rfl)
theorem dX0_write_1 : decode cX0_write 1 = .ok (.invokestatic 176, 3) := dk_184 0 176 (dk_at dksX0_write_0 1 rfl rfl)
theorem dX0_write_4 : decode cX0_write 4 = .ok (.ifCond .ne 6, 3) := dk_154 0 6 (dk_at dksX0_write_0 4 rfl rfl)
theorem dX0_write_7 : decode cX0_write 7 = .ok (.bipush (-2), 2) := dk_16 254 (dk_at dksX0_write_0 7 rfl rfl)
theorem dX0_write_9 : decode cX0_write 9 = .ok (.ireturn, 1) := dk_172 (dk_at dksX0_write_0 9 rfl rfl)
theorem dX0_write_10 : decode cX0_write 10 = .ok (.aload_n 0, 1) := dk_42 (dk_at dksX0_write_0 10 rfl rfl)
theorem dX0_write_11 : decode cX0_write 11 = .ok (.getfield 80, 3) := dk_180 0 80 (dk_at dksX0_write_0 11 rfl rfl)
theorem dX0_write_14 : decode cX0_write 14 = .ok (.iload_n 1, 1) := dk_27 (dk_at dksX0_write_0 14 rfl rfl)
theorem dX0_write_15 : decode cX0_write 15 = .ok (.aaload, 1) := dk_50 (dk_at dksX0_write_0 15 rfl rfl)
theorem dX0_write_16 : decode cX0_write 16 = .ok (.astore_n 2, 1) := dk_77 (dk_at dksX0_write_0 16 rfl rfl)
theorem dX0_write_17 : decode cX0_write 17 = .ok (.aload_n 2, 1) := dk_44 (dk_at dksX0_write_0 17 rfl rfl)
theorem dX0_write_18 : decode cX0_write 18 = .ok (.getfield 179, 3) := dk_180 0 179 (dk_at dksX0_write_0 18 rfl rfl)
theorem dX0_write_21 : decode cX0_write 21 = .ok (.ifnonnull 9, 3) := dk_199 0 9 (dk_at dksX0_write_0 21 rfl rfl)
theorem dX0_write_24 : decode cX0_write 24 = .ok (.aload_n 0, 1) := dk_42 (dk_at dksX0_write_1 0 rfl rfl)
theorem dX0_write_25 : decode cX0_write 25 = .ok (.iconst 1, 1) := dk_4 (dk_at dksX0_write_1 1 rfl rfl)
theorem dX0_write_26 : decode cX0_write 26 = .ok (.invokevirtual 183, 3) := dk_182 0 183 (dk_at dksX0_write_1 2 rfl rfl)
theorem dX0_write_29 : decode cX0_write 29 = .ok (.ireturn, 1) := dk_172 (dk_at dksX0_write_1 5 rfl rfl)
theorem dX0_write_30 : decode cX0_write 30 = .ok (.aload_n 0, 1) := dk_42 (dk_at dksX0_write_1 6 rfl rfl)
theorem dX0_write_31 : decode cX0_write 31 = .ok (.invokevirtual 294, 3) := dk_182 1 38 (dk_at dksX0_write_1 7 rfl rfl)
theorem dX0_write_34 : decode cX0_write 34 = .ok (.bipush 24, 2) := dk_16 24 (dk_at dksX0_write_1 10 rfl rfl)
theorem dX0_write_36 : decode cX0_write 36 = .ok (.aload_n 2, 1) := dk_44 (dk_at dksX0_write_1 12 rfl rfl)
theorem dX0_write_37 : decode cX0_write 37 = .ok (.invokevirtual 186, 3) := dk_182 0 186 (dk_at dksX0_write_1 13 rfl rfl)
theorem dX0_write_40 : decode cX0_write 40 = .ok (.invokestatic 217, 3) := dk_184 0 217 (dk_at dksX0_write_1 16 rfl rfl)
theorem dX0_write_43 : decode cX0_write 43 = .ok (.istore_n 3, 1) := dk_62 (dk_at dksX0_write_1 19 rfl rfl)
theorem dX0_write_44 : decode cX0_write 44 = .ok (.iconst 0, 1) := dk_3 (dk_at dksX0_write_1 20 rfl rfl)
theorem dX0_write_45 : decode cX0_write 45 = .ok (.istore 4, 2) := dk_54 4 (dk_at dksX0_write_1 21 rfl rfl)
theorem dX0_write_47 : decode cX0_write 47 = .ok (.iload 4, 2) := dk_21 4 (dk_at dksX0_write_2 0 rfl rfl)
theorem dX0_write_49 : decode cX0_write 49 = .ok (.iload_n 3, 1) := dk_29 (dk_at dksX0_write_2 2 rfl rfl)
theorem dX0_write_50 : decode cX0_write 50 = .ok (.if_icmp .ge 28, 3) := dk_162 0 28 (dk_at dksX0_write_2 3 rfl rfl)
theorem dX0_write_53 : decode cX0_write 53 = .ok (.aload_n 2, 1) := dk_44 (dk_at dksX0_write_2 6 rfl rfl)
theorem dX0_write_54 : decode cX0_write 54 = .ok (.aload_n 2, 1) := dk_44 (dk_at dksX0_write_2 7 rfl rfl)
theorem dX0_write_55 : decode cX0_write 55 = .ok (.invokevirtual 187, 3) := dk_182 0 187 (dk_at dksX0_write_2 8 rfl rfl)
theorem dX0_write_58 : decode cX0_write 58 = .ok (.iload 4, 2) := dk_21 4 (dk_at dksX0_write_2 11 rfl rfl)
theorem dX0_write_60 : decode cX0_write 60 = .ok (.aload_n 0, 1) := dk_42 (dk_at dksX0_write_2 13 rfl rfl)
theorem dX0_write_61 : decode cX0_write 61 = .ok (.getfield 49, 3) := dk_180 0 49 (dk_at dksX0_write_2 14 rfl rfl)
theorem dX0_write_64 : decode cX0_write 64 = .ok (.iload 4, 2) := dk_21 4 (dk_at dksX0_write_2 17 rfl rfl)
theorem dX0_write_66 : decode cX0_write 66 = .ok (.aaload, 1) := dk_50 (dk_at dksX0_write_2 19 rfl rfl)
theorem dX0_write_67 : decode cX0_write 67 = .ok (.iconst 0, 1) := dk_3 (dk_at dksX0_write_2 20 rfl rfl)
theorem dX0_write_68 : decode cX0_write 68 = .ok (.iaload, 1) := dk_46 (dk_at dksX0_write_2 21 rfl rfl)
theorem dX0_write_69 : decode cX0_write 69 = .ok (.invokevirtual 403, 3) := dk_182 1 147 (dk_at dksX0_write_3 0 rfl rfl)
theorem dX0_write_72 : decode cX0_write 72 = .ok (.iinc 4 1, 3) := dk_132 4 1 (dk_at dksX0_write_3 3 rfl rfl)
theorem dX0_write_75 : decode cX0_write 75 = .ok (.goto (-28), 3) := dk_167 255 228 (dk_at dksX0_write_3 6 rfl rfl)
theorem dX0_write_78 : decode cX0_write 78 = .ok (.iload_n 3, 1) := dk_29 (dk_at dksX0_write_3 9 rfl rfl)
theorem dX0_write_79 : decode cX0_write 79 = .ok (.ireturn, 1) := dk_172 (dk_at dksX0_write_3 10 rfl rfl)
abbrev cX0_count : ByteArray := prog_1_method_85_code
def yX0_count : MethodName := ⟨RX0, "count", "(I)I"⟩
def dkwX0_count_3 : List UInt8 := [180, 0, 251, 172, 42, 180, 0, 68, 182, 0, 162, 172, 42, 180, 0, 86, 172, 16, 254, 172]
abbrev dktX0_count_3 : List UInt8 := dkwX0_count_3 ++ []
def dkwX0_count_2 : List UInt8 := [42, 180, 0, 29, 27, 50, 182, 1, 163, 172, 42, 182, 1, 164, 172, 42, 180, 0, 36, 182, 0, 162, 172, 42]
abbrev dktX0_count_2 : List UInt8 := dkwX0_count_2 ++ dktX0_count_3
def dkwX0_count_1 : List UInt8 := [170, 0, 0, 0, 0, 0, 92, 0, 0, 0, 0, 0, 0, 0, 8, 0, 0, 0, 51, 0, 0, 0, 51, 0, 0, 0, 51, 0, 0, 0, 51, 0, 0, 0, 61, 0, 0, 0, 66, 0, 0, 0, 74, 0, 0, 0, 79, 0, 0, 0, 87]
abbrev dktX0_count_1 : List UInt8 := dkwX0_count_1 ++ dktX0_count_2
def dkwX0_count_0 : List UInt8 := [42, 182, 1, 38, 27]
abbrev dktX0_count_0 : List UInt8 := dkwX0_count_0 ++ dktX0_count_1
theorem dksX0_count_0 : cX0_count.data.toList.drop 0 = dktX0_count_0 := by decide +kernel
theorem dksX0_count_1 : cX0_count.data.toList.drop 5 = dktX0_count_1 := dk_seg dksX0_count_0 5 rfl rfl
theorem dksX0_count_2 : cX0_count.data.toList.drop 56 = dktX0_count_2 := dk_seg dksX0_count_1 51 rfl rfl
theorem dksX0_count_3 : cX0_count.data.toList.drop 80 = dktX0_count_3 := dk_seg dksX0_count_2 24 rfl rfl
theorem dX0_count_0 : decode cX0_count 0 = .ok (.aload_n 0, 1) := dk_42 (dk_at dksX0_count_0 0 rfl rfl)
theorem dX0_count_1 : decode cX0_count 1 = .ok (.invokevirtual 294, 3) := dk_182 1 38 (dk_at dksX0_count_0 1 rfl rfl)
theorem dX0_count_4 : decode cX0_count 4 = .ok (.iload_n 1, 1) := dk_27 (dk_at dksX0_count_0 4 rfl rfl)
theorem dX0_count_5 : decode cX0_count 5 = .ok (.tableswitch 92 0 8 #[51, 51, 51, 51, 61, 66, 74, 79, 87], 51) := by decide +kernel
theorem dX0_count_56 : decode cX0_count 56 = .ok (.aload_n 0, 1) := dk_42 (dk_at dksX0_count_2 0 rfl rfl)
theorem dX0_count_57 : decode cX0_count 57 = .ok (.getfield 29, 3) := dk_180 0 29 (dk_at dksX0_count_2 1 rfl rfl)
theorem dX0_count_60 : decode cX0_count 60 = .ok (.iload_n 1, 1) := dk_27 (dk_at dksX0_count_2 4 rfl rfl)
theorem dX0_count_61 : decode cX0_count 61 = .ok (.aaload, 1) := dk_50 (dk_at dksX0_count_2 5 rfl rfl)
theorem dX0_count_62 : decode cX0_count 62 = .ok (.invokevirtual 419, 3) := dk_182 1 163 (dk_at dksX0_count_2 6 rfl rfl)
theorem dX0_count_65 : decode cX0_count 65 = .ok (.ireturn, 1) := dk_172 (dk_at dksX0_count_2 9 rfl rfl)
theorem dX0_count_66 : decode cX0_count 66 = .ok (.aload_n 0, 1) := dk_42 (dk_at dksX0_count_2 10 rfl rfl)
theorem dX0_count_67 : decode cX0_count 67 = .ok (.invokevirtual 420, 3) := dk_182 1 164 (dk_at dksX0_count_2 11 rfl rfl)
theorem dX0_count_70 : decode cX0_count 70 = .ok (.ireturn, 1) := dk_172 (dk_at dksX0_count_2 14 rfl rfl)
theorem dX0_count_71 : decode cX0_count 71 = .ok (.aload_n 0, 1) := dk_42 (dk_at dksX0_count_2 15 rfl rfl)
theorem dX0_count_72 : decode cX0_count 72 = .ok (.getfield 36, 3) := dk_180 0 36 (dk_at dksX0_count_2 16 rfl rfl)
theorem dX0_count_75 : decode cX0_count 75 = .ok (.invokevirtual 162, 3) := dk_182 0 162 (dk_at dksX0_count_2 19 rfl rfl)
theorem dX0_count_78 : decode cX0_count 78 = .ok (.ireturn, 1) := dk_172 (dk_at dksX0_count_2 22 rfl rfl)
theorem dX0_count_79 : decode cX0_count 79 = .ok (.aload_n 0, 1) := dk_42 (dk_at dksX0_count_2 23 rfl rfl)
theorem dX0_count_80 : decode cX0_count 80 = .ok (.getfield 251, 3) := dk_180 0 251 (dk_at dksX0_count_3 0 rfl rfl)
theorem dX0_count_83 : decode cX0_count 83 = .ok (.ireturn, 1) := dk_172 (dk_at dksX0_count_3 3 rfl rfl)
theorem dX0_count_84 : decode cX0_count 84 = .ok (.aload_n 0, 1) := dk_42 (dk_at dksX0_count_3 4 rfl rfl)
theorem dX0_count_85 : decode cX0_count 85 = .ok (.getfield 68, 3) := dk_180 0 68 (dk_at dksX0_count_3 5 rfl rfl)
theorem dX0_count_88 : decode cX0_count 88 = .ok (.invokevirtual 162, 3) := dk_182 0 162 (dk_at dksX0_count_3 8 rfl rfl)
theorem dX0_count_91 : decode cX0_count 91 = .ok (.ireturn, 1) := dk_172 (dk_at dksX0_count_3 11 rfl rfl)
theorem dX0_count_92 : decode cX0_count 92 = .ok (.aload_n 0, 1) := dk_42 (dk_at dksX0_count_3 12 rfl rfl)
theorem dX0_count_93 : decode cX0_count 93 = .ok (.getfield 86, 3) := dk_180 0 86 (dk_at dksX0_count_3 13 rfl rfl)
theorem dX0_count_96 : decode cX0_count 96 = .ok (.ireturn, 1) := dk_172 (dk_at dksX0_count_3 16 rfl rfl)
theorem dX0_count_97 : decode cX0_count 97 = .ok (.bipush (-2), 2) := dk_16 254 (dk_at dksX0_count_3 17 rfl rfl)
theorem dX0_count_99 : decode cX0_count 99 = .ok (.ireturn, 1) := dk_172 (dk_at dksX0_count_3 19 rfl rfl)
abbrev cX0_typedIn : ByteArray := prog_1_method_84_code
def yX0_typedIn : MethodName := ⟨RX0, "typedIn", "()I"⟩
def dkwX0_typedIn_1 : List UInt8 := [60, 132, 2, 1, 167, 255, 232, 27, 172]
abbrev dktX0_typedIn_1 : List UInt8 := dkwX0_typedIn_1 ++ []
def dkwX0_typedIn_0 : List UInt8 := [3, 60, 3, 61, 28, 42, 180, 0, 29, 190, 162, 0, 21, 27, 42, 180, 0, 29, 28, 50, 182, 1, 160, 96]
abbrev dktX0_typedIn_0 : List UInt8 := dkwX0_typedIn_0 ++ dktX0_typedIn_1
theorem dksX0_typedIn_0 : cX0_typedIn.data.toList.drop 0 = dktX0_typedIn_0 := by decide +kernel
theorem dksX0_typedIn_1 : cX0_typedIn.data.toList.drop 24 = dktX0_typedIn_1 := dk_seg dksX0_typedIn_0 24 rfl rfl
theorem dX0_typedIn_0 : decode cX0_typedIn 0 = .ok (.iconst 0, 1) := dk_3 (dk_at dksX0_typedIn_0 0 rfl rfl)
theorem dX0_typedIn_1 : decode cX0_typedIn 1 = .ok (.istore_n 1, 1) := dk_60 (dk_at dksX0_typedIn_0 1 rfl rfl)
theorem dX0_typedIn_2 : decode cX0_typedIn 2 = .ok (.iconst 0, 1) := dk_3 (dk_at dksX0_typedIn_0 2 rfl rfl)
theorem dX0_typedIn_3 : decode cX0_typedIn 3 = .ok (.istore_n 2, 1) := dk_61 (dk_at dksX0_typedIn_0 3 rfl rfl)
theorem dX0_typedIn_4 : decode cX0_typedIn 4 = .ok (.iload_n 2, 1) := dk_28 (dk_at dksX0_typedIn_0 4 rfl rfl)
theorem dX0_typedIn_5 : decode cX0_typedIn 5 = .ok (.aload_n 0, 1) := dk_42 (dk_at dksX0_typedIn_0 5 rfl rfl)
theorem dX0_typedIn_6 : decode cX0_typedIn 6 = .ok (.getfield 29, 3) := dk_180 0 29 (dk_at dksX0_typedIn_0 6 rfl rfl)
theorem dX0_typedIn_9 : decode cX0_typedIn 9 = .ok (.arraylength, 1) := dk_190 (dk_at dksX0_typedIn_0 9 rfl rfl)
theorem dX0_typedIn_10 : decode cX0_typedIn 10 = .ok (.if_icmp .ge 21, 3) := dk_162 0 21 (dk_at dksX0_typedIn_0 10 rfl rfl)
theorem dX0_typedIn_13 : decode cX0_typedIn 13 = .ok (.iload_n 1, 1) := dk_27 (dk_at dksX0_typedIn_0 13 rfl rfl)
theorem dX0_typedIn_14 : decode cX0_typedIn 14 = .ok (.aload_n 0, 1) := dk_42 (dk_at dksX0_typedIn_0 14 rfl rfl)
theorem dX0_typedIn_15 : decode cX0_typedIn 15 = .ok (.getfield 29, 3) := dk_180 0 29 (dk_at dksX0_typedIn_0 15 rfl rfl)
theorem dX0_typedIn_18 : decode cX0_typedIn 18 = .ok (.iload_n 2, 1) := dk_28 (dk_at dksX0_typedIn_0 18 rfl rfl)
theorem dX0_typedIn_19 : decode cX0_typedIn 19 = .ok (.aaload, 1) := dk_50 (dk_at dksX0_typedIn_0 19 rfl rfl)
theorem dX0_typedIn_20 : decode cX0_typedIn 20 = .ok (.invokevirtual 416, 3) := dk_182 1 160 (dk_at dksX0_typedIn_0 20 rfl rfl)
theorem dX0_typedIn_23 : decode cX0_typedIn 23 = .ok (.iadd, 1) := dk_96 (dk_at dksX0_typedIn_0 23 rfl rfl)
theorem dX0_typedIn_24 : decode cX0_typedIn 24 = .ok (.istore_n 1, 1) := dk_60 (dk_at dksX0_typedIn_1 0 rfl rfl)
theorem dX0_typedIn_25 : decode cX0_typedIn 25 = .ok (.iinc 2 1, 3) := dk_132 2 1 (dk_at dksX0_typedIn_1 1 rfl rfl)
theorem dX0_typedIn_28 : decode cX0_typedIn 28 = .ok (.goto (-24), 3) := dk_167 255 232 (dk_at dksX0_typedIn_1 4 rfl rfl)
theorem dX0_typedIn_31 : decode cX0_typedIn 31 = .ok (.iload_n 1, 1) := dk_27 (dk_at dksX0_typedIn_1 7 rfl rfl)
theorem dX0_typedIn_32 : decode cX0_typedIn 32 = .ok (.ireturn, 1) := dk_172 (dk_at dksX0_typedIn_1 8 rfl rfl)
abbrev cX0_digest : ByteArray := prog_1_method_88_code
def yX0_digest : MethodName := ⟨RX0, "digest", "()J"⟩
def dkwX0_digest_14 : List UInt8 := [42, 16, 7, 16, 18, 29, 182, 1, 138, 133, 97, 64, 132, 3, 1, 167, 255, 231, 31, 173]
abbrev dktX0_digest_14 : List UInt8 := dkwX0_digest_14 ++ []
def dkwX0_digest_13 : List UInt8 := [20, 1, 167, 31, 105, 42, 182, 1, 90, 133, 97, 64, 3, 62, 29, 5, 162, 0, 26, 20, 1, 167, 31, 105]
abbrev dktX0_digest_13 : List UInt8 := dkwX0_digest_13 ++ dktX0_digest_14
def dkwX0_digest_12 : List UInt8 := [4, 162, 0, 22, 20, 1, 167, 31, 105, 42, 29, 182, 1, 79, 133, 97, 64, 132, 3, 1, 167, 255, 235]
abbrev dktX0_digest_12 : List UInt8 := dkwX0_digest_12 ++ dktX0_digest_13
def dkwX0_digest_11 : List UInt8 := [31, 105, 42, 182, 1, 56, 133, 97, 64, 20, 1, 167, 31, 105, 42, 180, 1, 4, 133, 97, 64, 2, 62, 29]
abbrev dktX0_digest_11 : List UInt8 := dkwX0_digest_11 ++ dktX0_digest_12
def dkwX0_digest_10 : List UInt8 := [133, 97, 64, 132, 3, 1, 167, 255, 235, 20, 1, 167, 31, 105, 42, 182, 1, 53, 133, 97, 64, 20, 1, 167]
abbrev dktX0_digest_10 : List UInt8 := dkwX0_digest_10 ++ dktX0_digest_11
def dkwX0_digest_9 : List UInt8 := [42, 180, 1, 10, 133, 97, 64, 3, 62, 29, 5, 162, 0, 22, 20, 1, 167, 31, 105, 42, 29, 182, 1, 50]
abbrev dktX0_digest_9 : List UInt8 := dkwX0_digest_9 ++ dktX0_digest_10
def dkwX0_digest_8 : List UInt8 := [167, 255, 241, 42, 182, 1, 38, 20, 1, 167, 31, 105, 42, 182, 1, 44, 133, 97, 64, 20, 1, 167, 31, 105]
abbrev dktX0_digest_8 : List UInt8 := dkwX0_digest_8 ++ dktX0_digest_9
def dkwX0_digest_7 : List UInt8 := [132, 3, 1, 167, 255, 232, 3, 62, 29, 5, 162, 0, 16, 42, 31, 29, 182, 1, 178, 64, 132, 3, 1]
abbrev dktX0_digest_7 : List UInt8 := dkwX0_digest_7 ++ dktX0_digest_8
def dkwX0_digest_6 : List UInt8 := [62, 29, 16, 16, 162, 0, 24, 42, 29, 182, 0, 132, 153, 0, 10, 42, 31, 29, 182, 1, 174, 64]
abbrev dktX0_digest_6 : List UInt8 := dkwX0_digest_6 ++ dktX0_digest_7
def dkwX0_digest_5 : List UInt8 := [180, 0, 49, 29, 50, 21, 4, 46, 133, 97, 64, 132, 4, 1, 167, 255, 230, 132, 3, 1, 167, 255, 185, 3]
abbrev dktX0_digest_5 : List UInt8 := dkwX0_digest_5 ++ dktX0_digest_6
def dkwX0_digest_4 : List UInt8 := [133, 97, 64, 132, 4, 1, 167, 255, 232, 3, 54, 4, 21, 4, 7, 162, 0, 26, 20, 1, 167, 31, 105, 42]
abbrev dktX0_digest_4 : List UInt8 := dkwX0_digest_4 ++ dktX0_digest_5
def dkwX0_digest_3 : List UInt8 := [162, 0, 71, 3, 54, 4, 21, 4, 5, 162, 0, 24, 20, 1, 167, 31, 105, 42, 21, 4, 29, 182, 0, 153]
abbrev dktX0_digest_3 : List UInt8 := dkwX0_digest_3 ++ dktX0_digest_4
def dkwX0_digest_2 : List UInt8 := [50, 182, 0, 115, 133, 97, 64, 132, 3, 1, 167, 255, 231, 42, 182, 1, 38, 3, 62, 29, 16, 24]
abbrev dktX0_digest_2 : List UInt8 := dkwX0_digest_2 ++ dktX0_digest_3
def dkwX0_digest_1 : List UInt8 := [64, 132, 3, 1, 167, 255, 234, 3, 62, 29, 7, 162, 0, 26, 20, 1, 167, 31, 105, 42, 180, 0, 29, 29]
abbrev dktX0_digest_1 : List UInt8 := dkwX0_digest_1 ++ dktX0_digest_2
def dkwX0_digest_0 : List UInt8 := [20, 1, 169, 64, 3, 62, 29, 16, 8, 162, 0, 22, 20, 1, 167, 31, 105, 42, 29, 182, 1, 171, 133, 97]
abbrev dktX0_digest_0 : List UInt8 := dkwX0_digest_0 ++ dktX0_digest_1
theorem dksX0_digest_0 : cX0_digest.data.toList.drop 0 = dktX0_digest_0 := by decide +kernel
theorem dksX0_digest_1 : cX0_digest.data.toList.drop 24 = dktX0_digest_1 := dk_seg dksX0_digest_0 24 rfl rfl
theorem dksX0_digest_2 : cX0_digest.data.toList.drop 48 = dktX0_digest_2 := dk_seg dksX0_digest_1 24 rfl rfl
theorem dksX0_digest_3 : cX0_digest.data.toList.drop 70 = dktX0_digest_3 := dk_seg dksX0_digest_2 22 rfl rfl
theorem dksX0_digest_4 : cX0_digest.data.toList.drop 94 = dktX0_digest_4 := dk_seg dksX0_digest_3 24 rfl rfl
theorem dksX0_digest_5 : cX0_digest.data.toList.drop 118 = dktX0_digest_5 := dk_seg dksX0_digest_4 24 rfl rfl
theorem dksX0_digest_6 : cX0_digest.data.toList.drop 142 = dktX0_digest_6 := dk_seg dksX0_digest_5 24 rfl rfl
theorem dksX0_digest_7 : cX0_digest.data.toList.drop 164 = dktX0_digest_7 := dk_seg dksX0_digest_6 22 rfl rfl
theorem dksX0_digest_8 : cX0_digest.data.toList.drop 187 = dktX0_digest_8 := dk_seg dksX0_digest_7 23 rfl rfl
theorem dksX0_digest_9 : cX0_digest.data.toList.drop 211 = dktX0_digest_9 := dk_seg dksX0_digest_8 24 rfl rfl
theorem dksX0_digest_10 : cX0_digest.data.toList.drop 235 = dktX0_digest_10 := dk_seg dksX0_digest_9 24 rfl rfl
theorem dksX0_digest_11 : cX0_digest.data.toList.drop 259 = dktX0_digest_11 := dk_seg dksX0_digest_10 24 rfl rfl
theorem dksX0_digest_12 : cX0_digest.data.toList.drop 283 = dktX0_digest_12 := dk_seg dksX0_digest_11 24 rfl rfl
theorem dksX0_digest_13 : cX0_digest.data.toList.drop 306 = dktX0_digest_13 := dk_seg dksX0_digest_12 23 rfl rfl
theorem dksX0_digest_14 : cX0_digest.data.toList.drop 330 = dktX0_digest_14 := dk_seg dksX0_digest_13 24 rfl rfl
theorem dX0_digest_0 : decode cX0_digest 0 = .ok (.ldc2_w 425, 3) := dk_20 1 169 (dk_at dksX0_digest_0 0 rfl rfl)
theorem dX0_digest_3 : decode cX0_digest 3 = .ok (.lstore_n 1, 1) := dk_64 (dk_at dksX0_digest_0 3 rfl rfl)
theorem dX0_digest_4 : decode cX0_digest 4 = .ok (.iconst 0, 1) := dk_3 (dk_at dksX0_digest_0 4 rfl rfl)
theorem dX0_digest_5 : decode cX0_digest 5 = .ok (.istore_n 3, 1) := dk_62 (dk_at dksX0_digest_0 5 rfl rfl)
theorem dX0_digest_6 : decode cX0_digest 6 = .ok (.iload_n 3, 1) := dk_29 (dk_at dksX0_digest_0 6 rfl rfl)
theorem dX0_digest_7 : decode cX0_digest 7 = .ok (.bipush 8, 2) := dk_16 8 (dk_at dksX0_digest_0 7 rfl rfl)
theorem dX0_digest_9 : decode cX0_digest 9 = .ok (.if_icmp .ge 22, 3) := dk_162 0 22 (dk_at dksX0_digest_0 9 rfl rfl)
theorem dX0_digest_12 : decode cX0_digest 12 = .ok (.ldc2_w 423, 3) := dk_20 1 167 (dk_at dksX0_digest_0 12 rfl rfl)
theorem dX0_digest_15 : decode cX0_digest 15 = .ok (.lload_n 1, 1) := dk_31 (dk_at dksX0_digest_0 15 rfl rfl)
theorem dX0_digest_16 : decode cX0_digest 16 = .ok (.lmul, 1) := dk_105 (dk_at dksX0_digest_0 16 rfl rfl)
theorem dX0_digest_17 : decode cX0_digest 17 = .ok (.aload_n 0, 1) := dk_42 (dk_at dksX0_digest_0 17 rfl rfl)
theorem dX0_digest_18 : decode cX0_digest 18 = .ok (.iload_n 3, 1) := dk_29 (dk_at dksX0_digest_0 18 rfl rfl)
theorem dX0_digest_19 : decode cX0_digest 19 = .ok (.invokevirtual 427, 3) := dk_182 1 171 (dk_at dksX0_digest_0 19 rfl rfl)
theorem dX0_digest_22 : decode cX0_digest 22 = .ok (.i2l, 1) := dk_133 (dk_at dksX0_digest_0 22 rfl rfl)
theorem dX0_digest_23 : decode cX0_digest 23 = .ok (.ladd, 1) := dk_97 (dk_at dksX0_digest_0 23 rfl rfl)
theorem dX0_digest_24 : decode cX0_digest 24 = .ok (.lstore_n 1, 1) := dk_64 (dk_at dksX0_digest_1 0 rfl rfl)
theorem dX0_digest_25 : decode cX0_digest 25 = .ok (.iinc 3 1, 3) := dk_132 3 1 (dk_at dksX0_digest_1 1 rfl rfl)
theorem dX0_digest_28 : decode cX0_digest 28 = .ok (.goto (-22), 3) := dk_167 255 234 (dk_at dksX0_digest_1 4 rfl rfl)
theorem dX0_digest_31 : decode cX0_digest 31 = .ok (.iconst 0, 1) := dk_3 (dk_at dksX0_digest_1 7 rfl rfl)
theorem dX0_digest_32 : decode cX0_digest 32 = .ok (.istore_n 3, 1) := dk_62 (dk_at dksX0_digest_1 8 rfl rfl)
theorem dX0_digest_33 : decode cX0_digest 33 = .ok (.iload_n 3, 1) := dk_29 (dk_at dksX0_digest_1 9 rfl rfl)
theorem dX0_digest_34 : decode cX0_digest 34 = .ok (.iconst 4, 1) := dk_7 (dk_at dksX0_digest_1 10 rfl rfl)
theorem dX0_digest_35 : decode cX0_digest 35 = .ok (.if_icmp .ge 26, 3) := dk_162 0 26 (dk_at dksX0_digest_1 11 rfl rfl)
theorem dX0_digest_38 : decode cX0_digest 38 = .ok (.ldc2_w 423, 3) := dk_20 1 167 (dk_at dksX0_digest_1 14 rfl rfl)
theorem dX0_digest_41 : decode cX0_digest 41 = .ok (.lload_n 1, 1) := dk_31 (dk_at dksX0_digest_1 17 rfl rfl)
theorem dX0_digest_42 : decode cX0_digest 42 = .ok (.lmul, 1) := dk_105 (dk_at dksX0_digest_1 18 rfl rfl)
theorem dX0_digest_43 : decode cX0_digest 43 = .ok (.aload_n 0, 1) := dk_42 (dk_at dksX0_digest_1 19 rfl rfl)
theorem dX0_digest_44 : decode cX0_digest 44 = .ok (.getfield 29, 3) := dk_180 0 29 (dk_at dksX0_digest_1 20 rfl rfl)
theorem dX0_digest_47 : decode cX0_digest 47 = .ok (.iload_n 3, 1) := dk_29 (dk_at dksX0_digest_1 23 rfl rfl)
theorem dX0_digest_48 : decode cX0_digest 48 = .ok (.aaload, 1) := dk_50 (dk_at dksX0_digest_2 0 rfl rfl)
theorem dX0_digest_49 : decode cX0_digest 49 = .ok (.invokevirtual 115, 3) := dk_182 0 115 (dk_at dksX0_digest_2 1 rfl rfl)
theorem dX0_digest_52 : decode cX0_digest 52 = .ok (.i2l, 1) := dk_133 (dk_at dksX0_digest_2 4 rfl rfl)
theorem dX0_digest_53 : decode cX0_digest 53 = .ok (.ladd, 1) := dk_97 (dk_at dksX0_digest_2 5 rfl rfl)
theorem dX0_digest_54 : decode cX0_digest 54 = .ok (.lstore_n 1, 1) := dk_64 (dk_at dksX0_digest_2 6 rfl rfl)
theorem dX0_digest_55 : decode cX0_digest 55 = .ok (.iinc 3 1, 3) := dk_132 3 1 (dk_at dksX0_digest_2 7 rfl rfl)
theorem dX0_digest_58 : decode cX0_digest 58 = .ok (.goto (-25), 3) := dk_167 255 231 (dk_at dksX0_digest_2 10 rfl rfl)
theorem dX0_digest_61 : decode cX0_digest 61 = .ok (.aload_n 0, 1) := dk_42 (dk_at dksX0_digest_2 13 rfl rfl)
theorem dX0_digest_62 : decode cX0_digest 62 = .ok (.invokevirtual 294, 3) := dk_182 1 38 (dk_at dksX0_digest_2 14 rfl rfl)
theorem dX0_digest_65 : decode cX0_digest 65 = .ok (.iconst 0, 1) := dk_3 (dk_at dksX0_digest_2 17 rfl rfl)
theorem dX0_digest_66 : decode cX0_digest 66 = .ok (.istore_n 3, 1) := dk_62 (dk_at dksX0_digest_2 18 rfl rfl)
theorem dX0_digest_67 : decode cX0_digest 67 = .ok (.iload_n 3, 1) := dk_29 (dk_at dksX0_digest_2 19 rfl rfl)
theorem dX0_digest_68 : decode cX0_digest 68 = .ok (.bipush 24, 2) := dk_16 24 (dk_at dksX0_digest_2 20 rfl rfl)
theorem dX0_digest_70 : decode cX0_digest 70 = .ok (.if_icmp .ge 71, 3) := dk_162 0 71 (dk_at dksX0_digest_3 0 rfl rfl)
theorem dX0_digest_73 : decode cX0_digest 73 = .ok (.iconst 0, 1) := dk_3 (dk_at dksX0_digest_3 3 rfl rfl)
theorem dX0_digest_74 : decode cX0_digest 74 = .ok (.istore 4, 2) := dk_54 4 (dk_at dksX0_digest_3 4 rfl rfl)
theorem dX0_digest_76 : decode cX0_digest 76 = .ok (.iload 4, 2) := dk_21 4 (dk_at dksX0_digest_3 6 rfl rfl)
theorem dX0_digest_78 : decode cX0_digest 78 = .ok (.iconst 2, 1) := dk_5 (dk_at dksX0_digest_3 8 rfl rfl)
theorem dX0_digest_79 : decode cX0_digest 79 = .ok (.if_icmp .ge 24, 3) := dk_162 0 24 (dk_at dksX0_digest_3 9 rfl rfl)
theorem dX0_digest_82 : decode cX0_digest 82 = .ok (.ldc2_w 423, 3) := dk_20 1 167 (dk_at dksX0_digest_3 12 rfl rfl)
theorem dX0_digest_85 : decode cX0_digest 85 = .ok (.lload_n 1, 1) := dk_31 (dk_at dksX0_digest_3 15 rfl rfl)
theorem dX0_digest_86 : decode cX0_digest 86 = .ok (.lmul, 1) := dk_105 (dk_at dksX0_digest_3 16 rfl rfl)
theorem dX0_digest_87 : decode cX0_digest 87 = .ok (.aload_n 0, 1) := dk_42 (dk_at dksX0_digest_3 17 rfl rfl)
theorem dX0_digest_88 : decode cX0_digest 88 = .ok (.iload 4, 2) := dk_21 4 (dk_at dksX0_digest_3 18 rfl rfl)
theorem dX0_digest_90 : decode cX0_digest 90 = .ok (.iload_n 3, 1) := dk_29 (dk_at dksX0_digest_3 20 rfl rfl)
theorem dX0_digest_91 : decode cX0_digest 91 = .ok (.invokevirtual 153, 3) := dk_182 0 153 (dk_at dksX0_digest_3 21 rfl rfl)
theorem dX0_digest_94 : decode cX0_digest 94 = .ok (.i2l, 1) := dk_133 (dk_at dksX0_digest_4 0 rfl rfl)
theorem dX0_digest_95 : decode cX0_digest 95 = .ok (.ladd, 1) := dk_97 (dk_at dksX0_digest_4 1 rfl rfl)
theorem dX0_digest_96 : decode cX0_digest 96 = .ok (.lstore_n 1, 1) := dk_64 (dk_at dksX0_digest_4 2 rfl rfl)
theorem dX0_digest_97 : decode cX0_digest 97 = .ok (.iinc 4 1, 3) := dk_132 4 1 (dk_at dksX0_digest_4 3 rfl rfl)
theorem dX0_digest_100 : decode cX0_digest 100 = .ok (.goto (-24), 3) := dk_167 255 232 (dk_at dksX0_digest_4 6 rfl rfl)
theorem dX0_digest_103 : decode cX0_digest 103 = .ok (.iconst 0, 1) := dk_3 (dk_at dksX0_digest_4 9 rfl rfl)
theorem dX0_digest_104 : decode cX0_digest 104 = .ok (.istore 4, 2) := dk_54 4 (dk_at dksX0_digest_4 10 rfl rfl)
theorem dX0_digest_106 : decode cX0_digest 106 = .ok (.iload 4, 2) := dk_21 4 (dk_at dksX0_digest_4 12 rfl rfl)
theorem dX0_digest_108 : decode cX0_digest 108 = .ok (.iconst 4, 1) := dk_7 (dk_at dksX0_digest_4 14 rfl rfl)
theorem dX0_digest_109 : decode cX0_digest 109 = .ok (.if_icmp .ge 26, 3) := dk_162 0 26 (dk_at dksX0_digest_4 15 rfl rfl)
theorem dX0_digest_112 : decode cX0_digest 112 = .ok (.ldc2_w 423, 3) := dk_20 1 167 (dk_at dksX0_digest_4 18 rfl rfl)
theorem dX0_digest_115 : decode cX0_digest 115 = .ok (.lload_n 1, 1) := dk_31 (dk_at dksX0_digest_4 21 rfl rfl)
theorem dX0_digest_116 : decode cX0_digest 116 = .ok (.lmul, 1) := dk_105 (dk_at dksX0_digest_4 22 rfl rfl)
theorem dX0_digest_117 : decode cX0_digest 117 = .ok (.aload_n 0, 1) := dk_42 (dk_at dksX0_digest_4 23 rfl rfl)
theorem dX0_digest_118 : decode cX0_digest 118 = .ok (.getfield 49, 3) := dk_180 0 49 (dk_at dksX0_digest_5 0 rfl rfl)
theorem dX0_digest_121 : decode cX0_digest 121 = .ok (.iload_n 3, 1) := dk_29 (dk_at dksX0_digest_5 3 rfl rfl)
theorem dX0_digest_122 : decode cX0_digest 122 = .ok (.aaload, 1) := dk_50 (dk_at dksX0_digest_5 4 rfl rfl)
theorem dX0_digest_123 : decode cX0_digest 123 = .ok (.iload 4, 2) := dk_21 4 (dk_at dksX0_digest_5 5 rfl rfl)
theorem dX0_digest_125 : decode cX0_digest 125 = .ok (.iaload, 1) := dk_46 (dk_at dksX0_digest_5 7 rfl rfl)
theorem dX0_digest_126 : decode cX0_digest 126 = .ok (.i2l, 1) := dk_133 (dk_at dksX0_digest_5 8 rfl rfl)
theorem dX0_digest_127 : decode cX0_digest 127 = .ok (.ladd, 1) := dk_97 (dk_at dksX0_digest_5 9 rfl rfl)
theorem dX0_digest_128 : decode cX0_digest 128 = .ok (.lstore_n 1, 1) := dk_64 (dk_at dksX0_digest_5 10 rfl rfl)
theorem dX0_digest_129 : decode cX0_digest 129 = .ok (.iinc 4 1, 3) := dk_132 4 1 (dk_at dksX0_digest_5 11 rfl rfl)
theorem dX0_digest_132 : decode cX0_digest 132 = .ok (.goto (-26), 3) := dk_167 255 230 (dk_at dksX0_digest_5 14 rfl rfl)
theorem dX0_digest_135 : decode cX0_digest 135 = .ok (.iinc 3 1, 3) := dk_132 3 1 (dk_at dksX0_digest_5 17 rfl rfl)
theorem dX0_digest_138 : decode cX0_digest 138 = .ok (.goto (-71), 3) := dk_167 255 185 (dk_at dksX0_digest_5 20 rfl rfl)
theorem dX0_digest_141 : decode cX0_digest 141 = .ok (.iconst 0, 1) := dk_3 (dk_at dksX0_digest_5 23 rfl rfl)
theorem dX0_digest_142 : decode cX0_digest 142 = .ok (.istore_n 3, 1) := dk_62 (dk_at dksX0_digest_6 0 rfl rfl)
theorem dX0_digest_143 : decode cX0_digest 143 = .ok (.iload_n 3, 1) := dk_29 (dk_at dksX0_digest_6 1 rfl rfl)
theorem dX0_digest_144 : decode cX0_digest 144 = .ok (.bipush 16, 2) := dk_16 16 (dk_at dksX0_digest_6 2 rfl rfl)
theorem dX0_digest_146 : decode cX0_digest 146 = .ok (.if_icmp .ge 24, 3) := dk_162 0 24 (dk_at dksX0_digest_6 4 rfl rfl)
theorem dX0_digest_149 : decode cX0_digest 149 = .ok (.aload_n 0, 1) := dk_42 (dk_at dksX0_digest_6 7 rfl rfl)
theorem dX0_digest_150 : decode cX0_digest 150 = .ok (.iload_n 3, 1) := dk_29 (dk_at dksX0_digest_6 8 rfl rfl)
theorem dX0_digest_151 : decode cX0_digest 151 = .ok (.invokevirtual 132, 3) := dk_182 0 132 (dk_at dksX0_digest_6 9 rfl rfl)
theorem dX0_digest_154 : decode cX0_digest 154 = .ok (.ifCond .eq 10, 3) := dk_153 0 10 (dk_at dksX0_digest_6 12 rfl rfl)
theorem dX0_digest_157 : decode cX0_digest 157 = .ok (.aload_n 0, 1) := dk_42 (dk_at dksX0_digest_6 15 rfl rfl)
theorem dX0_digest_158 : decode cX0_digest 158 = .ok (.lload_n 1, 1) := dk_31 (dk_at dksX0_digest_6 16 rfl rfl)
theorem dX0_digest_159 : decode cX0_digest 159 = .ok (.iload_n 3, 1) := dk_29 (dk_at dksX0_digest_6 17 rfl rfl)
theorem dX0_digest_160 : decode cX0_digest 160 = .ok (.invokevirtual 430, 3) := dk_182 1 174 (dk_at dksX0_digest_6 18 rfl rfl)
theorem dX0_digest_163 : decode cX0_digest 163 = .ok (.lstore_n 1, 1) := dk_64 (dk_at dksX0_digest_6 21 rfl rfl)
theorem dX0_digest_164 : decode cX0_digest 164 = .ok (.iinc 3 1, 3) := dk_132 3 1 (dk_at dksX0_digest_7 0 rfl rfl)
theorem dX0_digest_167 : decode cX0_digest 167 = .ok (.goto (-24), 3) := dk_167 255 232 (dk_at dksX0_digest_7 3 rfl rfl)
theorem dX0_digest_170 : decode cX0_digest 170 = .ok (.iconst 0, 1) := dk_3 (dk_at dksX0_digest_7 6 rfl rfl)
theorem dX0_digest_171 : decode cX0_digest 171 = .ok (.istore_n 3, 1) := dk_62 (dk_at dksX0_digest_7 7 rfl rfl)
theorem dX0_digest_172 : decode cX0_digest 172 = .ok (.iload_n 3, 1) := dk_29 (dk_at dksX0_digest_7 8 rfl rfl)
theorem dX0_digest_173 : decode cX0_digest 173 = .ok (.iconst 2, 1) := dk_5 (dk_at dksX0_digest_7 9 rfl rfl)
theorem dX0_digest_174 : decode cX0_digest 174 = .ok (.if_icmp .ge 16, 3) := dk_162 0 16 (dk_at dksX0_digest_7 10 rfl rfl)
theorem dX0_digest_177 : decode cX0_digest 177 = .ok (.aload_n 0, 1) := dk_42 (dk_at dksX0_digest_7 13 rfl rfl)
theorem dX0_digest_178 : decode cX0_digest 178 = .ok (.lload_n 1, 1) := dk_31 (dk_at dksX0_digest_7 14 rfl rfl)
theorem dX0_digest_179 : decode cX0_digest 179 = .ok (.iload_n 3, 1) := dk_29 (dk_at dksX0_digest_7 15 rfl rfl)
theorem dX0_digest_180 : decode cX0_digest 180 = .ok (.invokevirtual 434, 3) := dk_182 1 178 (dk_at dksX0_digest_7 16 rfl rfl)
theorem dX0_digest_183 : decode cX0_digest 183 = .ok (.lstore_n 1, 1) := dk_64 (dk_at dksX0_digest_7 19 rfl rfl)
theorem dX0_digest_184 : decode cX0_digest 184 = .ok (.iinc 3 1, 3) := dk_132 3 1 (dk_at dksX0_digest_7 20 rfl rfl)
theorem dX0_digest_187 : decode cX0_digest 187 = .ok (.goto (-15), 3) := dk_167 255 241 (dk_at dksX0_digest_8 0 rfl rfl)
theorem dX0_digest_190 : decode cX0_digest 190 = .ok (.aload_n 0, 1) := dk_42 (dk_at dksX0_digest_8 3 rfl rfl)
theorem dX0_digest_191 : decode cX0_digest 191 = .ok (.invokevirtual 294, 3) := dk_182 1 38 (dk_at dksX0_digest_8 4 rfl rfl)
theorem dX0_digest_194 : decode cX0_digest 194 = .ok (.ldc2_w 423, 3) := dk_20 1 167 (dk_at dksX0_digest_8 7 rfl rfl)
theorem dX0_digest_197 : decode cX0_digest 197 = .ok (.lload_n 1, 1) := dk_31 (dk_at dksX0_digest_8 10 rfl rfl)
theorem dX0_digest_198 : decode cX0_digest 198 = .ok (.lmul, 1) := dk_105 (dk_at dksX0_digest_8 11 rfl rfl)
theorem dX0_digest_199 : decode cX0_digest 199 = .ok (.aload_n 0, 1) := dk_42 (dk_at dksX0_digest_8 12 rfl rfl)
theorem dX0_digest_200 : decode cX0_digest 200 = .ok (.invokevirtual 300, 3) := dk_182 1 44 (dk_at dksX0_digest_8 13 rfl rfl)
theorem dX0_digest_203 : decode cX0_digest 203 = .ok (.i2l, 1) := dk_133 (dk_at dksX0_digest_8 16 rfl rfl)
theorem dX0_digest_204 : decode cX0_digest 204 = .ok (.ladd, 1) := dk_97 (dk_at dksX0_digest_8 17 rfl rfl)
theorem dX0_digest_205 : decode cX0_digest 205 = .ok (.lstore_n 1, 1) := dk_64 (dk_at dksX0_digest_8 18 rfl rfl)
theorem dX0_digest_206 : decode cX0_digest 206 = .ok (.ldc2_w 423, 3) := dk_20 1 167 (dk_at dksX0_digest_8 19 rfl rfl)
theorem dX0_digest_209 : decode cX0_digest 209 = .ok (.lload_n 1, 1) := dk_31 (dk_at dksX0_digest_8 22 rfl rfl)
theorem dX0_digest_210 : decode cX0_digest 210 = .ok (.lmul, 1) := dk_105 (dk_at dksX0_digest_8 23 rfl rfl)
theorem dX0_digest_211 : decode cX0_digest 211 = .ok (.aload_n 0, 1) := dk_42 (dk_at dksX0_digest_9 0 rfl rfl)
theorem dX0_digest_212 : decode cX0_digest 212 = .ok (.getfield 266, 3) := dk_180 1 10 (dk_at dksX0_digest_9 1 rfl rfl)
theorem dX0_digest_215 : decode cX0_digest 215 = .ok (.i2l, 1) := dk_133 (dk_at dksX0_digest_9 4 rfl rfl)
theorem dX0_digest_216 : decode cX0_digest 216 = .ok (.ladd, 1) := dk_97 (dk_at dksX0_digest_9 5 rfl rfl)
theorem dX0_digest_217 : decode cX0_digest 217 = .ok (.lstore_n 1, 1) := dk_64 (dk_at dksX0_digest_9 6 rfl rfl)
theorem dX0_digest_218 : decode cX0_digest 218 = .ok (.iconst 0, 1) := dk_3 (dk_at dksX0_digest_9 7 rfl rfl)
theorem dX0_digest_219 : decode cX0_digest 219 = .ok (.istore_n 3, 1) := dk_62 (dk_at dksX0_digest_9 8 rfl rfl)
theorem dX0_digest_220 : decode cX0_digest 220 = .ok (.iload_n 3, 1) := dk_29 (dk_at dksX0_digest_9 9 rfl rfl)
theorem dX0_digest_221 : decode cX0_digest 221 = .ok (.iconst 2, 1) := dk_5 (dk_at dksX0_digest_9 10 rfl rfl)
theorem dX0_digest_222 : decode cX0_digest 222 = .ok (.if_icmp .ge 22, 3) := dk_162 0 22 (dk_at dksX0_digest_9 11 rfl rfl)
theorem dX0_digest_225 : decode cX0_digest 225 = .ok (.ldc2_w 423, 3) := dk_20 1 167 (dk_at dksX0_digest_9 14 rfl rfl)
theorem dX0_digest_228 : decode cX0_digest 228 = .ok (.lload_n 1, 1) := dk_31 (dk_at dksX0_digest_9 17 rfl rfl)
theorem dX0_digest_229 : decode cX0_digest 229 = .ok (.lmul, 1) := dk_105 (dk_at dksX0_digest_9 18 rfl rfl)
theorem dX0_digest_230 : decode cX0_digest 230 = .ok (.aload_n 0, 1) := dk_42 (dk_at dksX0_digest_9 19 rfl rfl)
theorem dX0_digest_231 : decode cX0_digest 231 = .ok (.iload_n 3, 1) := dk_29 (dk_at dksX0_digest_9 20 rfl rfl)
theorem dX0_digest_232 : decode cX0_digest 232 = .ok (.invokevirtual 306, 3) := dk_182 1 50 (dk_at dksX0_digest_9 21 rfl rfl)
theorem dX0_digest_235 : decode cX0_digest 235 = .ok (.i2l, 1) := dk_133 (dk_at dksX0_digest_10 0 rfl rfl)
theorem dX0_digest_236 : decode cX0_digest 236 = .ok (.ladd, 1) := dk_97 (dk_at dksX0_digest_10 1 rfl rfl)
theorem dX0_digest_237 : decode cX0_digest 237 = .ok (.lstore_n 1, 1) := dk_64 (dk_at dksX0_digest_10 2 rfl rfl)
theorem dX0_digest_238 : decode cX0_digest 238 = .ok (.iinc 3 1, 3) := dk_132 3 1 (dk_at dksX0_digest_10 3 rfl rfl)
theorem dX0_digest_241 : decode cX0_digest 241 = .ok (.goto (-21), 3) := dk_167 255 235 (dk_at dksX0_digest_10 6 rfl rfl)
theorem dX0_digest_244 : decode cX0_digest 244 = .ok (.ldc2_w 423, 3) := dk_20 1 167 (dk_at dksX0_digest_10 9 rfl rfl)
theorem dX0_digest_247 : decode cX0_digest 247 = .ok (.lload_n 1, 1) := dk_31 (dk_at dksX0_digest_10 12 rfl rfl)
theorem dX0_digest_248 : decode cX0_digest 248 = .ok (.lmul, 1) := dk_105 (dk_at dksX0_digest_10 13 rfl rfl)
theorem dX0_digest_249 : decode cX0_digest 249 = .ok (.aload_n 0, 1) := dk_42 (dk_at dksX0_digest_10 14 rfl rfl)
theorem dX0_digest_250 : decode cX0_digest 250 = .ok (.invokevirtual 309, 3) := dk_182 1 53 (dk_at dksX0_digest_10 15 rfl rfl)
theorem dX0_digest_253 : decode cX0_digest 253 = .ok (.i2l, 1) := dk_133 (dk_at dksX0_digest_10 18 rfl rfl)
theorem dX0_digest_254 : decode cX0_digest 254 = .ok (.ladd, 1) := dk_97 (dk_at dksX0_digest_10 19 rfl rfl)
theorem dX0_digest_255 : decode cX0_digest 255 = .ok (.lstore_n 1, 1) := dk_64 (dk_at dksX0_digest_10 20 rfl rfl)
theorem dX0_digest_256 : decode cX0_digest 256 = .ok (.ldc2_w 423, 3) := dk_20 1 167 (dk_at dksX0_digest_10 21 rfl rfl)
theorem dX0_digest_259 : decode cX0_digest 259 = .ok (.lload_n 1, 1) := dk_31 (dk_at dksX0_digest_11 0 rfl rfl)
theorem dX0_digest_260 : decode cX0_digest 260 = .ok (.lmul, 1) := dk_105 (dk_at dksX0_digest_11 1 rfl rfl)
theorem dX0_digest_261 : decode cX0_digest 261 = .ok (.aload_n 0, 1) := dk_42 (dk_at dksX0_digest_11 2 rfl rfl)
theorem dX0_digest_262 : decode cX0_digest 262 = .ok (.invokevirtual 312, 3) := dk_182 1 56 (dk_at dksX0_digest_11 3 rfl rfl)
theorem dX0_digest_265 : decode cX0_digest 265 = .ok (.i2l, 1) := dk_133 (dk_at dksX0_digest_11 6 rfl rfl)
theorem dX0_digest_266 : decode cX0_digest 266 = .ok (.ladd, 1) := dk_97 (dk_at dksX0_digest_11 7 rfl rfl)
theorem dX0_digest_267 : decode cX0_digest 267 = .ok (.lstore_n 1, 1) := dk_64 (dk_at dksX0_digest_11 8 rfl rfl)
theorem dX0_digest_268 : decode cX0_digest 268 = .ok (.ldc2_w 423, 3) := dk_20 1 167 (dk_at dksX0_digest_11 9 rfl rfl)
theorem dX0_digest_271 : decode cX0_digest 271 = .ok (.lload_n 1, 1) := dk_31 (dk_at dksX0_digest_11 12 rfl rfl)
theorem dX0_digest_272 : decode cX0_digest 272 = .ok (.lmul, 1) := dk_105 (dk_at dksX0_digest_11 13 rfl rfl)
theorem dX0_digest_273 : decode cX0_digest 273 = .ok (.aload_n 0, 1) := dk_42 (dk_at dksX0_digest_11 14 rfl rfl)
theorem dX0_digest_274 : decode cX0_digest 274 = .ok (.getfield 260, 3) := dk_180 1 4 (dk_at dksX0_digest_11 15 rfl rfl)
theorem dX0_digest_277 : decode cX0_digest 277 = .ok (.i2l, 1) := dk_133 (dk_at dksX0_digest_11 18 rfl rfl)
theorem dX0_digest_278 : decode cX0_digest 278 = .ok (.ladd, 1) := dk_97 (dk_at dksX0_digest_11 19 rfl rfl)
theorem dX0_digest_279 : decode cX0_digest 279 = .ok (.lstore_n 1, 1) := dk_64 (dk_at dksX0_digest_11 20 rfl rfl)
theorem dX0_digest_280 : decode cX0_digest 280 = .ok (.iconst (-1), 1) := dk_2 (dk_at dksX0_digest_11 21 rfl rfl)
theorem dX0_digest_281 : decode cX0_digest 281 = .ok (.istore_n 3, 1) := dk_62 (dk_at dksX0_digest_11 22 rfl rfl)
theorem dX0_digest_282 : decode cX0_digest 282 = .ok (.iload_n 3, 1) := dk_29 (dk_at dksX0_digest_11 23 rfl rfl)
theorem dX0_digest_283 : decode cX0_digest 283 = .ok (.iconst 1, 1) := dk_4 (dk_at dksX0_digest_12 0 rfl rfl)
theorem dX0_digest_284 : decode cX0_digest 284 = .ok (.if_icmp .ge 22, 3) := dk_162 0 22 (dk_at dksX0_digest_12 1 rfl rfl)
theorem dX0_digest_287 : decode cX0_digest 287 = .ok (.ldc2_w 423, 3) := dk_20 1 167 (dk_at dksX0_digest_12 4 rfl rfl)
theorem dX0_digest_290 : decode cX0_digest 290 = .ok (.lload_n 1, 1) := dk_31 (dk_at dksX0_digest_12 7 rfl rfl)
theorem dX0_digest_291 : decode cX0_digest 291 = .ok (.lmul, 1) := dk_105 (dk_at dksX0_digest_12 8 rfl rfl)
theorem dX0_digest_292 : decode cX0_digest 292 = .ok (.aload_n 0, 1) := dk_42 (dk_at dksX0_digest_12 9 rfl rfl)
theorem dX0_digest_293 : decode cX0_digest 293 = .ok (.iload_n 3, 1) := dk_29 (dk_at dksX0_digest_12 10 rfl rfl)
theorem dX0_digest_294 : decode cX0_digest 294 = .ok (.invokevirtual 335, 3) := dk_182 1 79 (dk_at dksX0_digest_12 11 rfl rfl)
theorem dX0_digest_297 : decode cX0_digest 297 = .ok (.i2l, 1) := dk_133 (dk_at dksX0_digest_12 14 rfl rfl)
theorem dX0_digest_298 : decode cX0_digest 298 = .ok (.ladd, 1) := dk_97 (dk_at dksX0_digest_12 15 rfl rfl)
theorem dX0_digest_299 : decode cX0_digest 299 = .ok (.lstore_n 1, 1) := dk_64 (dk_at dksX0_digest_12 16 rfl rfl)
theorem dX0_digest_300 : decode cX0_digest 300 = .ok (.iinc 3 1, 3) := dk_132 3 1 (dk_at dksX0_digest_12 17 rfl rfl)
theorem dX0_digest_303 : decode cX0_digest 303 = .ok (.goto (-21), 3) := dk_167 255 235 (dk_at dksX0_digest_12 20 rfl rfl)
theorem dX0_digest_306 : decode cX0_digest 306 = .ok (.ldc2_w 423, 3) := dk_20 1 167 (dk_at dksX0_digest_13 0 rfl rfl)
theorem dX0_digest_309 : decode cX0_digest 309 = .ok (.lload_n 1, 1) := dk_31 (dk_at dksX0_digest_13 3 rfl rfl)
theorem dX0_digest_310 : decode cX0_digest 310 = .ok (.lmul, 1) := dk_105 (dk_at dksX0_digest_13 4 rfl rfl)
theorem dX0_digest_311 : decode cX0_digest 311 = .ok (.aload_n 0, 1) := dk_42 (dk_at dksX0_digest_13 5 rfl rfl)
theorem dX0_digest_312 : decode cX0_digest 312 = .ok (.invokevirtual 346, 3) := dk_182 1 90 (dk_at dksX0_digest_13 6 rfl rfl)
theorem dX0_digest_315 : decode cX0_digest 315 = .ok (.i2l, 1) := dk_133 (dk_at dksX0_digest_13 9 rfl rfl)
theorem dX0_digest_316 : decode cX0_digest 316 = .ok (.ladd, 1) := dk_97 (dk_at dksX0_digest_13 10 rfl rfl)
theorem dX0_digest_317 : decode cX0_digest 317 = .ok (.lstore_n 1, 1) := dk_64 (dk_at dksX0_digest_13 11 rfl rfl)
theorem dX0_digest_318 : decode cX0_digest 318 = .ok (.iconst 0, 1) := dk_3 (dk_at dksX0_digest_13 12 rfl rfl)
theorem dX0_digest_319 : decode cX0_digest 319 = .ok (.istore_n 3, 1) := dk_62 (dk_at dksX0_digest_13 13 rfl rfl)
theorem dX0_digest_320 : decode cX0_digest 320 = .ok (.iload_n 3, 1) := dk_29 (dk_at dksX0_digest_13 14 rfl rfl)
theorem dX0_digest_321 : decode cX0_digest 321 = .ok (.iconst 2, 1) := dk_5 (dk_at dksX0_digest_13 15 rfl rfl)
theorem dX0_digest_322 : decode cX0_digest 322 = .ok (.if_icmp .ge 26, 3) := dk_162 0 26 (dk_at dksX0_digest_13 16 rfl rfl)
theorem dX0_digest_325 : decode cX0_digest 325 = .ok (.ldc2_w 423, 3) := dk_20 1 167 (dk_at dksX0_digest_13 19 rfl rfl)
theorem dX0_digest_328 : decode cX0_digest 328 = .ok (.lload_n 1, 1) := dk_31 (dk_at dksX0_digest_13 22 rfl rfl)
theorem dX0_digest_329 : decode cX0_digest 329 = .ok (.lmul, 1) := dk_105 (dk_at dksX0_digest_13 23 rfl rfl)
theorem dX0_digest_330 : decode cX0_digest 330 = .ok (.aload_n 0, 1) := dk_42 (dk_at dksX0_digest_14 0 rfl rfl)
theorem dX0_digest_331 : decode cX0_digest 331 = .ok (.bipush 7, 2) := dk_16 7 (dk_at dksX0_digest_14 1 rfl rfl)
theorem dX0_digest_333 : decode cX0_digest 333 = .ok (.bipush 18, 2) := dk_16 18 (dk_at dksX0_digest_14 3 rfl rfl)
theorem dX0_digest_335 : decode cX0_digest 335 = .ok (.iload_n 3, 1) := dk_29 (dk_at dksX0_digest_14 5 rfl rfl)
theorem dX0_digest_336 : decode cX0_digest 336 = .ok (.invokevirtual 394, 3) := dk_182 1 138 (dk_at dksX0_digest_14 6 rfl rfl)
theorem dX0_digest_339 : decode cX0_digest 339 = .ok (.i2l, 1) := dk_133 (dk_at dksX0_digest_14 9 rfl rfl)
theorem dX0_digest_340 : decode cX0_digest 340 = .ok (.ladd, 1) := dk_97 (dk_at dksX0_digest_14 10 rfl rfl)
theorem dX0_digest_341 : decode cX0_digest 341 = .ok (.lstore_n 1, 1) := dk_64 (dk_at dksX0_digest_14 11 rfl rfl)
theorem dX0_digest_342 : decode cX0_digest 342 = .ok (.iinc 3 1, 3) := dk_132 3 1 (dk_at dksX0_digest_14 12 rfl rfl)
theorem dX0_digest_345 : decode cX0_digest 345 = .ok (.goto (-25), 3) := dk_167 255 231 (dk_at dksX0_digest_14 15 rfl rfl)
theorem dX0_digest_348 : decode cX0_digest 348 = .ok (.lload_n 1, 1) := dk_31 (dk_at dksX0_digest_14 18 rfl rfl)
theorem dX0_digest_349 : decode cX0_digest 349 = .ok (.lreturn, 1) := dk_173 (dk_at dksX0_digest_14 19 rfl rfl)
abbrev cX0_tellsPuller : ByteArray := prog_1_method_86_code
def yX0_tellsPuller : MethodName := ⟨RX0, "tellsPuller", "(JI)J"⟩
def dkwX0_tellsPuller_10 : List UInt8 := [133, 97, 173]
abbrev dktX0_tellsPuller_10 : List UInt8 := dkwX0_tellsPuller_10 ++ []
def dkwX0_tellsPuller_9 : List UInt8 := [182, 1, 104, 133, 97, 55, 4, 132, 6, 1, 167, 255, 230, 20, 1, 167, 22, 4, 105, 42, 29, 182, 1, 110]
abbrev dktX0_tellsPuller_9 : List UInt8 := dkwX0_tellsPuller_9 ++ dktX0_tellsPuller_10
def dkwX0_tellsPuller_8 : List UInt8 := [46, 133, 97, 55, 4, 3, 54, 6, 21, 6, 5, 162, 0, 26, 20, 1, 167, 22, 4, 105, 42, 29, 21, 6]
abbrev dktX0_tellsPuller_8 : List UInt8 := dkwX0_tellsPuller_8 ++ dktX0_tellsPuller_9
def dkwX0_tellsPuller_7 : List UInt8 := [182, 1, 41, 133, 97, 55, 4, 132, 6, 1, 167, 255, 228, 20, 1, 167, 22, 4, 105, 42, 180, 0, 44, 29]
abbrev dktX0_tellsPuller_7 : List UInt8 := dkwX0_tellsPuller_7 ++ dktX0_tellsPuller_8
def dkwX0_tellsPuller_6 : List UInt8 := [167, 255, 228, 3, 54, 6, 21, 6, 5, 162, 0, 28, 20, 1, 167, 22, 4, 105, 42, 16, 23, 29, 21, 6]
abbrev dktX0_tellsPuller_6 : List UInt8 := dkwX0_tellsPuller_6 ++ dktX0_tellsPuller_7
def dkwX0_tellsPuller_5 : List UInt8 := [20, 1, 167, 22, 4, 105, 42, 16, 12, 29, 21, 6, 182, 1, 41, 133, 97, 55, 4, 132, 6, 1]
abbrev dktX0_tellsPuller_5 : List UInt8 := dkwX0_tellsPuller_5 ++ dktX0_tellsPuller_6
def dkwX0_tellsPuller_4 : List UInt8 := [182, 1, 41, 133, 97, 55, 4, 132, 6, 1, 167, 255, 229, 3, 54, 6, 21, 6, 5, 162, 0, 28]
abbrev dktX0_tellsPuller_4 : List UInt8 := dkwX0_tellsPuller_4 ++ dktX0_tellsPuller_5
def dkwX0_tellsPuller_3 : List UInt8 := [167, 255, 229, 3, 54, 6, 21, 6, 5, 162, 0, 27, 20, 1, 167, 22, 4, 105, 42, 8, 29, 21, 6]
abbrev dktX0_tellsPuller_3 : List UInt8 := dkwX0_tellsPuller_3 ++ dktX0_tellsPuller_4
def dkwX0_tellsPuller_2 : List UInt8 := [162, 0, 27, 20, 1, 167, 22, 4, 105, 42, 3, 29, 21, 6, 182, 1, 41, 133, 97, 55, 4, 132, 6, 1]
abbrev dktX0_tellsPuller_2 : List UInt8 := dkwX0_tellsPuller_2 ++ dktX0_tellsPuller_3
def dkwX0_tellsPuller_1 : List UInt8 := [182, 0, 137, 21, 6, 182, 0, 141, 133, 97, 55, 4, 132, 6, 1, 167, 255, 227, 3, 54, 6, 21, 6, 5]
abbrev dktX0_tellsPuller_1 : List UInt8 := dkwX0_tellsPuller_1 ++ dktX0_tellsPuller_2
def dkwX0_tellsPuller_0 : List UInt8 := [42, 182, 1, 38, 31, 55, 4, 3, 54, 6, 21, 6, 6, 162, 0, 29, 20, 1, 167, 22, 4, 105, 42, 29]
abbrev dktX0_tellsPuller_0 : List UInt8 := dkwX0_tellsPuller_0 ++ dktX0_tellsPuller_1
theorem dksX0_tellsPuller_0 : cX0_tellsPuller.data.toList.drop 0 = dktX0_tellsPuller_0 := by decide +kernel
theorem dksX0_tellsPuller_1 : cX0_tellsPuller.data.toList.drop 24 = dktX0_tellsPuller_1 := dk_seg dksX0_tellsPuller_0 24 rfl rfl
theorem dksX0_tellsPuller_2 : cX0_tellsPuller.data.toList.drop 48 = dktX0_tellsPuller_2 := dk_seg dksX0_tellsPuller_1 24 rfl rfl
theorem dksX0_tellsPuller_3 : cX0_tellsPuller.data.toList.drop 72 = dktX0_tellsPuller_3 := dk_seg dksX0_tellsPuller_2 24 rfl rfl
theorem dksX0_tellsPuller_4 : cX0_tellsPuller.data.toList.drop 95 = dktX0_tellsPuller_4 := dk_seg dksX0_tellsPuller_3 23 rfl rfl
theorem dksX0_tellsPuller_5 : cX0_tellsPuller.data.toList.drop 117 = dktX0_tellsPuller_5 := dk_seg dksX0_tellsPuller_4 22 rfl rfl
theorem dksX0_tellsPuller_6 : cX0_tellsPuller.data.toList.drop 139 = dktX0_tellsPuller_6 := dk_seg dksX0_tellsPuller_5 22 rfl rfl
theorem dksX0_tellsPuller_7 : cX0_tellsPuller.data.toList.drop 163 = dktX0_tellsPuller_7 := dk_seg dksX0_tellsPuller_6 24 rfl rfl
theorem dksX0_tellsPuller_8 : cX0_tellsPuller.data.toList.drop 187 = dktX0_tellsPuller_8 := dk_seg dksX0_tellsPuller_7 24 rfl rfl
theorem dksX0_tellsPuller_9 : cX0_tellsPuller.data.toList.drop 211 = dktX0_tellsPuller_9 := dk_seg dksX0_tellsPuller_8 24 rfl rfl
theorem dksX0_tellsPuller_10 : cX0_tellsPuller.data.toList.drop 235 = dktX0_tellsPuller_10 := dk_seg dksX0_tellsPuller_9 24 rfl rfl
theorem dX0_tellsPuller_0 : decode cX0_tellsPuller 0 = .ok (.aload_n 0, 1) := dk_42 (dk_at dksX0_tellsPuller_0 0 rfl rfl)
theorem dX0_tellsPuller_1 : decode cX0_tellsPuller 1 = .ok (.invokevirtual 294, 3) := dk_182 1 38 (dk_at dksX0_tellsPuller_0 1 rfl rfl)
theorem dX0_tellsPuller_4 : decode cX0_tellsPuller 4 = .ok (.lload_n 1, 1) := dk_31 (dk_at dksX0_tellsPuller_0 4 rfl rfl)
theorem dX0_tellsPuller_5 : decode cX0_tellsPuller 5 = .ok (.lstore 4, 2) := dk_55 4 (dk_at dksX0_tellsPuller_0 5 rfl rfl)
theorem dX0_tellsPuller_7 : decode cX0_tellsPuller 7 = .ok (.iconst 0, 1) := dk_3 (dk_at dksX0_tellsPuller_0 7 rfl rfl)
theorem dX0_tellsPuller_8 : decode cX0_tellsPuller 8 = .ok (.istore 6, 2) := dk_54 6 (dk_at dksX0_tellsPuller_0 8 rfl rfl)
theorem dX0_tellsPuller_10 : decode cX0_tellsPuller 10 = .ok (.iload 6, 2) := dk_21 6 (dk_at dksX0_tellsPuller_0 10 rfl rfl)
theorem dX0_tellsPuller_12 : decode cX0_tellsPuller 12 = .ok (.iconst 3, 1) := dk_6 (dk_at dksX0_tellsPuller_0 12 rfl rfl)
theorem dX0_tellsPuller_13 : decode cX0_tellsPuller 13 = .ok (.if_icmp .ge 29, 3) := dk_162 0 29 (dk_at dksX0_tellsPuller_0 13 rfl rfl)
theorem dX0_tellsPuller_16 : decode cX0_tellsPuller 16 = .ok (.ldc2_w 423, 3) := dk_20 1 167 (dk_at dksX0_tellsPuller_0 16 rfl rfl)
theorem dX0_tellsPuller_19 : decode cX0_tellsPuller 19 = .ok (.lload 4, 2) := dk_22 4 (dk_at dksX0_tellsPuller_0 19 rfl rfl)
theorem dX0_tellsPuller_21 : decode cX0_tellsPuller 21 = .ok (.lmul, 1) := dk_105 (dk_at dksX0_tellsPuller_0 21 rfl rfl)
theorem dX0_tellsPuller_22 : decode cX0_tellsPuller 22 = .ok (.aload_n 0, 1) := dk_42 (dk_at dksX0_tellsPuller_0 22 rfl rfl)
theorem dX0_tellsPuller_23 : decode cX0_tellsPuller 23 = .ok (.iload_n 3, 1) := dk_29 (dk_at dksX0_tellsPuller_0 23 rfl rfl)
theorem dX0_tellsPuller_24 : decode cX0_tellsPuller 24 = .ok (.invokevirtual 137, 3) := dk_182 0 137 (dk_at dksX0_tellsPuller_1 0 rfl rfl)
theorem dX0_tellsPuller_27 : decode cX0_tellsPuller 27 = .ok (.iload 6, 2) := dk_21 6 (dk_at dksX0_tellsPuller_1 3 rfl rfl)
theorem dX0_tellsPuller_29 : decode cX0_tellsPuller 29 = .ok (.invokevirtual 141, 3) := dk_182 0 141 (dk_at dksX0_tellsPuller_1 5 rfl rfl)
theorem dX0_tellsPuller_32 : decode cX0_tellsPuller 32 = .ok (.i2l, 1) := dk_133 (dk_at dksX0_tellsPuller_1 8 rfl rfl)
theorem dX0_tellsPuller_33 : decode cX0_tellsPuller 33 = .ok (.ladd, 1) := dk_97 (dk_at dksX0_tellsPuller_1 9 rfl rfl)
theorem dX0_tellsPuller_34 : decode cX0_tellsPuller 34 = .ok (.lstore 4, 2) := dk_55 4 (dk_at dksX0_tellsPuller_1 10 rfl rfl)
theorem dX0_tellsPuller_36 : decode cX0_tellsPuller 36 = .ok (.iinc 6 1, 3) := dk_132 6 1 (dk_at dksX0_tellsPuller_1 12 rfl rfl)
theorem dX0_tellsPuller_39 : decode cX0_tellsPuller 39 = .ok (.goto (-29), 3) := dk_167 255 227 (dk_at dksX0_tellsPuller_1 15 rfl rfl)
theorem dX0_tellsPuller_42 : decode cX0_tellsPuller 42 = .ok (.iconst 0, 1) := dk_3 (dk_at dksX0_tellsPuller_1 18 rfl rfl)
theorem dX0_tellsPuller_43 : decode cX0_tellsPuller 43 = .ok (.istore 6, 2) := dk_54 6 (dk_at dksX0_tellsPuller_1 19 rfl rfl)
theorem dX0_tellsPuller_45 : decode cX0_tellsPuller 45 = .ok (.iload 6, 2) := dk_21 6 (dk_at dksX0_tellsPuller_1 21 rfl rfl)
theorem dX0_tellsPuller_47 : decode cX0_tellsPuller 47 = .ok (.iconst 2, 1) := dk_5 (dk_at dksX0_tellsPuller_1 23 rfl rfl)
theorem dX0_tellsPuller_48 : decode cX0_tellsPuller 48 = .ok (.if_icmp .ge 27, 3) := dk_162 0 27 (dk_at dksX0_tellsPuller_2 0 rfl rfl)
theorem dX0_tellsPuller_51 : decode cX0_tellsPuller 51 = .ok (.ldc2_w 423, 3) := dk_20 1 167 (dk_at dksX0_tellsPuller_2 3 rfl rfl)
theorem dX0_tellsPuller_54 : decode cX0_tellsPuller 54 = .ok (.lload 4, 2) := dk_22 4 (dk_at dksX0_tellsPuller_2 6 rfl rfl)
theorem dX0_tellsPuller_56 : decode cX0_tellsPuller 56 = .ok (.lmul, 1) := dk_105 (dk_at dksX0_tellsPuller_2 8 rfl rfl)
theorem dX0_tellsPuller_57 : decode cX0_tellsPuller 57 = .ok (.aload_n 0, 1) := dk_42 (dk_at dksX0_tellsPuller_2 9 rfl rfl)
theorem dX0_tellsPuller_58 : decode cX0_tellsPuller 58 = .ok (.iconst 0, 1) := dk_3 (dk_at dksX0_tellsPuller_2 10 rfl rfl)
theorem dX0_tellsPuller_59 : decode cX0_tellsPuller 59 = .ok (.iload_n 3, 1) := dk_29 (dk_at dksX0_tellsPuller_2 11 rfl rfl)
theorem dX0_tellsPuller_60 : decode cX0_tellsPuller 60 = .ok (.iload 6, 2) := dk_21 6 (dk_at dksX0_tellsPuller_2 12 rfl rfl)
theorem dX0_tellsPuller_62 : decode cX0_tellsPuller 62 = .ok (.invokevirtual 297, 3) := dk_182 1 41 (dk_at dksX0_tellsPuller_2 14 rfl rfl)
theorem dX0_tellsPuller_65 : decode cX0_tellsPuller 65 = .ok (.i2l, 1) := dk_133 (dk_at dksX0_tellsPuller_2 17 rfl rfl)
theorem dX0_tellsPuller_66 : decode cX0_tellsPuller 66 = .ok (.ladd, 1) := dk_97 (dk_at dksX0_tellsPuller_2 18 rfl rfl)
theorem dX0_tellsPuller_67 : decode cX0_tellsPuller 67 = .ok (.lstore 4, 2) := dk_55 4 (dk_at dksX0_tellsPuller_2 19 rfl rfl)
theorem dX0_tellsPuller_69 : decode cX0_tellsPuller 69 = .ok (.iinc 6 1, 3) := dk_132 6 1 (dk_at dksX0_tellsPuller_2 21 rfl rfl)
theorem dX0_tellsPuller_72 : decode cX0_tellsPuller 72 = .ok (.goto (-27), 3) := dk_167 255 229 (dk_at dksX0_tellsPuller_3 0 rfl rfl)
theorem dX0_tellsPuller_75 : decode cX0_tellsPuller 75 = .ok (.iconst 0, 1) := dk_3 (dk_at dksX0_tellsPuller_3 3 rfl rfl)
theorem dX0_tellsPuller_76 : decode cX0_tellsPuller 76 = .ok (.istore 6, 2) := dk_54 6 (dk_at dksX0_tellsPuller_3 4 rfl rfl)
theorem dX0_tellsPuller_78 : decode cX0_tellsPuller 78 = .ok (.iload 6, 2) := dk_21 6 (dk_at dksX0_tellsPuller_3 6 rfl rfl)
theorem dX0_tellsPuller_80 : decode cX0_tellsPuller 80 = .ok (.iconst 2, 1) := dk_5 (dk_at dksX0_tellsPuller_3 8 rfl rfl)
theorem dX0_tellsPuller_81 : decode cX0_tellsPuller 81 = .ok (.if_icmp .ge 27, 3) := dk_162 0 27 (dk_at dksX0_tellsPuller_3 9 rfl rfl)
theorem dX0_tellsPuller_84 : decode cX0_tellsPuller 84 = .ok (.ldc2_w 423, 3) := dk_20 1 167 (dk_at dksX0_tellsPuller_3 12 rfl rfl)
theorem dX0_tellsPuller_87 : decode cX0_tellsPuller 87 = .ok (.lload 4, 2) := dk_22 4 (dk_at dksX0_tellsPuller_3 15 rfl rfl)
theorem dX0_tellsPuller_89 : decode cX0_tellsPuller 89 = .ok (.lmul, 1) := dk_105 (dk_at dksX0_tellsPuller_3 17 rfl rfl)
theorem dX0_tellsPuller_90 : decode cX0_tellsPuller 90 = .ok (.aload_n 0, 1) := dk_42 (dk_at dksX0_tellsPuller_3 18 rfl rfl)
theorem dX0_tellsPuller_91 : decode cX0_tellsPuller 91 = .ok (.iconst 5, 1) := dk_8 (dk_at dksX0_tellsPuller_3 19 rfl rfl)
theorem dX0_tellsPuller_92 : decode cX0_tellsPuller 92 = .ok (.iload_n 3, 1) := dk_29 (dk_at dksX0_tellsPuller_3 20 rfl rfl)
theorem dX0_tellsPuller_93 : decode cX0_tellsPuller 93 = .ok (.iload 6, 2) := dk_21 6 (dk_at dksX0_tellsPuller_3 21 rfl rfl)
theorem dX0_tellsPuller_95 : decode cX0_tellsPuller 95 = .ok (.invokevirtual 297, 3) := dk_182 1 41 (dk_at dksX0_tellsPuller_4 0 rfl rfl)
theorem dX0_tellsPuller_98 : decode cX0_tellsPuller 98 = .ok (.i2l, 1) := dk_133 (dk_at dksX0_tellsPuller_4 3 rfl rfl)
theorem dX0_tellsPuller_99 : decode cX0_tellsPuller 99 = .ok (.ladd, 1) := dk_97 (dk_at dksX0_tellsPuller_4 4 rfl rfl)
theorem dX0_tellsPuller_100 : decode cX0_tellsPuller 100 = .ok (.lstore 4, 2) := dk_55 4 (dk_at dksX0_tellsPuller_4 5 rfl rfl)
theorem dX0_tellsPuller_102 : decode cX0_tellsPuller 102 = .ok (.iinc 6 1, 3) := dk_132 6 1 (dk_at dksX0_tellsPuller_4 7 rfl rfl)
theorem dX0_tellsPuller_105 : decode cX0_tellsPuller 105 = .ok (.goto (-27), 3) := dk_167 255 229 (dk_at dksX0_tellsPuller_4 10 rfl rfl)
theorem dX0_tellsPuller_108 : decode cX0_tellsPuller 108 = .ok (.iconst 0, 1) := dk_3 (dk_at dksX0_tellsPuller_4 13 rfl rfl)
theorem dX0_tellsPuller_109 : decode cX0_tellsPuller 109 = .ok (.istore 6, 2) := dk_54 6 (dk_at dksX0_tellsPuller_4 14 rfl rfl)
theorem dX0_tellsPuller_111 : decode cX0_tellsPuller 111 = .ok (.iload 6, 2) := dk_21 6 (dk_at dksX0_tellsPuller_4 16 rfl rfl)
theorem dX0_tellsPuller_113 : decode cX0_tellsPuller 113 = .ok (.iconst 2, 1) := dk_5 (dk_at dksX0_tellsPuller_4 18 rfl rfl)
theorem dX0_tellsPuller_114 : decode cX0_tellsPuller 114 = .ok (.if_icmp .ge 28, 3) := dk_162 0 28 (dk_at dksX0_tellsPuller_4 19 rfl rfl)
theorem dX0_tellsPuller_117 : decode cX0_tellsPuller 117 = .ok (.ldc2_w 423, 3) := dk_20 1 167 (dk_at dksX0_tellsPuller_5 0 rfl rfl)
theorem dX0_tellsPuller_120 : decode cX0_tellsPuller 120 = .ok (.lload 4, 2) := dk_22 4 (dk_at dksX0_tellsPuller_5 3 rfl rfl)
theorem dX0_tellsPuller_122 : decode cX0_tellsPuller 122 = .ok (.lmul, 1) := dk_105 (dk_at dksX0_tellsPuller_5 5 rfl rfl)
theorem dX0_tellsPuller_123 : decode cX0_tellsPuller 123 = .ok (.aload_n 0, 1) := dk_42 (dk_at dksX0_tellsPuller_5 6 rfl rfl)
theorem dX0_tellsPuller_124 : decode cX0_tellsPuller 124 = .ok (.bipush 12, 2) := dk_16 12 (dk_at dksX0_tellsPuller_5 7 rfl rfl)
theorem dX0_tellsPuller_126 : decode cX0_tellsPuller 126 = .ok (.iload_n 3, 1) := dk_29 (dk_at dksX0_tellsPuller_5 9 rfl rfl)
theorem dX0_tellsPuller_127 : decode cX0_tellsPuller 127 = .ok (.iload 6, 2) := dk_21 6 (dk_at dksX0_tellsPuller_5 10 rfl rfl)
theorem dX0_tellsPuller_129 : decode cX0_tellsPuller 129 = .ok (.invokevirtual 297, 3) := dk_182 1 41 (dk_at dksX0_tellsPuller_5 12 rfl rfl)
theorem dX0_tellsPuller_132 : decode cX0_tellsPuller 132 = .ok (.i2l, 1) := dk_133 (dk_at dksX0_tellsPuller_5 15 rfl rfl)
theorem dX0_tellsPuller_133 : decode cX0_tellsPuller 133 = .ok (.ladd, 1) := dk_97 (dk_at dksX0_tellsPuller_5 16 rfl rfl)
theorem dX0_tellsPuller_134 : decode cX0_tellsPuller 134 = .ok (.lstore 4, 2) := dk_55 4 (dk_at dksX0_tellsPuller_5 17 rfl rfl)
theorem dX0_tellsPuller_136 : decode cX0_tellsPuller 136 = .ok (.iinc 6 1, 3) := dk_132 6 1 (dk_at dksX0_tellsPuller_5 19 rfl rfl)
theorem dX0_tellsPuller_139 : decode cX0_tellsPuller 139 = .ok (.goto (-28), 3) := dk_167 255 228 (dk_at dksX0_tellsPuller_6 0 rfl rfl)
theorem dX0_tellsPuller_142 : decode cX0_tellsPuller 142 = .ok (.iconst 0, 1) := dk_3 (dk_at dksX0_tellsPuller_6 3 rfl rfl)
theorem dX0_tellsPuller_143 : decode cX0_tellsPuller 143 = .ok (.istore 6, 2) := dk_54 6 (dk_at dksX0_tellsPuller_6 4 rfl rfl)
theorem dX0_tellsPuller_145 : decode cX0_tellsPuller 145 = .ok (.iload 6, 2) := dk_21 6 (dk_at dksX0_tellsPuller_6 6 rfl rfl)
theorem dX0_tellsPuller_147 : decode cX0_tellsPuller 147 = .ok (.iconst 2, 1) := dk_5 (dk_at dksX0_tellsPuller_6 8 rfl rfl)
theorem dX0_tellsPuller_148 : decode cX0_tellsPuller 148 = .ok (.if_icmp .ge 28, 3) := dk_162 0 28 (dk_at dksX0_tellsPuller_6 9 rfl rfl)
theorem dX0_tellsPuller_151 : decode cX0_tellsPuller 151 = .ok (.ldc2_w 423, 3) := dk_20 1 167 (dk_at dksX0_tellsPuller_6 12 rfl rfl)
theorem dX0_tellsPuller_154 : decode cX0_tellsPuller 154 = .ok (.lload 4, 2) := dk_22 4 (dk_at dksX0_tellsPuller_6 15 rfl rfl)
theorem dX0_tellsPuller_156 : decode cX0_tellsPuller 156 = .ok (.lmul, 1) := dk_105 (dk_at dksX0_tellsPuller_6 17 rfl rfl)
theorem dX0_tellsPuller_157 : decode cX0_tellsPuller 157 = .ok (.aload_n 0, 1) := dk_42 (dk_at dksX0_tellsPuller_6 18 rfl rfl)
theorem dX0_tellsPuller_158 : decode cX0_tellsPuller 158 = .ok (.bipush 23, 2) := dk_16 23 (dk_at dksX0_tellsPuller_6 19 rfl rfl)
theorem dX0_tellsPuller_160 : decode cX0_tellsPuller 160 = .ok (.iload_n 3, 1) := dk_29 (dk_at dksX0_tellsPuller_6 21 rfl rfl)
theorem dX0_tellsPuller_161 : decode cX0_tellsPuller 161 = .ok (.iload 6, 2) := dk_21 6 (dk_at dksX0_tellsPuller_6 22 rfl rfl)
theorem dX0_tellsPuller_163 : decode cX0_tellsPuller 163 = .ok (.invokevirtual 297, 3) := dk_182 1 41 (dk_at dksX0_tellsPuller_7 0 rfl rfl)
theorem dX0_tellsPuller_166 : decode cX0_tellsPuller 166 = .ok (.i2l, 1) := dk_133 (dk_at dksX0_tellsPuller_7 3 rfl rfl)
theorem dX0_tellsPuller_167 : decode cX0_tellsPuller 167 = .ok (.ladd, 1) := dk_97 (dk_at dksX0_tellsPuller_7 4 rfl rfl)
theorem dX0_tellsPuller_168 : decode cX0_tellsPuller 168 = .ok (.lstore 4, 2) := dk_55 4 (dk_at dksX0_tellsPuller_7 5 rfl rfl)
theorem dX0_tellsPuller_170 : decode cX0_tellsPuller 170 = .ok (.iinc 6 1, 3) := dk_132 6 1 (dk_at dksX0_tellsPuller_7 7 rfl rfl)
theorem dX0_tellsPuller_173 : decode cX0_tellsPuller 173 = .ok (.goto (-28), 3) := dk_167 255 228 (dk_at dksX0_tellsPuller_7 10 rfl rfl)
theorem dX0_tellsPuller_176 : decode cX0_tellsPuller 176 = .ok (.ldc2_w 423, 3) := dk_20 1 167 (dk_at dksX0_tellsPuller_7 13 rfl rfl)
theorem dX0_tellsPuller_179 : decode cX0_tellsPuller 179 = .ok (.lload 4, 2) := dk_22 4 (dk_at dksX0_tellsPuller_7 16 rfl rfl)
theorem dX0_tellsPuller_181 : decode cX0_tellsPuller 181 = .ok (.lmul, 1) := dk_105 (dk_at dksX0_tellsPuller_7 18 rfl rfl)
theorem dX0_tellsPuller_182 : decode cX0_tellsPuller 182 = .ok (.aload_n 0, 1) := dk_42 (dk_at dksX0_tellsPuller_7 19 rfl rfl)
theorem dX0_tellsPuller_183 : decode cX0_tellsPuller 183 = .ok (.getfield 44, 3) := dk_180 0 44 (dk_at dksX0_tellsPuller_7 20 rfl rfl)
theorem dX0_tellsPuller_186 : decode cX0_tellsPuller 186 = .ok (.iload_n 3, 1) := dk_29 (dk_at dksX0_tellsPuller_7 23 rfl rfl)
theorem dX0_tellsPuller_187 : decode cX0_tellsPuller 187 = .ok (.iaload, 1) := dk_46 (dk_at dksX0_tellsPuller_8 0 rfl rfl)
theorem dX0_tellsPuller_188 : decode cX0_tellsPuller 188 = .ok (.i2l, 1) := dk_133 (dk_at dksX0_tellsPuller_8 1 rfl rfl)
theorem dX0_tellsPuller_189 : decode cX0_tellsPuller 189 = .ok (.ladd, 1) := dk_97 (dk_at dksX0_tellsPuller_8 2 rfl rfl)
theorem dX0_tellsPuller_190 : decode cX0_tellsPuller 190 = .ok (.lstore 4, 2) := dk_55 4 (dk_at dksX0_tellsPuller_8 3 rfl rfl)
theorem dX0_tellsPuller_192 : decode cX0_tellsPuller 192 = .ok (.iconst 0, 1) := dk_3 (dk_at dksX0_tellsPuller_8 5 rfl rfl)
theorem dX0_tellsPuller_193 : decode cX0_tellsPuller 193 = .ok (.istore 6, 2) := dk_54 6 (dk_at dksX0_tellsPuller_8 6 rfl rfl)
theorem dX0_tellsPuller_195 : decode cX0_tellsPuller 195 = .ok (.iload 6, 2) := dk_21 6 (dk_at dksX0_tellsPuller_8 8 rfl rfl)
theorem dX0_tellsPuller_197 : decode cX0_tellsPuller 197 = .ok (.iconst 2, 1) := dk_5 (dk_at dksX0_tellsPuller_8 10 rfl rfl)
theorem dX0_tellsPuller_198 : decode cX0_tellsPuller 198 = .ok (.if_icmp .ge 26, 3) := dk_162 0 26 (dk_at dksX0_tellsPuller_8 11 rfl rfl)
theorem dX0_tellsPuller_201 : decode cX0_tellsPuller 201 = .ok (.ldc2_w 423, 3) := dk_20 1 167 (dk_at dksX0_tellsPuller_8 14 rfl rfl)
theorem dX0_tellsPuller_204 : decode cX0_tellsPuller 204 = .ok (.lload 4, 2) := dk_22 4 (dk_at dksX0_tellsPuller_8 17 rfl rfl)
theorem dX0_tellsPuller_206 : decode cX0_tellsPuller 206 = .ok (.lmul, 1) := dk_105 (dk_at dksX0_tellsPuller_8 19 rfl rfl)
theorem dX0_tellsPuller_207 : decode cX0_tellsPuller 207 = .ok (.aload_n 0, 1) := dk_42 (dk_at dksX0_tellsPuller_8 20 rfl rfl)
theorem dX0_tellsPuller_208 : decode cX0_tellsPuller 208 = .ok (.iload_n 3, 1) := dk_29 (dk_at dksX0_tellsPuller_8 21 rfl rfl)
theorem dX0_tellsPuller_209 : decode cX0_tellsPuller 209 = .ok (.iload 6, 2) := dk_21 6 (dk_at dksX0_tellsPuller_8 22 rfl rfl)
theorem dX0_tellsPuller_211 : decode cX0_tellsPuller 211 = .ok (.invokevirtual 360, 3) := dk_182 1 104 (dk_at dksX0_tellsPuller_9 0 rfl rfl)
theorem dX0_tellsPuller_214 : decode cX0_tellsPuller 214 = .ok (.i2l, 1) := dk_133 (dk_at dksX0_tellsPuller_9 3 rfl rfl)
theorem dX0_tellsPuller_215 : decode cX0_tellsPuller 215 = .ok (.ladd, 1) := dk_97 (dk_at dksX0_tellsPuller_9 4 rfl rfl)
theorem dX0_tellsPuller_216 : decode cX0_tellsPuller 216 = .ok (.lstore 4, 2) := dk_55 4 (dk_at dksX0_tellsPuller_9 5 rfl rfl)
theorem dX0_tellsPuller_218 : decode cX0_tellsPuller 218 = .ok (.iinc 6 1, 3) := dk_132 6 1 (dk_at dksX0_tellsPuller_9 7 rfl rfl)
theorem dX0_tellsPuller_221 : decode cX0_tellsPuller 221 = .ok (.goto (-26), 3) := dk_167 255 230 (dk_at dksX0_tellsPuller_9 10 rfl rfl)
theorem dX0_tellsPuller_224 : decode cX0_tellsPuller 224 = .ok (.ldc2_w 423, 3) := dk_20 1 167 (dk_at dksX0_tellsPuller_9 13 rfl rfl)
theorem dX0_tellsPuller_227 : decode cX0_tellsPuller 227 = .ok (.lload 4, 2) := dk_22 4 (dk_at dksX0_tellsPuller_9 16 rfl rfl)
theorem dX0_tellsPuller_229 : decode cX0_tellsPuller 229 = .ok (.lmul, 1) := dk_105 (dk_at dksX0_tellsPuller_9 18 rfl rfl)
theorem dX0_tellsPuller_230 : decode cX0_tellsPuller 230 = .ok (.aload_n 0, 1) := dk_42 (dk_at dksX0_tellsPuller_9 19 rfl rfl)
theorem dX0_tellsPuller_231 : decode cX0_tellsPuller 231 = .ok (.iload_n 3, 1) := dk_29 (dk_at dksX0_tellsPuller_9 20 rfl rfl)
theorem dX0_tellsPuller_232 : decode cX0_tellsPuller 232 = .ok (.invokevirtual 366, 3) := dk_182 1 110 (dk_at dksX0_tellsPuller_9 21 rfl rfl)
theorem dX0_tellsPuller_235 : decode cX0_tellsPuller 235 = .ok (.i2l, 1) := dk_133 (dk_at dksX0_tellsPuller_10 0 rfl rfl)
theorem dX0_tellsPuller_236 : decode cX0_tellsPuller 236 = .ok (.ladd, 1) := dk_97 (dk_at dksX0_tellsPuller_10 1 rfl rfl)
theorem dX0_tellsPuller_237 : decode cX0_tellsPuller 237 = .ok (.lreturn, 1) := dk_173 (dk_at dksX0_tellsPuller_10 2 rfl rfl)
abbrev cX0_tellsTeam : ByteArray := prog_1_method_87_code
def yX0_tellsTeam : MethodName := ⟨RX0, "tellsTeam", "(JI)J"⟩
def dkwX0_tellsTeam_5 : List UInt8 := [8, 29, 21, 6, 182, 1, 123, 97, 55, 4, 132, 6, 1, 167, 255, 230, 22, 4, 173]
abbrev dktX0_tellsTeam_5 : List UInt8 := dkwX0_tellsTeam_5 ++ []
def dkwX0_tellsTeam_4 : List UInt8 := [55, 4, 132, 6, 1, 167, 255, 230, 3, 54, 6, 21, 6, 5, 162, 0, 26, 20, 1, 167, 22, 4, 105, 42]
abbrev dktX0_tellsTeam_4 : List UInt8 := dkwX0_tellsTeam_4 ++ dktX0_tellsTeam_5
def dkwX0_tellsTeam_3 : List UInt8 := [54, 6, 21, 6, 5, 162, 0, 26, 20, 1, 167, 22, 4, 105, 42, 29, 21, 6, 182, 1, 71, 133, 97]
abbrev dktX0_tellsTeam_3 : List UInt8 := dkwX0_tellsTeam_3 ++ dktX0_tellsTeam_4
def dkwX0_tellsTeam_2 : List UInt8 := [20, 1, 167, 22, 4, 105, 42, 29, 21, 6, 182, 1, 68, 133, 97, 55, 4, 132, 6, 1, 167, 255, 230, 3]
abbrev dktX0_tellsTeam_2 : List UInt8 := dkwX0_tellsTeam_2 ++ dktX0_tellsTeam_3
def dkwX0_tellsTeam_1 : List UInt8 := [182, 1, 65, 133, 97, 55, 4, 132, 6, 1, 167, 255, 229, 3, 54, 6, 21, 6, 6, 162, 0, 26]
abbrev dktX0_tellsTeam_1 : List UInt8 := dkwX0_tellsTeam_1 ++ dktX0_tellsTeam_2
def dkwX0_tellsTeam_0 : List UInt8 := [31, 55, 4, 3, 54, 6, 21, 6, 5, 162, 0, 27, 20, 1, 167, 22, 4, 105, 42, 29, 7, 21, 6]
abbrev dktX0_tellsTeam_0 : List UInt8 := dkwX0_tellsTeam_0 ++ dktX0_tellsTeam_1
theorem dksX0_tellsTeam_0 : cX0_tellsTeam.data.toList.drop 0 = dktX0_tellsTeam_0 := by decide +kernel
theorem dksX0_tellsTeam_1 : cX0_tellsTeam.data.toList.drop 23 = dktX0_tellsTeam_1 := dk_seg dksX0_tellsTeam_0 23 rfl rfl
theorem dksX0_tellsTeam_2 : cX0_tellsTeam.data.toList.drop 45 = dktX0_tellsTeam_2 := dk_seg dksX0_tellsTeam_1 22 rfl rfl
theorem dksX0_tellsTeam_3 : cX0_tellsTeam.data.toList.drop 69 = dktX0_tellsTeam_3 := dk_seg dksX0_tellsTeam_2 24 rfl rfl
theorem dksX0_tellsTeam_4 : cX0_tellsTeam.data.toList.drop 92 = dktX0_tellsTeam_4 := dk_seg dksX0_tellsTeam_3 23 rfl rfl
theorem dksX0_tellsTeam_5 : cX0_tellsTeam.data.toList.drop 116 = dktX0_tellsTeam_5 := dk_seg dksX0_tellsTeam_4 24 rfl rfl
theorem dX0_tellsTeam_0 : decode cX0_tellsTeam 0 = .ok (.lload_n 1, 1) := dk_31 (dk_at dksX0_tellsTeam_0 0 rfl rfl)
theorem dX0_tellsTeam_1 : decode cX0_tellsTeam 1 = .ok (.lstore 4, 2) := dk_55 4 (dk_at dksX0_tellsTeam_0 1 rfl rfl)
theorem dX0_tellsTeam_3 : decode cX0_tellsTeam 3 = .ok (.iconst 0, 1) := dk_3 (dk_at dksX0_tellsTeam_0 3 rfl rfl)
theorem dX0_tellsTeam_4 : decode cX0_tellsTeam 4 = .ok (.istore 6, 2) := dk_54 6 (dk_at dksX0_tellsTeam_0 4 rfl rfl)
theorem dX0_tellsTeam_6 : decode cX0_tellsTeam 6 = .ok (.iload 6, 2) := dk_21 6 (dk_at dksX0_tellsTeam_0 6 rfl rfl)
theorem dX0_tellsTeam_8 : decode cX0_tellsTeam 8 = .ok (.iconst 2, 1) := dk_5 (dk_at dksX0_tellsTeam_0 8 rfl rfl)
theorem dX0_tellsTeam_9 : decode cX0_tellsTeam 9 = .ok (.if_icmp .ge 27, 3) := dk_162 0 27 (dk_at dksX0_tellsTeam_0 9 rfl rfl)
theorem dX0_tellsTeam_12 : decode cX0_tellsTeam 12 = .ok (.ldc2_w 423, 3) := dk_20 1 167 (dk_at dksX0_tellsTeam_0 12 rfl rfl)
theorem dX0_tellsTeam_15 : decode cX0_tellsTeam 15 = .ok (.lload 4, 2) := dk_22 4 (dk_at dksX0_tellsTeam_0 15 rfl rfl)
theorem dX0_tellsTeam_17 : decode cX0_tellsTeam 17 = .ok (.lmul, 1) := dk_105 (dk_at dksX0_tellsTeam_0 17 rfl rfl)
theorem dX0_tellsTeam_18 : decode cX0_tellsTeam 18 = .ok (.aload_n 0, 1) := dk_42 (dk_at dksX0_tellsTeam_0 18 rfl rfl)
theorem dX0_tellsTeam_19 : decode cX0_tellsTeam 19 = .ok (.iload_n 3, 1) := dk_29 (dk_at dksX0_tellsTeam_0 19 rfl rfl)
theorem dX0_tellsTeam_20 : decode cX0_tellsTeam 20 = .ok (.iconst 4, 1) := dk_7 (dk_at dksX0_tellsTeam_0 20 rfl rfl)
theorem dX0_tellsTeam_21 : decode cX0_tellsTeam 21 = .ok (.iload 6, 2) := dk_21 6 (dk_at dksX0_tellsTeam_0 21 rfl rfl)
theorem dX0_tellsTeam_23 : decode cX0_tellsTeam 23 = .ok (.invokevirtual 321, 3) := dk_182 1 65 (dk_at dksX0_tellsTeam_1 0 rfl rfl)
theorem dX0_tellsTeam_26 : decode cX0_tellsTeam 26 = .ok (.i2l, 1) := dk_133 (dk_at dksX0_tellsTeam_1 3 rfl rfl)
theorem dX0_tellsTeam_27 : decode cX0_tellsTeam 27 = .ok (.ladd, 1) := dk_97 (dk_at dksX0_tellsTeam_1 4 rfl rfl)
theorem dX0_tellsTeam_28 : decode cX0_tellsTeam 28 = .ok (.lstore 4, 2) := dk_55 4 (dk_at dksX0_tellsTeam_1 5 rfl rfl)
theorem dX0_tellsTeam_30 : decode cX0_tellsTeam 30 = .ok (.iinc 6 1, 3) := dk_132 6 1 (dk_at dksX0_tellsTeam_1 7 rfl rfl)
theorem dX0_tellsTeam_33 : decode cX0_tellsTeam 33 = .ok (.goto (-27), 3) := dk_167 255 229 (dk_at dksX0_tellsTeam_1 10 rfl rfl)
theorem dX0_tellsTeam_36 : decode cX0_tellsTeam 36 = .ok (.iconst 0, 1) := dk_3 (dk_at dksX0_tellsTeam_1 13 rfl rfl)
theorem dX0_tellsTeam_37 : decode cX0_tellsTeam 37 = .ok (.istore 6, 2) := dk_54 6 (dk_at dksX0_tellsTeam_1 14 rfl rfl)
theorem dX0_tellsTeam_39 : decode cX0_tellsTeam 39 = .ok (.iload 6, 2) := dk_21 6 (dk_at dksX0_tellsTeam_1 16 rfl rfl)
theorem dX0_tellsTeam_41 : decode cX0_tellsTeam 41 = .ok (.iconst 3, 1) := dk_6 (dk_at dksX0_tellsTeam_1 18 rfl rfl)
theorem dX0_tellsTeam_42 : decode cX0_tellsTeam 42 = .ok (.if_icmp .ge 26, 3) := dk_162 0 26 (dk_at dksX0_tellsTeam_1 19 rfl rfl)
theorem dX0_tellsTeam_45 : decode cX0_tellsTeam 45 = .ok (.ldc2_w 423, 3) := dk_20 1 167 (dk_at dksX0_tellsTeam_2 0 rfl rfl)
theorem dX0_tellsTeam_48 : decode cX0_tellsTeam 48 = .ok (.lload 4, 2) := dk_22 4 (dk_at dksX0_tellsTeam_2 3 rfl rfl)
theorem dX0_tellsTeam_50 : decode cX0_tellsTeam 50 = .ok (.lmul, 1) := dk_105 (dk_at dksX0_tellsTeam_2 5 rfl rfl)
theorem dX0_tellsTeam_51 : decode cX0_tellsTeam 51 = .ok (.aload_n 0, 1) := dk_42 (dk_at dksX0_tellsTeam_2 6 rfl rfl)
theorem dX0_tellsTeam_52 : decode cX0_tellsTeam 52 = .ok (.iload_n 3, 1) := dk_29 (dk_at dksX0_tellsTeam_2 7 rfl rfl)
theorem dX0_tellsTeam_53 : decode cX0_tellsTeam 53 = .ok (.iload 6, 2) := dk_21 6 (dk_at dksX0_tellsTeam_2 8 rfl rfl)
theorem dX0_tellsTeam_55 : decode cX0_tellsTeam 55 = .ok (.invokevirtual 324, 3) := dk_182 1 68 (dk_at dksX0_tellsTeam_2 10 rfl rfl)
theorem dX0_tellsTeam_58 : decode cX0_tellsTeam 58 = .ok (.i2l, 1) := dk_133 (dk_at dksX0_tellsTeam_2 13 rfl rfl)
theorem dX0_tellsTeam_59 : decode cX0_tellsTeam 59 = .ok (.ladd, 1) := dk_97 (dk_at dksX0_tellsTeam_2 14 rfl rfl)
theorem dX0_tellsTeam_60 : decode cX0_tellsTeam 60 = .ok (.lstore 4, 2) := dk_55 4 (dk_at dksX0_tellsTeam_2 15 rfl rfl)
theorem dX0_tellsTeam_62 : decode cX0_tellsTeam 62 = .ok (.iinc 6 1, 3) := dk_132 6 1 (dk_at dksX0_tellsTeam_2 17 rfl rfl)
theorem dX0_tellsTeam_65 : decode cX0_tellsTeam 65 = .ok (.goto (-26), 3) := dk_167 255 230 (dk_at dksX0_tellsTeam_2 20 rfl rfl)
theorem dX0_tellsTeam_68 : decode cX0_tellsTeam 68 = .ok (.iconst 0, 1) := dk_3 (dk_at dksX0_tellsTeam_2 23 rfl rfl)
theorem dX0_tellsTeam_69 : decode cX0_tellsTeam 69 = .ok (.istore 6, 2) := dk_54 6 (dk_at dksX0_tellsTeam_3 0 rfl rfl)
theorem dX0_tellsTeam_71 : decode cX0_tellsTeam 71 = .ok (.iload 6, 2) := dk_21 6 (dk_at dksX0_tellsTeam_3 2 rfl rfl)
theorem dX0_tellsTeam_73 : decode cX0_tellsTeam 73 = .ok (.iconst 2, 1) := dk_5 (dk_at dksX0_tellsTeam_3 4 rfl rfl)
theorem dX0_tellsTeam_74 : decode cX0_tellsTeam 74 = .ok (.if_icmp .ge 26, 3) := dk_162 0 26 (dk_at dksX0_tellsTeam_3 5 rfl rfl)
theorem dX0_tellsTeam_77 : decode cX0_tellsTeam 77 = .ok (.ldc2_w 423, 3) := dk_20 1 167 (dk_at dksX0_tellsTeam_3 8 rfl rfl)
theorem dX0_tellsTeam_80 : decode cX0_tellsTeam 80 = .ok (.lload 4, 2) := dk_22 4 (dk_at dksX0_tellsTeam_3 11 rfl rfl)
theorem dX0_tellsTeam_82 : decode cX0_tellsTeam 82 = .ok (.lmul, 1) := dk_105 (dk_at dksX0_tellsTeam_3 13 rfl rfl)
theorem dX0_tellsTeam_83 : decode cX0_tellsTeam 83 = .ok (.aload_n 0, 1) := dk_42 (dk_at dksX0_tellsTeam_3 14 rfl rfl)
theorem dX0_tellsTeam_84 : decode cX0_tellsTeam 84 = .ok (.iload_n 3, 1) := dk_29 (dk_at dksX0_tellsTeam_3 15 rfl rfl)
theorem dX0_tellsTeam_85 : decode cX0_tellsTeam 85 = .ok (.iload 6, 2) := dk_21 6 (dk_at dksX0_tellsTeam_3 16 rfl rfl)
theorem dX0_tellsTeam_87 : decode cX0_tellsTeam 87 = .ok (.invokevirtual 327, 3) := dk_182 1 71 (dk_at dksX0_tellsTeam_3 18 rfl rfl)
theorem dX0_tellsTeam_90 : decode cX0_tellsTeam 90 = .ok (.i2l, 1) := dk_133 (dk_at dksX0_tellsTeam_3 21 rfl rfl)
theorem dX0_tellsTeam_91 : decode cX0_tellsTeam 91 = .ok (.ladd, 1) := dk_97 (dk_at dksX0_tellsTeam_3 22 rfl rfl)
theorem dX0_tellsTeam_92 : decode cX0_tellsTeam 92 = .ok (.lstore 4, 2) := dk_55 4 (dk_at dksX0_tellsTeam_4 0 rfl rfl)
theorem dX0_tellsTeam_94 : decode cX0_tellsTeam 94 = .ok (.iinc 6 1, 3) := dk_132 6 1 (dk_at dksX0_tellsTeam_4 2 rfl rfl)
theorem dX0_tellsTeam_97 : decode cX0_tellsTeam 97 = .ok (.goto (-26), 3) := dk_167 255 230 (dk_at dksX0_tellsTeam_4 5 rfl rfl)
theorem dX0_tellsTeam_100 : decode cX0_tellsTeam 100 = .ok (.iconst 0, 1) := dk_3 (dk_at dksX0_tellsTeam_4 8 rfl rfl)
theorem dX0_tellsTeam_101 : decode cX0_tellsTeam 101 = .ok (.istore 6, 2) := dk_54 6 (dk_at dksX0_tellsTeam_4 9 rfl rfl)
theorem dX0_tellsTeam_103 : decode cX0_tellsTeam 103 = .ok (.iload 6, 2) := dk_21 6 (dk_at dksX0_tellsTeam_4 11 rfl rfl)
theorem dX0_tellsTeam_105 : decode cX0_tellsTeam 105 = .ok (.iconst 2, 1) := dk_5 (dk_at dksX0_tellsTeam_4 13 rfl rfl)
theorem dX0_tellsTeam_106 : decode cX0_tellsTeam 106 = .ok (.if_icmp .ge 26, 3) := dk_162 0 26 (dk_at dksX0_tellsTeam_4 14 rfl rfl)
theorem dX0_tellsTeam_109 : decode cX0_tellsTeam 109 = .ok (.ldc2_w 423, 3) := dk_20 1 167 (dk_at dksX0_tellsTeam_4 17 rfl rfl)
theorem dX0_tellsTeam_112 : decode cX0_tellsTeam 112 = .ok (.lload 4, 2) := dk_22 4 (dk_at dksX0_tellsTeam_4 20 rfl rfl)
theorem dX0_tellsTeam_114 : decode cX0_tellsTeam 114 = .ok (.lmul, 1) := dk_105 (dk_at dksX0_tellsTeam_4 22 rfl rfl)
theorem dX0_tellsTeam_115 : decode cX0_tellsTeam 115 = .ok (.aload_n 0, 1) := dk_42 (dk_at dksX0_tellsTeam_4 23 rfl rfl)
theorem dX0_tellsTeam_116 : decode cX0_tellsTeam 116 = .ok (.iconst 5, 1) := dk_8 (dk_at dksX0_tellsTeam_5 0 rfl rfl)
theorem dX0_tellsTeam_117 : decode cX0_tellsTeam 117 = .ok (.iload_n 3, 1) := dk_29 (dk_at dksX0_tellsTeam_5 1 rfl rfl)
theorem dX0_tellsTeam_118 : decode cX0_tellsTeam 118 = .ok (.iload 6, 2) := dk_21 6 (dk_at dksX0_tellsTeam_5 2 rfl rfl)
theorem dX0_tellsTeam_120 : decode cX0_tellsTeam 120 = .ok (.invokevirtual 379, 3) := dk_182 1 123 (dk_at dksX0_tellsTeam_5 4 rfl rfl)
theorem dX0_tellsTeam_123 : decode cX0_tellsTeam 123 = .ok (.ladd, 1) := dk_97 (dk_at dksX0_tellsTeam_5 7 rfl rfl)
theorem dX0_tellsTeam_124 : decode cX0_tellsTeam 124 = .ok (.lstore 4, 2) := dk_55 4 (dk_at dksX0_tellsTeam_5 8 rfl rfl)
theorem dX0_tellsTeam_126 : decode cX0_tellsTeam 126 = .ok (.iinc 6 1, 3) := dk_132 6 1 (dk_at dksX0_tellsTeam_5 10 rfl rfl)
theorem dX0_tellsTeam_129 : decode cX0_tellsTeam 129 = .ok (.goto (-26), 3) := dk_167 255 230 (dk_at dksX0_tellsTeam_5 13 rfl rfl)
theorem dX0_tellsTeam_132 : decode cX0_tellsTeam 132 = .ok (.lload 4, 2) := dk_22 4 (dk_at dksX0_tellsTeam_5 16 rfl rfl)
theorem dX0_tellsTeam_134 : decode cX0_tellsTeam 134 = .ok (.lreturn, 1) := dk_173 (dk_at dksX0_tellsTeam_5 18 rfl rfl)
theorem q94 : (Jvm.Cond.initialized "TugOfWar") ∈ lw_all := lw_g (lw_at lw_m1 1 rfl) rfl
theorem q123 : (Jvm.Cond.instantiable "TugOfWar" (25 : Nat)) ∈ lw_all := lw_g (lw_at lw_m1 30 rfl) rfl
theorem q125 : (Jvm.Cond.instanceMethod ({ cls := "TugOfWar", name := "<init>", desc := "()V" } : Jvm.MethodName)) ∈ lw_all := lw_g (lw_at lw_m1 32 rfl) rfl
theorem q126 : (Jvm.Cond.code ({ cls := "TugOfWar", name := "<init>", desc := "()V" } : Jvm.MethodName) prog_1_method_1_code (1 : Nat) (Option.none : Option Jvm.ClassFile.FieldType)) ∈ lw_all := lw_g (lw_at lw_m1 33 rfl) rfl
theorem q127 : (Jvm.Cond.methodLink "TugOfWar" (5 : Nat) ({ cls := "java/lang/Object", name := "<init>", desc := "()V" } : Jvm.MethodName)) ∈ lw_all := lw_g (lw_at lw_m1 34 rfl) rfl
theorem q130 : (Jvm.Cond.classLink "TugOfWar" (11 : Nat) "TugOfWar$Team") ∈ lw_all := lw_g (lw_at lw_m1 37 rfl) rfl
theorem q133 : (Jvm.Cond.methodLink "TugOfWar" (13 : Nat) ({ cls := "TugOfWar$Team", name := "<init>", desc := "()V" } : Jvm.MethodName)) ∈ lw_all := lw_g (lw_at lw_m1 40 rfl) rfl
theorem q168 : (Jvm.Cond.fieldLink "TugOfWar" (123 : Nat) "TugOfWar$Team" "all" "Ljava/util/ArrayList;") ∈ lw_all := lw_g (lw_at lw_m1 75 rfl) rfl
theorem q187 : (Jvm.Cond.classLink "TugOfWar" (20 : Nat) "TugOfWar$Captain") ∈ lw_all := lw_g (lw_at lw_m1 94 rfl) rfl
theorem q190 : (Jvm.Cond.methodLink "TugOfWar" (22 : Nat) ({ cls := "TugOfWar$Captain", name := "<init>", desc := "()V" } : Jvm.MethodName)) ∈ lw_all := lw_g (lw_at lw_m1 97 rfl) rfl
theorem q195 : (Jvm.Cond.fieldLink "TugOfWar" (145 : Nat) "TugOfWar$Captain" "all" "[I") ∈ lw_all := lw_g (lw_at lw_m1 102 rfl) rfl
theorem q208 : (Jvm.Cond.classLink "TugOfWar" (27 : Nat) "TugOfWar$Text") ∈ lw_all := lw_g (lw_at lw_m1 115 rfl) rfl
theorem q210 : (Jvm.Cond.classLink "TugOfWar" (33 : Nat) "java/util/ArrayList") ∈ lw_all := lw_g (lw_at lw_m1 117 rfl) rfl
theorem q211 : (Jvm.Cond.methodLink "TugOfWar" (35 : Nat) ({ cls := "java/util/ArrayList", name := "<init>", desc := "()V" } : Jvm.MethodName)) ∈ lw_all := lw_g (lw_at lw_m1 118 rfl) rfl
theorem q212 : (Jvm.Cond.classLink "TugOfWar" (47 : Nat) "[[I") ∈ lw_all := lw_g (lw_at lw_m1 119 rfl) rfl
theorem q214 : (Jvm.Cond.classLink "TugOfWar" (77 : Nat) "TugOfWar$Sheet") ∈ lw_all := lw_g (lw_at lw_m1 121 rfl) rfl
theorem q217 : (Jvm.Cond.methodLinkNest "TugOfWar" (79 : Nat) ({ cls := "TugOfWar$Sheet", name := "<init>", desc := "()V" } : Jvm.MethodName) "TugOfWar") ∈ lw_tbl := lw_at lw_m1 124 rfl
theorem q222 : (Jvm.Cond.fieldLinkNest "TugOfWar" (179 : Nat) "TugOfWar$Sheet" "row" "Ljava/lang/Object;" "TugOfWar") ∈ lw_tbl := lw_at lw_m1 129 rfl
theorem q226 : (Jvm.Cond.fieldLink "TugOfWar" (86 : Nat) "TugOfWar" "latest" "I") ∈ lw_all := lw_g (lw_at lw_m1 133 rfl) rfl
theorem q227 : (Jvm.Cond.fieldLink "TugOfWar" (14 : Nat) "TugOfWar" "teams" "[LTugOfWar$Team;") ∈ lw_all := lw_g (lw_at lw_m1 134 rfl) rfl
theorem q228 : (Jvm.Cond.fieldLink "TugOfWar" (23 : Nat) "TugOfWar" "calls" "[LTugOfWar$Captain;") ∈ lw_all := lw_g (lw_at lw_m1 135 rfl) rfl
theorem q229 : (Jvm.Cond.fieldLink "TugOfWar" (29 : Nat) "TugOfWar" "texts" "[LTugOfWar$Text;") ∈ lw_all := lw_g (lw_at lw_m1 136 rfl) rfl
theorem q230 : (Jvm.Cond.fieldLink "TugOfWar" (159 : Nat) "TugOfWar" "mud" "I") ∈ lw_all := lw_g (lw_at lw_m1 137 rfl) rfl
theorem q231 : (Jvm.Cond.fieldLink "TugOfWar" (36 : Nat) "TugOfWar" "events" "Ljava/util/ArrayList;") ∈ lw_all := lw_g (lw_at lw_m1 138 rfl) rfl
theorem q232 : (Jvm.Cond.fieldLink "TugOfWar" (251 : Nat) "TugOfWar" "rope" "I") ∈ lw_all := lw_g (lw_at lw_m1 139 rfl) rfl
theorem q233 : (Jvm.Cond.fieldLink "TugOfWar" (237 : Nat) "TugOfWar" "wet" "I") ∈ lw_all := lw_g (lw_at lw_m1 140 rfl) rfl
theorem q234 : (Jvm.Cond.fieldLink "TugOfWar" (266 : Nat) "TugOfWar" "wonBeat" "I") ∈ lw_all := lw_g (lw_at lw_m1 141 rfl) rfl
theorem q235 : (Jvm.Cond.fieldLink "TugOfWar" (260 : Nat) "TugOfWar" "levels" "I") ∈ lw_all := lw_g (lw_at lw_m1 142 rfl) rfl
theorem q236 : (Jvm.Cond.fieldLink "TugOfWar" (40 : Nat) "TugOfWar" "breath" "[I") ∈ lw_all := lw_g (lw_at lw_m1 143 rfl) rfl
theorem q237 : (Jvm.Cond.fieldLink "TugOfWar" (44 : Nat) "TugOfWar" "done" "[I") ∈ lw_all := lw_g (lw_at lw_m1 144 rfl) rfl
theorem q238 : (Jvm.Cond.fieldLink "TugOfWar" (49 : Nat) "TugOfWar" "ropeBy" "[[I") ∈ lw_all := lw_g (lw_at lw_m1 145 rfl) rfl
theorem q239 : (Jvm.Cond.fieldLink "TugOfWar" (52 : Nat) "TugOfWar" "forceBy" "[[I") ∈ lw_all := lw_g (lw_at lw_m1 146 rfl) rfl
theorem q240 : (Jvm.Cond.fieldLink "TugOfWar" (55 : Nat) "TugOfWar" "breathBy" "[[I") ∈ lw_all := lw_g (lw_at lw_m1 147 rfl) rfl
theorem q241 : (Jvm.Cond.fieldLink "TugOfWar" (58 : Nat) "TugOfWar" "ends" "[I") ∈ lw_all := lw_g (lw_at lw_m1 148 rfl) rfl
theorem q242 : (Jvm.Cond.fieldLink "TugOfWar" (244 : Nat) "TugOfWar" "gone" "I") ∈ lw_all := lw_g (lw_at lw_m1 149 rfl) rfl
theorem q243 : (Jvm.Cond.fieldLink "TugOfWar" (61 : Nat) "TugOfWar" "out" "I") ∈ lw_all := lw_g (lw_at lw_m1 150 rfl) rfl
theorem q244 : (Jvm.Cond.fieldLink "TugOfWar" (65 : Nat) "TugOfWar" "swapA" "I") ∈ lw_all := lw_g (lw_at lw_m1 151 rfl) rfl
theorem q245 : (Jvm.Cond.fieldLink "TugOfWar" (196 : Nat) "TugOfWar" "swapB" "I") ∈ lw_all := lw_g (lw_at lw_m1 152 rfl) rfl
theorem q246 : (Jvm.Cond.fieldLink "TugOfWar" (68 : Nat) "TugOfWar" "seen" "Ljava/util/ArrayList;") ∈ lw_all := lw_g (lw_at lw_m1 153 rfl) rfl
theorem q247 : (Jvm.Cond.fieldLink "TugOfWar" (71 : Nat) "TugOfWar" "ropes" "[[I") ∈ lw_all := lw_g (lw_at lw_m1 154 rfl) rfl
theorem q248 : (Jvm.Cond.fieldLink "TugOfWar" (388 : Nat) "TugOfWar" "drawn" "I") ∈ lw_all := lw_g (lw_at lw_m1 155 rfl) rfl
theorem q249 : (Jvm.Cond.fieldLink "TugOfWar" (74 : Nat) "TugOfWar" "told" "[I") ∈ lw_all := lw_g (lw_at lw_m1 156 rfl) rfl
theorem q250 : (Jvm.Cond.fieldLink "TugOfWar" (80 : Nat) "TugOfWar" "sheets" "[LTugOfWar$Sheet;") ∈ lw_all := lw_g (lw_at lw_m1 157 rfl) rfl
theorem q251 : (Jvm.Cond.lays "TugOfWar" "TugOfWar" "latest" "I") ∈ lw_all := lw_g (lw_at lw_m1 158 rfl) rfl
theorem q252 : (Jvm.Cond.soleField "TugOfWar" "latest") ∈ lw_all := lw_g (lw_at lw_m1 159 rfl) rfl
theorem q253 : (Jvm.Cond.laysFinal "TugOfWar" "TugOfWar" "teams" "[LTugOfWar$Team;") ∈ lw_all := lw_g (lw_at lw_m1 160 rfl) rfl
theorem q254 : (Jvm.Cond.soleField "TugOfWar" "teams") ∈ lw_all := lw_g (lw_at lw_m1 161 rfl) rfl
theorem q255 : (Jvm.Cond.laysFinal "TugOfWar" "TugOfWar" "calls" "[LTugOfWar$Captain;") ∈ lw_all := lw_g (lw_at lw_m1 162 rfl) rfl
theorem q256 : (Jvm.Cond.soleField "TugOfWar" "calls") ∈ lw_all := lw_g (lw_at lw_m1 163 rfl) rfl
theorem q257 : (Jvm.Cond.laysFinal "TugOfWar" "TugOfWar" "texts" "[LTugOfWar$Text;") ∈ lw_all := lw_g (lw_at lw_m1 164 rfl) rfl
theorem q258 : (Jvm.Cond.soleField "TugOfWar" "texts") ∈ lw_all := lw_g (lw_at lw_m1 165 rfl) rfl
theorem q259 : (Jvm.Cond.lays "TugOfWar" "TugOfWar" "mud" "I") ∈ lw_all := lw_g (lw_at lw_m1 166 rfl) rfl
theorem q260 : (Jvm.Cond.soleField "TugOfWar" "mud") ∈ lw_all := lw_g (lw_at lw_m1 167 rfl) rfl
theorem q261 : (Jvm.Cond.laysFinal "TugOfWar" "TugOfWar" "events" "Ljava/util/ArrayList;") ∈ lw_all := lw_g (lw_at lw_m1 168 rfl) rfl
theorem q262 : (Jvm.Cond.soleField "TugOfWar" "events") ∈ lw_all := lw_g (lw_at lw_m1 169 rfl) rfl
theorem q263 : (Jvm.Cond.lays "TugOfWar" "TugOfWar" "rope" "I") ∈ lw_all := lw_g (lw_at lw_m1 170 rfl) rfl
theorem q264 : (Jvm.Cond.soleField "TugOfWar" "rope") ∈ lw_all := lw_g (lw_at lw_m1 171 rfl) rfl
theorem q265 : (Jvm.Cond.lays "TugOfWar" "TugOfWar" "wet" "I") ∈ lw_all := lw_g (lw_at lw_m1 172 rfl) rfl
theorem q266 : (Jvm.Cond.soleField "TugOfWar" "wet") ∈ lw_all := lw_g (lw_at lw_m1 173 rfl) rfl
theorem q267 : (Jvm.Cond.lays "TugOfWar" "TugOfWar" "wonBeat" "I") ∈ lw_all := lw_g (lw_at lw_m1 174 rfl) rfl
theorem q268 : (Jvm.Cond.soleField "TugOfWar" "wonBeat") ∈ lw_all := lw_g (lw_at lw_m1 175 rfl) rfl
theorem q269 : (Jvm.Cond.lays "TugOfWar" "TugOfWar" "levels" "I") ∈ lw_all := lw_g (lw_at lw_m1 176 rfl) rfl
theorem q270 : (Jvm.Cond.soleField "TugOfWar" "levels") ∈ lw_all := lw_g (lw_at lw_m1 177 rfl) rfl
theorem q271 : (Jvm.Cond.laysFinal "TugOfWar" "TugOfWar" "breath" "[I") ∈ lw_all := lw_g (lw_at lw_m1 178 rfl) rfl
theorem q272 : (Jvm.Cond.soleField "TugOfWar" "breath") ∈ lw_all := lw_g (lw_at lw_m1 179 rfl) rfl
theorem q273 : (Jvm.Cond.laysFinal "TugOfWar" "TugOfWar" "done" "[I") ∈ lw_all := lw_g (lw_at lw_m1 180 rfl) rfl
theorem q274 : (Jvm.Cond.soleField "TugOfWar" "done") ∈ lw_all := lw_g (lw_at lw_m1 181 rfl) rfl
theorem q275 : (Jvm.Cond.laysFinal "TugOfWar" "TugOfWar" "ropeBy" "[[I") ∈ lw_all := lw_g (lw_at lw_m1 182 rfl) rfl
theorem q276 : (Jvm.Cond.soleField "TugOfWar" "ropeBy") ∈ lw_all := lw_g (lw_at lw_m1 183 rfl) rfl
theorem q277 : (Jvm.Cond.laysFinal "TugOfWar" "TugOfWar" "forceBy" "[[I") ∈ lw_all := lw_g (lw_at lw_m1 184 rfl) rfl
theorem q278 : (Jvm.Cond.soleField "TugOfWar" "forceBy") ∈ lw_all := lw_g (lw_at lw_m1 185 rfl) rfl
theorem q279 : (Jvm.Cond.laysFinal "TugOfWar" "TugOfWar" "breathBy" "[[I") ∈ lw_all := lw_g (lw_at lw_m1 186 rfl) rfl
theorem q280 : (Jvm.Cond.soleField "TugOfWar" "breathBy") ∈ lw_all := lw_g (lw_at lw_m1 187 rfl) rfl
theorem q281 : (Jvm.Cond.laysFinal "TugOfWar" "TugOfWar" "ends" "[I") ∈ lw_all := lw_g (lw_at lw_m1 188 rfl) rfl
theorem q282 : (Jvm.Cond.soleField "TugOfWar" "ends") ∈ lw_all := lw_g (lw_at lw_m1 189 rfl) rfl
theorem q283 : (Jvm.Cond.lays "TugOfWar" "TugOfWar" "gone" "I") ∈ lw_all := lw_g (lw_at lw_m1 190 rfl) rfl
theorem q284 : (Jvm.Cond.soleField "TugOfWar" "gone") ∈ lw_all := lw_g (lw_at lw_m1 191 rfl) rfl
theorem q285 : (Jvm.Cond.lays "TugOfWar" "TugOfWar" "out" "I") ∈ lw_all := lw_g (lw_at lw_m1 192 rfl) rfl
theorem q286 : (Jvm.Cond.soleField "TugOfWar" "out") ∈ lw_all := lw_g (lw_at lw_m1 193 rfl) rfl
theorem q287 : (Jvm.Cond.lays "TugOfWar" "TugOfWar" "swapA" "I") ∈ lw_all := lw_g (lw_at lw_m1 194 rfl) rfl
theorem q288 : (Jvm.Cond.soleField "TugOfWar" "swapA") ∈ lw_all := lw_g (lw_at lw_m1 195 rfl) rfl
theorem q289 : (Jvm.Cond.lays "TugOfWar" "TugOfWar" "swapB" "I") ∈ lw_all := lw_g (lw_at lw_m1 196 rfl) rfl
theorem q290 : (Jvm.Cond.soleField "TugOfWar" "swapB") ∈ lw_all := lw_g (lw_at lw_m1 197 rfl) rfl
theorem q291 : (Jvm.Cond.laysFinal "TugOfWar" "TugOfWar" "seen" "Ljava/util/ArrayList;") ∈ lw_all := lw_g (lw_at lw_m1 198 rfl) rfl
theorem q292 : (Jvm.Cond.soleField "TugOfWar" "seen") ∈ lw_all := lw_g (lw_at lw_m1 199 rfl) rfl
theorem q293 : (Jvm.Cond.laysFinal "TugOfWar" "TugOfWar" "ropes" "[[I") ∈ lw_all := lw_g (lw_at lw_m1 200 rfl) rfl
theorem q294 : (Jvm.Cond.soleField "TugOfWar" "ropes") ∈ lw_all := lw_g (lw_at lw_m1 201 rfl) rfl
theorem q295 : (Jvm.Cond.lays "TugOfWar" "TugOfWar" "drawn" "I") ∈ lw_all := lw_g (lw_at lw_m1 202 rfl) rfl
theorem q296 : (Jvm.Cond.soleField "TugOfWar" "drawn") ∈ lw_all := lw_g (lw_at lw_m1 203 rfl) rfl
theorem q297 : (Jvm.Cond.laysFinal "TugOfWar" "TugOfWar" "told" "[I") ∈ lw_all := lw_g (lw_at lw_m1 204 rfl) rfl
theorem q298 : (Jvm.Cond.soleField "TugOfWar" "told") ∈ lw_all := lw_g (lw_at lw_m1 205 rfl) rfl
theorem q299 : (Jvm.Cond.laysFinal "TugOfWar" "TugOfWar" "sheets" "[LTugOfWar$Sheet;") ∈ lw_all := lw_g (lw_at lw_m1 206 rfl) rfl
theorem q300 : (Jvm.Cond.soleField "TugOfWar" "sheets") ∈ lw_all := lw_g (lw_at lw_m1 207 rfl) rfl
theorem q301 : (Jvm.Cond.superclass "TugOfWar" "java/lang/Object") ∈ lw_all := lw_g (lw_at lw_m1 208 rfl) rfl
theorem q303 : (Jvm.Cond.instanceMethod ({ cls := "TugOfWar", name := "type", desc := "(II)I" } : Jvm.MethodName)) ∈ lw_all := lw_g (lw_at lw_m1 210 rfl) rfl
theorem q304 : (Jvm.Cond.selects "TugOfWar" ({ cls := "TugOfWar", name := "type", desc := "(II)I" } : Jvm.MethodName) ({ cls := "TugOfWar", name := "type", desc := "(II)I" } : Jvm.MethodName)) ∈ lw_all := lw_g (lw_at lw_m1 211 rfl) rfl
theorem q305 : (Jvm.Cond.code ({ cls := "TugOfWar", name := "type", desc := "(II)I" } : Jvm.MethodName) prog_1_method_10_code (3 : Nat) (Option.some Jvm.ClassFile.FieldType.int)) ∈ lw_all := lw_g (lw_at lw_m1 212 rfl) rfl
theorem q306 : (Jvm.Cond.methodLink "TugOfWar" (98 : Nat) ({ cls := "TugOfWar", name := "isText", desc := "(I)Z" } : Jvm.MethodName)) ∈ lw_all := lw_g (lw_at lw_m1 213 rfl) rfl
theorem q307 : (Jvm.Cond.static ({ cls := "TugOfWar", name := "isText", desc := "(I)Z" } : Jvm.MethodName)) ∈ lw_all := lw_g (lw_at lw_m1 214 rfl) rfl
theorem q308 : (Jvm.Cond.code ({ cls := "TugOfWar", name := "isText", desc := "(I)Z" } : Jvm.MethodName) prog_1_method_9_code (1 : Nat) (Option.some Jvm.ClassFile.FieldType.boolean)) ∈ lw_all := lw_g (lw_at lw_m1 215 rfl) rfl
theorem q309 : (Jvm.Cond.constantLong "TugOfWar" (96 : Nat) (3 : Int64)) ∈ lw_all := lw_g (lw_at lw_m1 216 rfl) rfl
theorem q310 : (Jvm.Cond.methodLink "TugOfWar" (90 : Nat) ({ cls := "TugOfWar", name := "in", desc := "(JJJ)Z" } : Jvm.MethodName)) ∈ lw_all := lw_g (lw_at lw_m1 217 rfl) rfl
theorem q311 : (Jvm.Cond.static ({ cls := "TugOfWar", name := "in", desc := "(JJJ)Z" } : Jvm.MethodName)) ∈ lw_all := lw_g (lw_at lw_m1 218 rfl) rfl
theorem q312 : (Jvm.Cond.code ({ cls := "TugOfWar", name := "in", desc := "(JJJ)Z" } : Jvm.MethodName) prog_1_method_2_code (6 : Nat) (Option.some Jvm.ClassFile.FieldType.boolean)) ∈ lw_all := lw_g (lw_at lw_m1 219 rfl) rfl
theorem q313 : (Jvm.Cond.constantLong "TugOfWar" (102 : Nat) (255 : Int64)) ∈ lw_all := lw_g (lw_at lw_m1 220 rfl) rfl
theorem q314 : (Jvm.Cond.methodLink "TugOfWar" (104 : Nat) ({ cls := "TugOfWar$Text", name := "type", desc := "(I)I" } : Jvm.MethodName)) ∈ lw_all := lw_g (lw_at lw_m1 221 rfl) rfl
theorem q321 : (Jvm.Cond.instanceMethod ({ cls := "TugOfWar", name := "wipe", desc := "(I)I" } : Jvm.MethodName)) ∈ lw_all := lw_g (lw_at lw_m1 228 rfl) rfl
theorem q322 : (Jvm.Cond.selects "TugOfWar" ({ cls := "TugOfWar", name := "wipe", desc := "(I)I" } : Jvm.MethodName) ({ cls := "TugOfWar", name := "wipe", desc := "(I)I" } : Jvm.MethodName)) ∈ lw_all := lw_g (lw_at lw_m1 229 rfl) rfl
theorem q323 : (Jvm.Cond.code ({ cls := "TugOfWar", name := "wipe", desc := "(I)I" } : Jvm.MethodName) prog_1_method_11_code (2 : Nat) (Option.some Jvm.ClassFile.FieldType.int)) ∈ lw_all := lw_g (lw_at lw_m1 230 rfl) rfl
theorem q324 : (Jvm.Cond.methodLink "TugOfWar" (108 : Nat) ({ cls := "TugOfWar$Text", name := "wipe", desc := "()I" } : Jvm.MethodName)) ∈ lw_all := lw_g (lw_at lw_m1 231 rfl) rfl
theorem q331 : (Jvm.Cond.instanceMethod ({ cls := "TugOfWar", name := "undo", desc := "(I)I" } : Jvm.MethodName)) ∈ lw_all := lw_g (lw_at lw_m1 238 rfl) rfl
theorem q332 : (Jvm.Cond.selects "TugOfWar" ({ cls := "TugOfWar", name := "undo", desc := "(I)I" } : Jvm.MethodName) ({ cls := "TugOfWar", name := "undo", desc := "(I)I" } : Jvm.MethodName)) ∈ lw_all := lw_g (lw_at lw_m1 239 rfl) rfl
theorem q333 : (Jvm.Cond.code ({ cls := "TugOfWar", name := "undo", desc := "(I)I" } : Jvm.MethodName) prog_1_method_12_code (2 : Nat) (Option.some Jvm.ClassFile.FieldType.int)) ∈ lw_all := lw_g (lw_at lw_m2 0 rfl) rfl
theorem q334 : (Jvm.Cond.methodLink "TugOfWar" (112 : Nat) ({ cls := "TugOfWar$Text", name := "undo", desc := "()I" } : Jvm.MethodName)) ∈ lw_all := lw_g (lw_at lw_m2 1 rfl) rfl
theorem q341 : (Jvm.Cond.instanceMethod ({ cls := "TugOfWar", name := "fault", desc := "(I)I" } : Jvm.MethodName)) ∈ lw_all := lw_g (lw_at lw_m2 8 rfl) rfl
theorem q342 : (Jvm.Cond.selects "TugOfWar" ({ cls := "TugOfWar", name := "fault", desc := "(I)I" } : Jvm.MethodName) ({ cls := "TugOfWar", name := "fault", desc := "(I)I" } : Jvm.MethodName)) ∈ lw_all := lw_g (lw_at lw_m2 9 rfl) rfl
theorem q343 : (Jvm.Cond.code ({ cls := "TugOfWar", name := "fault", desc := "(I)I" } : Jvm.MethodName) prog_1_method_13_code (2 : Nat) (Option.some Jvm.ClassFile.FieldType.int)) ∈ lw_all := lw_g (lw_at lw_m2 10 rfl) rfl
theorem q344 : (Jvm.Cond.methodLink "TugOfWar" (115 : Nat) ({ cls := "TugOfWar$Text", name := "read", desc := "()I" } : Jvm.MethodName)) ∈ lw_all := lw_g (lw_at lw_m2 11 rfl) rfl
theorem q556 : (Jvm.Cond.laysStatic "TugOfWar" "SORT" "[LTugOfWar$Sort;") ∈ lw_tbl := lw_at lw_m2 223 rfl
theorem q569 : (Jvm.Cond.fieldLinkNest "TugOfWar" (199 : Nat) "TugOfWar$Puller" "sort" "LTugOfWar$Sort;" "TugOfWar") ∈ lw_tbl := lw_at lw_m2 236 rfl
theorem q571 : (Jvm.Cond.fieldLinkNest "TugOfWar" (208 : Nat) "TugOfWar$Puller" "weight" "I" "TugOfWar") ∈ lw_tbl := lw_at lw_m2 238 rfl
theorem q573 : (Jvm.Cond.fieldLinkNest "TugOfWar" (214 : Nat) "TugOfWar$Puller" "wind" "I" "TugOfWar") ∈ lw_tbl := lw_at lw_m3 0 rfl
theorem q611 : (Jvm.Cond.selects "TugOfWar" ({ cls := "java/lang/Object", name := "getClass", desc := "()Ljava/lang/Class;" } : Jvm.MethodName) ({ cls := "java/lang/Object", name := "getClass", desc := "()Ljava/lang/Class;" } : Jvm.MethodName)) ∈ lw_all := lw_g (lw_at lw_m3 38 rfl) rfl
theorem q648 : (Jvm.Cond.instanceMethod ({ cls := "TugOfWar", name := "puller", desc := "(II)I" } : Jvm.MethodName)) ∈ lw_all := lw_g (lw_at lw_m3 75 rfl) rfl
theorem q649 : (Jvm.Cond.selects "TugOfWar" ({ cls := "TugOfWar", name := "puller", desc := "(II)I" } : Jvm.MethodName) ({ cls := "TugOfWar", name := "puller", desc := "(II)I" } : Jvm.MethodName)) ∈ lw_all := lw_g (lw_at lw_m3 76 rfl) rfl
theorem q650 : (Jvm.Cond.code ({ cls := "TugOfWar", name := "puller", desc := "(II)I" } : Jvm.MethodName) prog_1_method_16_code (3 : Nat) (Option.some Jvm.ClassFile.FieldType.int)) ∈ lw_all := lw_g (lw_at lw_m3 77 rfl) rfl
theorem q651 : (Jvm.Cond.methodLink "TugOfWar" (132 : Nat) ({ cls := "TugOfWar", name := "isPuller", desc := "(I)Z" } : Jvm.MethodName)) ∈ lw_all := lw_g (lw_at lw_m3 78 rfl) rfl
theorem q652 : (Jvm.Cond.privateMethod ({ cls := "TugOfWar", name := "isPuller", desc := "(I)Z" } : Jvm.MethodName)) ∈ lw_tbl := lw_at lw_m3 79 rfl
theorem q653 : (Jvm.Cond.instanceMethod ({ cls := "TugOfWar", name := "isPuller", desc := "(I)Z" } : Jvm.MethodName)) ∈ lw_all := lw_g (lw_at lw_m3 80 rfl) rfl
theorem q654 : (Jvm.Cond.code ({ cls := "TugOfWar", name := "isPuller", desc := "(I)Z" } : Jvm.MethodName) prog_1_method_14_code (2 : Nat) (Option.some Jvm.ClassFile.FieldType.boolean)) ∈ lw_all := lw_g (lw_at lw_m3 81 rfl) rfl
theorem q655 : (Jvm.Cond.constantLong "TugOfWar" (118 : Nat) (15 : Int64)) ∈ lw_all := lw_g (lw_at lw_m3 82 rfl) rfl
theorem q656 : (Jvm.Cond.methodLink "TugOfWar" (120 : Nat) ({ cls := "TugOfWar$Team", name := "many", desc := "()I" } : Jvm.MethodName)) ∈ lw_all := lw_g (lw_at lw_m3 83 rfl) rfl
theorem q664 : (Jvm.Cond.constantLong "TugOfWar" (135 : Nat) (2 : Int64)) ∈ lw_all := lw_g (lw_at lw_m3 91 rfl) rfl
theorem q665 : (Jvm.Cond.methodLink "TugOfWar" (137 : Nat) ({ cls := "TugOfWar", name := "pullerBy", desc := "(I)LTugOfWar$Puller;" } : Jvm.MethodName)) ∈ lw_all := lw_g (lw_at lw_m3 92 rfl) rfl
theorem q666 : (Jvm.Cond.privateMethod ({ cls := "TugOfWar", name := "pullerBy", desc := "(I)LTugOfWar$Puller;" } : Jvm.MethodName)) ∈ lw_tbl := lw_at lw_m3 93 rfl
theorem q667 : (Jvm.Cond.instanceMethod ({ cls := "TugOfWar", name := "pullerBy", desc := "(I)LTugOfWar$Puller;" } : Jvm.MethodName)) ∈ lw_all := lw_g (lw_at lw_m3 94 rfl) rfl
theorem q668 : (Jvm.Cond.code ({ cls := "TugOfWar", name := "pullerBy", desc := "(I)LTugOfWar$Puller;" } : Jvm.MethodName) prog_1_method_15_code (2 : Nat) (Option.some (Jvm.ClassFile.FieldType.object "TugOfWar$Puller"))) ∈ lw_all := lw_g (lw_at lw_m3 95 rfl) rfl
theorem q669 : (Jvm.Cond.methodLink "TugOfWar" (126 : Nat) ({ cls := "java/util/ArrayList", name := "get", desc := "(I)Ljava/lang/Object;" } : Jvm.MethodName)) ∈ lw_all := lw_g (lw_at lw_m3 96 rfl) rfl
theorem q683 : (Jvm.Cond.classLink "TugOfWar" (130 : Nat) "TugOfWar$Puller") ∈ lw_all := lw_g (lw_at lw_m3 110 rfl) rfl
theorem q684 : (Jvm.Cond.methodLink "TugOfWar" (141 : Nat) ({ cls := "TugOfWar$Puller", name := "by", desc := "(I)I" } : Jvm.MethodName)) ∈ lw_all := lw_g (lw_at lw_m3 111 rfl) rfl
theorem q704 : (Jvm.Cond.instanceMethod ({ cls := "TugOfWar", name := "call", desc := "(II)I" } : Jvm.MethodName)) ∈ lw_all := lw_g (lw_at lw_m3 131 rfl) rfl
theorem q705 : (Jvm.Cond.selects "TugOfWar" ({ cls := "TugOfWar", name := "call", desc := "(II)I" } : Jvm.MethodName) ({ cls := "TugOfWar", name := "call", desc := "(II)I" } : Jvm.MethodName)) ∈ lw_all := lw_g (lw_at lw_m3 132 rfl) rfl
theorem q706 : (Jvm.Cond.code ({ cls := "TugOfWar", name := "call", desc := "(II)I" } : Jvm.MethodName) prog_1_method_18_code (3 : Nat) (Option.some Jvm.ClassFile.FieldType.int)) ∈ lw_all := lw_g (lw_at lw_m3 133 rfl) rfl
theorem q707 : (Jvm.Cond.methodLink "TugOfWar" (147 : Nat) ({ cls := "TugOfWar", name := "isTwo", desc := "(I)Z" } : Jvm.MethodName)) ∈ lw_all := lw_g (lw_at lw_m3 134 rfl) rfl
theorem q708 : (Jvm.Cond.static ({ cls := "TugOfWar", name := "isTwo", desc := "(I)Z" } : Jvm.MethodName)) ∈ lw_all := lw_g (lw_at lw_m3 135 rfl) rfl
theorem q709 : (Jvm.Cond.code ({ cls := "TugOfWar", name := "isTwo", desc := "(I)Z" } : Jvm.MethodName) prog_1_method_6_code (1 : Nat) (Option.some Jvm.ClassFile.FieldType.boolean)) ∈ lw_all := lw_g (lw_at lw_m3 136 rfl) rfl
theorem q710 : (Jvm.Cond.methodLink "TugOfWar" (150 : Nat) ({ cls := "TugOfWar", name := "isBeat", desc := "(I)Z" } : Jvm.MethodName)) ∈ lw_all := lw_g (lw_at lw_m3 137 rfl) rfl
theorem q711 : (Jvm.Cond.static ({ cls := "TugOfWar", name := "isBeat", desc := "(I)Z" } : Jvm.MethodName)) ∈ lw_all := lw_g (lw_at lw_m3 138 rfl) rfl
theorem q712 : (Jvm.Cond.code ({ cls := "TugOfWar", name := "isBeat", desc := "(I)Z" } : Jvm.MethodName) prog_1_method_8_code (1 : Nat) (Option.some Jvm.ClassFile.FieldType.boolean)) ∈ lw_all := lw_g (lw_at lw_m3 139 rfl) rfl
theorem q713 : (Jvm.Cond.constantLong "TugOfWar" (94 : Nat) (23 : Int64)) ∈ lw_all := lw_g (lw_at lw_m3 140 rfl) rfl
theorem q714 : (Jvm.Cond.methodLink "TugOfWar" (153 : Nat) ({ cls := "TugOfWar", name := "callBy", desc := "(II)I" } : Jvm.MethodName)) ∈ lw_all := lw_g (lw_at lw_m3 141 rfl) rfl
theorem q715 : (Jvm.Cond.privateMethod ({ cls := "TugOfWar", name := "callBy", desc := "(II)I" } : Jvm.MethodName)) ∈ lw_tbl := lw_at lw_m3 142 rfl
theorem q716 : (Jvm.Cond.instanceMethod ({ cls := "TugOfWar", name := "callBy", desc := "(II)I" } : Jvm.MethodName)) ∈ lw_all := lw_g (lw_at lw_m3 143 rfl) rfl
theorem q717 : (Jvm.Cond.code ({ cls := "TugOfWar", name := "callBy", desc := "(II)I" } : Jvm.MethodName) prog_1_method_17_code (3 : Nat) (Option.some Jvm.ClassFile.FieldType.int)) ∈ lw_all := lw_g (lw_at lw_m3 144 rfl) rfl
theorem q718 : (Jvm.Cond.methodLink "TugOfWar" (144 : Nat) ({ cls := "TugOfWar$Captain", name := "read", desc := "()I" } : Jvm.MethodName)) ∈ lw_all := lw_g (lw_at lw_m3 145 rfl) rfl
theorem q722 : (Jvm.Cond.instanceMethod ({ cls := "TugOfWar", name := "mud", desc := "(I)I" } : Jvm.MethodName)) ∈ lw_all := lw_g (lw_at lw_m3 149 rfl) rfl
theorem q723 : (Jvm.Cond.selects "TugOfWar" ({ cls := "TugOfWar", name := "mud", desc := "(I)I" } : Jvm.MethodName) ({ cls := "TugOfWar", name := "mud", desc := "(I)I" } : Jvm.MethodName)) ∈ lw_all := lw_g (lw_at lw_m3 150 rfl) rfl
theorem q724 : (Jvm.Cond.code ({ cls := "TugOfWar", name := "mud", desc := "(I)I" } : Jvm.MethodName) prog_1_method_19_code (3 : Nat) (Option.some Jvm.ClassFile.FieldType.int)) ∈ lw_all := lw_g (lw_at lw_m3 151 rfl) rfl
theorem q725 : (Jvm.Cond.constantLong "TugOfWar" (157 : Nat) (9 : Int64)) ∈ lw_all := lw_g (lw_at lw_m3 152 rfl) rfl
theorem q727 : (Jvm.Cond.instanceMethod ({ cls := "TugOfWar", name := "event", desc := "(III)I" } : Jvm.MethodName)) ∈ lw_all := lw_g (lw_at lw_m3 154 rfl) rfl
theorem q728 : (Jvm.Cond.selects "TugOfWar" ({ cls := "TugOfWar", name := "event", desc := "(III)I" } : Jvm.MethodName) ({ cls := "TugOfWar", name := "event", desc := "(III)I" } : Jvm.MethodName)) ∈ lw_all := lw_g (lw_at lw_m3 155 rfl) rfl
theorem q729 : (Jvm.Cond.code ({ cls := "TugOfWar", name := "event", desc := "(III)I" } : Jvm.MethodName) prog_1_method_20_code (4 : Nat) (Option.some Jvm.ClassFile.FieldType.int)) ∈ lw_all := lw_g (lw_at lw_m3 156 rfl) rfl
theorem q730 : (Jvm.Cond.methodLink "TugOfWar" (162 : Nat) ({ cls := "java/util/ArrayList", name := "size", desc := "()I" } : Jvm.MethodName)) ∈ lw_all := lw_g (lw_at lw_m3 157 rfl) rfl
theorem q731 : (Jvm.Cond.methodLink "TugOfWar" (165 : Nat) ({ cls := "java/util/ArrayList", name := "add", desc := "(Ljava/lang/Object;)Z" } : Jvm.MethodName)) ∈ lw_all := lw_g (lw_at lw_m3 158 rfl) rfl
theorem q733 : (Jvm.Cond.instanceMethod ({ cls := "TugOfWar", name := "back", desc := "()I" } : Jvm.MethodName)) ∈ lw_all := lw_g (lw_at lw_m3 160 rfl) rfl
theorem q734 : (Jvm.Cond.selects "TugOfWar" ({ cls := "TugOfWar", name := "back", desc := "()I" } : Jvm.MethodName) ({ cls := "TugOfWar", name := "back", desc := "()I" } : Jvm.MethodName)) ∈ lw_all := lw_g (lw_at lw_m3 161 rfl) rfl
theorem q735 : (Jvm.Cond.code ({ cls := "TugOfWar", name := "back", desc := "()I" } : Jvm.MethodName) prog_1_method_21_code (1 : Nat) (Option.some Jvm.ClassFile.FieldType.int)) ∈ lw_all := lw_g (lw_at lw_m3 162 rfl) rfl
theorem q736 : (Jvm.Cond.methodLink "TugOfWar" (169 : Nat) ({ cls := "java/util/ArrayList", name := "isEmpty", desc := "()Z" } : Jvm.MethodName)) ∈ lw_all := lw_g (lw_at lw_m3 163 rfl) rfl
theorem q740 : (Jvm.Cond.methodLink "TugOfWar" (173 : Nat) ({ cls := "java/util/ArrayList", name := "remove", desc := "(I)Ljava/lang/Object;" } : Jvm.MethodName)) ∈ lw_all := lw_g (lw_at lw_m3 167 rfl) rfl
theorem q750 : (Jvm.Cond.instanceMethod ({ cls := "TugOfWar", name := "read", desc := "(I)I" } : Jvm.MethodName)) ∈ lw_all := lw_g (lw_at lw_m3 177 rfl) rfl
theorem q751 : (Jvm.Cond.selects "TugOfWar" ({ cls := "TugOfWar", name := "read", desc := "(I)I" } : Jvm.MethodName) ({ cls := "TugOfWar", name := "read", desc := "(I)I" } : Jvm.MethodName)) ∈ lw_all := lw_g (lw_at lw_m3 178 rfl) rfl
theorem q752 : (Jvm.Cond.code ({ cls := "TugOfWar", name := "read", desc := "(I)I" } : Jvm.MethodName) prog_1_method_22_code (4 : Nat) (Option.some Jvm.ClassFile.FieldType.int)) ∈ lw_all := lw_g (lw_at lw_m3 179 rfl) rfl
theorem q753 : (Jvm.Cond.methodLink "TugOfWar" (176 : Nat) ({ cls := "TugOfWar", name := "isSheet", desc := "(I)Z" } : Jvm.MethodName)) ∈ lw_all := lw_g (lw_at lw_m3 180 rfl) rfl
theorem q754 : (Jvm.Cond.static ({ cls := "TugOfWar", name := "isSheet", desc := "(I)Z" } : Jvm.MethodName)) ∈ lw_all := lw_g (lw_at lw_m3 181 rfl) rfl
theorem q755 : (Jvm.Cond.code ({ cls := "TugOfWar", name := "isSheet", desc := "(I)Z" } : Jvm.MethodName) prog_1_method_76_code (1 : Nat) (Option.some Jvm.ClassFile.FieldType.boolean)) ∈ lw_all := lw_g (lw_at lw_m3 182 rfl) rfl
theorem q756 : (Jvm.Cond.methodLink "TugOfWar" (183 : Nat) ({ cls := "TugOfWar", name := "met", desc := "(I)I" } : Jvm.MethodName)) ∈ lw_all := lw_g (lw_at lw_m3 183 rfl) rfl
theorem q757 : (Jvm.Cond.privateMethod ({ cls := "TugOfWar", name := "met", desc := "(I)I" } : Jvm.MethodName)) ∈ lw_tbl := lw_at lw_m3 184 rfl
theorem q758 : (Jvm.Cond.instanceMethod ({ cls := "TugOfWar", name := "met", desc := "(I)I" } : Jvm.MethodName)) ∈ lw_all := lw_g (lw_at lw_m3 185 rfl) rfl
theorem q759 : (Jvm.Cond.code ({ cls := "TugOfWar", name := "met", desc := "(I)I" } : Jvm.MethodName) prog_1_method_4_code (2 : Nat) (Option.some Jvm.ClassFile.FieldType.int)) ∈ lw_all := lw_g (lw_at lw_m3 186 rfl) rfl
theorem q760 : (Jvm.Cond.methodLink "TugOfWar" (186 : Nat) ({ cls := "TugOfWar$Sheet", name := "size", desc := "()I" } : Jvm.MethodName)) ∈ lw_all := lw_g (lw_at lw_m3 187 rfl) rfl
theorem q771 : (Jvm.Cond.methodLink "TugOfWar" (187 : Nat) ({ cls := "TugOfWar$Sheet", name := "type", desc := "()I" } : Jvm.MethodName)) ∈ lw_all := lw_g (lw_at lw_m3 198 rfl) rfl
theorem q772 : (Jvm.Cond.methodLink "TugOfWar" (189 : Nat) ({ cls := "TugOfWar$Sheet", name := "item", desc := "(II)I" } : Jvm.MethodName)) ∈ lw_all := lw_g (lw_at lw_m3 199 rfl) rfl
theorem q776 : (Jvm.Cond.methodLink "TugOfWar" (192 : Nat) ({ cls := "TugOfWar", name := "event", desc := "(III)I" } : Jvm.MethodName)) ∈ lw_all := lw_g (lw_at lw_m3 203 rfl) rfl
theorem q778 : (Jvm.Cond.instanceMethod ({ cls := "TugOfWar", name := "rope", desc := "(II)I" } : Jvm.MethodName)) ∈ lw_all := lw_g (lw_at lw_m3 205 rfl) rfl
theorem q779 : (Jvm.Cond.selects "TugOfWar" ({ cls := "TugOfWar", name := "rope", desc := "(II)I" } : Jvm.MethodName) ({ cls := "TugOfWar", name := "rope", desc := "(II)I" } : Jvm.MethodName)) ∈ lw_all := lw_g (lw_at lw_m3 206 rfl) rfl
theorem q780 : (Jvm.Cond.code ({ cls := "TugOfWar", name := "rope", desc := "(II)I" } : Jvm.MethodName) prog_1_method_33_code (3 : Nat) (Option.some Jvm.ClassFile.FieldType.int)) ∈ lw_all := lw_g (lw_at lw_m3 207 rfl) rfl
theorem q781 : (Jvm.Cond.methodLink "TugOfWar" (294 : Nat) ({ cls := "TugOfWar", name := "find", desc := "()V" } : Jvm.MethodName)) ∈ lw_all := lw_g (lw_at lw_m3 208 rfl) rfl
theorem q782 : (Jvm.Cond.privateMethod ({ cls := "TugOfWar", name := "find", desc := "()V" } : Jvm.MethodName)) ∈ lw_tbl := lw_at lw_m3 209 rfl
theorem q783 : (Jvm.Cond.instanceMethod ({ cls := "TugOfWar", name := "find", desc := "()V" } : Jvm.MethodName)) ∈ lw_all := lw_g (lw_at lw_m3 210 rfl) rfl
theorem q784 : (Jvm.Cond.code ({ cls := "TugOfWar", name := "find", desc := "()V" } : Jvm.MethodName) prog_1_method_32_code (3 : Nat) (Option.none : Option Jvm.ClassFile.FieldType)) ∈ lw_all := lw_g (lw_at lw_m3 211 rfl) rfl
theorem q785 : (Jvm.Cond.methodLink "TugOfWar" (288 : Nat) ({ cls := "TugOfWar", name := "endOf", desc := "(I)I" } : Jvm.MethodName)) ∈ lw_all := lw_g (lw_at lw_m3 212 rfl) rfl
theorem q786 : (Jvm.Cond.privateMethod ({ cls := "TugOfWar", name := "endOf", desc := "(I)I" } : Jvm.MethodName)) ∈ lw_tbl := lw_at lw_m3 213 rfl
theorem q787 : (Jvm.Cond.instanceMethod ({ cls := "TugOfWar", name := "endOf", desc := "(I)I" } : Jvm.MethodName)) ∈ lw_all := lw_g (lw_at lw_m3 214 rfl) rfl
theorem q788 : (Jvm.Cond.code ({ cls := "TugOfWar", name := "endOf", desc := "(I)I" } : Jvm.MethodName) prog_1_method_23_code (4 : Nat) (Option.some Jvm.ClassFile.FieldType.int)) ∈ lw_all := lw_g (lw_at lw_m3 215 rfl) rfl
theorem q789 : (Jvm.Cond.methodLink "TugOfWar" (273 : Nat) ({ cls := "java/util/Arrays", name := "fill", desc := "([II)V" } : Jvm.MethodName)) ∈ lw_all := lw_g (lw_at lw_m3 216 rfl) rfl
theorem q790 : (Jvm.Cond.methodLink "TugOfWar" (291 : Nat) ({ cls := "TugOfWar", name := "passes", desc := "(I)V" } : Jvm.MethodName)) ∈ lw_all := lw_g (lw_at lw_m3 217 rfl) rfl
theorem q791 : (Jvm.Cond.privateMethod ({ cls := "TugOfWar", name := "passes", desc := "(I)V" } : Jvm.MethodName)) ∈ lw_tbl := lw_at lw_m3 218 rfl
theorem q792 : (Jvm.Cond.instanceMethod ({ cls := "TugOfWar", name := "passes", desc := "(I)V" } : Jvm.MethodName)) ∈ lw_all := lw_g (lw_at lw_m3 219 rfl) rfl
theorem q793 : (Jvm.Cond.code ({ cls := "TugOfWar", name := "passes", desc := "(I)V" } : Jvm.MethodName) prog_1_method_31_code (2 : Nat) (Option.none : Option Jvm.ClassFile.FieldType)) ∈ lw_all := lw_g (lw_at lw_m3 220 rfl) rfl
theorem q794 : (Jvm.Cond.methodLink "TugOfWar" (269 : Nat) ({ cls := "TugOfWar", name := "rains", desc := "(I)V" } : Jvm.MethodName)) ∈ lw_all := lw_g (lw_at lw_m3 221 rfl) rfl
theorem q795 : (Jvm.Cond.privateMethod ({ cls := "TugOfWar", name := "rains", desc := "(I)V" } : Jvm.MethodName)) ∈ lw_tbl := lw_at lw_m3 222 rfl
theorem q796 : (Jvm.Cond.instanceMethod ({ cls := "TugOfWar", name := "rains", desc := "(I)V" } : Jvm.MethodName)) ∈ lw_all := lw_g (lw_at lw_m3 223 rfl) rfl
theorem q797 : (Jvm.Cond.code ({ cls := "TugOfWar", name := "rains", desc := "(I)V" } : Jvm.MethodName) prog_1_method_28_code (4 : Nat) (Option.none : Option Jvm.ClassFile.FieldType)) ∈ lw_all := lw_g (lw_at lw_m3 224 rfl) rfl
theorem q798 : (Jvm.Cond.classLink "TugOfWar" (243 : Nat) "[I") ∈ lw_all := lw_g (lw_at lw_m3 225 rfl) rfl
theorem q799 : (Jvm.Cond.methodLink "TugOfWar" (247 : Nat) ({ cls := "TugOfWar", name := "isIn", desc := "(II)Z" } : Jvm.MethodName)) ∈ lw_all := lw_g (lw_at lw_m3 226 rfl) rfl
theorem q800 : (Jvm.Cond.static ({ cls := "TugOfWar", name := "isIn", desc := "(II)Z" } : Jvm.MethodName)) ∈ lw_all := lw_g (lw_at lw_m3 227 rfl) rfl
theorem q801 : (Jvm.Cond.code ({ cls := "TugOfWar", name := "isIn", desc := "(II)Z" } : Jvm.MethodName) prog_1_method_7_code (2 : Nat) (Option.some Jvm.ClassFile.FieldType.boolean)) ∈ lw_all := lw_g (lw_at lw_m3 228 rfl) rfl
theorem q802 : (Jvm.Cond.methodLink "TugOfWar" (217 : Nat) ({ cls := "java/lang/Math", name := "min", desc := "(II)I" } : Jvm.MethodName)) ∈ lw_all := lw_g (lw_at lw_m3 229 rfl) rfl
theorem q803 : (Jvm.Cond.methodLink "TugOfWar" (263 : Nat) ({ cls := "TugOfWar", name := "isWon", desc := "()Z" } : Jvm.MethodName)) ∈ lw_all := lw_g (lw_at lw_m3 230 rfl) rfl
theorem q804 : (Jvm.Cond.privateMethod ({ cls := "TugOfWar", name := "isWon", desc := "()Z" } : Jvm.MethodName)) ∈ lw_tbl := lw_at lw_m3 231 rfl
theorem q805 : (Jvm.Cond.instanceMethod ({ cls := "TugOfWar", name := "isWon", desc := "()Z" } : Jvm.MethodName)) ∈ lw_all := lw_g (lw_at lw_m3 232 rfl) rfl
theorem q806 : (Jvm.Cond.code ({ cls := "TugOfWar", name := "isWon", desc := "()Z" } : Jvm.MethodName) prog_1_method_29_code (1 : Nat) (Option.some Jvm.ClassFile.FieldType.boolean)) ∈ lw_all := lw_g (lw_at lw_m3 233 rfl) rfl
theorem q807 : (Jvm.Cond.methodLink "TugOfWar" (279 : Nat) ({ cls := "TugOfWar", name := "tugs", desc := "(I)V" } : Jvm.MethodName)) ∈ lw_all := lw_g (lw_at lw_m3 234 rfl) rfl
theorem q808 : (Jvm.Cond.privateMethod ({ cls := "TugOfWar", name := "tugs", desc := "(I)V" } : Jvm.MethodName)) ∈ lw_tbl := lw_at lw_m3 235 rfl
theorem q809 : (Jvm.Cond.instanceMethod ({ cls := "TugOfWar", name := "tugs", desc := "(I)V" } : Jvm.MethodName)) ∈ lw_all := lw_g (lw_at lw_m3 236 rfl) rfl
theorem q810 : (Jvm.Cond.code ({ cls := "TugOfWar", name := "tugs", desc := "(I)V" } : Jvm.MethodName) prog_1_method_30_code (7 : Nat) (Option.none : Option Jvm.ClassFile.FieldType)) ∈ lw_all := lw_g (lw_at lw_m3 237 rfl) rfl
theorem q811 : (Jvm.Cond.methodLink "TugOfWar" (225 : Nat) ({ cls := "TugOfWar", name := "isTold", desc := "(III)Z" } : Jvm.MethodName)) ∈ lw_all := lw_g (lw_at lw_m3 238 rfl) rfl
theorem q812 : (Jvm.Cond.privateMethod ({ cls := "TugOfWar", name := "isTold", desc := "(III)Z" } : Jvm.MethodName)) ∈ lw_tbl := lw_at lw_m3 239 rfl
theorem q813 : (Jvm.Cond.instanceMethod ({ cls := "TugOfWar", name := "isTold", desc := "(III)Z" } : Jvm.MethodName)) ∈ lw_all := lw_g (lw_at lw_m4 0 rfl) rfl
theorem q814 : (Jvm.Cond.code ({ cls := "TugOfWar", name := "isTold", desc := "(III)Z" } : Jvm.MethodName) prog_1_method_27_code (6 : Nat) (Option.some Jvm.ClassFile.FieldType.boolean)) ∈ lw_all := lw_g (lw_at lw_m4 1 rfl) rfl
theorem q815 : (Jvm.Cond.methodLink "TugOfWar" (254 : Nat) ({ cls := "TugOfWar", name := "force", desc := "(III)I" } : Jvm.MethodName)) ∈ lw_all := lw_g (lw_at lw_m4 2 rfl) rfl
theorem q816 : (Jvm.Cond.privateMethod ({ cls := "TugOfWar", name := "force", desc := "(III)I" } : Jvm.MethodName)) ∈ lw_tbl := lw_at lw_m4 3 rfl
theorem q817 : (Jvm.Cond.instanceMethod ({ cls := "TugOfWar", name := "force", desc := "(III)I" } : Jvm.MethodName)) ∈ lw_all := lw_g (lw_at lw_m4 4 rfl) rfl
theorem q818 : (Jvm.Cond.code ({ cls := "TugOfWar", name := "force", desc := "(III)I" } : Jvm.MethodName) prog_1_method_26_code (6 : Nat) (Option.some Jvm.ClassFile.FieldType.int)) ∈ lw_all := lw_g (lw_at lw_m4 5 rfl) rfl
theorem q819 : (Jvm.Cond.methodLink "TugOfWar" (229 : Nat) ({ cls := "TugOfWar", name := "rests", desc := "(ILTugOfWar$Puller;)I" } : Jvm.MethodName)) ∈ lw_all := lw_g (lw_at lw_m4 6 rfl) rfl
theorem q820 : (Jvm.Cond.privateMethod ({ cls := "TugOfWar", name := "rests", desc := "(ILTugOfWar$Puller;)I" } : Jvm.MethodName)) ∈ lw_tbl := lw_at lw_m4 7 rfl
theorem q821 : (Jvm.Cond.instanceMethod ({ cls := "TugOfWar", name := "rests", desc := "(ILTugOfWar$Puller;)I" } : Jvm.MethodName)) ∈ lw_all := lw_g (lw_at lw_m4 8 rfl) rfl
theorem q822 : (Jvm.Cond.code ({ cls := "TugOfWar", name := "rests", desc := "(ILTugOfWar$Puller;)I" } : Jvm.MethodName) prog_1_method_24_code (3 : Nat) (Option.some Jvm.ClassFile.FieldType.int)) ∈ lw_all := lw_g (lw_at lw_m4 9 rfl) rfl
theorem q823 : (Jvm.Cond.methodLink "TugOfWar" (203 : Nat) ({ cls := "TugOfWar$Sort", name := "isAnchor", desc := "()Z" } : Jvm.MethodName)) ∈ lw_all := lw_g (lw_at lw_m4 10 rfl) rfl
theorem q832 : (Jvm.Cond.methodLink "TugOfWar" (211 : Nat) ({ cls := "TugOfWar$Sort", name := "gains", desc := "()I" } : Jvm.MethodName)) ∈ lw_all := lw_g (lw_at lw_m4 19 rfl) rfl
theorem q842 : (Jvm.Cond.methodLink "TugOfWar" (233 : Nat) ({ cls := "TugOfWar", name := "pulls", desc := "(ILTugOfWar$Puller;I)I" } : Jvm.MethodName)) ∈ lw_all := lw_g (lw_at lw_m4 29 rfl) rfl
theorem q843 : (Jvm.Cond.privateMethod ({ cls := "TugOfWar", name := "pulls", desc := "(ILTugOfWar$Puller;I)I" } : Jvm.MethodName)) ∈ lw_tbl := lw_at lw_m4 30 rfl
theorem q844 : (Jvm.Cond.instanceMethod ({ cls := "TugOfWar", name := "pulls", desc := "(ILTugOfWar$Puller;I)I" } : Jvm.MethodName)) ∈ lw_all := lw_g (lw_at lw_m4 31 rfl) rfl
theorem q845 : (Jvm.Cond.code ({ cls := "TugOfWar", name := "pulls", desc := "(ILTugOfWar$Puller;I)I" } : Jvm.MethodName) prog_1_method_25_code (6 : Nat) (Option.some Jvm.ClassFile.FieldType.int)) ∈ lw_all := lw_g (lw_at lw_m4 32 rfl) rfl
theorem q846 : (Jvm.Cond.methodLink "TugOfWar" (222 : Nat) ({ cls := "TugOfWar$Sort", name := "heaves", desc := "()I" } : Jvm.MethodName)) ∈ lw_all := lw_g (lw_at lw_m4 33 rfl) rfl
theorem q859 : (Jvm.Cond.methodLink "TugOfWar" (240 : Nat) ({ cls := "TugOfWar$Sort", name := "slides", desc := "(II)I" } : Jvm.MethodName)) ∈ lw_all := lw_g (lw_at lw_m4 46 rfl) rfl
theorem q870 : (Jvm.Cond.methodLink "TugOfWar" (257 : Nat) ({ cls := "java/lang/Math", name := "abs", desc := "(I)I" } : Jvm.MethodName)) ∈ lw_all := lw_g (lw_at lw_m4 57 rfl) rfl
theorem q873 : (Jvm.Cond.methodLink "TugOfWar" (282 : Nat) ({ cls := "java/lang/System", name := "arraycopy", desc := "(Ljava/lang/Object;ILjava/lang/Object;II)V" } : Jvm.MethodName)) ∈ lw_all := lw_g (lw_at lw_m4 60 rfl) rfl
theorem q875 : (Jvm.Cond.instanceMethod ({ cls := "TugOfWar", name := "at", desc := "(III)I" } : Jvm.MethodName)) ∈ lw_all := lw_g (lw_at lw_m4 62 rfl) rfl
theorem q876 : (Jvm.Cond.selects "TugOfWar" ({ cls := "TugOfWar", name := "at", desc := "(III)I" } : Jvm.MethodName) ({ cls := "TugOfWar", name := "at", desc := "(III)I" } : Jvm.MethodName)) ∈ lw_all := lw_g (lw_at lw_m4 63 rfl) rfl
theorem q877 : (Jvm.Cond.code ({ cls := "TugOfWar", name := "at", desc := "(III)I" } : Jvm.MethodName) prog_1_method_35_code (4 : Nat) (Option.some Jvm.ClassFile.FieldType.int)) ∈ lw_all := lw_g (lw_at lw_m4 64 rfl) rfl
theorem q878 : (Jvm.Cond.methodLink "TugOfWar" (297 : Nat) ({ cls := "TugOfWar", name := "atBy", desc := "(III)I" } : Jvm.MethodName)) ∈ lw_all := lw_g (lw_at lw_m4 65 rfl) rfl
theorem q879 : (Jvm.Cond.privateMethod ({ cls := "TugOfWar", name := "atBy", desc := "(III)I" } : Jvm.MethodName)) ∈ lw_tbl := lw_at lw_m4 66 rfl
theorem q880 : (Jvm.Cond.instanceMethod ({ cls := "TugOfWar", name := "atBy", desc := "(III)I" } : Jvm.MethodName)) ∈ lw_all := lw_g (lw_at lw_m4 67 rfl) rfl
theorem q881 : (Jvm.Cond.code ({ cls := "TugOfWar", name := "atBy", desc := "(III)I" } : Jvm.MethodName) prog_1_method_34_code (4 : Nat) (Option.some Jvm.ClassFile.FieldType.int)) ∈ lw_all := lw_g (lw_at lw_m4 68 rfl) rfl
theorem q883 : (Jvm.Cond.instanceMethod ({ cls := "TugOfWar", name := "won", desc := "(I)I" } : Jvm.MethodName)) ∈ lw_all := lw_g (lw_at lw_m4 70 rfl) rfl
theorem q884 : (Jvm.Cond.selects "TugOfWar" ({ cls := "TugOfWar", name := "won", desc := "(I)I" } : Jvm.MethodName) ({ cls := "TugOfWar", name := "won", desc := "(I)I" } : Jvm.MethodName)) ∈ lw_all := lw_g (lw_at lw_m4 71 rfl) rfl
theorem q885 : (Jvm.Cond.code ({ cls := "TugOfWar", name := "won", desc := "(I)I" } : Jvm.MethodName) prog_1_method_37_code (2 : Nat) (Option.some Jvm.ClassFile.FieldType.int)) ∈ lw_all := lw_g (lw_at lw_m4 72 rfl) rfl
theorem q886 : (Jvm.Cond.methodLink "TugOfWar" (300 : Nat) ({ cls := "TugOfWar", name := "winner", desc := "()I" } : Jvm.MethodName)) ∈ lw_all := lw_g (lw_at lw_m4 73 rfl) rfl
theorem q887 : (Jvm.Cond.privateMethod ({ cls := "TugOfWar", name := "winner", desc := "()I" } : Jvm.MethodName)) ∈ lw_tbl := lw_at lw_m4 74 rfl
theorem q888 : (Jvm.Cond.instanceMethod ({ cls := "TugOfWar", name := "winner", desc := "()I" } : Jvm.MethodName)) ∈ lw_all := lw_g (lw_at lw_m4 75 rfl) rfl
theorem q889 : (Jvm.Cond.code ({ cls := "TugOfWar", name := "winner", desc := "()I" } : Jvm.MethodName) prog_1_method_36_code (1 : Nat) (Option.some Jvm.ClassFile.FieldType.int)) ∈ lw_all := lw_g (lw_at lw_m4 76 rfl) rfl
theorem q891 : (Jvm.Cond.instanceMethod ({ cls := "TugOfWar", name := "furthest", desc := "(I)I" } : Jvm.MethodName)) ∈ lw_all := lw_g (lw_at lw_m4 78 rfl) rfl
theorem q892 : (Jvm.Cond.selects "TugOfWar" ({ cls := "TugOfWar", name := "furthest", desc := "(I)I" } : Jvm.MethodName) ({ cls := "TugOfWar", name := "furthest", desc := "(I)I" } : Jvm.MethodName)) ∈ lw_all := lw_g (lw_at lw_m4 79 rfl) rfl
theorem q893 : (Jvm.Cond.code ({ cls := "TugOfWar", name := "furthest", desc := "(I)I" } : Jvm.MethodName) prog_1_method_39_code (2 : Nat) (Option.some Jvm.ClassFile.FieldType.int)) ∈ lw_all := lw_g (lw_at lw_m4 80 rfl) rfl
theorem q894 : (Jvm.Cond.methodLink "TugOfWar" (306 : Nat) ({ cls := "TugOfWar", name := "furthestBy", desc := "(I)I" } : Jvm.MethodName)) ∈ lw_all := lw_g (lw_at lw_m4 81 rfl) rfl
theorem q895 : (Jvm.Cond.privateMethod ({ cls := "TugOfWar", name := "furthestBy", desc := "(I)I" } : Jvm.MethodName)) ∈ lw_tbl := lw_at lw_m4 82 rfl
theorem q896 : (Jvm.Cond.instanceMethod ({ cls := "TugOfWar", name := "furthestBy", desc := "(I)I" } : Jvm.MethodName)) ∈ lw_all := lw_g (lw_at lw_m4 83 rfl) rfl
theorem q897 : (Jvm.Cond.code ({ cls := "TugOfWar", name := "furthestBy", desc := "(I)I" } : Jvm.MethodName) prog_1_method_38_code (4 : Nat) (Option.some Jvm.ClassFile.FieldType.int)) ∈ lw_all := lw_g (lw_at lw_m4 84 rfl) rfl
theorem q898 : (Jvm.Cond.methodLink "TugOfWar" (303 : Nat) ({ cls := "java/lang/Math", name := "max", desc := "(II)I" } : Jvm.MethodName)) ∈ lw_all := lw_g (lw_at lw_m4 85 rfl) rfl
theorem q900 : (Jvm.Cond.instanceMethod ({ cls := "TugOfWar", name := "done", desc := "(I)I" } : Jvm.MethodName)) ∈ lw_all := lw_g (lw_at lw_m4 87 rfl) rfl
theorem q901 : (Jvm.Cond.selects "TugOfWar" ({ cls := "TugOfWar", name := "done", desc := "(I)I" } : Jvm.MethodName) ({ cls := "TugOfWar", name := "done", desc := "(I)I" } : Jvm.MethodName)) ∈ lw_all := lw_g (lw_at lw_m4 88 rfl) rfl
theorem q902 : (Jvm.Cond.code ({ cls := "TugOfWar", name := "done", desc := "(I)I" } : Jvm.MethodName) prog_1_method_40_code (2 : Nat) (Option.some Jvm.ClassFile.FieldType.int)) ∈ lw_all := lw_g (lw_at lw_m4 89 rfl) rfl
theorem q904 : (Jvm.Cond.instanceMethod ({ cls := "TugOfWar", name := "spent", desc := "()I" } : Jvm.MethodName)) ∈ lw_all := lw_g (lw_at lw_m4 91 rfl) rfl
theorem q905 : (Jvm.Cond.selects "TugOfWar" ({ cls := "TugOfWar", name := "spent", desc := "()I" } : Jvm.MethodName) ({ cls := "TugOfWar", name := "spent", desc := "()I" } : Jvm.MethodName)) ∈ lw_all := lw_g (lw_at lw_m4 92 rfl) rfl
theorem q906 : (Jvm.Cond.code ({ cls := "TugOfWar", name := "spent", desc := "()I" } : Jvm.MethodName) prog_1_method_42_code (1 : Nat) (Option.some Jvm.ClassFile.FieldType.int)) ∈ lw_all := lw_g (lw_at lw_m4 93 rfl) rfl
theorem q907 : (Jvm.Cond.methodLink "TugOfWar" (309 : Nat) ({ cls := "TugOfWar", name := "spentNow", desc := "()I" } : Jvm.MethodName)) ∈ lw_all := lw_g (lw_at lw_m4 94 rfl) rfl
theorem q908 : (Jvm.Cond.privateMethod ({ cls := "TugOfWar", name := "spentNow", desc := "()I" } : Jvm.MethodName)) ∈ lw_tbl := lw_at lw_m4 95 rfl
theorem q909 : (Jvm.Cond.instanceMethod ({ cls := "TugOfWar", name := "spentNow", desc := "()I" } : Jvm.MethodName)) ∈ lw_all := lw_g (lw_at lw_m4 96 rfl) rfl
theorem q910 : (Jvm.Cond.code ({ cls := "TugOfWar", name := "spentNow", desc := "()I" } : Jvm.MethodName) prog_1_method_41_code (3 : Nat) (Option.some Jvm.ClassFile.FieldType.int)) ∈ lw_all := lw_g (lw_at lw_m4 97 rfl) rfl
theorem q912 : (Jvm.Cond.instanceMethod ({ cls := "TugOfWar", name := "best", desc := "()I" } : Jvm.MethodName)) ∈ lw_all := lw_g (lw_at lw_m4 99 rfl) rfl
theorem q913 : (Jvm.Cond.selects "TugOfWar" ({ cls := "TugOfWar", name := "best", desc := "()I" } : Jvm.MethodName) ({ cls := "TugOfWar", name := "best", desc := "()I" } : Jvm.MethodName)) ∈ lw_all := lw_g (lw_at lw_m4 100 rfl) rfl
theorem q914 : (Jvm.Cond.code ({ cls := "TugOfWar", name := "best", desc := "()I" } : Jvm.MethodName) prog_1_method_44_code (1 : Nat) (Option.some Jvm.ClassFile.FieldType.int)) ∈ lw_all := lw_g (lw_at lw_m4 101 rfl) rfl
theorem q915 : (Jvm.Cond.methodLink "TugOfWar" (312 : Nat) ({ cls := "TugOfWar", name := "bestNow", desc := "()I" } : Jvm.MethodName)) ∈ lw_all := lw_g (lw_at lw_m4 102 rfl) rfl
theorem q916 : (Jvm.Cond.privateMethod ({ cls := "TugOfWar", name := "bestNow", desc := "()I" } : Jvm.MethodName)) ∈ lw_tbl := lw_at lw_m4 103 rfl
theorem q917 : (Jvm.Cond.instanceMethod ({ cls := "TugOfWar", name := "bestNow", desc := "()I" } : Jvm.MethodName)) ∈ lw_all := lw_g (lw_at lw_m4 104 rfl) rfl
theorem q918 : (Jvm.Cond.code ({ cls := "TugOfWar", name := "bestNow", desc := "()I" } : Jvm.MethodName) prog_1_method_43_code (3 : Nat) (Option.some Jvm.ClassFile.FieldType.int)) ∈ lw_all := lw_g (lw_at lw_m4 105 rfl) rfl
theorem q920 : (Jvm.Cond.instanceMethod ({ cls := "TugOfWar", name := "level", desc := "()I" } : Jvm.MethodName)) ∈ lw_all := lw_g (lw_at lw_m4 107 rfl) rfl
theorem q921 : (Jvm.Cond.selects "TugOfWar" ({ cls := "TugOfWar", name := "level", desc := "()I" } : Jvm.MethodName) ({ cls := "TugOfWar", name := "level", desc := "()I" } : Jvm.MethodName)) ∈ lw_all := lw_g (lw_at lw_m4 108 rfl) rfl
theorem q922 : (Jvm.Cond.code ({ cls := "TugOfWar", name := "level", desc := "()I" } : Jvm.MethodName) prog_1_method_45_code (1 : Nat) (Option.some Jvm.ClassFile.FieldType.int)) ∈ lw_all := lw_g (lw_at lw_m4 109 rfl) rfl
theorem q924 : (Jvm.Cond.instanceMethod ({ cls := "TugOfWar", name := "better", desc := "(III)I" } : Jvm.MethodName)) ∈ lw_all := lw_g (lw_at lw_m4 111 rfl) rfl
theorem q925 : (Jvm.Cond.selects "TugOfWar" ({ cls := "TugOfWar", name := "better", desc := "(III)I" } : Jvm.MethodName) ({ cls := "TugOfWar", name := "better", desc := "(III)I" } : Jvm.MethodName)) ∈ lw_all := lw_g (lw_at lw_m4 112 rfl) rfl
theorem q926 : (Jvm.Cond.code ({ cls := "TugOfWar", name := "better", desc := "(III)I" } : Jvm.MethodName) prog_1_method_49_code (4 : Nat) (Option.some Jvm.ClassFile.FieldType.int)) ∈ lw_all := lw_g (lw_at lw_m4 113 rfl) rfl
theorem q927 : (Jvm.Cond.methodLink "TugOfWar" (321 : Nat) ({ cls := "TugOfWar", name := "betterOf", desc := "(III)I" } : Jvm.MethodName)) ∈ lw_all := lw_g (lw_at lw_m4 114 rfl) rfl
theorem q928 : (Jvm.Cond.privateMethod ({ cls := "TugOfWar", name := "betterOf", desc := "(III)I" } : Jvm.MethodName)) ∈ lw_tbl := lw_at lw_m4 115 rfl
theorem q929 : (Jvm.Cond.instanceMethod ({ cls := "TugOfWar", name := "betterOf", desc := "(III)I" } : Jvm.MethodName)) ∈ lw_all := lw_g (lw_at lw_m4 116 rfl) rfl
theorem q930 : (Jvm.Cond.codeWith ({ cls := "TugOfWar", name := "betterOf", desc := "(III)I" } : Jvm.MethodName) prog_1_method_48_code (9 : Nat) (Option.some Jvm.ClassFile.FieldType.int) [((25 : Nat), (79 : Nat), (88 : Nat), (0 : Nat)), ((88 : Nat), (90 : Nat), (88 : Nat), (0 : Nat))]) ∈ lw_all := lw_g (lw_at lw_m4 117 rfl) rfl
theorem q931 : (Jvm.Cond.methodLink "TugOfWar" (315 : Nat) ({ cls := "TugOfWar", name := "far", desc := "(I)I" } : Jvm.MethodName)) ∈ lw_all := lw_g (lw_at lw_m4 118 rfl) rfl
theorem q932 : (Jvm.Cond.privateMethod ({ cls := "TugOfWar", name := "far", desc := "(I)I" } : Jvm.MethodName)) ∈ lw_tbl := lw_at lw_m4 119 rfl
theorem q933 : (Jvm.Cond.instanceMethod ({ cls := "TugOfWar", name := "far", desc := "(I)I" } : Jvm.MethodName)) ∈ lw_all := lw_g (lw_at lw_m4 120 rfl) rfl
theorem q934 : (Jvm.Cond.code ({ cls := "TugOfWar", name := "far", desc := "(I)I" } : Jvm.MethodName) prog_1_method_46_code (2 : Nat) (Option.some Jvm.ClassFile.FieldType.int)) ∈ lw_all := lw_g (lw_at lw_m4 121 rfl) rfl
theorem q935 : (Jvm.Cond.methodLink "TugOfWar" (318 : Nat) ({ cls := "TugOfWar", name := "place", desc := "(II)I" } : Jvm.MethodName)) ∈ lw_all := lw_g (lw_at lw_m4 122 rfl) rfl
theorem q936 : (Jvm.Cond.static ({ cls := "TugOfWar", name := "place", desc := "(II)I" } : Jvm.MethodName)) ∈ lw_all := lw_g (lw_at lw_m4 123 rfl) rfl
theorem q937 : (Jvm.Cond.code ({ cls := "TugOfWar", name := "place", desc := "(II)I" } : Jvm.MethodName) prog_1_method_47_code (2 : Nat) (Option.some Jvm.ClassFile.FieldType.int)) ∈ lw_all := lw_g (lw_at lw_m4 124 rfl) rfl
theorem q939 : (Jvm.Cond.instanceMethod ({ cls := "TugOfWar", name := "swap", desc := "(II)I" } : Jvm.MethodName)) ∈ lw_all := lw_g (lw_at lw_m4 126 rfl) rfl
theorem q940 : (Jvm.Cond.selects "TugOfWar" ({ cls := "TugOfWar", name := "swap", desc := "(II)I" } : Jvm.MethodName) ({ cls := "TugOfWar", name := "swap", desc := "(II)I" } : Jvm.MethodName)) ∈ lw_all := lw_g (lw_at lw_m4 127 rfl) rfl
theorem q941 : (Jvm.Cond.code ({ cls := "TugOfWar", name := "swap", desc := "(II)I" } : Jvm.MethodName) prog_1_method_51_code (3 : Nat) (Option.some Jvm.ClassFile.FieldType.int)) ∈ lw_all := lw_g (lw_at lw_m4 128 rfl) rfl
theorem q942 : (Jvm.Cond.methodLink "TugOfWar" (324 : Nat) ({ cls := "TugOfWar", name := "swapOf", desc := "(II)I" } : Jvm.MethodName)) ∈ lw_all := lw_g (lw_at lw_m4 129 rfl) rfl
theorem q943 : (Jvm.Cond.privateMethod ({ cls := "TugOfWar", name := "swapOf", desc := "(II)I" } : Jvm.MethodName)) ∈ lw_tbl := lw_at lw_m4 130 rfl
theorem q944 : (Jvm.Cond.instanceMethod ({ cls := "TugOfWar", name := "swapOf", desc := "(II)I" } : Jvm.MethodName)) ∈ lw_all := lw_g (lw_at lw_m4 131 rfl) rfl
theorem q945 : (Jvm.Cond.codeWith ({ cls := "TugOfWar", name := "swapOf", desc := "(II)I" } : Jvm.MethodName) prog_1_method_50_code (8 : Nat) (Option.some Jvm.ClassFile.FieldType.int) [((16 : Nat), (111 : Nat), (119 : Nat), (0 : Nat)), ((119 : Nat), (121 : Nat), (119 : Nat), (0 : Nat))]) ∈ lw_all := lw_g (lw_at lw_m4 132 rfl) rfl
theorem q947 : (Jvm.Cond.instanceMethod ({ cls := "TugOfWar", name := "out", desc := "(II)I" } : Jvm.MethodName)) ∈ lw_all := lw_g (lw_at lw_m4 134 rfl) rfl
theorem q948 : (Jvm.Cond.selects "TugOfWar" ({ cls := "TugOfWar", name := "out", desc := "(II)I" } : Jvm.MethodName) ({ cls := "TugOfWar", name := "out", desc := "(II)I" } : Jvm.MethodName)) ∈ lw_all := lw_g (lw_at lw_m4 135 rfl) rfl
theorem q949 : (Jvm.Cond.code ({ cls := "TugOfWar", name := "out", desc := "(II)I" } : Jvm.MethodName) prog_1_method_53_code (3 : Nat) (Option.some Jvm.ClassFile.FieldType.int)) ∈ lw_all := lw_g (lw_at lw_m4 136 rfl) rfl
theorem q950 : (Jvm.Cond.methodLink "TugOfWar" (327 : Nat) ({ cls := "TugOfWar", name := "outOf", desc := "(II)I" } : Jvm.MethodName)) ∈ lw_all := lw_g (lw_at lw_m4 137 rfl) rfl
theorem q951 : (Jvm.Cond.privateMethod ({ cls := "TugOfWar", name := "outOf", desc := "(II)I" } : Jvm.MethodName)) ∈ lw_tbl := lw_at lw_m4 138 rfl
theorem q952 : (Jvm.Cond.instanceMethod ({ cls := "TugOfWar", name := "outOf", desc := "(II)I" } : Jvm.MethodName)) ∈ lw_all := lw_g (lw_at lw_m4 139 rfl) rfl
theorem q953 : (Jvm.Cond.codeWith ({ cls := "TugOfWar", name := "outOf", desc := "(II)I" } : Jvm.MethodName) prog_1_method_52_code (7 : Nat) (Option.some Jvm.ClassFile.FieldType.int) [((5 : Nat), (68 : Nat), (76 : Nat), (0 : Nat)), ((76 : Nat), (78 : Nat), (76 : Nat), (0 : Nat))]) ∈ lw_all := lw_g (lw_at lw_m4 140 rfl) rfl
theorem q955 : (Jvm.Cond.instanceMethod ({ cls := "TugOfWar", name := "spare", desc := "(I)I" } : Jvm.MethodName)) ∈ lw_all := lw_g (lw_at lw_m4 142 rfl) rfl
theorem q956 : (Jvm.Cond.selects "TugOfWar" ({ cls := "TugOfWar", name := "spare", desc := "(I)I" } : Jvm.MethodName) ({ cls := "TugOfWar", name := "spare", desc := "(I)I" } : Jvm.MethodName)) ∈ lw_all := lw_g (lw_at lw_m4 143 rfl) rfl
theorem q957 : (Jvm.Cond.code ({ cls := "TugOfWar", name := "spare", desc := "(I)I" } : Jvm.MethodName) prog_1_method_56_code (2 : Nat) (Option.some Jvm.ClassFile.FieldType.int)) ∈ lw_all := lw_g (lw_at lw_m4 144 rfl) rfl
theorem q958 : (Jvm.Cond.constantLong "TugOfWar" (333 : Nat) (-1 : Int64)) ∈ lw_all := lw_g (lw_at lw_m4 145 rfl) rfl
theorem q959 : (Jvm.Cond.methodLink "TugOfWar" (335 : Nat) ({ cls := "TugOfWar", name := "spareBy", desc := "(I)I" } : Jvm.MethodName)) ∈ lw_all := lw_g (lw_at lw_m4 146 rfl) rfl
theorem q960 : (Jvm.Cond.privateMethod ({ cls := "TugOfWar", name := "spareBy", desc := "(I)I" } : Jvm.MethodName)) ∈ lw_tbl := lw_at lw_m4 147 rfl
theorem q961 : (Jvm.Cond.instanceMethod ({ cls := "TugOfWar", name := "spareBy", desc := "(I)I" } : Jvm.MethodName)) ∈ lw_all := lw_g (lw_at lw_m4 148 rfl) rfl
theorem q962 : (Jvm.Cond.code ({ cls := "TugOfWar", name := "spareBy", desc := "(I)I" } : Jvm.MethodName) prog_1_method_55_code (5 : Nat) (Option.some Jvm.ClassFile.FieldType.int)) ∈ lw_all := lw_g (lw_at lw_m4 149 rfl) rfl
theorem q963 : (Jvm.Cond.methodLink "TugOfWar" (330 : Nat) ({ cls := "TugOfWar", name := "isSpared", desc := "(I)Z" } : Jvm.MethodName)) ∈ lw_all := lw_g (lw_at lw_m4 150 rfl) rfl
theorem q964 : (Jvm.Cond.privateMethod ({ cls := "TugOfWar", name := "isSpared", desc := "(I)Z" } : Jvm.MethodName)) ∈ lw_tbl := lw_at lw_m4 151 rfl
theorem q965 : (Jvm.Cond.instanceMethod ({ cls := "TugOfWar", name := "isSpared", desc := "(I)Z" } : Jvm.MethodName)) ∈ lw_all := lw_g (lw_at lw_m4 152 rfl) rfl
theorem q966 : (Jvm.Cond.codeWith ({ cls := "TugOfWar", name := "isSpared", desc := "(I)Z" } : Jvm.MethodName) prog_1_method_54_code (4 : Nat) (Option.some Jvm.ClassFile.FieldType.boolean) [((5 : Nat), (23 : Nat), (30 : Nat), (0 : Nat))]) ∈ lw_all := lw_g (lw_at lw_m4 153 rfl) rfl
theorem q968 : (Jvm.Cond.instanceMethod ({ cls := "TugOfWar", name := "seen", desc := "(II)I" } : Jvm.MethodName)) ∈ lw_all := lw_g (lw_at lw_m4 155 rfl) rfl
theorem q969 : (Jvm.Cond.selects "TugOfWar" ({ cls := "TugOfWar", name := "seen", desc := "(II)I" } : Jvm.MethodName) ({ cls := "TugOfWar", name := "seen", desc := "(II)I" } : Jvm.MethodName)) ∈ lw_all := lw_g (lw_at lw_m4 156 rfl) rfl
theorem q970 : (Jvm.Cond.code ({ cls := "TugOfWar", name := "seen", desc := "(II)I" } : Jvm.MethodName) prog_1_method_57_code (3 : Nat) (Option.some Jvm.ClassFile.FieldType.int)) ∈ lw_all := lw_g (lw_at lw_m4 157 rfl) rfl
theorem q971 : (Jvm.Cond.constantLong "TugOfWar" (338 : Nat) (24 : Int64)) ∈ lw_all := lw_g (lw_at lw_m4 158 rfl) rfl
theorem q973 : (Jvm.Cond.instanceMethod ({ cls := "TugOfWar", name := "forget", desc := "()I" } : Jvm.MethodName)) ∈ lw_all := lw_g (lw_at lw_m4 160 rfl) rfl
theorem q974 : (Jvm.Cond.selects "TugOfWar" ({ cls := "TugOfWar", name := "forget", desc := "()I" } : Jvm.MethodName) ({ cls := "TugOfWar", name := "forget", desc := "()I" } : Jvm.MethodName)) ∈ lw_all := lw_g (lw_at lw_m4 161 rfl) rfl
theorem q975 : (Jvm.Cond.code ({ cls := "TugOfWar", name := "forget", desc := "()I" } : Jvm.MethodName) prog_1_method_58_code (2 : Nat) (Option.some Jvm.ClassFile.FieldType.int)) ∈ lw_all := lw_g (lw_at lw_m4 162 rfl) rfl
theorem q976 : (Jvm.Cond.methodLink "TugOfWar" (340 : Nat) ({ cls := "java/util/ArrayList", name := "clear", desc := "()V" } : Jvm.MethodName)) ∈ lw_all := lw_g (lw_at lw_m4 163 rfl) rfl
theorem q978 : (Jvm.Cond.instanceMethod ({ cls := "TugOfWar", name := "never", desc := "()I" } : Jvm.MethodName)) ∈ lw_all := lw_g (lw_at lw_m4 165 rfl) rfl
theorem q979 : (Jvm.Cond.selects "TugOfWar" ({ cls := "TugOfWar", name := "never", desc := "()I" } : Jvm.MethodName) ({ cls := "TugOfWar", name := "never", desc := "()I" } : Jvm.MethodName)) ∈ lw_all := lw_g (lw_at lw_m4 166 rfl) rfl
theorem q980 : (Jvm.Cond.code ({ cls := "TugOfWar", name := "never", desc := "()I" } : Jvm.MethodName) prog_1_method_61_code (1 : Nat) (Option.some Jvm.ClassFile.FieldType.int)) ∈ lw_all := lw_g (lw_at lw_m4 167 rfl) rfl
theorem q981 : (Jvm.Cond.methodLink "TugOfWar" (346 : Nat) ({ cls := "TugOfWar", name := "neverNow", desc := "()I" } : Jvm.MethodName)) ∈ lw_all := lw_g (lw_at lw_m4 168 rfl) rfl
theorem q982 : (Jvm.Cond.privateMethod ({ cls := "TugOfWar", name := "neverNow", desc := "()I" } : Jvm.MethodName)) ∈ lw_tbl := lw_at lw_m4 169 rfl
theorem q983 : (Jvm.Cond.instanceMethod ({ cls := "TugOfWar", name := "neverNow", desc := "()I" } : Jvm.MethodName)) ∈ lw_all := lw_g (lw_at lw_m4 170 rfl) rfl
theorem q984 : (Jvm.Cond.codeWith ({ cls := "TugOfWar", name := "neverNow", desc := "()I" } : Jvm.MethodName) prog_1_method_60_code (4 : Nat) (Option.some Jvm.ClassFile.FieldType.int) [((2 : Nat), (45 : Nat), (53 : Nat), (0 : Nat))]) ∈ lw_all := lw_g (lw_at lw_m4 171 rfl) rfl
theorem q985 : (Jvm.Cond.methodLink "TugOfWar" (343 : Nat) ({ cls := "TugOfWar", name := "isSeen", desc := "()Z" } : Jvm.MethodName)) ∈ lw_all := lw_g (lw_at lw_m4 172 rfl) rfl
theorem q986 : (Jvm.Cond.privateMethod ({ cls := "TugOfWar", name := "isSeen", desc := "()Z" } : Jvm.MethodName)) ∈ lw_tbl := lw_at lw_m4 173 rfl
theorem q987 : (Jvm.Cond.instanceMethod ({ cls := "TugOfWar", name := "isSeen", desc := "()Z" } : Jvm.MethodName)) ∈ lw_all := lw_g (lw_at lw_m4 174 rfl) rfl
theorem q988 : (Jvm.Cond.code ({ cls := "TugOfWar", name := "isSeen", desc := "()Z" } : Jvm.MethodName) prog_1_method_59_code (3 : Nat) (Option.some Jvm.ClassFile.FieldType.boolean)) ∈ lw_all := lw_g (lw_at lw_m4 175 rfl) rfl
theorem q990 : (Jvm.Cond.instanceMethod ({ cls := "TugOfWar", name := "was", desc := "(II)I" } : Jvm.MethodName)) ∈ lw_all := lw_g (lw_at lw_m4 177 rfl) rfl
theorem q991 : (Jvm.Cond.selects "TugOfWar" ({ cls := "TugOfWar", name := "was", desc := "(II)I" } : Jvm.MethodName) ({ cls := "TugOfWar", name := "was", desc := "(II)I" } : Jvm.MethodName)) ∈ lw_all := lw_g (lw_at lw_m4 178 rfl) rfl
theorem q992 : (Jvm.Cond.code ({ cls := "TugOfWar", name := "was", desc := "(II)I" } : Jvm.MethodName) prog_1_method_65_code (3 : Nat) (Option.some Jvm.ClassFile.FieldType.int)) ∈ lw_all := lw_g (lw_at lw_m4 179 rfl) rfl
theorem q993 : (Jvm.Cond.methodLink "TugOfWar" (360 : Nat) ({ cls := "TugOfWar", name := "wasOf", desc := "(II)I" } : Jvm.MethodName)) ∈ lw_all := lw_g (lw_at lw_m4 180 rfl) rfl
theorem q994 : (Jvm.Cond.privateMethod ({ cls := "TugOfWar", name := "wasOf", desc := "(II)I" } : Jvm.MethodName)) ∈ lw_tbl := lw_at lw_m4 181 rfl
theorem q995 : (Jvm.Cond.instanceMethod ({ cls := "TugOfWar", name := "wasOf", desc := "(II)I" } : Jvm.MethodName)) ∈ lw_all := lw_g (lw_at lw_m4 182 rfl) rfl
theorem q996 : (Jvm.Cond.code ({ cls := "TugOfWar", name := "wasOf", desc := "(II)I" } : Jvm.MethodName) prog_1_method_64_code (3 : Nat) (Option.some Jvm.ClassFile.FieldType.int)) ∈ lw_all := lw_g (lw_at lw_m4 183 rfl) rfl
theorem q997 : (Jvm.Cond.methodLink "TugOfWar" (353 : Nat) ({ cls := "TugOfWar", name := "weightsBy", desc := "(LTugOfWar$Puller;)I" } : Jvm.MethodName)) ∈ lw_all := lw_g (lw_at lw_m4 184 rfl) rfl
theorem q998 : (Jvm.Cond.privateMethod ({ cls := "TugOfWar", name := "weightsBy", desc := "(LTugOfWar$Puller;)I" } : Jvm.MethodName)) ∈ lw_tbl := lw_at lw_m4 185 rfl
theorem q999 : (Jvm.Cond.instanceMethod ({ cls := "TugOfWar", name := "weightsBy", desc := "(LTugOfWar$Puller;)I" } : Jvm.MethodName)) ∈ lw_all := lw_g (lw_at lw_m4 186 rfl) rfl
theorem q1000 : (Jvm.Cond.codeWith ({ cls := "TugOfWar", name := "weightsBy", desc := "(LTugOfWar$Puller;)I" } : Jvm.MethodName) prog_1_method_62_code (6 : Nat) (Option.some Jvm.ClassFile.FieldType.int) [((7 : Nat), (91 : Nat), (99 : Nat), (0 : Nat)), ((99 : Nat), (101 : Nat), (99 : Nat), (0 : Nat))]) ∈ lw_all := lw_g (lw_at lw_m4 187 rfl) rfl
theorem q1001 : (Jvm.Cond.methodLink "TugOfWar" (357 : Nat) ({ cls := "TugOfWar", name := "sortBy", desc := "(LTugOfWar$Puller;)I" } : Jvm.MethodName)) ∈ lw_all := lw_g (lw_at lw_m4 188 rfl) rfl
theorem q1002 : (Jvm.Cond.privateMethod ({ cls := "TugOfWar", name := "sortBy", desc := "(LTugOfWar$Puller;)I" } : Jvm.MethodName)) ∈ lw_tbl := lw_at lw_m4 189 rfl
theorem q1003 : (Jvm.Cond.instanceMethod ({ cls := "TugOfWar", name := "sortBy", desc := "(LTugOfWar$Puller;)I" } : Jvm.MethodName)) ∈ lw_all := lw_g (lw_at lw_m4 190 rfl) rfl
theorem q1004 : (Jvm.Cond.codeWith ({ cls := "TugOfWar", name := "sortBy", desc := "(LTugOfWar$Puller;)I" } : Jvm.MethodName) prog_1_method_63_code (6 : Nat) (Option.some Jvm.ClassFile.FieldType.int) [((7 : Nat), (50 : Nat), (58 : Nat), (0 : Nat)), ((58 : Nat), (60 : Nat), (58 : Nat), (0 : Nat))]) ∈ lw_all := lw_g (lw_at lw_m4 191 rfl) rfl
theorem q1005 : (Jvm.Cond.fieldLink "TugOfWar" (349 : Nat) "TugOfWar" "SORT" "[LTugOfWar$Sort;") ∈ lw_all := lw_g (lw_at lw_m4 192 rfl) rfl
theorem q1007 : (Jvm.Cond.instanceMethod ({ cls := "TugOfWar", name := "ask", desc := "(I)I" } : Jvm.MethodName)) ∈ lw_all := lw_g (lw_at lw_m4 194 rfl) rfl
theorem q1008 : (Jvm.Cond.selects "TugOfWar" ({ cls := "TugOfWar", name := "ask", desc := "(I)I" } : Jvm.MethodName) ({ cls := "TugOfWar", name := "ask", desc := "(I)I" } : Jvm.MethodName)) ∈ lw_all := lw_g (lw_at lw_m4 195 rfl) rfl
theorem q1009 : (Jvm.Cond.code ({ cls := "TugOfWar", name := "ask", desc := "(I)I" } : Jvm.MethodName) prog_1_method_68_code (2 : Nat) (Option.some Jvm.ClassFile.FieldType.int)) ∈ lw_all := lw_g (lw_at lw_m4 196 rfl) rfl
theorem q1010 : (Jvm.Cond.methodLink "TugOfWar" (366 : Nat) ({ cls := "TugOfWar", name := "askOf", desc := "(I)I" } : Jvm.MethodName)) ∈ lw_all := lw_g (lw_at lw_m4 197 rfl) rfl
theorem q1011 : (Jvm.Cond.privateMethod ({ cls := "TugOfWar", name := "askOf", desc := "(I)I" } : Jvm.MethodName)) ∈ lw_tbl := lw_at lw_m4 198 rfl
theorem q1012 : (Jvm.Cond.instanceMethod ({ cls := "TugOfWar", name := "askOf", desc := "(I)I" } : Jvm.MethodName)) ∈ lw_all := lw_g (lw_at lw_m4 199 rfl) rfl
theorem q1013 : (Jvm.Cond.code ({ cls := "TugOfWar", name := "askOf", desc := "(I)I" } : Jvm.MethodName) prog_1_method_67_code (5 : Nat) (Option.some Jvm.ClassFile.FieldType.int)) ∈ lw_all := lw_g (lw_at lw_m4 200 rfl) rfl
theorem q1014 : (Jvm.Cond.methodLink "TugOfWar" (363 : Nat) ({ cls := "TugOfWar", name := "alike", desc := "(II)I" } : Jvm.MethodName)) ∈ lw_all := lw_g (lw_at lw_m4 201 rfl) rfl
theorem q1015 : (Jvm.Cond.privateMethod ({ cls := "TugOfWar", name := "alike", desc := "(II)I" } : Jvm.MethodName)) ∈ lw_tbl := lw_at lw_m4 202 rfl
theorem q1016 : (Jvm.Cond.instanceMethod ({ cls := "TugOfWar", name := "alike", desc := "(II)I" } : Jvm.MethodName)) ∈ lw_all := lw_g (lw_at lw_m4 203 rfl) rfl
theorem q1017 : (Jvm.Cond.code ({ cls := "TugOfWar", name := "alike", desc := "(II)I" } : Jvm.MethodName) prog_1_method_66_code (7 : Nat) (Option.some Jvm.ClassFile.FieldType.int)) ∈ lw_all := lw_g (lw_at lw_m4 204 rfl) rfl
theorem q1019 : (Jvm.Cond.instanceMethod ({ cls := "TugOfWar", name := "chance", desc := "(III)J" } : Jvm.MethodName)) ∈ lw_all := lw_g (lw_at lw_m4 206 rfl) rfl
theorem q1020 : (Jvm.Cond.selects "TugOfWar" ({ cls := "TugOfWar", name := "chance", desc := "(III)J" } : Jvm.MethodName) ({ cls := "TugOfWar", name := "chance", desc := "(III)J" } : Jvm.MethodName)) ∈ lw_all := lw_g (lw_at lw_m4 207 rfl) rfl
theorem q1021 : (Jvm.Cond.code ({ cls := "TugOfWar", name := "chance", desc := "(III)J" } : Jvm.MethodName) prog_1_method_72_code (4 : Nat) (Option.some Jvm.ClassFile.FieldType.long)) ∈ lw_all := lw_g (lw_at lw_m4 208 rfl) rfl
theorem q1022 : (Jvm.Cond.constantLong "TugOfWar" (377 : Nat) (16 : Int64)) ∈ lw_all := lw_g (lw_at lw_m4 209 rfl) rfl
theorem q1023 : (Jvm.Cond.methodLink "TugOfWar" (379 : Nat) ({ cls := "TugOfWar", name := "chanceOf", desc := "(III)J" } : Jvm.MethodName)) ∈ lw_all := lw_g (lw_at lw_m4 210 rfl) rfl
theorem q1024 : (Jvm.Cond.privateMethod ({ cls := "TugOfWar", name := "chanceOf", desc := "(III)J" } : Jvm.MethodName)) ∈ lw_tbl := lw_at lw_m4 211 rfl
theorem q1025 : (Jvm.Cond.instanceMethod ({ cls := "TugOfWar", name := "chanceOf", desc := "(III)J" } : Jvm.MethodName)) ∈ lw_all := lw_g (lw_at lw_m4 212 rfl) rfl
theorem q1026 : (Jvm.Cond.codeWith ({ cls := "TugOfWar", name := "chanceOf", desc := "(III)J" } : Jvm.MethodName) prog_1_method_71_code (11 : Nat) (Option.some Jvm.ClassFile.FieldType.long) [((12 : Nat), (109 : Nat), (117 : Nat), (0 : Nat)), ((117 : Nat), (119 : Nat), (117 : Nat), (0 : Nat))]) ∈ lw_all := lw_g (lw_at lw_m4 213 rfl) rfl
theorem q1027 : (Jvm.Cond.methodLink "TugOfWar" (373 : Nat) ({ cls := "TugOfWar", name := "part", desc := "(JJI)J" } : Jvm.MethodName)) ∈ lw_all := lw_g (lw_at lw_m4 214 rfl) rfl
theorem q1028 : (Jvm.Cond.static ({ cls := "TugOfWar", name := "part", desc := "(JJI)J" } : Jvm.MethodName)) ∈ lw_all := lw_g (lw_at lw_m4 215 rfl) rfl
theorem q1029 : (Jvm.Cond.code ({ cls := "TugOfWar", name := "part", desc := "(JJI)J" } : Jvm.MethodName) prog_1_method_70_code (5 : Nat) (Option.some Jvm.ClassFile.FieldType.long)) ∈ lw_all := lw_g (lw_at lw_m4 216 rfl) rfl
theorem q1030 : (Jvm.Cond.methodLink "TugOfWar" (369 : Nat) ({ cls := "TugOfWar", name := "divisor", desc := "(JJ)J" } : Jvm.MethodName)) ∈ lw_all := lw_g (lw_at lw_m4 217 rfl) rfl
theorem q1031 : (Jvm.Cond.static ({ cls := "TugOfWar", name := "divisor", desc := "(JJ)J" } : Jvm.MethodName)) ∈ lw_all := lw_g (lw_at lw_m4 218 rfl) rfl
theorem q1032 : (Jvm.Cond.code ({ cls := "TugOfWar", name := "divisor", desc := "(JJ)J" } : Jvm.MethodName) prog_1_method_69_code (4 : Nat) (Option.some Jvm.ClassFile.FieldType.long)) ∈ lw_all := lw_g (lw_at lw_m4 219 rfl) rfl
theorem q1033 : (Jvm.Cond.methodLink "TugOfWar" (383 : Nat) ({ cls := "TugOfWar", name := "no", desc := "(I)J" } : Jvm.MethodName)) ∈ lw_all := lw_g (lw_at lw_m4 220 rfl) rfl
theorem q1034 : (Jvm.Cond.static ({ cls := "TugOfWar", name := "no", desc := "(I)J" } : Jvm.MethodName)) ∈ lw_all := lw_g (lw_at lw_m4 221 rfl) rfl
theorem q1035 : (Jvm.Cond.code ({ cls := "TugOfWar", name := "no", desc := "(I)J" } : Jvm.MethodName) prog_1_method_3_code (1 : Nat) (Option.some Jvm.ClassFile.FieldType.long)) ∈ lw_all := lw_g (lw_at lw_m4 222 rfl) rfl
theorem q1036 : (Jvm.Cond.constantLong "TugOfWar" (84 : Nat) (-9223372036854775808 : Int64)) ∈ lw_all := lw_g (lw_at lw_m4 223 rfl) rfl
theorem q1038 : (Jvm.Cond.instanceMethod ({ cls := "TugOfWar", name := "years", desc := "(III)I" } : Jvm.MethodName)) ∈ lw_all := lw_g (lw_at lw_m4 225 rfl) rfl
theorem q1039 : (Jvm.Cond.selects "TugOfWar" ({ cls := "TugOfWar", name := "years", desc := "(III)I" } : Jvm.MethodName) ({ cls := "TugOfWar", name := "years", desc := "(III)I" } : Jvm.MethodName)) ∈ lw_all := lw_g (lw_at lw_m4 226 rfl) rfl
theorem q1040 : (Jvm.Cond.code ({ cls := "TugOfWar", name := "years", desc := "(III)I" } : Jvm.MethodName) prog_1_method_75_code (4 : Nat) (Option.some Jvm.ClassFile.FieldType.int)) ∈ lw_all := lw_g (lw_at lw_m4 227 rfl) rfl
theorem q1041 : (Jvm.Cond.methodLink "TugOfWar" (394 : Nat) ({ cls := "TugOfWar", name := "yearsOf", desc := "(III)I" } : Jvm.MethodName)) ∈ lw_all := lw_g (lw_at lw_m4 228 rfl) rfl
theorem q1042 : (Jvm.Cond.privateMethod ({ cls := "TugOfWar", name := "yearsOf", desc := "(III)I" } : Jvm.MethodName)) ∈ lw_tbl := lw_at lw_m4 229 rfl
theorem q1043 : (Jvm.Cond.instanceMethod ({ cls := "TugOfWar", name := "yearsOf", desc := "(III)I" } : Jvm.MethodName)) ∈ lw_all := lw_g (lw_at lw_m4 230 rfl) rfl
theorem q1044 : (Jvm.Cond.codeWith ({ cls := "TugOfWar", name := "yearsOf", desc := "(III)I" } : Jvm.MethodName) prog_1_method_74_code (7 : Nat) (Option.some Jvm.ClassFile.FieldType.int) [((39 : Nat), (96 : Nat), (112 : Nat), (0 : Nat)), ((112 : Nat), (114 : Nat), (112 : Nat), (0 : Nat))]) ∈ lw_all := lw_g (lw_at lw_m4 231 rfl) rfl
theorem q1045 : (Jvm.Cond.methodLink "TugOfWar" (391 : Nat) ({ cls := "TugOfWar", name := "lot", desc := "(I)I" } : Jvm.MethodName)) ∈ lw_all := lw_g (lw_at lw_m4 232 rfl) rfl
theorem q1046 : (Jvm.Cond.privateMethod ({ cls := "TugOfWar", name := "lot", desc := "(I)I" } : Jvm.MethodName)) ∈ lw_tbl := lw_at lw_m4 233 rfl
theorem q1047 : (Jvm.Cond.instanceMethod ({ cls := "TugOfWar", name := "lot", desc := "(I)I" } : Jvm.MethodName)) ∈ lw_all := lw_g (lw_at lw_m4 234 rfl) rfl
theorem q1048 : (Jvm.Cond.code ({ cls := "TugOfWar", name := "lot", desc := "(I)I" } : Jvm.MethodName) prog_1_method_73_code (2 : Nat) (Option.some Jvm.ClassFile.FieldType.int)) ∈ lw_all := lw_g (lw_at lw_m4 235 rfl) rfl
theorem q1049 : (Jvm.Cond.constant "TugOfWar" (387 : Nat) (1103515245 : Int32)) ∈ lw_all := lw_g (lw_at lw_m4 236 rfl) rfl
theorem q1051 : (Jvm.Cond.instanceMethod ({ cls := "TugOfWar", name := "sheet", desc := "(III)I" } : Jvm.MethodName)) ∈ lw_all := lw_g (lw_at lw_m4 238 rfl) rfl
theorem q1052 : (Jvm.Cond.selects "TugOfWar" ({ cls := "TugOfWar", name := "sheet", desc := "(III)I" } : Jvm.MethodName) ({ cls := "TugOfWar", name := "sheet", desc := "(III)I" } : Jvm.MethodName)) ∈ lw_all := lw_g (lw_at lw_m4 239 rfl) rfl
theorem q1053 : (Jvm.Cond.codeWith ({ cls := "TugOfWar", name := "sheet", desc := "(III)I" } : Jvm.MethodName) prog_1_method_78_code (5 : Nat) (Option.some Jvm.ClassFile.FieldType.int) [((28 : Nat), (43 : Nat), (44 : Nat), (401 : Nat))]) ∈ lw_all := lw_g (lw_at lw_m5 0 rfl) rfl
theorem q1054 : (Jvm.Cond.classLink "TugOfWar" (401 : Nat) "java/lang/NegativeArraySizeException") ∈ lw_all := lw_g (lw_at lw_m5 1 rfl) rfl
theorem q1083 : (Jvm.Cond.methodLink "TugOfWar" (397 : Nat) ({ cls := "TugOfWar", name := "rowOf", desc := "(II)Ljava/lang/Object;" } : Jvm.MethodName)) ∈ lw_all := lw_g (lw_at lw_m5 30 rfl) rfl
theorem q1084 : (Jvm.Cond.static ({ cls := "TugOfWar", name := "rowOf", desc := "(II)Ljava/lang/Object;" } : Jvm.MethodName)) ∈ lw_all := lw_g (lw_at lw_m5 31 rfl) rfl
theorem q1085 : (Jvm.Cond.code ({ cls := "TugOfWar", name := "rowOf", desc := "(II)Ljava/lang/Object;" } : Jvm.MethodName) prog_1_method_77_code (2 : Nat) (Option.some (Jvm.ClassFile.FieldType.object "java/lang/Object"))) ∈ lw_all := lw_g (lw_at lw_m5 32 rfl) rfl
theorem q1088 : (Jvm.Cond.instanceMethod ({ cls := "TugOfWar", name := "lose", desc := "(I)I" } : Jvm.MethodName)) ∈ lw_all := lw_g (lw_at lw_m5 35 rfl) rfl
theorem q1089 : (Jvm.Cond.selects "TugOfWar" ({ cls := "TugOfWar", name := "lose", desc := "(I)I" } : Jvm.MethodName) ({ cls := "TugOfWar", name := "lose", desc := "(I)I" } : Jvm.MethodName)) ∈ lw_all := lw_g (lw_at lw_m5 36 rfl) rfl
theorem q1090 : (Jvm.Cond.code ({ cls := "TugOfWar", name := "lose", desc := "(I)I" } : Jvm.MethodName) prog_1_method_79_code (3 : Nat) (Option.some Jvm.ClassFile.FieldType.int)) ∈ lw_all := lw_g (lw_at lw_m5 37 rfl) rfl
theorem q1092 : (Jvm.Cond.instanceMethod ({ cls := "TugOfWar", name := "put", desc := "(IIII)I" } : Jvm.MethodName)) ∈ lw_all := lw_g (lw_at lw_m5 39 rfl) rfl
theorem q1093 : (Jvm.Cond.selects "TugOfWar" ({ cls := "TugOfWar", name := "put", desc := "(IIII)I" } : Jvm.MethodName) ({ cls := "TugOfWar", name := "put", desc := "(IIII)I" } : Jvm.MethodName)) ∈ lw_all := lw_g (lw_at lw_m5 40 rfl) rfl
theorem q1094 : (Jvm.Cond.codeWith ({ cls := "TugOfWar", name := "put", desc := "(IIII)I" } : Jvm.MethodName) prog_1_method_80_code (6 : Nat) (Option.some Jvm.ClassFile.FieldType.int) [((40 : Nat), (54 : Nat), (55 : Nat), (407 : Nat)), ((40 : Nat), (54 : Nat), (63 : Nat), (409 : Nat))]) ∈ lw_all := lw_g (lw_at lw_m5 41 rfl) rfl
theorem q1095 : (Jvm.Cond.classLink "TugOfWar" (407 : Nat) "java/lang/ClassCastException") ∈ lw_all := lw_g (lw_at lw_m5 42 rfl) rfl
theorem q1109 : (Jvm.Cond.classLink "TugOfWar" (409 : Nat) "java/lang/ArrayIndexOutOfBoundsException") ∈ lw_all := lw_g (lw_at lw_m5 56 rfl) rfl
theorem q1128 : (Jvm.Cond.methodLink "TugOfWar" (403 : Nat) ({ cls := "TugOfWar$Sheet", name := "lay", desc := "(III)V" } : Jvm.MethodName)) ∈ lw_all := lw_g (lw_at lw_m5 75 rfl) rfl
theorem q1133 : (Jvm.Cond.instanceMethod ({ cls := "TugOfWar", name := "get", desc := "(III)I" } : Jvm.MethodName)) ∈ lw_all := lw_g (lw_at lw_m5 80 rfl) rfl
theorem q1134 : (Jvm.Cond.selects "TugOfWar" ({ cls := "TugOfWar", name := "get", desc := "(III)I" } : Jvm.MethodName) ({ cls := "TugOfWar", name := "get", desc := "(III)I" } : Jvm.MethodName)) ∈ lw_all := lw_g (lw_at lw_m5 81 rfl) rfl
theorem q1135 : (Jvm.Cond.codeWith ({ cls := "TugOfWar", name := "get", desc := "(III)I" } : Jvm.MethodName) prog_1_method_81_code (5 : Nat) (Option.some Jvm.ClassFile.FieldType.int) [((40 : Nat), (51 : Nat), (52 : Nat), (407 : Nat)), ((40 : Nat), (51 : Nat), (60 : Nat), (409 : Nat))]) ∈ lw_all := lw_g (lw_at lw_m5 82 rfl) rfl
theorem q1136 : (Jvm.Cond.constant "TugOfWar" (89 : Nat) (-2147483648 : Int32)) ∈ lw_all := lw_g (lw_at lw_m5 83 rfl) rfl
theorem q1137 : (Jvm.Cond.methodLink "TugOfWar" (411 : Nat) ({ cls := "TugOfWar", name := "lowest", desc := "(I)I" } : Jvm.MethodName)) ∈ lw_all := lw_g (lw_at lw_m5 84 rfl) rfl
theorem q1138 : (Jvm.Cond.privateMethod ({ cls := "TugOfWar", name := "lowest", desc := "(I)I" } : Jvm.MethodName)) ∈ lw_tbl := lw_at lw_m5 85 rfl
theorem q1139 : (Jvm.Cond.instanceMethod ({ cls := "TugOfWar", name := "lowest", desc := "(I)I" } : Jvm.MethodName)) ∈ lw_all := lw_g (lw_at lw_m5 86 rfl) rfl
theorem q1140 : (Jvm.Cond.code ({ cls := "TugOfWar", name := "lowest", desc := "(I)I" } : Jvm.MethodName) prog_1_method_5_code (2 : Nat) (Option.some Jvm.ClassFile.FieldType.int)) ∈ lw_all := lw_g (lw_at lw_m5 87 rfl) rfl
theorem q1142 : (Jvm.Cond.instanceMethod ({ cls := "TugOfWar", name := "copy", desc := "(IIIII)I" } : Jvm.MethodName)) ∈ lw_all := lw_g (lw_at lw_m5 89 rfl) rfl
theorem q1143 : (Jvm.Cond.selects "TugOfWar" ({ cls := "TugOfWar", name := "copy", desc := "(IIIII)I" } : Jvm.MethodName) ({ cls := "TugOfWar", name := "copy", desc := "(IIIII)I" } : Jvm.MethodName)) ∈ lw_all := lw_g (lw_at lw_m5 90 rfl) rfl
theorem q1144 : (Jvm.Cond.codeWith ({ cls := "TugOfWar", name := "copy", desc := "(IIIII)I" } : Jvm.MethodName) prog_1_method_82_code (7 : Nat) (Option.some Jvm.ClassFile.FieldType.int) [((74 : Nat), (101 : Nat), (102 : Nat), (414 : Nat))]) ∈ lw_all := lw_g (lw_at lw_m5 91 rfl) rfl
theorem q1145 : (Jvm.Cond.classLink "TugOfWar" (414 : Nat) "java/lang/IndexOutOfBoundsException") ∈ lw_all := lw_g (lw_at lw_m5 92 rfl) rfl
theorem q1147 : (Jvm.Cond.instanceMethod ({ cls := "TugOfWar", name := "write", desc := "(I)I" } : Jvm.MethodName)) ∈ lw_all := lw_g (lw_at lw_m5 94 rfl) rfl
theorem q1148 : (Jvm.Cond.selects "TugOfWar" ({ cls := "TugOfWar", name := "write", desc := "(I)I" } : Jvm.MethodName) ({ cls := "TugOfWar", name := "write", desc := "(I)I" } : Jvm.MethodName)) ∈ lw_all := lw_g (lw_at lw_m5 95 rfl) rfl
theorem q1149 : (Jvm.Cond.code ({ cls := "TugOfWar", name := "write", desc := "(I)I" } : Jvm.MethodName) prog_1_method_83_code (5 : Nat) (Option.some Jvm.ClassFile.FieldType.int)) ∈ lw_all := lw_g (lw_at lw_m5 96 rfl) rfl
theorem q1151 : (Jvm.Cond.instanceMethod ({ cls := "TugOfWar", name := "count", desc := "(I)I" } : Jvm.MethodName)) ∈ lw_all := lw_g (lw_at lw_m5 98 rfl) rfl
theorem q1152 : (Jvm.Cond.selects "TugOfWar" ({ cls := "TugOfWar", name := "count", desc := "(I)I" } : Jvm.MethodName) ({ cls := "TugOfWar", name := "count", desc := "(I)I" } : Jvm.MethodName)) ∈ lw_all := lw_g (lw_at lw_m5 99 rfl) rfl
theorem q1153 : (Jvm.Cond.code ({ cls := "TugOfWar", name := "count", desc := "(I)I" } : Jvm.MethodName) prog_1_method_85_code (2 : Nat) (Option.some Jvm.ClassFile.FieldType.int)) ∈ lw_all := lw_g (lw_at lw_m5 100 rfl) rfl
theorem q1154 : (Jvm.Cond.methodLink "TugOfWar" (419 : Nat) ({ cls := "TugOfWar$Text", name := "many", desc := "()I" } : Jvm.MethodName)) ∈ lw_all := lw_g (lw_at lw_m5 101 rfl) rfl
theorem q1162 : (Jvm.Cond.methodLink "TugOfWar" (420 : Nat) ({ cls := "TugOfWar", name := "typedIn", desc := "()I" } : Jvm.MethodName)) ∈ lw_all := lw_g (lw_at lw_m5 109 rfl) rfl
theorem q1163 : (Jvm.Cond.privateMethod ({ cls := "TugOfWar", name := "typedIn", desc := "()I" } : Jvm.MethodName)) ∈ lw_tbl := lw_at lw_m5 110 rfl
theorem q1164 : (Jvm.Cond.instanceMethod ({ cls := "TugOfWar", name := "typedIn", desc := "()I" } : Jvm.MethodName)) ∈ lw_all := lw_g (lw_at lw_m5 111 rfl) rfl
theorem q1165 : (Jvm.Cond.code ({ cls := "TugOfWar", name := "typedIn", desc := "()I" } : Jvm.MethodName) prog_1_method_84_code (3 : Nat) (Option.some Jvm.ClassFile.FieldType.int)) ∈ lw_all := lw_g (lw_at lw_m5 112 rfl) rfl
theorem q1166 : (Jvm.Cond.methodLink "TugOfWar" (416 : Nat) ({ cls := "TugOfWar$Text", name := "length", desc := "()I" } : Jvm.MethodName)) ∈ lw_all := lw_g (lw_at lw_m5 113 rfl) rfl
theorem q1173 : (Jvm.Cond.instanceMethod ({ cls := "TugOfWar", name := "digest", desc := "()J" } : Jvm.MethodName)) ∈ lw_all := lw_g (lw_at lw_m5 120 rfl) rfl
theorem q1174 : (Jvm.Cond.selects "TugOfWar" ({ cls := "TugOfWar", name := "digest", desc := "()J" } : Jvm.MethodName) ({ cls := "TugOfWar", name := "digest", desc := "()J" } : Jvm.MethodName)) ∈ lw_all := lw_g (lw_at lw_m5 121 rfl) rfl
theorem q1175 : (Jvm.Cond.code ({ cls := "TugOfWar", name := "digest", desc := "()J" } : Jvm.MethodName) prog_1_method_88_code (5 : Nat) (Option.some Jvm.ClassFile.FieldType.long)) ∈ lw_all := lw_g (lw_at lw_m5 122 rfl) rfl
theorem q1176 : (Jvm.Cond.constantLong "TugOfWar" (425 : Nat) (17 : Int64)) ∈ lw_all := lw_g (lw_at lw_m5 123 rfl) rfl
theorem q1177 : (Jvm.Cond.constantLong "TugOfWar" (423 : Nat) (31 : Int64)) ∈ lw_all := lw_g (lw_at lw_m5 124 rfl) rfl
theorem q1178 : (Jvm.Cond.methodLink "TugOfWar" (427 : Nat) ({ cls := "TugOfWar", name := "count", desc := "(I)I" } : Jvm.MethodName)) ∈ lw_all := lw_g (lw_at lw_m5 125 rfl) rfl
theorem q1179 : (Jvm.Cond.methodLink "TugOfWar" (430 : Nat) ({ cls := "TugOfWar", name := "tellsPuller", desc := "(JI)J" } : Jvm.MethodName)) ∈ lw_all := lw_g (lw_at lw_m5 126 rfl) rfl
theorem q1180 : (Jvm.Cond.privateMethod ({ cls := "TugOfWar", name := "tellsPuller", desc := "(JI)J" } : Jvm.MethodName)) ∈ lw_tbl := lw_at lw_m5 127 rfl
theorem q1181 : (Jvm.Cond.instanceMethod ({ cls := "TugOfWar", name := "tellsPuller", desc := "(JI)J" } : Jvm.MethodName)) ∈ lw_all := lw_g (lw_at lw_m5 128 rfl) rfl
theorem q1182 : (Jvm.Cond.code ({ cls := "TugOfWar", name := "tellsPuller", desc := "(JI)J" } : Jvm.MethodName) prog_1_method_86_code (7 : Nat) (Option.some Jvm.ClassFile.FieldType.long)) ∈ lw_all := lw_g (lw_at lw_m5 129 rfl) rfl
theorem q1183 : (Jvm.Cond.methodLink "TugOfWar" (434 : Nat) ({ cls := "TugOfWar", name := "tellsTeam", desc := "(JI)J" } : Jvm.MethodName)) ∈ lw_all := lw_g (lw_at lw_m5 130 rfl) rfl
theorem q1184 : (Jvm.Cond.privateMethod ({ cls := "TugOfWar", name := "tellsTeam", desc := "(JI)J" } : Jvm.MethodName)) ∈ lw_tbl := lw_at lw_m5 131 rfl
theorem q1185 : (Jvm.Cond.instanceMethod ({ cls := "TugOfWar", name := "tellsTeam", desc := "(JI)J" } : Jvm.MethodName)) ∈ lw_all := lw_g (lw_at lw_m5 132 rfl) rfl
theorem q1186 : (Jvm.Cond.code ({ cls := "TugOfWar", name := "tellsTeam", desc := "(JI)J" } : Jvm.MethodName) prog_1_method_87_code (7 : Nat) (Option.some Jvm.ClassFile.FieldType.long)) ∈ lw_all := lw_g (lw_at lw_m5 133 rfl) rfl
theorem q1730 : (Jvm.Cond.castable "TugOfWar" "java/lang/Object") ∈ lw_tbl := lw_at lw_m7 197 rfl
theorem in_X0 : ∀ w ∈ wsX00, w ∈ lw_all := lw_in wsX00 [251, 253, 255, 257, 259, 261, 263, 265, 267, 269, 271, 273, 275, 277, 279, 281, 283, 285, 287, 289, 291, 293, 295, 297, 299] (by decide +kernel) (by decide +kernel)
