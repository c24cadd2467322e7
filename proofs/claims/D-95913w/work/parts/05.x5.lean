/-! TugOfWarModel -/
set_option maxRecDepth 100000
def RX5 : String := "TugOfWarModel"
def TX5 : u_T := fun k => match k with
  | 0 => ("TugOfWarModel", "typed", "[I", true)
  | 1 => ("TugOfWarModel", "texts", "[I", true)
  | 2 => ("TugOfWarModel", "many", "[I", true)
  | 3 => ("TugOfWarModel", "sorts", "[I", true)
  | 4 => ("TugOfWarModel", "weights", "[I", true)
  | 5 => ("TugOfWarModel", "winds", "[I", true)
  | 6 => ("TugOfWarModel", "callsTold", "[I", true)
  | 7 => ("TugOfWarModel", "callTold", "[I", true)
  | 8 => ("TugOfWarModel", "mudTold", "I", false)
  | 9 => ("TugOfWarModel", "events", "I", false)
  | 10 => ("TugOfWarModel", "eventKind", "[I", true)
  | 11 => ("TugOfWarModel", "eventBeat", "[I", true)
  | 12 => ("TugOfWarModel", "eventNumber", "[I", true)
  | 13 => ("TugOfWarModel", "callNow", "[I", true)
  | 14 => ("TugOfWarModel", "notEvents", "I", false)
  | 15 => ("TugOfWarModel", "places", "[I", true)
  | 16 => ("TugOfWarModel", "outNow", "I", false)
  | 17 => ("TugOfWarModel", "lastOf", "[I", true)
  | 18 => ("TugOfWarModel", "mudNow", "I", false)
  | 19 => ("TugOfWarModel", "dogNow", "I", false)
  | 20 => ("TugOfWarModel", "slipBits", "I", false)
  | 21 => ("TugOfWarModel", "ropeNow", "I", false)
  | 22 => ("TugOfWarModel", "wonTeam", "I", false)
  | 23 => ("TugOfWarModel", "wonBeat", "I", false)
  | 24 => ("TugOfWarModel", "levels", "I", false)
  | 25 => ("TugOfWarModel", "breaths", "[I", true)
  | 26 => ("TugOfWarModel", "dones", "[I", true)
  | 27 => ("TugOfWarModel", "pulls", "[I", true)
  | 28 => ("TugOfWarModel", "sums", "[I", true)
  | 29 => ("TugOfWarModel", "ropeAt", "[I", true)
  | 30 => ("TugOfWarModel", "mudAt", "[I", true)
  | 31 => ("TugOfWarModel", "sumAt", "[I", true)
  | 32 => ("TugOfWarModel", "pullAt", "[I", true)
  | 33 => ("TugOfWarModel", "breathAt", "[I", true)
  | 34 => ("TugOfWarModel", "bestPlan", "I", false)
  | 35 => ("TugOfWarModel", "bestRope", "I", false)
  | 36 => ("TugOfWarModel", "planRow", "[I", true)
  | 37 => ("TugOfWarModel", "seens", "I", false)
  | 38 => ("TugOfWarModel", "seenBeat", "[I", true)
  | 39 => ("TugOfWarModel", "seenPlace", "[I", true)
  | 40 => ("TugOfWarModel", "ropeBy", "[I", true)
  | 41 => ("TugOfWarModel", "isThere", "[Z", true)
  | 42 => ("TugOfWarModel", "forms", "[I", true)
  | 43 => ("TugOfWarModel", "sizes", "[I", true)
  | 44 => ("TugOfWarModel", "items", "[I", true)
  | 45 => ("TugOfWarModel", "moved", "[I", true)
  | _ => ("TugOfWarModel", "finding", "I", false)
def tyX5 : Nat → FieldType := fun k => match k with
  | 0 => .array .int
  | 1 => .array .int
  | 2 => .array .int
  | 3 => .array .int
  | 4 => .array .int
  | 5 => .array .int
  | 6 => .array .int
  | 7 => .array .int
  | 8 => .int
  | 9 => .int
  | 10 => .array .int
  | 11 => .array .int
  | 12 => .array .int
  | 13 => .array .int
  | 14 => .int
  | 15 => .array .int
  | 16 => .int
  | 17 => .array .int
  | 18 => .int
  | 19 => .int
  | 20 => .int
  | 21 => .int
  | 22 => .int
  | 23 => .int
  | 24 => .int
  | 25 => .array .int
  | 26 => .array .int
  | 27 => .array .int
  | 28 => .array .int
  | 29 => .array .int
  | 30 => .array .int
  | 31 => .array .int
  | 32 => .array .int
  | 33 => .array .int
  | 34 => .int
  | 35 => .int
  | 36 => .array .int
  | 37 => .int
  | 38 => .array .int
  | 39 => .array .int
  | 40 => .array .int
  | 41 => .array .boolean
  | 42 => .array .int
  | 43 => .array .int
  | 44 => .array .int
  | 45 => .array .int
  | _ => .int
abbrev wsX50 : List Cond := u_ws RX5 TX5 47
set_option maxRecDepth 100000 in
theorem nmX5 : ∀ a, a < 47 → ∀ b, b < 47 → a ≠ b → (TX5 a).2.1 ≠ (TX5 b).2.1 := by decide +kernel
set_option maxRecDepth 100000 in
theorem tyX5_ok : ∀ k, k < 47 → parseFieldDescriptor (TX5 k).2.2.1 = some (tyX5 k) := by decide +kernel
abbrev cX5_init : ByteArray := prog_12_method_1_code
def yX5_init : MethodName := ⟨RX5, "<init>", "()V"⟩
def dkwX5_init_10 : List UInt8 := [188, 10, 181, 0, 98, 42, 17, 0, 240, 188, 10, 181, 0, 101, 42, 16, 60, 188, 10, 181, 0, 104, 177]
abbrev dktX5_init_10 : List UInt8 := dkwX5_init_10 ++ []
def dkwX5_init_9 : List UInt8 := [17, 0, 240, 188, 10, 181, 0, 88, 42, 7, 188, 4, 181, 0, 91, 42, 7, 188, 10, 181, 0, 95, 42, 7]
abbrev dktX5_init_9 : List UInt8 := dkwX5_init_9 ++ dktX5_init_10
def dkwX5_init_8 : List UInt8 := [188, 10, 181, 0, 79, 42, 16, 8, 188, 10, 181, 0, 82, 42, 16, 8, 188, 10, 181, 0, 85, 42]
abbrev dktX5_init_8 : List UInt8 := dkwX5_init_8 ++ dktX5_init_9
def dkwX5_init_7 : List UInt8 := [181, 0, 70, 42, 17, 1, 128, 188, 10, 181, 0, 73, 42, 17, 1, 128, 188, 10, 181, 0, 76, 42, 5]
abbrev dktX5_init_7 : List UInt8 := dkwX5_init_7 ++ dktX5_init_8
def dkwX5_init_6 : List UInt8 := [181, 0, 61, 42, 16, 24, 188, 10, 181, 0, 64, 42, 16, 24, 188, 10, 181, 0, 67, 42, 16, 48, 188, 10]
abbrev dktX5_init_6 : List UInt8 := dkwX5_init_6 ++ dktX5_init_7
def dkwX5_init_5 : List UInt8 := [181, 0, 52, 42, 16, 16, 188, 10, 181, 0, 55, 42, 16, 16, 188, 10, 181, 0, 58, 42, 5, 188, 10]
abbrev dktX5_init_5 : List UInt8 := dkwX5_init_5 ++ dktX5_init_6
def dkwX5_init_4 : List UInt8 := [181, 0, 43, 42, 16, 16, 188, 10, 181, 0, 46, 42, 5, 188, 10, 181, 0, 49, 42, 16, 16, 188, 10]
abbrev dktX5_init_4 : List UInt8 := dkwX5_init_4 ++ dktX5_init_5
def dkwX5_init_3 : List UInt8 := [181, 0, 34, 42, 16, 8, 188, 10, 181, 0, 37, 42, 16, 8, 188, 10, 181, 0, 40, 42, 16, 48, 188, 10]
abbrev dktX5_init_3 : List UInt8 := dkwX5_init_3 ++ dktX5_init_4
def dkwX5_init_2 : List UInt8 := [181, 0, 25, 42, 5, 188, 10, 181, 0, 28, 42, 16, 48, 188, 10, 181, 0, 31, 42, 16, 8, 188, 10]
abbrev dktX5_init_2 : List UInt8 := dkwX5_init_2 ++ dktX5_init_3
def dkwX5_init_1 : List UInt8 := [181, 0, 16, 42, 16, 17, 188, 10, 181, 0, 19, 42, 16, 17, 188, 10, 181, 0, 22, 42, 16, 17, 188, 10]
abbrev dktX5_init_1 : List UInt8 := dkwX5_init_1 ++ dktX5_init_2
def dkwX5_init_0 : List UInt8 := [42, 183, 0, 1, 42, 7, 188, 10, 181, 0, 7, 42, 16, 124, 188, 10, 181, 0, 13, 42, 5, 188, 10]
abbrev dktX5_init_0 : List UInt8 := dkwX5_init_0 ++ dktX5_init_1
theorem dksX5_init_0 : cX5_init.data.toList.drop 0 = dktX5_init_0 := by decide +kernel
theorem dksX5_init_1 : cX5_init.data.toList.drop 23 = dktX5_init_1 := dk_seg dksX5_init_0 23 rfl rfl
theorem dksX5_init_2 : cX5_init.data.toList.drop 47 = dktX5_init_2 := dk_seg dksX5_init_1 24 rfl rfl
theorem dksX5_init_3 : cX5_init.data.toList.drop 70 = dktX5_init_3 := dk_seg dksX5_init_2 23 rfl rfl
theorem dksX5_init_4 : cX5_init.data.toList.drop 94 = dktX5_init_4 := dk_seg dksX5_init_3 24 rfl rfl
theorem dksX5_init_5 : cX5_init.data.toList.drop 117 = dktX5_init_5 := dk_seg dksX5_init_4 23 rfl rfl
theorem dksX5_init_6 : cX5_init.data.toList.drop 140 = dktX5_init_6 := dk_seg dksX5_init_5 23 rfl rfl
theorem dksX5_init_7 : cX5_init.data.toList.drop 164 = dktX5_init_7 := dk_seg dksX5_init_6 24 rfl rfl
theorem dksX5_init_8 : cX5_init.data.toList.drop 187 = dktX5_init_8 := dk_seg dksX5_init_7 23 rfl rfl
theorem dksX5_init_9 : cX5_init.data.toList.drop 209 = dktX5_init_9 := dk_seg dksX5_init_8 22 rfl rfl
theorem dksX5_init_10 : cX5_init.data.toList.drop 233 = dktX5_init_10 := dk_seg dksX5_init_9 24 rfl rfl
theorem dX5_init_0 : decode cX5_init 0 = .ok (.aload_n 0, 1) := dk_42 (dk_at dksX5_init_0 0 rfl rfl)
theorem dX5_init_1 : decode cX5_init 1 = .ok (.invokespecial 1, 3) := dk_183 0 1 (dk_at dksX5_init_0 1 rfl rfl)
theorem dX5_init_4 : decode cX5_init 4 = .ok (.aload_n 0, 1) := dk_42 (dk_at dksX5_init_0 4 rfl rfl)
theorem dX5_init_5 : decode cX5_init 5 = .ok (.iconst 4, 1) := dk_7 (dk_at dksX5_init_0 5 rfl rfl)
theorem dX5_init_6 : decode cX5_init 6 = .ok (.newarray .int, 2) := dk_188_10 (dk_at dksX5_init_0 6 rfl rfl)
theorem dX5_init_8 : decode cX5_init 8 = .ok (.putfield 7, 3) := dk_181 0 7 (dk_at dksX5_init_0 8 rfl rfl)
theorem dX5_init_11 : decode cX5_init 11 = .ok (.aload_n 0, 1) := dk_42 (dk_at dksX5_init_0 11 rfl rfl)
theorem dX5_init_12 : decode cX5_init 12 = .ok (.bipush 124, 2) := dk_16 124 (dk_at dksX5_init_0 12 rfl rfl)
theorem dX5_init_14 : decode cX5_init 14 = .ok (.newarray .int, 2) := dk_188_10 (dk_at dksX5_init_0 14 rfl rfl)
theorem dX5_init_16 : decode cX5_init 16 = .ok (.putfield 13, 3) := dk_181 0 13 (dk_at dksX5_init_0 16 rfl rfl)
theorem dX5_init_19 : decode cX5_init 19 = .ok (.aload_n 0, 1) := dk_42 (dk_at dksX5_init_0 19 rfl rfl)
theorem dX5_init_20 : decode cX5_init 20 = .ok (.iconst 2, 1) := dk_5 (dk_at dksX5_init_0 20 rfl rfl)
theorem dX5_init_21 : decode cX5_init 21 = .ok (.newarray .int, 2) := dk_188_10 (dk_at dksX5_init_0 21 rfl rfl)
theorem dX5_init_23 : decode cX5_init 23 = .ok (.putfield 16, 3) := dk_181 0 16 (dk_at dksX5_init_1 0 rfl rfl)
theorem dX5_init_26 : decode cX5_init 26 = .ok (.aload_n 0, 1) := dk_42 (dk_at dksX5_init_1 3 rfl rfl)
theorem dX5_init_27 : decode cX5_init 27 = .ok (.bipush 17, 2) := dk_16 17 (dk_at dksX5_init_1 4 rfl rfl)
theorem dX5_init_29 : decode cX5_init 29 = .ok (.newarray .int, 2) := dk_188_10 (dk_at dksX5_init_1 6 rfl rfl)
theorem dX5_init_31 : decode cX5_init 31 = .ok (.putfield 19, 3) := dk_181 0 19 (dk_at dksX5_init_1 8 rfl rfl)
theorem dX5_init_34 : decode cX5_init 34 = .ok (.aload_n 0, 1) := dk_42 (dk_at dksX5_init_1 11 rfl rfl)
theorem dX5_init_35 : decode cX5_init 35 = .ok (.bipush 17, 2) := dk_16 17 (dk_at dksX5_init_1 12 rfl rfl)
theorem dX5_init_37 : decode cX5_init 37 = .ok (.newarray .int, 2) := dk_188_10 (dk_at dksX5_init_1 14 rfl rfl)
theorem dX5_init_39 : decode cX5_init 39 = .ok (.putfield 22, 3) := dk_181 0 22 (dk_at dksX5_init_1 16 rfl rfl)
theorem dX5_init_42 : decode cX5_init 42 = .ok (.aload_n 0, 1) := dk_42 (dk_at dksX5_init_1 19 rfl rfl)
theorem dX5_init_43 : decode cX5_init 43 = .ok (.bipush 17, 2) := dk_16 17 (dk_at dksX5_init_1 20 rfl rfl)
theorem dX5_init_45 : decode cX5_init 45 = .ok (.newarray .int, 2) := dk_188_10 (dk_at dksX5_init_1 22 rfl rfl)
theorem dX5_init_47 : decode cX5_init 47 = .ok (.putfield 25, 3) := dk_181 0 25 (dk_at dksX5_init_2 0 rfl rfl)
theorem dX5_init_50 : decode cX5_init 50 = .ok (.aload_n 0, 1) := dk_42 (dk_at dksX5_init_2 3 rfl rfl)
theorem dX5_init_51 : decode cX5_init 51 = .ok (.iconst 2, 1) := dk_5 (dk_at dksX5_init_2 4 rfl rfl)
theorem dX5_init_52 : decode cX5_init 52 = .ok (.newarray .int, 2) := dk_188_10 (dk_at dksX5_init_2 5 rfl rfl)
theorem dX5_init_54 : decode cX5_init 54 = .ok (.putfield 28, 3) := dk_181 0 28 (dk_at dksX5_init_2 7 rfl rfl)
theorem dX5_init_57 : decode cX5_init 57 = .ok (.aload_n 0, 1) := dk_42 (dk_at dksX5_init_2 10 rfl rfl)
theorem dX5_init_58 : decode cX5_init 58 = .ok (.bipush 48, 2) := dk_16 48 (dk_at dksX5_init_2 11 rfl rfl)
theorem dX5_init_60 : decode cX5_init 60 = .ok (.newarray .int, 2) := dk_188_10 (dk_at dksX5_init_2 13 rfl rfl)
theorem dX5_init_62 : decode cX5_init 62 = .ok (.putfield 31, 3) := dk_181 0 31 (dk_at dksX5_init_2 15 rfl rfl)
theorem dX5_init_65 : decode cX5_init 65 = .ok (.aload_n 0, 1) := dk_42 (dk_at dksX5_init_2 18 rfl rfl)
theorem dX5_init_66 : decode cX5_init 66 = .ok (.bipush 8, 2) := dk_16 8 (dk_at dksX5_init_2 19 rfl rfl)
theorem dX5_init_68 : decode cX5_init 68 = .ok (.newarray .int, 2) := dk_188_10 (dk_at dksX5_init_2 21 rfl rfl)
theorem dX5_init_70 : decode cX5_init 70 = .ok (.putfield 34, 3) := dk_181 0 34 (dk_at dksX5_init_3 0 rfl rfl)
theorem dX5_init_73 : decode cX5_init 73 = .ok (.aload_n 0, 1) := dk_42 (dk_at dksX5_init_3 3 rfl rfl)
theorem dX5_init_74 : decode cX5_init 74 = .ok (.bipush 8, 2) := dk_16 8 (dk_at dksX5_init_3 4 rfl rfl)
theorem dX5_init_76 : decode cX5_init 76 = .ok (.newarray .int, 2) := dk_188_10 (dk_at dksX5_init_3 6 rfl rfl)
theorem dX5_init_78 : decode cX5_init 78 = .ok (.putfield 37, 3) := dk_181 0 37 (dk_at dksX5_init_3 8 rfl rfl)
theorem dX5_init_81 : decode cX5_init 81 = .ok (.aload_n 0, 1) := dk_42 (dk_at dksX5_init_3 11 rfl rfl)
theorem dX5_init_82 : decode cX5_init 82 = .ok (.bipush 8, 2) := dk_16 8 (dk_at dksX5_init_3 12 rfl rfl)
theorem dX5_init_84 : decode cX5_init 84 = .ok (.newarray .int, 2) := dk_188_10 (dk_at dksX5_init_3 14 rfl rfl)
theorem dX5_init_86 : decode cX5_init 86 = .ok (.putfield 40, 3) := dk_181 0 40 (dk_at dksX5_init_3 16 rfl rfl)
theorem dX5_init_89 : decode cX5_init 89 = .ok (.aload_n 0, 1) := dk_42 (dk_at dksX5_init_3 19 rfl rfl)
theorem dX5_init_90 : decode cX5_init 90 = .ok (.bipush 48, 2) := dk_16 48 (dk_at dksX5_init_3 20 rfl rfl)
theorem dX5_init_92 : decode cX5_init 92 = .ok (.newarray .int, 2) := dk_188_10 (dk_at dksX5_init_3 22 rfl rfl)
theorem dX5_init_94 : decode cX5_init 94 = .ok (.putfield 43, 3) := dk_181 0 43 (dk_at dksX5_init_4 0 rfl rfl)
theorem dX5_init_97 : decode cX5_init 97 = .ok (.aload_n 0, 1) := dk_42 (dk_at dksX5_init_4 3 rfl rfl)
theorem dX5_init_98 : decode cX5_init 98 = .ok (.bipush 16, 2) := dk_16 16 (dk_at dksX5_init_4 4 rfl rfl)
theorem dX5_init_100 : decode cX5_init 100 = .ok (.newarray .int, 2) := dk_188_10 (dk_at dksX5_init_4 6 rfl rfl)
theorem dX5_init_102 : decode cX5_init 102 = .ok (.putfield 46, 3) := dk_181 0 46 (dk_at dksX5_init_4 8 rfl rfl)
theorem dX5_init_105 : decode cX5_init 105 = .ok (.aload_n 0, 1) := dk_42 (dk_at dksX5_init_4 11 rfl rfl)
theorem dX5_init_106 : decode cX5_init 106 = .ok (.iconst 2, 1) := dk_5 (dk_at dksX5_init_4 12 rfl rfl)
theorem dX5_init_107 : decode cX5_init 107 = .ok (.newarray .int, 2) := dk_188_10 (dk_at dksX5_init_4 13 rfl rfl)
theorem dX5_init_109 : decode cX5_init 109 = .ok (.putfield 49, 3) := dk_181 0 49 (dk_at dksX5_init_4 15 rfl rfl)
theorem dX5_init_112 : decode cX5_init 112 = .ok (.aload_n 0, 1) := dk_42 (dk_at dksX5_init_4 18 rfl rfl)
theorem dX5_init_113 : decode cX5_init 113 = .ok (.bipush 16, 2) := dk_16 16 (dk_at dksX5_init_4 19 rfl rfl)
theorem dX5_init_115 : decode cX5_init 115 = .ok (.newarray .int, 2) := dk_188_10 (dk_at dksX5_init_4 21 rfl rfl)
theorem dX5_init_117 : decode cX5_init 117 = .ok (.putfield 52, 3) := dk_181 0 52 (dk_at dksX5_init_5 0 rfl rfl)
theorem dX5_init_120 : decode cX5_init 120 = .ok (.aload_n 0, 1) := dk_42 (dk_at dksX5_init_5 3 rfl rfl)
theorem dX5_init_121 : decode cX5_init 121 = .ok (.bipush 16, 2) := dk_16 16 (dk_at dksX5_init_5 4 rfl rfl)
theorem dX5_init_123 : decode cX5_init 123 = .ok (.newarray .int, 2) := dk_188_10 (dk_at dksX5_init_5 6 rfl rfl)
theorem dX5_init_125 : decode cX5_init 125 = .ok (.putfield 55, 3) := dk_181 0 55 (dk_at dksX5_init_5 8 rfl rfl)
theorem dX5_init_128 : decode cX5_init 128 = .ok (.aload_n 0, 1) := dk_42 (dk_at dksX5_init_5 11 rfl rfl)
theorem dX5_init_129 : decode cX5_init 129 = .ok (.bipush 16, 2) := dk_16 16 (dk_at dksX5_init_5 12 rfl rfl)
theorem dX5_init_131 : decode cX5_init 131 = .ok (.newarray .int, 2) := dk_188_10 (dk_at dksX5_init_5 14 rfl rfl)
theorem dX5_init_133 : decode cX5_init 133 = .ok (.putfield 58, 3) := dk_181 0 58 (dk_at dksX5_init_5 16 rfl rfl)
theorem dX5_init_136 : decode cX5_init 136 = .ok (.aload_n 0, 1) := dk_42 (dk_at dksX5_init_5 19 rfl rfl)
theorem dX5_init_137 : decode cX5_init 137 = .ok (.iconst 2, 1) := dk_5 (dk_at dksX5_init_5 20 rfl rfl)
theorem dX5_init_138 : decode cX5_init 138 = .ok (.newarray .int, 2) := dk_188_10 (dk_at dksX5_init_5 21 rfl rfl)
theorem dX5_init_140 : decode cX5_init 140 = .ok (.putfield 61, 3) := dk_181 0 61 (dk_at dksX5_init_6 0 rfl rfl)
theorem dX5_init_143 : decode cX5_init 143 = .ok (.aload_n 0, 1) := dk_42 (dk_at dksX5_init_6 3 rfl rfl)
theorem dX5_init_144 : decode cX5_init 144 = .ok (.bipush 24, 2) := dk_16 24 (dk_at dksX5_init_6 4 rfl rfl)
theorem dX5_init_146 : decode cX5_init 146 = .ok (.newarray .int, 2) := dk_188_10 (dk_at dksX5_init_6 6 rfl rfl)
theorem dX5_init_148 : decode cX5_init 148 = .ok (.putfield 64, 3) := dk_181 0 64 (dk_at dksX5_init_6 8 rfl rfl)
theorem dX5_init_151 : decode cX5_init 151 = .ok (.aload_n 0, 1) := dk_42 (dk_at dksX5_init_6 11 rfl rfl)
theorem dX5_init_152 : decode cX5_init 152 = .ok (.bipush 24, 2) := dk_16 24 (dk_at dksX5_init_6 12 rfl rfl)
theorem dX5_init_154 : decode cX5_init 154 = .ok (.newarray .int, 2) := dk_188_10 (dk_at dksX5_init_6 14 rfl rfl)
theorem dX5_init_156 : decode cX5_init 156 = .ok (.putfield 67, 3) := dk_181 0 67 (dk_at dksX5_init_6 16 rfl rfl)
theorem dX5_init_159 : decode cX5_init 159 = .ok (.aload_n 0, 1) := dk_42 (dk_at dksX5_init_6 19 rfl rfl)
theorem dX5_init_160 : decode cX5_init 160 = .ok (.bipush 48, 2) := dk_16 48 (dk_at dksX5_init_6 20 rfl rfl)
theorem dX5_init_162 : decode cX5_init 162 = .ok (.newarray .int, 2) := dk_188_10 (dk_at dksX5_init_6 22 rfl rfl)
theorem dX5_init_164 : decode cX5_init 164 = .ok (.putfield 70, 3) := dk_181 0 70 (dk_at dksX5_init_7 0 rfl rfl)
theorem dX5_init_167 : decode cX5_init 167 = .ok (.aload_n 0, 1) := dk_42 (dk_at dksX5_init_7 3 rfl rfl)
theorem dX5_init_168 : decode cX5_init 168 = .ok (.sipush 384, 3) := dk_17 1 128 (dk_at dksX5_init_7 4 rfl rfl)
theorem dX5_init_171 : decode cX5_init 171 = .ok (.newarray .int, 2) := dk_188_10 (dk_at dksX5_init_7 7 rfl rfl)
theorem dX5_init_173 : decode cX5_init 173 = .ok (.putfield 73, 3) := dk_181 0 73 (dk_at dksX5_init_7 9 rfl rfl)
theorem dX5_init_176 : decode cX5_init 176 = .ok (.aload_n 0, 1) := dk_42 (dk_at dksX5_init_7 12 rfl rfl)
theorem dX5_init_177 : decode cX5_init 177 = .ok (.sipush 384, 3) := dk_17 1 128 (dk_at dksX5_init_7 13 rfl rfl)
theorem dX5_init_180 : decode cX5_init 180 = .ok (.newarray .int, 2) := dk_188_10 (dk_at dksX5_init_7 16 rfl rfl)
theorem dX5_init_182 : decode cX5_init 182 = .ok (.putfield 76, 3) := dk_181 0 76 (dk_at dksX5_init_7 18 rfl rfl)
theorem dX5_init_185 : decode cX5_init 185 = .ok (.aload_n 0, 1) := dk_42 (dk_at dksX5_init_7 21 rfl rfl)
theorem dX5_init_186 : decode cX5_init 186 = .ok (.iconst 2, 1) := dk_5 (dk_at dksX5_init_7 22 rfl rfl)
theorem dX5_init_187 : decode cX5_init 187 = .ok (.newarray .int, 2) := dk_188_10 (dk_at dksX5_init_8 0 rfl rfl)
theorem dX5_init_189 : decode cX5_init 189 = .ok (.putfield 79, 3) := dk_181 0 79 (dk_at dksX5_init_8 2 rfl rfl)
theorem dX5_init_192 : decode cX5_init 192 = .ok (.aload_n 0, 1) := dk_42 (dk_at dksX5_init_8 5 rfl rfl)
theorem dX5_init_193 : decode cX5_init 193 = .ok (.bipush 8, 2) := dk_16 8 (dk_at dksX5_init_8 6 rfl rfl)
theorem dX5_init_195 : decode cX5_init 195 = .ok (.newarray .int, 2) := dk_188_10 (dk_at dksX5_init_8 8 rfl rfl)
theorem dX5_init_197 : decode cX5_init 197 = .ok (.putfield 82, 3) := dk_181 0 82 (dk_at dksX5_init_8 10 rfl rfl)
theorem dX5_init_200 : decode cX5_init 200 = .ok (.aload_n 0, 1) := dk_42 (dk_at dksX5_init_8 13 rfl rfl)
theorem dX5_init_201 : decode cX5_init 201 = .ok (.bipush 8, 2) := dk_16 8 (dk_at dksX5_init_8 14 rfl rfl)
theorem dX5_init_203 : decode cX5_init 203 = .ok (.newarray .int, 2) := dk_188_10 (dk_at dksX5_init_8 16 rfl rfl)
theorem dX5_init_205 : decode cX5_init 205 = .ok (.putfield 85, 3) := dk_181 0 85 (dk_at dksX5_init_8 18 rfl rfl)
theorem dX5_init_208 : decode cX5_init 208 = .ok (.aload_n 0, 1) := dk_42 (dk_at dksX5_init_8 21 rfl rfl)
theorem dX5_init_209 : decode cX5_init 209 = .ok (.sipush 240, 3) := dk_17 0 240 (dk_at dksX5_init_9 0 rfl rfl)
theorem dX5_init_212 : decode cX5_init 212 = .ok (.newarray .int, 2) := dk_188_10 (dk_at dksX5_init_9 3 rfl rfl)
theorem dX5_init_214 : decode cX5_init 214 = .ok (.putfield 88, 3) := dk_181 0 88 (dk_at dksX5_init_9 5 rfl rfl)
theorem dX5_init_217 : decode cX5_init 217 = .ok (.aload_n 0, 1) := dk_42 (dk_at dksX5_init_9 8 rfl rfl)
theorem dX5_init_218 : decode cX5_init 218 = .ok (.iconst 4, 1) := dk_7 (dk_at dksX5_init_9 9 rfl rfl)
theorem dX5_init_219 : decode cX5_init 219 = .ok (.newarray .boolean, 2) := dk_188_4 (dk_at dksX5_init_9 10 rfl rfl)
theorem dX5_init_221 : decode cX5_init 221 = .ok (.putfield 91, 3) := dk_181 0 91 (dk_at dksX5_init_9 12 rfl rfl)
theorem dX5_init_224 : decode cX5_init 224 = .ok (.aload_n 0, 1) := dk_42 (dk_at dksX5_init_9 15 rfl rfl)
theorem dX5_init_225 : decode cX5_init 225 = .ok (.iconst 4, 1) := dk_7 (dk_at dksX5_init_9 16 rfl rfl)
theorem dX5_init_226 : decode cX5_init 226 = .ok (.newarray .int, 2) := dk_188_10 (dk_at dksX5_init_9 17 rfl rfl)
theorem dX5_init_228 : decode cX5_init 228 = .ok (.putfield 95, 3) := dk_181 0 95 (dk_at dksX5_init_9 19 rfl rfl)
theorem dX5_init_231 : decode cX5_init 231 = .ok (.aload_n 0, 1) := dk_42 (dk_at dksX5_init_9 22 rfl rfl)
theorem dX5_init_232 : decode cX5_init 232 = .ok (.iconst 4, 1) := dk_7 (dk_at dksX5_init_9 23 rfl rfl)
theorem dX5_init_233 : decode cX5_init 233 = .ok (.newarray .int, 2) := dk_188_10 (dk_at dksX5_init_10 0 rfl rfl)
theorem dX5_init_235 : decode cX5_init 235 = .ok (.putfield 98, 3) := dk_181 0 98 (dk_at dksX5_init_10 2 rfl rfl)
theorem dX5_init_238 : decode cX5_init 238 = .ok (.aload_n 0, 1) := dk_42 (dk_at dksX5_init_10 5 rfl rfl)
theorem dX5_init_239 : decode cX5_init 239 = .ok (.sipush 240, 3) := dk_17 0 240 (dk_at dksX5_init_10 6 rfl rfl)
theorem dX5_init_242 : decode cX5_init 242 = .ok (.newarray .int, 2) := dk_188_10 (dk_at dksX5_init_10 9 rfl rfl)
theorem dX5_init_244 : decode cX5_init 244 = .ok (.putfield 101, 3) := dk_181 0 101 (dk_at dksX5_init_10 11 rfl rfl)
theorem dX5_init_247 : decode cX5_init 247 = .ok (.aload_n 0, 1) := dk_42 (dk_at dksX5_init_10 14 rfl rfl)
theorem dX5_init_248 : decode cX5_init 248 = .ok (.bipush 60, 2) := dk_16 60 (dk_at dksX5_init_10 15 rfl rfl)
theorem dX5_init_250 : decode cX5_init 250 = .ok (.newarray .int, 2) := dk_188_10 (dk_at dksX5_init_10 17 rfl rfl)
theorem dX5_init_252 : decode cX5_init 252 = .ok (.putfield 104, 3) := dk_181 0 104 (dk_at dksX5_init_10 19 rfl rfl)
theorem dX5_init_255 : decode cX5_init 255 = .ok (.return_, 1) := dk_177 (dk_at dksX5_init_10 22 rfl rfl)
abbrev cX5_type : ByteArray := prog_12_method_11_code
def yX5_type : MethodName := ⟨RX5, "type", "(II)I"⟩
def dkwX5_type_3 : List UInt8 := [96, 79, 42, 180, 0, 7, 27, 46, 172]
abbrev dktX5_type_3 : List UInt8 := dkwX5_type_3 ++ []
def dkwX5_type_2 : List UInt8 := [180, 0, 13, 16, 31, 27, 104, 42, 180, 0, 7, 27, 46, 96, 28, 79, 42, 180, 0, 7, 27, 92, 46, 4]
abbrev dktX5_type_2 : List UInt8 := dkwX5_type_2 ++ dktX5_type_3
def dkwX5_type_1 : List UInt8 := [180, 0, 7, 27, 46, 27, 5, 162, 0, 8, 16, 31, 167, 0, 5, 16, 24, 160, 0, 6, 16, 252, 172, 42]
abbrev dktX5_type_1 : List UInt8 := dkwX5_type_1 ++ dktX5_type_2
def dkwX5_type_0 : List UInt8 := [27, 184, 0, 113, 153, 0, 14, 28, 3, 17, 0, 255, 184, 0, 109, 154, 0, 6, 16, 254, 172, 42]
abbrev dktX5_type_0 : List UInt8 := dkwX5_type_0 ++ dktX5_type_1
theorem dksX5_type_0 : cX5_type.data.toList.drop 0 = dktX5_type_0 := by decide +kernel
theorem dksX5_type_1 : cX5_type.data.toList.drop 22 = dktX5_type_1 := dk_seg dksX5_type_0 22 rfl rfl
theorem dksX5_type_2 : cX5_type.data.toList.drop 46 = dktX5_type_2 := dk_seg dksX5_type_1 24 rfl rfl
theorem dksX5_type_3 : cX5_type.data.toList.drop 70 = dktX5_type_3 := dk_seg dksX5_type_2 24 rfl rfl
theorem dX5_type_0 : decode cX5_type 0 = .ok (.iload_n 1, 1) := dk_27 (dk_at dksX5_type_0 0 rfl rfl)
theorem dX5_type_1 : decode cX5_type 1 = .ok (.invokestatic 113, 3) := dk_184 0 113 (dk_at dksX5_type_0 1 rfl rfl)
theorem dX5_type_4 : decode cX5_type 4 = .ok (.ifCond .eq 14, 3) := dk_153 0 14 (dk_at dksX5_type_0 4 rfl rfl)
theorem dX5_type_7 : decode cX5_type 7 = .ok (.iload_n 2, 1) := dk_28 (dk_at dksX5_type_0 7 rfl rfl)
theorem dX5_type_8 : decode cX5_type 8 = .ok (.iconst 0, 1) := dk_3 (dk_at dksX5_type_0 8 rfl rfl)
theorem dX5_type_9 : decode cX5_type 9 = .ok (.sipush 255, 3) := dk_17 0 255 (dk_at dksX5_type_0 9 rfl rfl)
theorem dX5_type_12 : decode cX5_type 12 = .ok (.invokestatic 109, 3) := dk_184 0 109 (dk_at dksX5_type_0 12 rfl rfl)
theorem dX5_type_15 : decode cX5_type 15 = .ok (.ifCond .ne 6, 3) := dk_154 0 6 (dk_at dksX5_type_0 15 rfl rfl)
theorem dX5_type_18 : decode cX5_type 18 = .ok (.bipush (-2), 2) := dk_16 254 (dk_at dksX5_type_0 18 rfl rfl)
theorem dX5_type_20 : decode cX5_type 20 = .ok (.ireturn, 1) := dk_172 (dk_at dksX5_type_0 20 rfl rfl)
theorem dX5_type_21 : decode cX5_type 21 = .ok (.aload_n 0, 1) := dk_42 (dk_at dksX5_type_0 21 rfl rfl)
theorem dX5_type_22 : decode cX5_type 22 = .ok (.getfield 7, 3) := dk_180 0 7 (dk_at dksX5_type_1 0 rfl rfl)
theorem dX5_type_25 : decode cX5_type 25 = .ok (.iload_n 1, 1) := dk_27 (dk_at dksX5_type_1 3 rfl rfl)
theorem dX5_type_26 : decode cX5_type 26 = .ok (.iaload, 1) := dk_46 (dk_at dksX5_type_1 4 rfl rfl)
theorem dX5_type_27 : decode cX5_type 27 = .ok (.iload_n 1, 1) := dk_27 (dk_at dksX5_type_1 5 rfl rfl)
theorem dX5_type_28 : decode cX5_type 28 = .ok (.iconst 2, 1) := dk_5 (dk_at dksX5_type_1 6 rfl rfl)
theorem dX5_type_29 : decode cX5_type 29 = .ok (.if_icmp .ge 8, 3) := dk_162 0 8 (dk_at dksX5_type_1 7 rfl rfl)
theorem dX5_type_32 : decode cX5_type 32 = .ok (.bipush 31, 2) := dk_16 31 (dk_at dksX5_type_1 10 rfl rfl)
theorem dX5_type_34 : decode cX5_type 34 = .ok (.goto 5, 3) := dk_167 0 5 (dk_at dksX5_type_1 12 rfl rfl)
theorem dX5_type_37 : decode cX5_type 37 = .ok (.bipush 24, 2) := dk_16 24 (dk_at dksX5_type_1 15 rfl rfl)
theorem dX5_type_39 : decode cX5_type 39 = .ok (.if_icmp .ne 6, 3) := dk_160 0 6 (dk_at dksX5_type_1 17 rfl rfl)
theorem dX5_type_42 : decode cX5_type 42 = .ok (.bipush (-4), 2) := dk_16 252 (dk_at dksX5_type_1 20 rfl rfl)
theorem dX5_type_44 : decode cX5_type 44 = .ok (.ireturn, 1) := dk_172 (dk_at dksX5_type_1 22 rfl rfl)
theorem dX5_type_45 : decode cX5_type 45 = .ok (.aload_n 0, 1) := dk_42 (dk_at dksX5_type_1 23 rfl rfl)
theorem dX5_type_46 : decode cX5_type 46 = .ok (.getfield 13, 3) := dk_180 0 13 (dk_at dksX5_type_2 0 rfl rfl)
theorem dX5_type_49 : decode cX5_type 49 = .ok (.bipush 31, 2) := dk_16 31 (dk_at dksX5_type_2 3 rfl rfl)
theorem dX5_type_51 : decode cX5_type 51 = .ok (.iload_n 1, 1) := dk_27 (dk_at dksX5_type_2 5 rfl rfl)
theorem dX5_type_52 : decode cX5_type 52 = .ok (.imul, 1) := dk_104 (dk_at dksX5_type_2 6 rfl rfl)
theorem dX5_type_53 : decode cX5_type 53 = .ok (.aload_n 0, 1) := dk_42 (dk_at dksX5_type_2 7 rfl rfl)
theorem dX5_type_54 : decode cX5_type 54 = .ok (.getfield 7, 3) := dk_180 0 7 (dk_at dksX5_type_2 8 rfl rfl)
theorem dX5_type_57 : decode cX5_type 57 = .ok (.iload_n 1, 1) := dk_27 (dk_at dksX5_type_2 11 rfl rfl)
theorem dX5_type_58 : decode cX5_type 58 = .ok (.iaload, 1) := dk_46 (dk_at dksX5_type_2 12 rfl rfl)
theorem dX5_type_59 : decode cX5_type 59 = .ok (.iadd, 1) := dk_96 (dk_at dksX5_type_2 13 rfl rfl)
theorem dX5_type_60 : decode cX5_type 60 = .ok (.iload_n 2, 1) := dk_28 (dk_at dksX5_type_2 14 rfl rfl)
theorem dX5_type_61 : decode cX5_type 61 = .ok (.iastore, 1) := dk_79 (dk_at dksX5_type_2 15 rfl rfl)
theorem dX5_type_62 : decode cX5_type 62 = .ok (.aload_n 0, 1) := dk_42 (dk_at dksX5_type_2 16 rfl rfl)
theorem dX5_type_63 : decode cX5_type 63 = .ok (.getfield 7, 3) := dk_180 0 7 (dk_at dksX5_type_2 17 rfl rfl)
theorem dX5_type_66 : decode cX5_type 66 = .ok (.iload_n 1, 1) := dk_27 (dk_at dksX5_type_2 20 rfl rfl)
theorem dX5_type_67 : decode cX5_type 67 = .ok (.dup2, 1) := dk_92 (dk_at dksX5_type_2 21 rfl rfl)
theorem dX5_type_68 : decode cX5_type 68 = .ok (.iaload, 1) := dk_46 (dk_at dksX5_type_2 22 rfl rfl)
theorem dX5_type_69 : decode cX5_type 69 = .ok (.iconst 1, 1) := dk_4 (dk_at dksX5_type_2 23 rfl rfl)
theorem dX5_type_70 : decode cX5_type 70 = .ok (.iadd, 1) := dk_96 (dk_at dksX5_type_3 0 rfl rfl)
theorem dX5_type_71 : decode cX5_type 71 = .ok (.iastore, 1) := dk_79 (dk_at dksX5_type_3 1 rfl rfl)
theorem dX5_type_72 : decode cX5_type 72 = .ok (.aload_n 0, 1) := dk_42 (dk_at dksX5_type_3 2 rfl rfl)
theorem dX5_type_73 : decode cX5_type 73 = .ok (.getfield 7, 3) := dk_180 0 7 (dk_at dksX5_type_3 3 rfl rfl)
theorem dX5_type_76 : decode cX5_type 76 = .ok (.iload_n 1, 1) := dk_27 (dk_at dksX5_type_3 6 rfl rfl)
theorem dX5_type_77 : decode cX5_type 77 = .ok (.iaload, 1) := dk_46 (dk_at dksX5_type_3 7 rfl rfl)
theorem dX5_type_78 : decode cX5_type 78 = .ok (.ireturn, 1) := dk_172 (dk_at dksX5_type_3 8 rfl rfl)
abbrev cX5_isText : ByteArray := prog_12_method_7_code
def yX5_isText : MethodName := ⟨RX5, "isText", "(I)Z"⟩
def dkwX5_isText_0 : List UInt8 := [26, 3, 6, 184, 0, 109, 172]
abbrev dktX5_isText_0 : List UInt8 := dkwX5_isText_0 ++ []
theorem dksX5_isText_0 : cX5_isText.data.toList.drop 0 = dktX5_isText_0 := by decide +kernel
theorem dX5_isText_0 : decode cX5_isText 0 = .ok (.iload_n 0, 1) := dk_26 (dk_at dksX5_isText_0 0 rfl rfl)
theorem dX5_isText_1 : decode cX5_isText 1 = .ok (.iconst 0, 1) := dk_3 (dk_at dksX5_isText_0 1 rfl rfl)
theorem dX5_isText_2 : decode cX5_isText 2 = .ok (.iconst 3, 1) := dk_6 (dk_at dksX5_isText_0 2 rfl rfl)
theorem dX5_isText_3 : decode cX5_isText 3 = .ok (.invokestatic 109, 3) := dk_184 0 109 (dk_at dksX5_isText_0 3 rfl rfl)
theorem dX5_isText_6 : decode cX5_isText 6 = .ok (.ireturn, 1) := dk_172 (dk_at dksX5_isText_0 6 rfl rfl)
abbrev cX5_in : ByteArray := prog_12_method_3_code
def yX5_in : MethodName := ⟨RX5, "in", "(III)Z"⟩
def dkwX5_in_0 : List UInt8 := [26, 27, 161, 0, 12, 26, 28, 163, 0, 7, 4, 167, 0, 4, 3, 172]
abbrev dktX5_in_0 : List UInt8 := dkwX5_in_0 ++ []
theorem dksX5_in_0 : cX5_in.data.toList.drop 0 = dktX5_in_0 := by decide +kernel
theorem dX5_in_0 : decode cX5_in 0 = .ok (.iload_n 0, 1) := dk_26 (dk_at dksX5_in_0 0 rfl rfl)
theorem dX5_in_1 : decode cX5_in 1 = .ok (.iload_n 1, 1) := dk_27 (dk_at dksX5_in_0 1 rfl rfl)
theorem dX5_in_2 : decode cX5_in 2 = .ok (.if_icmp .lt 12, 3) := dk_161 0 12 (dk_at dksX5_in_0 2 rfl rfl)
theorem dX5_in_5 : decode cX5_in 5 = .ok (.iload_n 0, 1) := dk_26 (dk_at dksX5_in_0 5 rfl rfl)
theorem dX5_in_6 : decode cX5_in 6 = .ok (.iload_n 2, 1) := dk_28 (dk_at dksX5_in_0 6 rfl rfl)
theorem dX5_in_7 : decode cX5_in 7 = .ok (.if_icmp .gt 7, 3) := dk_163 0 7 (dk_at dksX5_in_0 7 rfl rfl)
theorem dX5_in_10 : decode cX5_in 10 = .ok (.iconst 1, 1) := dk_4 (dk_at dksX5_in_0 10 rfl rfl)
theorem dX5_in_11 : decode cX5_in 11 = .ok (.goto 4, 3) := dk_167 0 4 (dk_at dksX5_in_0 11 rfl rfl)
theorem dX5_in_14 : decode cX5_in 14 = .ok (.iconst 0, 1) := dk_3 (dk_at dksX5_in_0 14 rfl rfl)
theorem dX5_in_15 : decode cX5_in 15 = .ok (.ireturn, 1) := dk_172 (dk_at dksX5_in_0 15 rfl rfl)
abbrev cX5_wipe : ByteArray := prog_12_method_12_code
def yX5_wipe : MethodName := ⟨RX5, "wipe", "(I)I"⟩
def dkwX5_wipe_1 : List UInt8 := [28, 172]
abbrev dktX5_wipe_1 : List UInt8 := dkwX5_wipe_1 ++ []
def dkwX5_wipe_0 : List UInt8 := [27, 184, 0, 113, 154, 0, 6, 16, 254, 172, 42, 180, 0, 7, 27, 46, 61, 42, 180, 0, 7, 27, 3, 79]
abbrev dktX5_wipe_0 : List UInt8 := dkwX5_wipe_0 ++ dktX5_wipe_1
theorem dksX5_wipe_0 : cX5_wipe.data.toList.drop 0 = dktX5_wipe_0 := by decide +kernel
theorem dksX5_wipe_1 : cX5_wipe.data.toList.drop 24 = dktX5_wipe_1 := dk_seg dksX5_wipe_0 24 rfl rfl
theorem dX5_wipe_0 : decode cX5_wipe 0 = .ok (.iload_n 1, 1) := dk_27 (dk_at dksX5_wipe_0 0 rfl rfl)
theorem dX5_wipe_1 : decode cX5_wipe 1 = .ok (.invokestatic 113, 3) := dk_184 0 113 (dk_at dksX5_wipe_0 1 rfl rfl)
theorem dX5_wipe_4 : decode cX5_wipe 4 = .ok (.ifCond .ne 6, 3) := dk_154 0 6 (dk_at dksX5_wipe_0 4 rfl rfl)
theorem dX5_wipe_7 : decode cX5_wipe 7 = .ok (.bipush (-2), 2) := dk_16 254 (dk_at dksX5_wipe_0 7 rfl rfl)
theorem dX5_wipe_9 : decode cX5_wipe 9 = .ok (.ireturn, 1) := dk_172 (dk_at dksX5_wipe_0 9 rfl rfl)
theorem dX5_wipe_10 : decode cX5_wipe 10 = .ok (.aload_n 0, 1) := dk_42 (dk_at dksX5_wipe_0 10 rfl rfl)
theorem dX5_wipe_11 : decode cX5_wipe 11 = .ok (.getfield 7, 3) := dk_180 0 7 (dk_at dksX5_wipe_0 11 rfl rfl)
theorem dX5_wipe_14 : decode cX5_wipe 14 = .ok (.iload_n 1, 1) := dk_27 (dk_at dksX5_wipe_0 14 rfl rfl)
theorem dX5_wipe_15 : decode cX5_wipe 15 = .ok (.iaload, 1) := dk_46 (dk_at dksX5_wipe_0 15 rfl rfl)
theorem dX5_wipe_16 : decode cX5_wipe 16 = .ok (.istore_n 2, 1) := dk_61 (dk_at dksX5_wipe_0 16 rfl rfl)
theorem dX5_wipe_17 : decode cX5_wipe 17 = .ok (.aload_n 0, 1) := dk_42 (dk_at dksX5_wipe_0 17 rfl rfl)
theorem dX5_wipe_18 : decode cX5_wipe 18 = .ok (.getfield 7, 3) := dk_180 0 7 (dk_at dksX5_wipe_0 18 rfl rfl)
theorem dX5_wipe_21 : decode cX5_wipe 21 = .ok (.iload_n 1, 1) := dk_27 (dk_at dksX5_wipe_0 21 rfl rfl)
theorem dX5_wipe_22 : decode cX5_wipe 22 = .ok (.iconst 0, 1) := dk_3 (dk_at dksX5_wipe_0 22 rfl rfl)
theorem dX5_wipe_23 : decode cX5_wipe 23 = .ok (.iastore, 1) := dk_79 (dk_at dksX5_wipe_0 23 rfl rfl)
theorem dX5_wipe_24 : decode cX5_wipe 24 = .ok (.iload_n 2, 1) := dk_28 (dk_at dksX5_wipe_1 0 rfl rfl)
theorem dX5_wipe_25 : decode cX5_wipe 25 = .ok (.ireturn, 1) := dk_172 (dk_at dksX5_wipe_1 1 rfl rfl)
abbrev cX5_undo : ByteArray := prog_12_method_13_code
def yX5_undo : MethodName := ⟨RX5, "undo", "(I)I"⟩
def dkwX5_undo_1 : List UInt8 := [180, 0, 7, 27, 92, 46, 4, 100, 79, 42, 180, 0, 7, 27, 46, 172]
abbrev dktX5_undo_1 : List UInt8 := dkwX5_undo_1 ++ []
def dkwX5_undo_0 : List UInt8 := [27, 184, 0, 113, 154, 0, 6, 16, 254, 172, 42, 180, 0, 7, 27, 46, 154, 0, 6, 16, 253, 172, 42]
abbrev dktX5_undo_0 : List UInt8 := dkwX5_undo_0 ++ dktX5_undo_1
theorem dksX5_undo_0 : cX5_undo.data.toList.drop 0 = dktX5_undo_0 := by decide +kernel
theorem dksX5_undo_1 : cX5_undo.data.toList.drop 23 = dktX5_undo_1 := dk_seg dksX5_undo_0 23 rfl rfl
theorem dX5_undo_0 : decode cX5_undo 0 = .ok (.iload_n 1, 1) := dk_27 (dk_at dksX5_undo_0 0 rfl rfl)
theorem dX5_undo_1 : decode cX5_undo 1 = .ok (.invokestatic 113, 3) := dk_184 0 113 (dk_at dksX5_undo_0 1 rfl rfl)
theorem dX5_undo_4 : decode cX5_undo 4 = .ok (.ifCond .ne 6, 3) := dk_154 0 6 (dk_at dksX5_undo_0 4 rfl rfl)
theorem dX5_undo_7 : decode cX5_undo 7 = .ok (.bipush (-2), 2) := dk_16 254 (dk_at dksX5_undo_0 7 rfl rfl)
theorem dX5_undo_9 : decode cX5_undo 9 = .ok (.ireturn, 1) := dk_172 (dk_at dksX5_undo_0 9 rfl rfl)
theorem dX5_undo_10 : decode cX5_undo 10 = .ok (.aload_n 0, 1) := dk_42 (dk_at dksX5_undo_0 10 rfl rfl)
theorem dX5_undo_11 : decode cX5_undo 11 = .ok (.getfield 7, 3) := dk_180 0 7 (dk_at dksX5_undo_0 11 rfl rfl)
theorem dX5_undo_14 : decode cX5_undo 14 = .ok (.iload_n 1, 1) := dk_27 (dk_at dksX5_undo_0 14 rfl rfl)
theorem dX5_undo_15 : decode cX5_undo 15 = .ok (.iaload, 1) := dk_46 (dk_at dksX5_undo_0 15 rfl rfl)
theorem dX5_undo_16 : decode cX5_undo 16 = .ok (.ifCond .ne 6, 3) := dk_154 0 6 (dk_at dksX5_undo_0 16 rfl rfl)
theorem dX5_undo_19 : decode cX5_undo 19 = .ok (.bipush (-3), 2) := dk_16 253 (dk_at dksX5_undo_0 19 rfl rfl)
theorem dX5_undo_21 : decode cX5_undo 21 = .ok (.ireturn, 1) := dk_172 (dk_at dksX5_undo_0 21 rfl rfl)
theorem dX5_undo_22 : decode cX5_undo 22 = .ok (.aload_n 0, 1) := dk_42 (dk_at dksX5_undo_0 22 rfl rfl)
theorem dX5_undo_23 : decode cX5_undo 23 = .ok (.getfield 7, 3) := dk_180 0 7 (dk_at dksX5_undo_1 0 rfl rfl)
theorem dX5_undo_26 : decode cX5_undo 26 = .ok (.iload_n 1, 1) := dk_27 (dk_at dksX5_undo_1 3 rfl rfl)
theorem dX5_undo_27 : decode cX5_undo 27 = .ok (.dup2, 1) := dk_92 (dk_at dksX5_undo_1 4 rfl rfl)
theorem dX5_undo_28 : decode cX5_undo 28 = .ok (.iaload, 1) := dk_46 (dk_at dksX5_undo_1 5 rfl rfl)
theorem dX5_undo_29 : decode cX5_undo 29 = .ok (.iconst 1, 1) := dk_4 (dk_at dksX5_undo_1 6 rfl rfl)
theorem dX5_undo_30 : decode cX5_undo 30 = .ok (.isub, 1) := dk_100 (dk_at dksX5_undo_1 7 rfl rfl)
theorem dX5_undo_31 : decode cX5_undo 31 = .ok (.iastore, 1) := dk_79 (dk_at dksX5_undo_1 8 rfl rfl)
theorem dX5_undo_32 : decode cX5_undo 32 = .ok (.aload_n 0, 1) := dk_42 (dk_at dksX5_undo_1 9 rfl rfl)
theorem dX5_undo_33 : decode cX5_undo 33 = .ok (.getfield 7, 3) := dk_180 0 7 (dk_at dksX5_undo_1 10 rfl rfl)
theorem dX5_undo_36 : decode cX5_undo 36 = .ok (.iload_n 1, 1) := dk_27 (dk_at dksX5_undo_1 13 rfl rfl)
theorem dX5_undo_37 : decode cX5_undo 37 = .ok (.iaload, 1) := dk_46 (dk_at dksX5_undo_1 14 rfl rfl)
theorem dX5_undo_38 : decode cX5_undo 38 = .ok (.ireturn, 1) := dk_172 (dk_at dksX5_undo_1 15 rfl rfl)
abbrev cX5_fault : ByteArray := prog_12_method_21_code
def yX5_fault : MethodName := ⟨RX5, "fault", "(I)I"⟩
def dkwX5_fault_0 : List UInt8 := [27, 184, 0, 113, 153, 0, 11, 42, 27, 182, 0, 135, 167, 0, 5, 16, 254, 172]
abbrev dktX5_fault_0 : List UInt8 := dkwX5_fault_0 ++ []
theorem dksX5_fault_0 : cX5_fault.data.toList.drop 0 = dktX5_fault_0 := by decide +kernel
theorem dX5_fault_0 : decode cX5_fault 0 = .ok (.iload_n 1, 1) := dk_27 (dk_at dksX5_fault_0 0 rfl rfl)
theorem dX5_fault_1 : decode cX5_fault 1 = .ok (.invokestatic 113, 3) := dk_184 0 113 (dk_at dksX5_fault_0 1 rfl rfl)
theorem dX5_fault_4 : decode cX5_fault 4 = .ok (.ifCond .eq 11, 3) := dk_153 0 11 (dk_at dksX5_fault_0 4 rfl rfl)
theorem dX5_fault_7 : decode cX5_fault 7 = .ok (.aload_n 0, 1) := dk_42 (dk_at dksX5_fault_0 7 rfl rfl)
theorem dX5_fault_8 : decode cX5_fault 8 = .ok (.iload_n 1, 1) := dk_27 (dk_at dksX5_fault_0 8 rfl rfl)
theorem dX5_fault_9 : decode cX5_fault 9 = .ok (.invokevirtual 135, 3) := dk_182 0 135 (dk_at dksX5_fault_0 9 rfl rfl)
theorem dX5_fault_12 : decode cX5_fault 12 = .ok (.goto 5, 3) := dk_167 0 5 (dk_at dksX5_fault_0 12 rfl rfl)
theorem dX5_fault_15 : decode cX5_fault 15 = .ok (.bipush (-2), 2) := dk_16 254 (dk_at dksX5_fault_0 15 rfl rfl)
theorem dX5_fault_17 : decode cX5_fault 17 = .ok (.ireturn, 1) := dk_172 (dk_at dksX5_fault_0 17 rfl rfl)
abbrev cX5_faultOf : ByteArray := prog_12_method_19_code
def yX5_faultOf : MethodName := ⟨RX5, "faultOf", "(I)I"⟩
def dkwX5_faultOf_2 : List UInt8 := [21, 4, 167, 0, 5, 21, 5, 172]
abbrev dktX5_faultOf_2 : List UInt8 := dkwX5_faultOf_2 ++ []
def dkwX5_faultOf_1 : List UInt8 := [54, 5, 27, 154, 0, 7, 28, 167, 0, 24, 27, 4, 160, 0, 7, 29, 167, 0, 15, 27, 5, 160, 0, 8]
abbrev dktX5_faultOf_1 : List UInt8 := dkwX5_faultOf_1 ++ dktX5_faultOf_2
def dkwX5_faultOf_0 : List UInt8 := [42, 3, 182, 0, 129, 61, 42, 4, 182, 0, 129, 62, 42, 3, 182, 0, 132, 54, 4, 42, 4, 182, 0, 132]
abbrev dktX5_faultOf_0 : List UInt8 := dkwX5_faultOf_0 ++ dktX5_faultOf_1
theorem dksX5_faultOf_0 : cX5_faultOf.data.toList.drop 0 = dktX5_faultOf_0 := by decide +kernel
theorem dksX5_faultOf_1 : cX5_faultOf.data.toList.drop 24 = dktX5_faultOf_1 := dk_seg dksX5_faultOf_0 24 rfl rfl
theorem dksX5_faultOf_2 : cX5_faultOf.data.toList.drop 48 = dktX5_faultOf_2 := dk_seg dksX5_faultOf_1 24 rfl rfl
theorem dX5_faultOf_0 : decode cX5_faultOf 0 = .ok (.aload_n 0, 1) := dk_42 (dk_at dksX5_faultOf_0 0 rfl rfl)
theorem dX5_faultOf_1 : decode cX5_faultOf 1 = .ok (.iconst 0, 1) := dk_3 (dk_at dksX5_faultOf_0 1 rfl rfl)
theorem dX5_faultOf_2 : decode cX5_faultOf 2 = .ok (.invokevirtual 129, 3) := dk_182 0 129 (dk_at dksX5_faultOf_0 2 rfl rfl)
theorem dX5_faultOf_5 : decode cX5_faultOf 5 = .ok (.istore_n 2, 1) := dk_61 (dk_at dksX5_faultOf_0 5 rfl rfl)
theorem dX5_faultOf_6 : decode cX5_faultOf 6 = .ok (.aload_n 0, 1) := dk_42 (dk_at dksX5_faultOf_0 6 rfl rfl)
theorem dX5_faultOf_7 : decode cX5_faultOf 7 = .ok (.iconst 1, 1) := dk_4 (dk_at dksX5_faultOf_0 7 rfl rfl)
theorem dX5_faultOf_8 : decode cX5_faultOf 8 = .ok (.invokevirtual 129, 3) := dk_182 0 129 (dk_at dksX5_faultOf_0 8 rfl rfl)
theorem dX5_faultOf_11 : decode cX5_faultOf 11 = .ok (.istore_n 3, 1) := dk_62 (dk_at dksX5_faultOf_0 11 rfl rfl)
theorem dX5_faultOf_12 : decode cX5_faultOf 12 = .ok (.aload_n 0, 1) := dk_42 (dk_at dksX5_faultOf_0 12 rfl rfl)
theorem dX5_faultOf_13 : decode cX5_faultOf 13 = .ok (.iconst 0, 1) := dk_3 (dk_at dksX5_faultOf_0 13 rfl rfl)
theorem dX5_faultOf_14 : decode cX5_faultOf 14 = .ok (.invokevirtual 132, 3) := dk_182 0 132 (dk_at dksX5_faultOf_0 14 rfl rfl)
theorem dX5_faultOf_17 : decode cX5_faultOf 17 = .ok (.istore 4, 2) := dk_54 4 (dk_at dksX5_faultOf_0 17 rfl rfl)
theorem dX5_faultOf_19 : decode cX5_faultOf 19 = .ok (.aload_n 0, 1) := dk_42 (dk_at dksX5_faultOf_0 19 rfl rfl)
theorem dX5_faultOf_20 : decode cX5_faultOf 20 = .ok (.iconst 1, 1) := dk_4 (dk_at dksX5_faultOf_0 20 rfl rfl)
theorem dX5_faultOf_21 : decode cX5_faultOf 21 = .ok (.invokevirtual 132, 3) := dk_182 0 132 (dk_at dksX5_faultOf_0 21 rfl rfl)
theorem dX5_faultOf_24 : decode cX5_faultOf 24 = .ok (.istore 5, 2) := dk_54 5 (dk_at dksX5_faultOf_1 0 rfl rfl)
theorem dX5_faultOf_26 : decode cX5_faultOf 26 = .ok (.iload_n 1, 1) := dk_27 (dk_at dksX5_faultOf_1 2 rfl rfl)
theorem dX5_faultOf_27 : decode cX5_faultOf 27 = .ok (.ifCond .ne 7, 3) := dk_154 0 7 (dk_at dksX5_faultOf_1 3 rfl rfl)
theorem dX5_faultOf_30 : decode cX5_faultOf 30 = .ok (.iload_n 2, 1) := dk_28 (dk_at dksX5_faultOf_1 6 rfl rfl)
theorem dX5_faultOf_31 : decode cX5_faultOf 31 = .ok (.goto 24, 3) := dk_167 0 24 (dk_at dksX5_faultOf_1 7 rfl rfl)
theorem dX5_faultOf_34 : decode cX5_faultOf 34 = .ok (.iload_n 1, 1) := dk_27 (dk_at dksX5_faultOf_1 10 rfl rfl)
theorem dX5_faultOf_35 : decode cX5_faultOf 35 = .ok (.iconst 1, 1) := dk_4 (dk_at dksX5_faultOf_1 11 rfl rfl)
theorem dX5_faultOf_36 : decode cX5_faultOf 36 = .ok (.if_icmp .ne 7, 3) := dk_160 0 7 (dk_at dksX5_faultOf_1 12 rfl rfl)
theorem dX5_faultOf_39 : decode cX5_faultOf 39 = .ok (.iload_n 3, 1) := dk_29 (dk_at dksX5_faultOf_1 15 rfl rfl)
theorem dX5_faultOf_40 : decode cX5_faultOf 40 = .ok (.goto 15, 3) := dk_167 0 15 (dk_at dksX5_faultOf_1 16 rfl rfl)
theorem dX5_faultOf_43 : decode cX5_faultOf 43 = .ok (.iload_n 1, 1) := dk_27 (dk_at dksX5_faultOf_1 19 rfl rfl)
theorem dX5_faultOf_44 : decode cX5_faultOf 44 = .ok (.iconst 2, 1) := dk_5 (dk_at dksX5_faultOf_1 20 rfl rfl)
theorem dX5_faultOf_45 : decode cX5_faultOf 45 = .ok (.if_icmp .ne 8, 3) := dk_160 0 8 (dk_at dksX5_faultOf_1 21 rfl rfl)
theorem dX5_faultOf_48 : decode cX5_faultOf 48 = .ok (.iload 4, 2) := dk_21 4 (dk_at dksX5_faultOf_2 0 rfl rfl)
theorem dX5_faultOf_50 : decode cX5_faultOf 50 = .ok (.goto 5, 3) := dk_167 0 5 (dk_at dksX5_faultOf_2 2 rfl rfl)
theorem dX5_faultOf_53 : decode cX5_faultOf 53 = .ok (.iload 5, 2) := dk_21 5 (dk_at dksX5_faultOf_2 5 rfl rfl)
theorem dX5_faultOf_55 : decode cX5_faultOf 55 = .ok (.ireturn, 1) := dk_172 (dk_at dksX5_faultOf_2 7 rfl rfl)
abbrev cX5_readsTeam : ByteArray := prog_12_method_16_code
def yX5_readsTeam : MethodName := ⟨RX5, "readsTeam", "(I)I"⟩
def dkwX5_readsTeam_3 : List UInt8 := [172, 42, 27, 29, 182, 0, 117, 16, 59, 159, 0, 5, 29, 172, 132, 3, 1, 167, 255, 181, 2, 172]
abbrev dktX5_readsTeam_3 : List UInt8 := dkwX5_readsTeam_3 ++ []
def dkwX5_readsTeam_2 : List UInt8 := [132, 2, 1, 132, 3, 3, 29, 42, 180, 0, 7, 27, 46, 160, 0, 12, 42, 180, 0, 16, 27, 28, 79, 2]
abbrev dktX5_readsTeam_2 : List UInt8 := dkwX5_readsTeam_2 ++ dktX5_readsTeam_3
def dkwX5_readsTeam_1 : List UInt8 := [158, 0, 67, 42, 27, 28, 29, 182, 0, 121, 54, 4, 21, 4, 6, 162, 0, 8, 29, 21, 4, 96, 172]
abbrev dktX5_readsTeam_1 : List UInt8 := dkwX5_readsTeam_1 ++ dktX5_readsTeam_2
def dkwX5_readsTeam_0 : List UInt8 := [3, 61, 3, 62, 42, 180, 0, 16, 27, 3, 79, 29, 42, 180, 0, 7, 27, 46, 161, 0, 7, 29]
abbrev dktX5_readsTeam_0 : List UInt8 := dkwX5_readsTeam_0 ++ dktX5_readsTeam_1
theorem dksX5_readsTeam_0 : cX5_readsTeam.data.toList.drop 0 = dktX5_readsTeam_0 := by decide +kernel
theorem dksX5_readsTeam_1 : cX5_readsTeam.data.toList.drop 22 = dktX5_readsTeam_1 := dk_seg dksX5_readsTeam_0 22 rfl rfl
theorem dksX5_readsTeam_2 : cX5_readsTeam.data.toList.drop 45 = dktX5_readsTeam_2 := dk_seg dksX5_readsTeam_1 23 rfl rfl
theorem dksX5_readsTeam_3 : cX5_readsTeam.data.toList.drop 69 = dktX5_readsTeam_3 := dk_seg dksX5_readsTeam_2 24 rfl rfl
theorem dX5_readsTeam_0 : decode cX5_readsTeam 0 = .ok (.iconst 0, 1) := dk_3 (dk_at dksX5_readsTeam_0 0 rfl rfl)
theorem dX5_readsTeam_1 : decode cX5_readsTeam 1 = .ok (.istore_n 2, 1) := dk_61 (dk_at dksX5_readsTeam_0 1 rfl rfl)
theorem dX5_readsTeam_2 : decode cX5_readsTeam 2 = .ok (.iconst 0, 1) := dk_3 (dk_at dksX5_readsTeam_0 2 rfl rfl)
theorem dX5_readsTeam_3 : decode cX5_readsTeam 3 = .ok (.istore_n 3, 1) := dk_62 (dk_at dksX5_readsTeam_0 3 rfl rfl)
theorem dX5_readsTeam_4 : decode cX5_readsTeam 4 = .ok (.aload_n 0, 1) := dk_42 (dk_at dksX5_readsTeam_0 4 rfl rfl)
theorem dX5_readsTeam_5 : decode cX5_readsTeam 5 = .ok (.getfield 16, 3) := dk_180 0 16 (dk_at dksX5_readsTeam_0 5 rfl rfl)
theorem dX5_readsTeam_8 : decode cX5_readsTeam 8 = .ok (.iload_n 1, 1) := dk_27 (dk_at dksX5_readsTeam_0 8 rfl rfl)
theorem dX5_readsTeam_9 : decode cX5_readsTeam 9 = .ok (.iconst 0, 1) := dk_3 (dk_at dksX5_readsTeam_0 9 rfl rfl)
theorem dX5_readsTeam_10 : decode cX5_readsTeam 10 = .ok (.iastore, 1) := dk_79 (dk_at dksX5_readsTeam_0 10 rfl rfl)
theorem dX5_readsTeam_11 : decode cX5_readsTeam 11 = .ok (.iload_n 3, 1) := dk_29 (dk_at dksX5_readsTeam_0 11 rfl rfl)
theorem dX5_readsTeam_12 : decode cX5_readsTeam 12 = .ok (.aload_n 0, 1) := dk_42 (dk_at dksX5_readsTeam_0 12 rfl rfl)
theorem dX5_readsTeam_13 : decode cX5_readsTeam 13 = .ok (.getfield 7, 3) := dk_180 0 7 (dk_at dksX5_readsTeam_0 13 rfl rfl)
theorem dX5_readsTeam_16 : decode cX5_readsTeam 16 = .ok (.iload_n 1, 1) := dk_27 (dk_at dksX5_readsTeam_0 16 rfl rfl)
theorem dX5_readsTeam_17 : decode cX5_readsTeam 17 = .ok (.iaload, 1) := dk_46 (dk_at dksX5_readsTeam_0 17 rfl rfl)
theorem dX5_readsTeam_18 : decode cX5_readsTeam 18 = .ok (.if_icmp .lt 7, 3) := dk_161 0 7 (dk_at dksX5_readsTeam_0 18 rfl rfl)
theorem dX5_readsTeam_21 : decode cX5_readsTeam 21 = .ok (.iload_n 3, 1) := dk_29 (dk_at dksX5_readsTeam_0 21 rfl rfl)
theorem dX5_readsTeam_22 : decode cX5_readsTeam 22 = .ok (.ifCond .le 67, 3) := dk_158 0 67 (dk_at dksX5_readsTeam_1 0 rfl rfl)
theorem dX5_readsTeam_25 : decode cX5_readsTeam 25 = .ok (.aload_n 0, 1) := dk_42 (dk_at dksX5_readsTeam_1 3 rfl rfl)
theorem dX5_readsTeam_26 : decode cX5_readsTeam 26 = .ok (.iload_n 1, 1) := dk_27 (dk_at dksX5_readsTeam_1 4 rfl rfl)
theorem dX5_readsTeam_27 : decode cX5_readsTeam 27 = .ok (.iload_n 2, 1) := dk_28 (dk_at dksX5_readsTeam_1 5 rfl rfl)
theorem dX5_readsTeam_28 : decode cX5_readsTeam 28 = .ok (.iload_n 3, 1) := dk_29 (dk_at dksX5_readsTeam_1 6 rfl rfl)
theorem dX5_readsTeam_29 : decode cX5_readsTeam 29 = .ok (.invokevirtual 121, 3) := dk_182 0 121 (dk_at dksX5_readsTeam_1 7 rfl rfl)
theorem dX5_readsTeam_32 : decode cX5_readsTeam 32 = .ok (.istore 4, 2) := dk_54 4 (dk_at dksX5_readsTeam_1 10 rfl rfl)
theorem dX5_readsTeam_34 : decode cX5_readsTeam 34 = .ok (.iload 4, 2) := dk_21 4 (dk_at dksX5_readsTeam_1 12 rfl rfl)
theorem dX5_readsTeam_36 : decode cX5_readsTeam 36 = .ok (.iconst 3, 1) := dk_6 (dk_at dksX5_readsTeam_1 14 rfl rfl)
theorem dX5_readsTeam_37 : decode cX5_readsTeam 37 = .ok (.if_icmp .ge 8, 3) := dk_162 0 8 (dk_at dksX5_readsTeam_1 15 rfl rfl)
theorem dX5_readsTeam_40 : decode cX5_readsTeam 40 = .ok (.iload_n 3, 1) := dk_29 (dk_at dksX5_readsTeam_1 18 rfl rfl)
theorem dX5_readsTeam_41 : decode cX5_readsTeam 41 = .ok (.iload 4, 2) := dk_21 4 (dk_at dksX5_readsTeam_1 19 rfl rfl)
theorem dX5_readsTeam_43 : decode cX5_readsTeam 43 = .ok (.iadd, 1) := dk_96 (dk_at dksX5_readsTeam_1 21 rfl rfl)
theorem dX5_readsTeam_44 : decode cX5_readsTeam 44 = .ok (.ireturn, 1) := dk_172 (dk_at dksX5_readsTeam_1 22 rfl rfl)
theorem dX5_readsTeam_45 : decode cX5_readsTeam 45 = .ok (.iinc 2 1, 3) := dk_132 2 1 (dk_at dksX5_readsTeam_2 0 rfl rfl)
theorem dX5_readsTeam_48 : decode cX5_readsTeam 48 = .ok (.iinc 3 3, 3) := dk_132 3 3 (dk_at dksX5_readsTeam_2 3 rfl rfl)
theorem dX5_readsTeam_51 : decode cX5_readsTeam 51 = .ok (.iload_n 3, 1) := dk_29 (dk_at dksX5_readsTeam_2 6 rfl rfl)
theorem dX5_readsTeam_52 : decode cX5_readsTeam 52 = .ok (.aload_n 0, 1) := dk_42 (dk_at dksX5_readsTeam_2 7 rfl rfl)
theorem dX5_readsTeam_53 : decode cX5_readsTeam 53 = .ok (.getfield 7, 3) := dk_180 0 7 (dk_at dksX5_readsTeam_2 8 rfl rfl)
theorem dX5_readsTeam_56 : decode cX5_readsTeam 56 = .ok (.iload_n 1, 1) := dk_27 (dk_at dksX5_readsTeam_2 11 rfl rfl)
theorem dX5_readsTeam_57 : decode cX5_readsTeam 57 = .ok (.iaload, 1) := dk_46 (dk_at dksX5_readsTeam_2 12 rfl rfl)
theorem dX5_readsTeam_58 : decode cX5_readsTeam 58 = .ok (.if_icmp .ne 12, 3) := dk_160 0 12 (dk_at dksX5_readsTeam_2 13 rfl rfl)
theorem dX5_readsTeam_61 : decode cX5_readsTeam 61 = .ok (.aload_n 0, 1) := dk_42 (dk_at dksX5_readsTeam_2 16 rfl rfl)
theorem dX5_readsTeam_62 : decode cX5_readsTeam 62 = .ok (.getfield 16, 3) := dk_180 0 16 (dk_at dksX5_readsTeam_2 17 rfl rfl)
theorem dX5_readsTeam_65 : decode cX5_readsTeam 65 = .ok (.iload_n 1, 1) := dk_27 (dk_at dksX5_readsTeam_2 20 rfl rfl)
theorem dX5_readsTeam_66 : decode cX5_readsTeam 66 = .ok (.iload_n 2, 1) := dk_28 (dk_at dksX5_readsTeam_2 21 rfl rfl)
theorem dX5_readsTeam_67 : decode cX5_readsTeam 67 = .ok (.iastore, 1) := dk_79 (dk_at dksX5_readsTeam_2 22 rfl rfl)
theorem dX5_readsTeam_68 : decode cX5_readsTeam 68 = .ok (.iconst (-1), 1) := dk_2 (dk_at dksX5_readsTeam_2 23 rfl rfl)
theorem dX5_readsTeam_69 : decode cX5_readsTeam 69 = .ok (.ireturn, 1) := dk_172 (dk_at dksX5_readsTeam_3 0 rfl rfl)
theorem dX5_readsTeam_70 : decode cX5_readsTeam 70 = .ok (.aload_n 0, 1) := dk_42 (dk_at dksX5_readsTeam_3 1 rfl rfl)
theorem dX5_readsTeam_71 : decode cX5_readsTeam 71 = .ok (.iload_n 1, 1) := dk_27 (dk_at dksX5_readsTeam_3 2 rfl rfl)
theorem dX5_readsTeam_72 : decode cX5_readsTeam 72 = .ok (.iload_n 3, 1) := dk_29 (dk_at dksX5_readsTeam_3 3 rfl rfl)
theorem dX5_readsTeam_73 : decode cX5_readsTeam 73 = .ok (.invokevirtual 117, 3) := dk_182 0 117 (dk_at dksX5_readsTeam_3 4 rfl rfl)
theorem dX5_readsTeam_76 : decode cX5_readsTeam 76 = .ok (.bipush 59, 2) := dk_16 59 (dk_at dksX5_readsTeam_3 7 rfl rfl)
theorem dX5_readsTeam_78 : decode cX5_readsTeam 78 = .ok (.if_icmp .eq 5, 3) := dk_159 0 5 (dk_at dksX5_readsTeam_3 9 rfl rfl)
theorem dX5_readsTeam_81 : decode cX5_readsTeam 81 = .ok (.iload_n 3, 1) := dk_29 (dk_at dksX5_readsTeam_3 12 rfl rfl)
theorem dX5_readsTeam_82 : decode cX5_readsTeam 82 = .ok (.ireturn, 1) := dk_172 (dk_at dksX5_readsTeam_3 13 rfl rfl)
theorem dX5_readsTeam_83 : decode cX5_readsTeam 83 = .ok (.iinc 3 1, 3) := dk_132 3 1 (dk_at dksX5_readsTeam_3 14 rfl rfl)
theorem dX5_readsTeam_86 : decode cX5_readsTeam 86 = .ok (.goto (-75), 3) := dk_167 255 181 (dk_at dksX5_readsTeam_3 17 rfl rfl)
theorem dX5_readsTeam_89 : decode cX5_readsTeam 89 = .ok (.iconst (-1), 1) := dk_2 (dk_at dksX5_readsTeam_3 20 rfl rfl)
theorem dX5_readsTeam_90 : decode cX5_readsTeam 90 = .ok (.ireturn, 1) := dk_172 (dk_at dksX5_readsTeam_3 21 rfl rfl)
abbrev cX5_readsPuller : ByteArray := prog_12_method_15_code
def yX5_readsPuller : MethodName := ⟨RX5, "readsPuller", "(III)I"⟩
def dkwX5_readsPuller_6 : List UInt8 := [104, 28, 96, 21, 7, 79, 6, 172]
abbrev dktX5_readsPuller_6 : List UInt8 := dkwX5_readsPuller_6 ++ []
def dkwX5_readsPuller_5 : List UInt8 := [96, 21, 5, 79, 42, 180, 0, 22, 16, 8, 27, 104, 28, 96, 21, 6, 79, 42, 180, 0, 25, 16, 8, 27]
abbrev dktX5_readsPuller_5 : List UInt8 := dkwX5_readsPuller_5 ++ dktX5_readsPuller_6
def dkwX5_readsPuller_4 : List UInt8 := [4, 172, 21, 7, 4, 16, 9, 184, 0, 109, 154, 0, 5, 5, 172, 42, 180, 0, 19, 16, 8, 27, 104, 28]
abbrev dktX5_readsPuller_4 : List UInt8 := dkwX5_readsPuller_4 ++ dktX5_readsPuller_5
def dkwX5_readsPuller_3 : List UInt8 := [16, 8, 159, 0, 9, 21, 5, 2, 160, 0, 5, 3, 172, 21, 6, 4, 16, 9, 184, 0, 109, 154, 0, 5]
abbrev dktX5_readsPuller_3 : List UInt8 := dkwX5_readsPuller_3 ++ dktX5_readsPuller_4
def dkwX5_readsPuller_2 : List UInt8 := [4, 96, 182, 0, 117, 16, 48, 100, 54, 6, 42, 27, 29, 5, 96, 182, 0, 117, 16, 48, 100, 54, 7, 28]
abbrev dktX5_readsPuller_2 : List UInt8 := dkwX5_readsPuller_2 ++ dktX5_readsPuller_3
def dkwX5_readsPuller_1 : List UInt8 := [160, 0, 7, 4, 167, 0, 15, 21, 4, 16, 97, 160, 0, 7, 5, 167, 0, 4, 2, 54, 5, 42, 27, 29]
abbrev dktX5_readsPuller_1 : List UInt8 := dkwX5_readsPuller_1 ++ dktX5_readsPuller_2
def dkwX5_readsPuller_0 : List UInt8 := [42, 27, 29, 182, 0, 117, 54, 4, 21, 4, 16, 104, 160, 0, 7, 3, 167, 0, 26, 21, 4, 16, 108]
abbrev dktX5_readsPuller_0 : List UInt8 := dkwX5_readsPuller_0 ++ dktX5_readsPuller_1
theorem dksX5_readsPuller_0 : cX5_readsPuller.data.toList.drop 0 = dktX5_readsPuller_0 := by decide +kernel
theorem dksX5_readsPuller_1 : cX5_readsPuller.data.toList.drop 23 = dktX5_readsPuller_1 := dk_seg dksX5_readsPuller_0 23 rfl rfl
theorem dksX5_readsPuller_2 : cX5_readsPuller.data.toList.drop 47 = dktX5_readsPuller_2 := dk_seg dksX5_readsPuller_1 24 rfl rfl
theorem dksX5_readsPuller_3 : cX5_readsPuller.data.toList.drop 71 = dktX5_readsPuller_3 := dk_seg dksX5_readsPuller_2 24 rfl rfl
theorem dksX5_readsPuller_4 : cX5_readsPuller.data.toList.drop 95 = dktX5_readsPuller_4 := dk_seg dksX5_readsPuller_3 24 rfl rfl
theorem dksX5_readsPuller_5 : cX5_readsPuller.data.toList.drop 119 = dktX5_readsPuller_5 := dk_seg dksX5_readsPuller_4 24 rfl rfl
theorem dksX5_readsPuller_6 : cX5_readsPuller.data.toList.drop 143 = dktX5_readsPuller_6 := dk_seg dksX5_readsPuller_5 24 rfl rfl
theorem dX5_readsPuller_0 : decode cX5_readsPuller 0 = .ok (.aload_n 0, 1) := dk_42 (dk_at dksX5_readsPuller_0 0 rfl rfl)
theorem dX5_readsPuller_1 : decode cX5_readsPuller 1 = .ok (.iload_n 1, 1) := dk_27 (dk_at dksX5_readsPuller_0 1 rfl rfl)
theorem dX5_readsPuller_2 : decode cX5_readsPuller 2 = .ok (.iload_n 3, 1) := dk_29 (dk_at dksX5_readsPuller_0 2 rfl rfl)
theorem dX5_readsPuller_3 : decode cX5_readsPuller 3 = .ok (.invokevirtual 117, 3) := dk_182 0 117 (dk_at dksX5_readsPuller_0 3 rfl rfl)
theorem dX5_readsPuller_6 : decode cX5_readsPuller 6 = .ok (.istore 4, 2) := dk_54 4 (dk_at dksX5_readsPuller_0 6 rfl rfl)
theorem dX5_readsPuller_8 : decode cX5_readsPuller 8 = .ok (.iload 4, 2) := dk_21 4 (dk_at dksX5_readsPuller_0 8 rfl rfl)
theorem dX5_readsPuller_10 : decode cX5_readsPuller 10 = .ok (.bipush 104, 2) := dk_16 104 (dk_at dksX5_readsPuller_0 10 rfl rfl)
theorem dX5_readsPuller_12 : decode cX5_readsPuller 12 = .ok (.if_icmp .ne 7, 3) := dk_160 0 7 (dk_at dksX5_readsPuller_0 12 rfl rfl)
theorem dX5_readsPuller_15 : decode cX5_readsPuller 15 = .ok (.iconst 0, 1) := dk_3 (dk_at dksX5_readsPuller_0 15 rfl rfl)
theorem dX5_readsPuller_16 : decode cX5_readsPuller 16 = .ok (.goto 26, 3) := dk_167 0 26 (dk_at dksX5_readsPuller_0 16 rfl rfl)
theorem dX5_readsPuller_19 : decode cX5_readsPuller 19 = .ok (.iload 4, 2) := dk_21 4 (dk_at dksX5_readsPuller_0 19 rfl rfl)
theorem dX5_readsPuller_21 : decode cX5_readsPuller 21 = .ok (.bipush 108, 2) := dk_16 108 (dk_at dksX5_readsPuller_0 21 rfl rfl)
theorem dX5_readsPuller_23 : decode cX5_readsPuller 23 = .ok (.if_icmp .ne 7, 3) := dk_160 0 7 (dk_at dksX5_readsPuller_1 0 rfl rfl)
theorem dX5_readsPuller_26 : decode cX5_readsPuller 26 = .ok (.iconst 1, 1) := dk_4 (dk_at dksX5_readsPuller_1 3 rfl rfl)
theorem dX5_readsPuller_27 : decode cX5_readsPuller 27 = .ok (.goto 15, 3) := dk_167 0 15 (dk_at dksX5_readsPuller_1 4 rfl rfl)
theorem dX5_readsPuller_30 : decode cX5_readsPuller 30 = .ok (.iload 4, 2) := dk_21 4 (dk_at dksX5_readsPuller_1 7 rfl rfl)
theorem dX5_readsPuller_32 : decode cX5_readsPuller 32 = .ok (.bipush 97, 2) := dk_16 97 (dk_at dksX5_readsPuller_1 9 rfl rfl)
theorem dX5_readsPuller_34 : decode cX5_readsPuller 34 = .ok (.if_icmp .ne 7, 3) := dk_160 0 7 (dk_at dksX5_readsPuller_1 11 rfl rfl)
theorem dX5_readsPuller_37 : decode cX5_readsPuller 37 = .ok (.iconst 2, 1) := dk_5 (dk_at dksX5_readsPuller_1 14 rfl rfl)
theorem dX5_readsPuller_38 : decode cX5_readsPuller 38 = .ok (.goto 4, 3) := dk_167 0 4 (dk_at dksX5_readsPuller_1 15 rfl rfl)
theorem dX5_readsPuller_41 : decode cX5_readsPuller 41 = .ok (.iconst (-1), 1) := dk_2 (dk_at dksX5_readsPuller_1 18 rfl rfl)
theorem dX5_readsPuller_42 : decode cX5_readsPuller 42 = .ok (.istore 5, 2) := dk_54 5 (dk_at dksX5_readsPuller_1 19 rfl rfl)
theorem dX5_readsPuller_44 : decode cX5_readsPuller 44 = .ok (.aload_n 0, 1) := dk_42 (dk_at dksX5_readsPuller_1 21 rfl rfl)
theorem dX5_readsPuller_45 : decode cX5_readsPuller 45 = .ok (.iload_n 1, 1) := dk_27 (dk_at dksX5_readsPuller_1 22 rfl rfl)
theorem dX5_readsPuller_46 : decode cX5_readsPuller 46 = .ok (.iload_n 3, 1) := dk_29 (dk_at dksX5_readsPuller_1 23 rfl rfl)
theorem dX5_readsPuller_47 : decode cX5_readsPuller 47 = .ok (.iconst 1, 1) := dk_4 (dk_at dksX5_readsPuller_2 0 rfl rfl)
theorem dX5_readsPuller_48 : decode cX5_readsPuller 48 = .ok (.iadd, 1) := dk_96 (dk_at dksX5_readsPuller_2 1 rfl rfl)
theorem dX5_readsPuller_49 : decode cX5_readsPuller 49 = .ok (.invokevirtual 117, 3) := dk_182 0 117 (dk_at dksX5_readsPuller_2 2 rfl rfl)
theorem dX5_readsPuller_52 : decode cX5_readsPuller 52 = .ok (.bipush 48, 2) := dk_16 48 (dk_at dksX5_readsPuller_2 5 rfl rfl)
theorem dX5_readsPuller_54 : decode cX5_readsPuller 54 = .ok (.isub, 1) := dk_100 (dk_at dksX5_readsPuller_2 7 rfl rfl)
theorem dX5_readsPuller_55 : decode cX5_readsPuller 55 = .ok (.istore 6, 2) := dk_54 6 (dk_at dksX5_readsPuller_2 8 rfl rfl)
theorem dX5_readsPuller_57 : decode cX5_readsPuller 57 = .ok (.aload_n 0, 1) := dk_42 (dk_at dksX5_readsPuller_2 10 rfl rfl)
theorem dX5_readsPuller_58 : decode cX5_readsPuller 58 = .ok (.iload_n 1, 1) := dk_27 (dk_at dksX5_readsPuller_2 11 rfl rfl)
theorem dX5_readsPuller_59 : decode cX5_readsPuller 59 = .ok (.iload_n 3, 1) := dk_29 (dk_at dksX5_readsPuller_2 12 rfl rfl)
theorem dX5_readsPuller_60 : decode cX5_readsPuller 60 = .ok (.iconst 2, 1) := dk_5 (dk_at dksX5_readsPuller_2 13 rfl rfl)
theorem dX5_readsPuller_61 : decode cX5_readsPuller 61 = .ok (.iadd, 1) := dk_96 (dk_at dksX5_readsPuller_2 14 rfl rfl)
theorem dX5_readsPuller_62 : decode cX5_readsPuller 62 = .ok (.invokevirtual 117, 3) := dk_182 0 117 (dk_at dksX5_readsPuller_2 15 rfl rfl)
theorem dX5_readsPuller_65 : decode cX5_readsPuller 65 = .ok (.bipush 48, 2) := dk_16 48 (dk_at dksX5_readsPuller_2 18 rfl rfl)
theorem dX5_readsPuller_67 : decode cX5_readsPuller 67 = .ok (.isub, 1) := dk_100 (dk_at dksX5_readsPuller_2 20 rfl rfl)
theorem dX5_readsPuller_68 : decode cX5_readsPuller 68 = .ok (.istore 7, 2) := dk_54 7 (dk_at dksX5_readsPuller_2 21 rfl rfl)
theorem dX5_readsPuller_70 : decode cX5_readsPuller 70 = .ok (.iload_n 2, 1) := dk_28 (dk_at dksX5_readsPuller_2 23 rfl rfl)
theorem dX5_readsPuller_71 : decode cX5_readsPuller 71 = .ok (.bipush 8, 2) := dk_16 8 (dk_at dksX5_readsPuller_3 0 rfl rfl)
theorem dX5_readsPuller_73 : decode cX5_readsPuller 73 = .ok (.if_icmp .eq 9, 3) := dk_159 0 9 (dk_at dksX5_readsPuller_3 2 rfl rfl)
theorem dX5_readsPuller_76 : decode cX5_readsPuller 76 = .ok (.iload 5, 2) := dk_21 5 (dk_at dksX5_readsPuller_3 5 rfl rfl)
theorem dX5_readsPuller_78 : decode cX5_readsPuller 78 = .ok (.iconst (-1), 1) := dk_2 (dk_at dksX5_readsPuller_3 7 rfl rfl)
theorem dX5_readsPuller_79 : decode cX5_readsPuller 79 = .ok (.if_icmp .ne 5, 3) := dk_160 0 5 (dk_at dksX5_readsPuller_3 8 rfl rfl)
theorem dX5_readsPuller_82 : decode cX5_readsPuller 82 = .ok (.iconst 0, 1) := dk_3 (dk_at dksX5_readsPuller_3 11 rfl rfl)
theorem dX5_readsPuller_83 : decode cX5_readsPuller 83 = .ok (.ireturn, 1) := dk_172 (dk_at dksX5_readsPuller_3 12 rfl rfl)
theorem dX5_readsPuller_84 : decode cX5_readsPuller 84 = .ok (.iload 6, 2) := dk_21 6 (dk_at dksX5_readsPuller_3 13 rfl rfl)
theorem dX5_readsPuller_86 : decode cX5_readsPuller 86 = .ok (.iconst 1, 1) := dk_4 (dk_at dksX5_readsPuller_3 15 rfl rfl)
theorem dX5_readsPuller_87 : decode cX5_readsPuller 87 = .ok (.bipush 9, 2) := dk_16 9 (dk_at dksX5_readsPuller_3 16 rfl rfl)
theorem dX5_readsPuller_89 : decode cX5_readsPuller 89 = .ok (.invokestatic 109, 3) := dk_184 0 109 (dk_at dksX5_readsPuller_3 18 rfl rfl)
theorem dX5_readsPuller_92 : decode cX5_readsPuller 92 = .ok (.ifCond .ne 5, 3) := dk_154 0 5 (dk_at dksX5_readsPuller_3 21 rfl rfl)
theorem dX5_readsPuller_95 : decode cX5_readsPuller 95 = .ok (.iconst 1, 1) := dk_4 (dk_at dksX5_readsPuller_4 0 rfl rfl)
theorem dX5_readsPuller_96 : decode cX5_readsPuller 96 = .ok (.ireturn, 1) := dk_172 (dk_at dksX5_readsPuller_4 1 rfl rfl)
theorem dX5_readsPuller_97 : decode cX5_readsPuller 97 = .ok (.iload 7, 2) := dk_21 7 (dk_at dksX5_readsPuller_4 2 rfl rfl)
theorem dX5_readsPuller_99 : decode cX5_readsPuller 99 = .ok (.iconst 1, 1) := dk_4 (dk_at dksX5_readsPuller_4 4 rfl rfl)
theorem dX5_readsPuller_100 : decode cX5_readsPuller 100 = .ok (.bipush 9, 2) := dk_16 9 (dk_at dksX5_readsPuller_4 5 rfl rfl)
theorem dX5_readsPuller_102 : decode cX5_readsPuller 102 = .ok (.invokestatic 109, 3) := dk_184 0 109 (dk_at dksX5_readsPuller_4 7 rfl rfl)
theorem dX5_readsPuller_105 : decode cX5_readsPuller 105 = .ok (.ifCond .ne 5, 3) := dk_154 0 5 (dk_at dksX5_readsPuller_4 10 rfl rfl)
theorem dX5_readsPuller_108 : decode cX5_readsPuller 108 = .ok (.iconst 2, 1) := dk_5 (dk_at dksX5_readsPuller_4 13 rfl rfl)
theorem dX5_readsPuller_109 : decode cX5_readsPuller 109 = .ok (.ireturn, 1) := dk_172 (dk_at dksX5_readsPuller_4 14 rfl rfl)
theorem dX5_readsPuller_110 : decode cX5_readsPuller 110 = .ok (.aload_n 0, 1) := dk_42 (dk_at dksX5_readsPuller_4 15 rfl rfl)
theorem dX5_readsPuller_111 : decode cX5_readsPuller 111 = .ok (.getfield 19, 3) := dk_180 0 19 (dk_at dksX5_readsPuller_4 16 rfl rfl)
theorem dX5_readsPuller_114 : decode cX5_readsPuller 114 = .ok (.bipush 8, 2) := dk_16 8 (dk_at dksX5_readsPuller_4 19 rfl rfl)
theorem dX5_readsPuller_116 : decode cX5_readsPuller 116 = .ok (.iload_n 1, 1) := dk_27 (dk_at dksX5_readsPuller_4 21 rfl rfl)
theorem dX5_readsPuller_117 : decode cX5_readsPuller 117 = .ok (.imul, 1) := dk_104 (dk_at dksX5_readsPuller_4 22 rfl rfl)
theorem dX5_readsPuller_118 : decode cX5_readsPuller 118 = .ok (.iload_n 2, 1) := dk_28 (dk_at dksX5_readsPuller_4 23 rfl rfl)
theorem dX5_readsPuller_119 : decode cX5_readsPuller 119 = .ok (.iadd, 1) := dk_96 (dk_at dksX5_readsPuller_5 0 rfl rfl)
theorem dX5_readsPuller_120 : decode cX5_readsPuller 120 = .ok (.iload 5, 2) := dk_21 5 (dk_at dksX5_readsPuller_5 1 rfl rfl)
theorem dX5_readsPuller_122 : decode cX5_readsPuller 122 = .ok (.iastore, 1) := dk_79 (dk_at dksX5_readsPuller_5 3 rfl rfl)
theorem dX5_readsPuller_123 : decode cX5_readsPuller 123 = .ok (.aload_n 0, 1) := dk_42 (dk_at dksX5_readsPuller_5 4 rfl rfl)
theorem dX5_readsPuller_124 : decode cX5_readsPuller 124 = .ok (.getfield 22, 3) := dk_180 0 22 (dk_at dksX5_readsPuller_5 5 rfl rfl)
theorem dX5_readsPuller_127 : decode cX5_readsPuller 127 = .ok (.bipush 8, 2) := dk_16 8 (dk_at dksX5_readsPuller_5 8 rfl rfl)
theorem dX5_readsPuller_129 : decode cX5_readsPuller 129 = .ok (.iload_n 1, 1) := dk_27 (dk_at dksX5_readsPuller_5 10 rfl rfl)
theorem dX5_readsPuller_130 : decode cX5_readsPuller 130 = .ok (.imul, 1) := dk_104 (dk_at dksX5_readsPuller_5 11 rfl rfl)
theorem dX5_readsPuller_131 : decode cX5_readsPuller 131 = .ok (.iload_n 2, 1) := dk_28 (dk_at dksX5_readsPuller_5 12 rfl rfl)
theorem dX5_readsPuller_132 : decode cX5_readsPuller 132 = .ok (.iadd, 1) := dk_96 (dk_at dksX5_readsPuller_5 13 rfl rfl)
theorem dX5_readsPuller_133 : decode cX5_readsPuller 133 = .ok (.iload 6, 2) := dk_21 6 (dk_at dksX5_readsPuller_5 14 rfl rfl)
theorem dX5_readsPuller_135 : decode cX5_readsPuller 135 = .ok (.iastore, 1) := dk_79 (dk_at dksX5_readsPuller_5 16 rfl rfl)
theorem dX5_readsPuller_136 : decode cX5_readsPuller 136 = .ok (.aload_n 0, 1) := dk_42 (dk_at dksX5_readsPuller_5 17 rfl rfl)
theorem dX5_readsPuller_137 : decode cX5_readsPuller 137 = .ok (.getfield 25, 3) := dk_180 0 25 (dk_at dksX5_readsPuller_5 18 rfl rfl)
theorem dX5_readsPuller_140 : decode cX5_readsPuller 140 = .ok (.bipush 8, 2) := dk_16 8 (dk_at dksX5_readsPuller_5 21 rfl rfl)
theorem dX5_readsPuller_142 : decode cX5_readsPuller 142 = .ok (.iload_n 1, 1) := dk_27 (dk_at dksX5_readsPuller_5 23 rfl rfl)
theorem dX5_readsPuller_143 : decode cX5_readsPuller 143 = .ok (.imul, 1) := dk_104 (dk_at dksX5_readsPuller_6 0 rfl rfl)
theorem dX5_readsPuller_144 : decode cX5_readsPuller 144 = .ok (.iload_n 2, 1) := dk_28 (dk_at dksX5_readsPuller_6 1 rfl rfl)
theorem dX5_readsPuller_145 : decode cX5_readsPuller 145 = .ok (.iadd, 1) := dk_96 (dk_at dksX5_readsPuller_6 2 rfl rfl)
theorem dX5_readsPuller_146 : decode cX5_readsPuller 146 = .ok (.iload 7, 2) := dk_21 7 (dk_at dksX5_readsPuller_6 3 rfl rfl)
theorem dX5_readsPuller_148 : decode cX5_readsPuller 148 = .ok (.iastore, 1) := dk_79 (dk_at dksX5_readsPuller_6 5 rfl rfl)
theorem dX5_readsPuller_149 : decode cX5_readsPuller 149 = .ok (.iconst 3, 1) := dk_6 (dk_at dksX5_readsPuller_6 6 rfl rfl)
theorem dX5_readsPuller_150 : decode cX5_readsPuller 150 = .ok (.ireturn, 1) := dk_172 (dk_at dksX5_readsPuller_6 7 rfl rfl)
abbrev cX5_byteAt : ByteArray := prog_12_method_14_code
def yX5_byteAt : MethodName := ⟨RX5, "byteAt", "(II)I"⟩
def dkwX5_byteAt_1 : List UInt8 := [2, 172]
abbrev dktX5_byteAt_1 : List UInt8 := dkwX5_byteAt_1 ++ []
def dkwX5_byteAt_0 : List UInt8 := [28, 42, 180, 0, 7, 27, 46, 162, 0, 17, 42, 180, 0, 13, 16, 31, 27, 104, 28, 96, 46, 167, 0, 4]
abbrev dktX5_byteAt_0 : List UInt8 := dkwX5_byteAt_0 ++ dktX5_byteAt_1
theorem dksX5_byteAt_0 : cX5_byteAt.data.toList.drop 0 = dktX5_byteAt_0 := by decide +kernel
theorem dksX5_byteAt_1 : cX5_byteAt.data.toList.drop 24 = dktX5_byteAt_1 := dk_seg dksX5_byteAt_0 24 rfl rfl
theorem dX5_byteAt_0 : decode cX5_byteAt 0 = .ok (.iload_n 2, 1) := dk_28 (dk_at dksX5_byteAt_0 0 rfl rfl)
theorem dX5_byteAt_1 : decode cX5_byteAt 1 = .ok (.aload_n 0, 1) := dk_42 (dk_at dksX5_byteAt_0 1 rfl rfl)
theorem dX5_byteAt_2 : decode cX5_byteAt 2 = .ok (.getfield 7, 3) := dk_180 0 7 (dk_at dksX5_byteAt_0 2 rfl rfl)
theorem dX5_byteAt_5 : decode cX5_byteAt 5 = .ok (.iload_n 1, 1) := dk_27 (dk_at dksX5_byteAt_0 5 rfl rfl)
theorem dX5_byteAt_6 : decode cX5_byteAt 6 = .ok (.iaload, 1) := dk_46 (dk_at dksX5_byteAt_0 6 rfl rfl)
theorem dX5_byteAt_7 : decode cX5_byteAt 7 = .ok (.if_icmp .ge 17, 3) := dk_162 0 17 (dk_at dksX5_byteAt_0 7 rfl rfl)
theorem dX5_byteAt_10 : decode cX5_byteAt 10 = .ok (.aload_n 0, 1) := dk_42 (dk_at dksX5_byteAt_0 10 rfl rfl)
theorem dX5_byteAt_11 : decode cX5_byteAt 11 = .ok (.getfield 13, 3) := dk_180 0 13 (dk_at dksX5_byteAt_0 11 rfl rfl)
theorem dX5_byteAt_14 : decode cX5_byteAt 14 = .ok (.bipush 31, 2) := dk_16 31 (dk_at dksX5_byteAt_0 14 rfl rfl)
theorem dX5_byteAt_16 : decode cX5_byteAt 16 = .ok (.iload_n 1, 1) := dk_27 (dk_at dksX5_byteAt_0 16 rfl rfl)
theorem dX5_byteAt_17 : decode cX5_byteAt 17 = .ok (.imul, 1) := dk_104 (dk_at dksX5_byteAt_0 17 rfl rfl)
theorem dX5_byteAt_18 : decode cX5_byteAt 18 = .ok (.iload_n 2, 1) := dk_28 (dk_at dksX5_byteAt_0 18 rfl rfl)
theorem dX5_byteAt_19 : decode cX5_byteAt 19 = .ok (.iadd, 1) := dk_96 (dk_at dksX5_byteAt_0 19 rfl rfl)
theorem dX5_byteAt_20 : decode cX5_byteAt 20 = .ok (.iaload, 1) := dk_46 (dk_at dksX5_byteAt_0 20 rfl rfl)
theorem dX5_byteAt_21 : decode cX5_byteAt 21 = .ok (.goto 4, 3) := dk_167 0 4 (dk_at dksX5_byteAt_0 21 rfl rfl)
theorem dX5_byteAt_24 : decode cX5_byteAt 24 = .ok (.iconst (-1), 1) := dk_2 (dk_at dksX5_byteAt_1 0 rfl rfl)
theorem dX5_byteAt_25 : decode cX5_byteAt 25 = .ok (.ireturn, 1) := dk_172 (dk_at dksX5_byteAt_1 1 rfl rfl)
abbrev cX5_readsCalls : ByteArray := prog_12_method_18_code
def yX5_readsCalls : MethodName := ⟨RX5, "readsCalls", "(I)I"⟩
def dkwX5_readsCalls_5 : List UInt8 := [46, 79, 2, 172]
abbrev dktX5_readsCalls_5 : List UInt8 := dkwX5_readsCalls_5 ++ []
def dkwX5_readsCalls_4 : List UInt8 := [29, 182, 0, 117, 184, 0, 125, 79, 132, 3, 1, 167, 255, 223, 42, 180, 0, 28, 27, 42, 180, 0, 7, 28]
abbrev dktX5_readsCalls_4 : List UInt8 := dkwX5_readsCalls_4 ++ dktX5_readsCalls_5
def dkwX5_readsCalls_3 : List UInt8 := [3, 62, 29, 42, 180, 0, 7, 28, 46, 162, 0, 29, 42, 180, 0, 31, 16, 24, 27, 104, 29, 96, 42, 28]
abbrev dktX5_readsCalls_3 : List UInt8 := dkwX5_readsCalls_3 ++ dktX5_readsCalls_4
def dkwX5_readsCalls_2 : List UInt8 := [162, 0, 24, 42, 28, 29, 182, 0, 117, 184, 0, 125, 2, 160, 0, 5, 29, 172, 132, 3, 1, 167, 255, 228]
abbrev dktX5_readsCalls_2 : List UInt8 := dkwX5_readsCalls_2 ++ dktX5_readsCalls_3
def dkwX5_readsCalls_1 : List UInt8 := [16, 24, 27, 104, 29, 96, 4, 79, 132, 3, 1, 167, 255, 235, 3, 62, 29, 42, 180, 0, 7, 28, 46]
abbrev dktX5_readsCalls_1 : List UInt8 := dkwX5_readsCalls_1 ++ dktX5_readsCalls_2
def dkwX5_readsCalls_0 : List UInt8 := [27, 5, 96, 61, 42, 180, 0, 28, 27, 3, 79, 3, 62, 29, 16, 24, 162, 0, 21, 42, 180, 0, 31]
abbrev dktX5_readsCalls_0 : List UInt8 := dkwX5_readsCalls_0 ++ dktX5_readsCalls_1
theorem dksX5_readsCalls_0 : cX5_readsCalls.data.toList.drop 0 = dktX5_readsCalls_0 := by decide +kernel
theorem dksX5_readsCalls_1 : cX5_readsCalls.data.toList.drop 23 = dktX5_readsCalls_1 := dk_seg dksX5_readsCalls_0 23 rfl rfl
theorem dksX5_readsCalls_2 : cX5_readsCalls.data.toList.drop 46 = dktX5_readsCalls_2 := dk_seg dksX5_readsCalls_1 23 rfl rfl
theorem dksX5_readsCalls_3 : cX5_readsCalls.data.toList.drop 70 = dktX5_readsCalls_3 := dk_seg dksX5_readsCalls_2 24 rfl rfl
theorem dksX5_readsCalls_4 : cX5_readsCalls.data.toList.drop 94 = dktX5_readsCalls_4 := dk_seg dksX5_readsCalls_3 24 rfl rfl
theorem dksX5_readsCalls_5 : cX5_readsCalls.data.toList.drop 118 = dktX5_readsCalls_5 := dk_seg dksX5_readsCalls_4 24 rfl rfl
theorem dX5_readsCalls_0 : decode cX5_readsCalls 0 = .ok (.iload_n 1, 1) := dk_27 (dk_at dksX5_readsCalls_0 0 rfl rfl)
theorem dX5_readsCalls_1 : decode cX5_readsCalls 1 = .ok (.iconst 2, 1) := dk_5 (dk_at dksX5_readsCalls_0 1 rfl rfl)
theorem dX5_readsCalls_2 : decode cX5_readsCalls 2 = .ok (.iadd, 1) := dk_96 (dk_at dksX5_readsCalls_0 2 rfl rfl)
theorem dX5_readsCalls_3 : decode cX5_readsCalls 3 = .ok (.istore_n 2, 1) := dk_61 (dk_at dksX5_readsCalls_0 3 rfl rfl)
theorem dX5_readsCalls_4 : decode cX5_readsCalls 4 = .ok (.aload_n 0, 1) := dk_42 (dk_at dksX5_readsCalls_0 4 rfl rfl)
theorem dX5_readsCalls_5 : decode cX5_readsCalls 5 = .ok (.getfield 28, 3) := dk_180 0 28 (dk_at dksX5_readsCalls_0 5 rfl rfl)
theorem dX5_readsCalls_8 : decode cX5_readsCalls 8 = .ok (.iload_n 1, 1) := dk_27 (dk_at dksX5_readsCalls_0 8 rfl rfl)
theorem dX5_readsCalls_9 : decode cX5_readsCalls 9 = .ok (.iconst 0, 1) := dk_3 (dk_at dksX5_readsCalls_0 9 rfl rfl)
theorem dX5_readsCalls_10 : decode cX5_readsCalls 10 = .ok (.iastore, 1) := dk_79 (dk_at dksX5_readsCalls_0 10 rfl rfl)
theorem dX5_readsCalls_11 : decode cX5_readsCalls 11 = .ok (.iconst 0, 1) := dk_3 (dk_at dksX5_readsCalls_0 11 rfl rfl)
theorem dX5_readsCalls_12 : decode cX5_readsCalls 12 = .ok (.istore_n 3, 1) := dk_62 (dk_at dksX5_readsCalls_0 12 rfl rfl)
theorem dX5_readsCalls_13 : decode cX5_readsCalls 13 = .ok (.iload_n 3, 1) := dk_29 (dk_at dksX5_readsCalls_0 13 rfl rfl)
theorem dX5_readsCalls_14 : decode cX5_readsCalls 14 = .ok (.bipush 24, 2) := dk_16 24 (dk_at dksX5_readsCalls_0 14 rfl rfl)
theorem dX5_readsCalls_16 : decode cX5_readsCalls 16 = .ok (.if_icmp .ge 21, 3) := dk_162 0 21 (dk_at dksX5_readsCalls_0 16 rfl rfl)
theorem dX5_readsCalls_19 : decode cX5_readsCalls 19 = .ok (.aload_n 0, 1) := dk_42 (dk_at dksX5_readsCalls_0 19 rfl rfl)
theorem dX5_readsCalls_20 : decode cX5_readsCalls 20 = .ok (.getfield 31, 3) := dk_180 0 31 (dk_at dksX5_readsCalls_0 20 rfl rfl)
theorem dX5_readsCalls_23 : decode cX5_readsCalls 23 = .ok (.bipush 24, 2) := dk_16 24 (dk_at dksX5_readsCalls_1 0 rfl rfl)
theorem dX5_readsCalls_25 : decode cX5_readsCalls 25 = .ok (.iload_n 1, 1) := dk_27 (dk_at dksX5_readsCalls_1 2 rfl rfl)
theorem dX5_readsCalls_26 : decode cX5_readsCalls 26 = .ok (.imul, 1) := dk_104 (dk_at dksX5_readsCalls_1 3 rfl rfl)
theorem dX5_readsCalls_27 : decode cX5_readsCalls 27 = .ok (.iload_n 3, 1) := dk_29 (dk_at dksX5_readsCalls_1 4 rfl rfl)
theorem dX5_readsCalls_28 : decode cX5_readsCalls 28 = .ok (.iadd, 1) := dk_96 (dk_at dksX5_readsCalls_1 5 rfl rfl)
theorem dX5_readsCalls_29 : decode cX5_readsCalls 29 = .ok (.iconst 1, 1) := dk_4 (dk_at dksX5_readsCalls_1 6 rfl rfl)
theorem dX5_readsCalls_30 : decode cX5_readsCalls 30 = .ok (.iastore, 1) := dk_79 (dk_at dksX5_readsCalls_1 7 rfl rfl)
theorem dX5_readsCalls_31 : decode cX5_readsCalls 31 = .ok (.iinc 3 1, 3) := dk_132 3 1 (dk_at dksX5_readsCalls_1 8 rfl rfl)
theorem dX5_readsCalls_34 : decode cX5_readsCalls 34 = .ok (.goto (-21), 3) := dk_167 255 235 (dk_at dksX5_readsCalls_1 11 rfl rfl)
theorem dX5_readsCalls_37 : decode cX5_readsCalls 37 = .ok (.iconst 0, 1) := dk_3 (dk_at dksX5_readsCalls_1 14 rfl rfl)
theorem dX5_readsCalls_38 : decode cX5_readsCalls 38 = .ok (.istore_n 3, 1) := dk_62 (dk_at dksX5_readsCalls_1 15 rfl rfl)
theorem dX5_readsCalls_39 : decode cX5_readsCalls 39 = .ok (.iload_n 3, 1) := dk_29 (dk_at dksX5_readsCalls_1 16 rfl rfl)
theorem dX5_readsCalls_40 : decode cX5_readsCalls 40 = .ok (.aload_n 0, 1) := dk_42 (dk_at dksX5_readsCalls_1 17 rfl rfl)
theorem dX5_readsCalls_41 : decode cX5_readsCalls 41 = .ok (.getfield 7, 3) := dk_180 0 7 (dk_at dksX5_readsCalls_1 18 rfl rfl)
theorem dX5_readsCalls_44 : decode cX5_readsCalls 44 = .ok (.iload_n 2, 1) := dk_28 (dk_at dksX5_readsCalls_1 21 rfl rfl)
theorem dX5_readsCalls_45 : decode cX5_readsCalls 45 = .ok (.iaload, 1) := dk_46 (dk_at dksX5_readsCalls_1 22 rfl rfl)
theorem dX5_readsCalls_46 : decode cX5_readsCalls 46 = .ok (.if_icmp .ge 24, 3) := dk_162 0 24 (dk_at dksX5_readsCalls_2 0 rfl rfl)
theorem dX5_readsCalls_49 : decode cX5_readsCalls 49 = .ok (.aload_n 0, 1) := dk_42 (dk_at dksX5_readsCalls_2 3 rfl rfl)
theorem dX5_readsCalls_50 : decode cX5_readsCalls 50 = .ok (.iload_n 2, 1) := dk_28 (dk_at dksX5_readsCalls_2 4 rfl rfl)
theorem dX5_readsCalls_51 : decode cX5_readsCalls 51 = .ok (.iload_n 3, 1) := dk_29 (dk_at dksX5_readsCalls_2 5 rfl rfl)
theorem dX5_readsCalls_52 : decode cX5_readsCalls 52 = .ok (.invokevirtual 117, 3) := dk_182 0 117 (dk_at dksX5_readsCalls_2 6 rfl rfl)
theorem dX5_readsCalls_55 : decode cX5_readsCalls 55 = .ok (.invokestatic 125, 3) := dk_184 0 125 (dk_at dksX5_readsCalls_2 9 rfl rfl)
theorem dX5_readsCalls_58 : decode cX5_readsCalls 58 = .ok (.iconst (-1), 1) := dk_2 (dk_at dksX5_readsCalls_2 12 rfl rfl)
theorem dX5_readsCalls_59 : decode cX5_readsCalls 59 = .ok (.if_icmp .ne 5, 3) := dk_160 0 5 (dk_at dksX5_readsCalls_2 13 rfl rfl)
theorem dX5_readsCalls_62 : decode cX5_readsCalls 62 = .ok (.iload_n 3, 1) := dk_29 (dk_at dksX5_readsCalls_2 16 rfl rfl)
theorem dX5_readsCalls_63 : decode cX5_readsCalls 63 = .ok (.ireturn, 1) := dk_172 (dk_at dksX5_readsCalls_2 17 rfl rfl)
theorem dX5_readsCalls_64 : decode cX5_readsCalls 64 = .ok (.iinc 3 1, 3) := dk_132 3 1 (dk_at dksX5_readsCalls_2 18 rfl rfl)
theorem dX5_readsCalls_67 : decode cX5_readsCalls 67 = .ok (.goto (-28), 3) := dk_167 255 228 (dk_at dksX5_readsCalls_2 21 rfl rfl)
theorem dX5_readsCalls_70 : decode cX5_readsCalls 70 = .ok (.iconst 0, 1) := dk_3 (dk_at dksX5_readsCalls_3 0 rfl rfl)
theorem dX5_readsCalls_71 : decode cX5_readsCalls 71 = .ok (.istore_n 3, 1) := dk_62 (dk_at dksX5_readsCalls_3 1 rfl rfl)
theorem dX5_readsCalls_72 : decode cX5_readsCalls 72 = .ok (.iload_n 3, 1) := dk_29 (dk_at dksX5_readsCalls_3 2 rfl rfl)
theorem dX5_readsCalls_73 : decode cX5_readsCalls 73 = .ok (.aload_n 0, 1) := dk_42 (dk_at dksX5_readsCalls_3 3 rfl rfl)
theorem dX5_readsCalls_74 : decode cX5_readsCalls 74 = .ok (.getfield 7, 3) := dk_180 0 7 (dk_at dksX5_readsCalls_3 4 rfl rfl)
theorem dX5_readsCalls_77 : decode cX5_readsCalls 77 = .ok (.iload_n 2, 1) := dk_28 (dk_at dksX5_readsCalls_3 7 rfl rfl)
theorem dX5_readsCalls_78 : decode cX5_readsCalls 78 = .ok (.iaload, 1) := dk_46 (dk_at dksX5_readsCalls_3 8 rfl rfl)
theorem dX5_readsCalls_79 : decode cX5_readsCalls 79 = .ok (.if_icmp .ge 29, 3) := dk_162 0 29 (dk_at dksX5_readsCalls_3 9 rfl rfl)
theorem dX5_readsCalls_82 : decode cX5_readsCalls 82 = .ok (.aload_n 0, 1) := dk_42 (dk_at dksX5_readsCalls_3 12 rfl rfl)
theorem dX5_readsCalls_83 : decode cX5_readsCalls 83 = .ok (.getfield 31, 3) := dk_180 0 31 (dk_at dksX5_readsCalls_3 13 rfl rfl)
theorem dX5_readsCalls_86 : decode cX5_readsCalls 86 = .ok (.bipush 24, 2) := dk_16 24 (dk_at dksX5_readsCalls_3 16 rfl rfl)
theorem dX5_readsCalls_88 : decode cX5_readsCalls 88 = .ok (.iload_n 1, 1) := dk_27 (dk_at dksX5_readsCalls_3 18 rfl rfl)
theorem dX5_readsCalls_89 : decode cX5_readsCalls 89 = .ok (.imul, 1) := dk_104 (dk_at dksX5_readsCalls_3 19 rfl rfl)
theorem dX5_readsCalls_90 : decode cX5_readsCalls 90 = .ok (.iload_n 3, 1) := dk_29 (dk_at dksX5_readsCalls_3 20 rfl rfl)
theorem dX5_readsCalls_91 : decode cX5_readsCalls 91 = .ok (.iadd, 1) := dk_96 (dk_at dksX5_readsCalls_3 21 rfl rfl)
theorem dX5_readsCalls_92 : decode cX5_readsCalls 92 = .ok (.aload_n 0, 1) := dk_42 (dk_at dksX5_readsCalls_3 22 rfl rfl)
theorem dX5_readsCalls_93 : decode cX5_readsCalls 93 = .ok (.iload_n 2, 1) := dk_28 (dk_at dksX5_readsCalls_3 23 rfl rfl)
theorem dX5_readsCalls_94 : decode cX5_readsCalls 94 = .ok (.iload_n 3, 1) := dk_29 (dk_at dksX5_readsCalls_4 0 rfl rfl)
theorem dX5_readsCalls_95 : decode cX5_readsCalls 95 = .ok (.invokevirtual 117, 3) := dk_182 0 117 (dk_at dksX5_readsCalls_4 1 rfl rfl)
theorem dX5_readsCalls_98 : decode cX5_readsCalls 98 = .ok (.invokestatic 125, 3) := dk_184 0 125 (dk_at dksX5_readsCalls_4 4 rfl rfl)
theorem dX5_readsCalls_101 : decode cX5_readsCalls 101 = .ok (.iastore, 1) := dk_79 (dk_at dksX5_readsCalls_4 7 rfl rfl)
theorem dX5_readsCalls_102 : decode cX5_readsCalls 102 = .ok (.iinc 3 1, 3) := dk_132 3 1 (dk_at dksX5_readsCalls_4 8 rfl rfl)
theorem dX5_readsCalls_105 : decode cX5_readsCalls 105 = .ok (.goto (-33), 3) := dk_167 255 223 (dk_at dksX5_readsCalls_4 11 rfl rfl)
theorem dX5_readsCalls_108 : decode cX5_readsCalls 108 = .ok (.aload_n 0, 1) := dk_42 (dk_at dksX5_readsCalls_4 14 rfl rfl)
theorem dX5_readsCalls_109 : decode cX5_readsCalls 109 = .ok (.getfield 28, 3) := dk_180 0 28 (dk_at dksX5_readsCalls_4 15 rfl rfl)
theorem dX5_readsCalls_112 : decode cX5_readsCalls 112 = .ok (.iload_n 1, 1) := dk_27 (dk_at dksX5_readsCalls_4 18 rfl rfl)
theorem dX5_readsCalls_113 : decode cX5_readsCalls 113 = .ok (.aload_n 0, 1) := dk_42 (dk_at dksX5_readsCalls_4 19 rfl rfl)
theorem dX5_readsCalls_114 : decode cX5_readsCalls 114 = .ok (.getfield 7, 3) := dk_180 0 7 (dk_at dksX5_readsCalls_4 20 rfl rfl)
theorem dX5_readsCalls_117 : decode cX5_readsCalls 117 = .ok (.iload_n 2, 1) := dk_28 (dk_at dksX5_readsCalls_4 23 rfl rfl)
theorem dX5_readsCalls_118 : decode cX5_readsCalls 118 = .ok (.iaload, 1) := dk_46 (dk_at dksX5_readsCalls_5 0 rfl rfl)
theorem dX5_readsCalls_119 : decode cX5_readsCalls 119 = .ok (.iastore, 1) := dk_79 (dk_at dksX5_readsCalls_5 1 rfl rfl)
theorem dX5_readsCalls_120 : decode cX5_readsCalls 120 = .ok (.iconst (-1), 1) := dk_2 (dk_at dksX5_readsCalls_5 2 rfl rfl)
theorem dX5_readsCalls_121 : decode cX5_readsCalls 121 = .ok (.ireturn, 1) := dk_172 (dk_at dksX5_readsCalls_5 3 rfl rfl)
abbrev cX5_callBy : ByteArray := prog_12_method_17_code
def yX5_callBy : MethodName := ⟨RX5, "callBy", "(I)I"⟩
def dkwX5_callBy_1 : List UInt8 := [160, 0, 7, 5, 167, 0, 4, 2, 172]
abbrev dktX5_callBy_1 : List UInt8 := dkwX5_callBy_1 ++ []
def dkwX5_callBy_0 : List UInt8 := [26, 16, 114, 160, 0, 7, 3, 167, 0, 24, 26, 16, 112, 160, 0, 7, 4, 167, 0, 14, 26, 16, 104]
abbrev dktX5_callBy_0 : List UInt8 := dkwX5_callBy_0 ++ dktX5_callBy_1
theorem dksX5_callBy_0 : cX5_callBy.data.toList.drop 0 = dktX5_callBy_0 := by decide +kernel
theorem dksX5_callBy_1 : cX5_callBy.data.toList.drop 23 = dktX5_callBy_1 := dk_seg dksX5_callBy_0 23 rfl rfl
theorem dX5_callBy_0 : decode cX5_callBy 0 = .ok (.iload_n 0, 1) := dk_26 (dk_at dksX5_callBy_0 0 rfl rfl)
theorem dX5_callBy_1 : decode cX5_callBy 1 = .ok (.bipush 114, 2) := dk_16 114 (dk_at dksX5_callBy_0 1 rfl rfl)
theorem dX5_callBy_3 : decode cX5_callBy 3 = .ok (.if_icmp .ne 7, 3) := dk_160 0 7 (dk_at dksX5_callBy_0 3 rfl rfl)
theorem dX5_callBy_6 : decode cX5_callBy 6 = .ok (.iconst 0, 1) := dk_3 (dk_at dksX5_callBy_0 6 rfl rfl)
theorem dX5_callBy_7 : decode cX5_callBy 7 = .ok (.goto 24, 3) := dk_167 0 24 (dk_at dksX5_callBy_0 7 rfl rfl)
theorem dX5_callBy_10 : decode cX5_callBy 10 = .ok (.iload_n 0, 1) := dk_26 (dk_at dksX5_callBy_0 10 rfl rfl)
theorem dX5_callBy_11 : decode cX5_callBy 11 = .ok (.bipush 112, 2) := dk_16 112 (dk_at dksX5_callBy_0 11 rfl rfl)
theorem dX5_callBy_13 : decode cX5_callBy 13 = .ok (.if_icmp .ne 7, 3) := dk_160 0 7 (dk_at dksX5_callBy_0 13 rfl rfl)
theorem dX5_callBy_16 : decode cX5_callBy 16 = .ok (.iconst 1, 1) := dk_4 (dk_at dksX5_callBy_0 16 rfl rfl)
theorem dX5_callBy_17 : decode cX5_callBy 17 = .ok (.goto 14, 3) := dk_167 0 14 (dk_at dksX5_callBy_0 17 rfl rfl)
theorem dX5_callBy_20 : decode cX5_callBy 20 = .ok (.iload_n 0, 1) := dk_26 (dk_at dksX5_callBy_0 20 rfl rfl)
theorem dX5_callBy_21 : decode cX5_callBy 21 = .ok (.bipush 104, 2) := dk_16 104 (dk_at dksX5_callBy_0 21 rfl rfl)
theorem dX5_callBy_23 : decode cX5_callBy 23 = .ok (.if_icmp .ne 7, 3) := dk_160 0 7 (dk_at dksX5_callBy_1 0 rfl rfl)
theorem dX5_callBy_26 : decode cX5_callBy 26 = .ok (.iconst 2, 1) := dk_5 (dk_at dksX5_callBy_1 3 rfl rfl)
theorem dX5_callBy_27 : decode cX5_callBy 27 = .ok (.goto 4, 3) := dk_167 0 4 (dk_at dksX5_callBy_1 4 rfl rfl)
theorem dX5_callBy_30 : decode cX5_callBy 30 = .ok (.iconst (-1), 1) := dk_2 (dk_at dksX5_callBy_1 7 rfl rfl)
theorem dX5_callBy_31 : decode cX5_callBy 31 = .ok (.ireturn, 1) := dk_172 (dk_at dksX5_callBy_1 8 rfl rfl)
abbrev cX5_puller : ByteArray := prog_12_method_25_code
def yX5_puller : MethodName := ⟨RX5, "puller", "(II)I"⟩
def dkwX5_puller_1 : List UInt8 := [16, 254, 172]
abbrev dktX5_puller_1 : List UInt8 := dkwX5_puller_1 ++ []
def dkwX5_puller_0 : List UInt8 := [42, 27, 182, 0, 144, 153, 0, 19, 28, 184, 0, 147, 153, 0, 12, 42, 27, 28, 182, 0, 150, 167, 0, 5]
abbrev dktX5_puller_0 : List UInt8 := dkwX5_puller_0 ++ dktX5_puller_1
theorem dksX5_puller_0 : cX5_puller.data.toList.drop 0 = dktX5_puller_0 := by decide +kernel
theorem dksX5_puller_1 : cX5_puller.data.toList.drop 24 = dktX5_puller_1 := dk_seg dksX5_puller_0 24 rfl rfl
theorem dX5_puller_0 : decode cX5_puller 0 = .ok (.aload_n 0, 1) := dk_42 (dk_at dksX5_puller_0 0 rfl rfl)
theorem dX5_puller_1 : decode cX5_puller 1 = .ok (.iload_n 1, 1) := dk_27 (dk_at dksX5_puller_0 1 rfl rfl)
theorem dX5_puller_2 : decode cX5_puller 2 = .ok (.invokevirtual 144, 3) := dk_182 0 144 (dk_at dksX5_puller_0 2 rfl rfl)
theorem dX5_puller_5 : decode cX5_puller 5 = .ok (.ifCond .eq 19, 3) := dk_153 0 19 (dk_at dksX5_puller_0 5 rfl rfl)
theorem dX5_puller_8 : decode cX5_puller 8 = .ok (.iload_n 2, 1) := dk_28 (dk_at dksX5_puller_0 8 rfl rfl)
theorem dX5_puller_9 : decode cX5_puller 9 = .ok (.invokestatic 147, 3) := dk_184 0 147 (dk_at dksX5_puller_0 9 rfl rfl)
theorem dX5_puller_12 : decode cX5_puller 12 = .ok (.ifCond .eq 12, 3) := dk_153 0 12 (dk_at dksX5_puller_0 12 rfl rfl)
theorem dX5_puller_15 : decode cX5_puller 15 = .ok (.aload_n 0, 1) := dk_42 (dk_at dksX5_puller_0 15 rfl rfl)
theorem dX5_puller_16 : decode cX5_puller 16 = .ok (.iload_n 1, 1) := dk_27 (dk_at dksX5_puller_0 16 rfl rfl)
theorem dX5_puller_17 : decode cX5_puller 17 = .ok (.iload_n 2, 1) := dk_28 (dk_at dksX5_puller_0 17 rfl rfl)
theorem dX5_puller_18 : decode cX5_puller 18 = .ok (.invokevirtual 150, 3) := dk_182 0 150 (dk_at dksX5_puller_0 18 rfl rfl)
theorem dX5_puller_21 : decode cX5_puller 21 = .ok (.goto 5, 3) := dk_167 0 5 (dk_at dksX5_puller_0 21 rfl rfl)
theorem dX5_puller_24 : decode cX5_puller 24 = .ok (.bipush (-2), 2) := dk_16 254 (dk_at dksX5_puller_1 0 rfl rfl)
theorem dX5_puller_26 : decode cX5_puller 26 = .ok (.ireturn, 1) := dk_172 (dk_at dksX5_puller_1 2 rfl rfl)
abbrev cX5_isPuller : ByteArray := prog_12_method_23_code
def yX5_isPuller : MethodName := ⟨RX5, "isPuller", "(I)Z"⟩
def dkwX5_isPuller_0 : List UInt8 := [42, 182, 0, 138, 42, 27, 182, 0, 141, 172]
abbrev dktX5_isPuller_0 : List UInt8 := dkwX5_isPuller_0 ++ []
theorem dksX5_isPuller_0 : cX5_isPuller.data.toList.drop 0 = dktX5_isPuller_0 := by decide +kernel
theorem dX5_isPuller_0 : decode cX5_isPuller 0 = .ok (.aload_n 0, 1) := dk_42 (dk_at dksX5_isPuller_0 0 rfl rfl)
theorem dX5_isPuller_1 : decode cX5_isPuller 1 = .ok (.invokevirtual 138, 3) := dk_182 0 138 (dk_at dksX5_isPuller_0 1 rfl rfl)
theorem dX5_isPuller_4 : decode cX5_isPuller 4 = .ok (.aload_n 0, 1) := dk_42 (dk_at dksX5_isPuller_0 4 rfl rfl)
theorem dX5_isPuller_5 : decode cX5_isPuller 5 = .ok (.iload_n 1, 1) := dk_27 (dk_at dksX5_isPuller_0 5 rfl rfl)
theorem dX5_isPuller_6 : decode cX5_isPuller 6 = .ok (.invokevirtual 141, 3) := dk_182 0 141 (dk_at dksX5_isPuller_0 6 rfl rfl)
theorem dX5_isPuller_9 : decode cX5_isPuller 9 = .ok (.ireturn, 1) := dk_172 (dk_at dksX5_isPuller_0 9 rfl rfl)
abbrev cX5_reads : ByteArray := prog_12_method_20_code
def yX5_reads : MethodName := ⟨RX5, "reads", "()V"⟩
def dkwX5_reads_0 : List UInt8 := [42, 3, 182, 0, 135, 60, 177]
abbrev dktX5_reads_0 : List UInt8 := dkwX5_reads_0 ++ []
theorem dksX5_reads_0 : cX5_reads.data.toList.drop 0 = dktX5_reads_0 := by decide +kernel
theorem dX5_reads_0 : decode cX5_reads 0 = .ok (.aload_n 0, 1) := dk_42 (dk_at dksX5_reads_0 0 rfl rfl)
theorem dX5_reads_1 : decode cX5_reads 1 = .ok (.iconst 0, 1) := dk_3 (dk_at dksX5_reads_0 1 rfl rfl)
theorem dX5_reads_2 : decode cX5_reads 2 = .ok (.invokevirtual 135, 3) := dk_182 0 135 (dk_at dksX5_reads_0 2 rfl rfl)
theorem dX5_reads_5 : decode cX5_reads 5 = .ok (.istore_n 1, 1) := dk_60 (dk_at dksX5_reads_0 5 rfl rfl)
theorem dX5_reads_6 : decode cX5_reads 6 = .ok (.return_, 1) := dk_177 (dk_at dksX5_reads_0 6 rfl rfl)
abbrev cX5_isThereOne : ByteArray := prog_12_method_22_code
def yX5_isThereOne : MethodName := ⟨RX5, "isThereOne", "(I)Z"⟩
def dkwX5_isThereOne_1 : List UInt8 := [162, 0, 7, 4, 167, 0, 4, 3, 172]
abbrev dktX5_isThereOne_1 : List UInt8 := dkwX5_isThereOne_1 ++ []
def dkwX5_isThereOne_0 : List UInt8 := [27, 3, 16, 15, 184, 0, 109, 153, 0, 23, 27, 16, 8, 112, 42, 180, 0, 16, 27, 16, 8, 108, 46]
abbrev dktX5_isThereOne_0 : List UInt8 := dkwX5_isThereOne_0 ++ dktX5_isThereOne_1
theorem dksX5_isThereOne_0 : cX5_isThereOne.data.toList.drop 0 = dktX5_isThereOne_0 := by decide +kernel
theorem dksX5_isThereOne_1 : cX5_isThereOne.data.toList.drop 23 = dktX5_isThereOne_1 := dk_seg dksX5_isThereOne_0 23 rfl rfl
theorem dX5_isThereOne_0 : decode cX5_isThereOne 0 = .ok (.iload_n 1, 1) := dk_27 (dk_at dksX5_isThereOne_0 0 rfl rfl)
theorem dX5_isThereOne_1 : decode cX5_isThereOne 1 = .ok (.iconst 0, 1) := dk_3 (dk_at dksX5_isThereOne_0 1 rfl rfl)
theorem dX5_isThereOne_2 : decode cX5_isThereOne 2 = .ok (.bipush 15, 2) := dk_16 15 (dk_at dksX5_isThereOne_0 2 rfl rfl)
theorem dX5_isThereOne_4 : decode cX5_isThereOne 4 = .ok (.invokestatic 109, 3) := dk_184 0 109 (dk_at dksX5_isThereOne_0 4 rfl rfl)
theorem dX5_isThereOne_7 : decode cX5_isThereOne 7 = .ok (.ifCond .eq 23, 3) := dk_153 0 23 (dk_at dksX5_isThereOne_0 7 rfl rfl)
theorem dX5_isThereOne_10 : decode cX5_isThereOne 10 = .ok (.iload_n 1, 1) := dk_27 (dk_at dksX5_isThereOne_0 10 rfl rfl)
theorem dX5_isThereOne_11 : decode cX5_isThereOne 11 = .ok (.bipush 8, 2) := dk_16 8 (dk_at dksX5_isThereOne_0 11 rfl rfl)
theorem dX5_isThereOne_13 : decode cX5_isThereOne 13 = .ok (.irem, 1) := dk_112 (dk_at dksX5_isThereOne_0 13 rfl rfl)
theorem dX5_isThereOne_14 : decode cX5_isThereOne 14 = .ok (.aload_n 0, 1) := dk_42 (dk_at dksX5_isThereOne_0 14 rfl rfl)
theorem dX5_isThereOne_15 : decode cX5_isThereOne 15 = .ok (.getfield 16, 3) := dk_180 0 16 (dk_at dksX5_isThereOne_0 15 rfl rfl)
theorem dX5_isThereOne_18 : decode cX5_isThereOne 18 = .ok (.iload_n 1, 1) := dk_27 (dk_at dksX5_isThereOne_0 18 rfl rfl)
theorem dX5_isThereOne_19 : decode cX5_isThereOne 19 = .ok (.bipush 8, 2) := dk_16 8 (dk_at dksX5_isThereOne_0 19 rfl rfl)
theorem dX5_isThereOne_21 : decode cX5_isThereOne 21 = .ok (.idiv, 1) := dk_108 (dk_at dksX5_isThereOne_0 21 rfl rfl)
theorem dX5_isThereOne_22 : decode cX5_isThereOne 22 = .ok (.iaload, 1) := dk_46 (dk_at dksX5_isThereOne_0 22 rfl rfl)
theorem dX5_isThereOne_23 : decode cX5_isThereOne 23 = .ok (.if_icmp .ge 7, 3) := dk_162 0 7 (dk_at dksX5_isThereOne_1 0 rfl rfl)
theorem dX5_isThereOne_26 : decode cX5_isThereOne 26 = .ok (.iconst 1, 1) := dk_4 (dk_at dksX5_isThereOne_1 3 rfl rfl)
theorem dX5_isThereOne_27 : decode cX5_isThereOne 27 = .ok (.goto 4, 3) := dk_167 0 4 (dk_at dksX5_isThereOne_1 4 rfl rfl)
theorem dX5_isThereOne_30 : decode cX5_isThereOne 30 = .ok (.iconst 0, 1) := dk_3 (dk_at dksX5_isThereOne_1 7 rfl rfl)
theorem dX5_isThereOne_31 : decode cX5_isThereOne 31 = .ok (.ireturn, 1) := dk_172 (dk_at dksX5_isThereOne_1 8 rfl rfl)
abbrev cX5_isThree : ByteArray := prog_12_method_10_code
def yX5_isThree : MethodName := ⟨RX5, "isThree", "(I)Z"⟩
def dkwX5_isThree_0 : List UInt8 := [26, 3, 5, 184, 0, 109, 172]
abbrev dktX5_isThree_0 : List UInt8 := dkwX5_isThree_0 ++ []
theorem dksX5_isThree_0 : cX5_isThree.data.toList.drop 0 = dktX5_isThree_0 := by decide +kernel
theorem dX5_isThree_0 : decode cX5_isThree 0 = .ok (.iload_n 0, 1) := dk_26 (dk_at dksX5_isThree_0 0 rfl rfl)
theorem dX5_isThree_1 : decode cX5_isThree 1 = .ok (.iconst 0, 1) := dk_3 (dk_at dksX5_isThree_0 1 rfl rfl)
theorem dX5_isThree_2 : decode cX5_isThree 2 = .ok (.iconst 2, 1) := dk_5 (dk_at dksX5_isThree_0 2 rfl rfl)
theorem dX5_isThree_3 : decode cX5_isThree 3 = .ok (.invokestatic 109, 3) := dk_184 0 109 (dk_at dksX5_isThree_0 3 rfl rfl)
theorem dX5_isThree_6 : decode cX5_isThree 6 = .ok (.ireturn, 1) := dk_172 (dk_at dksX5_isThree_0 6 rfl rfl)
abbrev cX5_pullerOf : ByteArray := prog_12_method_24_code
def yX5_pullerOf : MethodName := ⟨RX5, "pullerOf", "(II)I"⟩
def dkwX5_pullerOf_1 : List UInt8 := [167, 0, 9, 42, 180, 0, 25, 27, 46, 172]
abbrev dktX5_pullerOf_1 : List UInt8 := dkwX5_pullerOf_1 ++ []
def dkwX5_pullerOf_0 : List UInt8 := [28, 154, 0, 12, 42, 180, 0, 19, 27, 46, 167, 0, 23, 28, 4, 160, 0, 12, 42, 180, 0, 22, 27, 46]
abbrev dktX5_pullerOf_0 : List UInt8 := dkwX5_pullerOf_0 ++ dktX5_pullerOf_1
theorem dksX5_pullerOf_0 : cX5_pullerOf.data.toList.drop 0 = dktX5_pullerOf_0 := by decide +kernel
theorem dksX5_pullerOf_1 : cX5_pullerOf.data.toList.drop 24 = dktX5_pullerOf_1 := dk_seg dksX5_pullerOf_0 24 rfl rfl
theorem dX5_pullerOf_0 : decode cX5_pullerOf 0 = .ok (.iload_n 2, 1) := dk_28 (dk_at dksX5_pullerOf_0 0 rfl rfl)
theorem dX5_pullerOf_1 : decode cX5_pullerOf 1 = .ok (.ifCond .ne 12, 3) := dk_154 0 12 (dk_at dksX5_pullerOf_0 1 rfl rfl)
theorem dX5_pullerOf_4 : decode cX5_pullerOf 4 = .ok (.aload_n 0, 1) := dk_42 (dk_at dksX5_pullerOf_0 4 rfl rfl)
theorem dX5_pullerOf_5 : decode cX5_pullerOf 5 = .ok (.getfield 19, 3) := dk_180 0 19 (dk_at dksX5_pullerOf_0 5 rfl rfl)
theorem dX5_pullerOf_8 : decode cX5_pullerOf 8 = .ok (.iload_n 1, 1) := dk_27 (dk_at dksX5_pullerOf_0 8 rfl rfl)
theorem dX5_pullerOf_9 : decode cX5_pullerOf 9 = .ok (.iaload, 1) := dk_46 (dk_at dksX5_pullerOf_0 9 rfl rfl)
theorem dX5_pullerOf_10 : decode cX5_pullerOf 10 = .ok (.goto 23, 3) := dk_167 0 23 (dk_at dksX5_pullerOf_0 10 rfl rfl)
theorem dX5_pullerOf_13 : decode cX5_pullerOf 13 = .ok (.iload_n 2, 1) := dk_28 (dk_at dksX5_pullerOf_0 13 rfl rfl)
theorem dX5_pullerOf_14 : decode cX5_pullerOf 14 = .ok (.iconst 1, 1) := dk_4 (dk_at dksX5_pullerOf_0 14 rfl rfl)
theorem dX5_pullerOf_15 : decode cX5_pullerOf 15 = .ok (.if_icmp .ne 12, 3) := dk_160 0 12 (dk_at dksX5_pullerOf_0 15 rfl rfl)
theorem dX5_pullerOf_18 : decode cX5_pullerOf 18 = .ok (.aload_n 0, 1) := dk_42 (dk_at dksX5_pullerOf_0 18 rfl rfl)
theorem dX5_pullerOf_19 : decode cX5_pullerOf 19 = .ok (.getfield 22, 3) := dk_180 0 22 (dk_at dksX5_pullerOf_0 19 rfl rfl)
theorem dX5_pullerOf_22 : decode cX5_pullerOf 22 = .ok (.iload_n 1, 1) := dk_27 (dk_at dksX5_pullerOf_0 22 rfl rfl)
theorem dX5_pullerOf_23 : decode cX5_pullerOf 23 = .ok (.iaload, 1) := dk_46 (dk_at dksX5_pullerOf_0 23 rfl rfl)
theorem dX5_pullerOf_24 : decode cX5_pullerOf 24 = .ok (.goto 9, 3) := dk_167 0 9 (dk_at dksX5_pullerOf_1 0 rfl rfl)
theorem dX5_pullerOf_27 : decode cX5_pullerOf 27 = .ok (.aload_n 0, 1) := dk_42 (dk_at dksX5_pullerOf_1 3 rfl rfl)
theorem dX5_pullerOf_28 : decode cX5_pullerOf 28 = .ok (.getfield 25, 3) := dk_180 0 25 (dk_at dksX5_pullerOf_1 4 rfl rfl)
theorem dX5_pullerOf_31 : decode cX5_pullerOf 31 = .ok (.iload_n 1, 1) := dk_27 (dk_at dksX5_pullerOf_1 7 rfl rfl)
theorem dX5_pullerOf_32 : decode cX5_pullerOf 32 = .ok (.iaload, 1) := dk_46 (dk_at dksX5_pullerOf_1 8 rfl rfl)
theorem dX5_pullerOf_33 : decode cX5_pullerOf 33 = .ok (.ireturn, 1) := dk_172 (dk_at dksX5_pullerOf_1 9 rfl rfl)
abbrev cX5_call : ByteArray := prog_12_method_27_code
def yX5_call : MethodName := ⟨RX5, "call", "(II)I"⟩
def dkwX5_call_1 : List UInt8 := [16, 254, 172]
abbrev dktX5_call_1 : List UInt8 := dkwX5_call_1 ++ []
def dkwX5_call_0 : List UInt8 := [27, 184, 0, 153, 153, 0, 19, 28, 184, 0, 156, 153, 0, 12, 42, 27, 28, 182, 0, 159, 167, 0, 5]
abbrev dktX5_call_0 : List UInt8 := dkwX5_call_0 ++ dktX5_call_1
theorem dksX5_call_0 : cX5_call.data.toList.drop 0 = dktX5_call_0 := by decide +kernel
theorem dksX5_call_1 : cX5_call.data.toList.drop 23 = dktX5_call_1 := dk_seg dksX5_call_0 23 rfl rfl
theorem dX5_call_0 : decode cX5_call 0 = .ok (.iload_n 1, 1) := dk_27 (dk_at dksX5_call_0 0 rfl rfl)
theorem dX5_call_1 : decode cX5_call 1 = .ok (.invokestatic 153, 3) := dk_184 0 153 (dk_at dksX5_call_0 1 rfl rfl)
theorem dX5_call_4 : decode cX5_call 4 = .ok (.ifCond .eq 19, 3) := dk_153 0 19 (dk_at dksX5_call_0 4 rfl rfl)
theorem dX5_call_7 : decode cX5_call 7 = .ok (.iload_n 2, 1) := dk_28 (dk_at dksX5_call_0 7 rfl rfl)
theorem dX5_call_8 : decode cX5_call 8 = .ok (.invokestatic 156, 3) := dk_184 0 156 (dk_at dksX5_call_0 8 rfl rfl)
theorem dX5_call_11 : decode cX5_call 11 = .ok (.ifCond .eq 12, 3) := dk_153 0 12 (dk_at dksX5_call_0 11 rfl rfl)
theorem dX5_call_14 : decode cX5_call 14 = .ok (.aload_n 0, 1) := dk_42 (dk_at dksX5_call_0 14 rfl rfl)
theorem dX5_call_15 : decode cX5_call 15 = .ok (.iload_n 1, 1) := dk_27 (dk_at dksX5_call_0 15 rfl rfl)
theorem dX5_call_16 : decode cX5_call 16 = .ok (.iload_n 2, 1) := dk_28 (dk_at dksX5_call_0 16 rfl rfl)
theorem dX5_call_17 : decode cX5_call 17 = .ok (.invokevirtual 159, 3) := dk_182 0 159 (dk_at dksX5_call_0 17 rfl rfl)
theorem dX5_call_20 : decode cX5_call 20 = .ok (.goto 5, 3) := dk_167 0 5 (dk_at dksX5_call_0 20 rfl rfl)
theorem dX5_call_23 : decode cX5_call 23 = .ok (.bipush (-2), 2) := dk_16 254 (dk_at dksX5_call_1 0 rfl rfl)
theorem dX5_call_25 : decode cX5_call 25 = .ok (.ireturn, 1) := dk_172 (dk_at dksX5_call_1 2 rfl rfl)
abbrev cX5_isTwo : ByteArray := prog_12_method_9_code
def yX5_isTwo : MethodName := ⟨RX5, "isTwo", "(I)Z"⟩
def dkwX5_isTwo_0 : List UInt8 := [26, 3, 4, 184, 0, 109, 172]
abbrev dktX5_isTwo_0 : List UInt8 := dkwX5_isTwo_0 ++ []
theorem dksX5_isTwo_0 : cX5_isTwo.data.toList.drop 0 = dktX5_isTwo_0 := by decide +kernel
theorem dX5_isTwo_0 : decode cX5_isTwo 0 = .ok (.iload_n 0, 1) := dk_26 (dk_at dksX5_isTwo_0 0 rfl rfl)
theorem dX5_isTwo_1 : decode cX5_isTwo 1 = .ok (.iconst 0, 1) := dk_3 (dk_at dksX5_isTwo_0 1 rfl rfl)
theorem dX5_isTwo_2 : decode cX5_isTwo 2 = .ok (.iconst 1, 1) := dk_4 (dk_at dksX5_isTwo_0 2 rfl rfl)
theorem dX5_isTwo_3 : decode cX5_isTwo 3 = .ok (.invokestatic 109, 3) := dk_184 0 109 (dk_at dksX5_isTwo_0 3 rfl rfl)
theorem dX5_isTwo_6 : decode cX5_isTwo 6 = .ok (.ireturn, 1) := dk_172 (dk_at dksX5_isTwo_0 6 rfl rfl)
abbrev cX5_isBeat : ByteArray := prog_12_method_8_code
def yX5_isBeat : MethodName := ⟨RX5, "isBeat", "(I)Z"⟩
def dkwX5_isBeat_0 : List UInt8 := [26, 3, 16, 23, 184, 0, 109, 172]
abbrev dktX5_isBeat_0 : List UInt8 := dkwX5_isBeat_0 ++ []
theorem dksX5_isBeat_0 : cX5_isBeat.data.toList.drop 0 = dktX5_isBeat_0 := by decide +kernel
theorem dX5_isBeat_0 : decode cX5_isBeat 0 = .ok (.iload_n 0, 1) := dk_26 (dk_at dksX5_isBeat_0 0 rfl rfl)
theorem dX5_isBeat_1 : decode cX5_isBeat 1 = .ok (.iconst 0, 1) := dk_3 (dk_at dksX5_isBeat_0 1 rfl rfl)
theorem dX5_isBeat_2 : decode cX5_isBeat 2 = .ok (.bipush 23, 2) := dk_16 23 (dk_at dksX5_isBeat_0 2 rfl rfl)
theorem dX5_isBeat_4 : decode cX5_isBeat 4 = .ok (.invokestatic 109, 3) := dk_184 0 109 (dk_at dksX5_isBeat_0 4 rfl rfl)
theorem dX5_isBeat_7 : decode cX5_isBeat 7 = .ok (.ireturn, 1) := dk_172 (dk_at dksX5_isBeat_0 7 rfl rfl)
abbrev cX5_callOf : ByteArray := prog_12_method_26_code
def yX5_callOf : MethodName := ⟨RX5, "callOf", "(II)I"⟩
def dkwX5_callOf_0 : List UInt8 := [42, 182, 0, 138, 42, 180, 0, 31, 16, 24, 27, 104, 28, 96, 46, 172]
abbrev dktX5_callOf_0 : List UInt8 := dkwX5_callOf_0 ++ []
theorem dksX5_callOf_0 : cX5_callOf.data.toList.drop 0 = dktX5_callOf_0 := by decide +kernel
theorem dX5_callOf_0 : decode cX5_callOf 0 = .ok (.aload_n 0, 1) := dk_42 (dk_at dksX5_callOf_0 0 rfl rfl)
theorem dX5_callOf_1 : decode cX5_callOf 1 = .ok (.invokevirtual 138, 3) := dk_182 0 138 (dk_at dksX5_callOf_0 1 rfl rfl)
theorem dX5_callOf_4 : decode cX5_callOf 4 = .ok (.aload_n 0, 1) := dk_42 (dk_at dksX5_callOf_0 4 rfl rfl)
theorem dX5_callOf_5 : decode cX5_callOf 5 = .ok (.getfield 31, 3) := dk_180 0 31 (dk_at dksX5_callOf_0 5 rfl rfl)
theorem dX5_callOf_8 : decode cX5_callOf 8 = .ok (.bipush 24, 2) := dk_16 24 (dk_at dksX5_callOf_0 8 rfl rfl)
theorem dX5_callOf_10 : decode cX5_callOf 10 = .ok (.iload_n 1, 1) := dk_27 (dk_at dksX5_callOf_0 10 rfl rfl)
theorem dX5_callOf_11 : decode cX5_callOf 11 = .ok (.imul, 1) := dk_104 (dk_at dksX5_callOf_0 11 rfl rfl)
theorem dX5_callOf_12 : decode cX5_callOf 12 = .ok (.iload_n 2, 1) := dk_28 (dk_at dksX5_callOf_0 12 rfl rfl)
theorem dX5_callOf_13 : decode cX5_callOf 13 = .ok (.iadd, 1) := dk_96 (dk_at dksX5_callOf_0 13 rfl rfl)
theorem dX5_callOf_14 : decode cX5_callOf 14 = .ok (.iaload, 1) := dk_46 (dk_at dksX5_callOf_0 14 rfl rfl)
theorem dX5_callOf_15 : decode cX5_callOf 15 = .ok (.ireturn, 1) := dk_172 (dk_at dksX5_callOf_0 15 rfl rfl)
abbrev cX5_mud : ByteArray := prog_12_method_28_code
def yX5_mud : MethodName := ⟨RX5, "mud", "(I)I"⟩
def dkwX5_mud_1 : List UInt8 := [172]
abbrev dktX5_mud_1 : List UInt8 := dkwX5_mud_1 ++ []
def dkwX5_mud_0 : List UInt8 := [27, 3, 16, 9, 184, 0, 109, 154, 0, 6, 16, 254, 172, 42, 180, 0, 162, 61, 42, 27, 181, 0, 162, 28]
abbrev dktX5_mud_0 : List UInt8 := dkwX5_mud_0 ++ dktX5_mud_1
theorem dksX5_mud_0 : cX5_mud.data.toList.drop 0 = dktX5_mud_0 := by decide +kernel
theorem dksX5_mud_1 : cX5_mud.data.toList.drop 24 = dktX5_mud_1 := dk_seg dksX5_mud_0 24 rfl rfl
theorem dX5_mud_0 : decode cX5_mud 0 = .ok (.iload_n 1, 1) := dk_27 (dk_at dksX5_mud_0 0 rfl rfl)
theorem dX5_mud_1 : decode cX5_mud 1 = .ok (.iconst 0, 1) := dk_3 (dk_at dksX5_mud_0 1 rfl rfl)
theorem dX5_mud_2 : decode cX5_mud 2 = .ok (.bipush 9, 2) := dk_16 9 (dk_at dksX5_mud_0 2 rfl rfl)
theorem dX5_mud_4 : decode cX5_mud 4 = .ok (.invokestatic 109, 3) := dk_184 0 109 (dk_at dksX5_mud_0 4 rfl rfl)
theorem dX5_mud_7 : decode cX5_mud 7 = .ok (.ifCond .ne 6, 3) := dk_154 0 6 (dk_at dksX5_mud_0 7 rfl rfl)
theorem dX5_mud_10 : decode cX5_mud 10 = .ok (.bipush (-2), 2) := dk_16 254 (dk_at dksX5_mud_0 10 rfl rfl)
theorem dX5_mud_12 : decode cX5_mud 12 = .ok (.ireturn, 1) := dk_172 (dk_at dksX5_mud_0 12 rfl rfl)
theorem dX5_mud_13 : decode cX5_mud 13 = .ok (.aload_n 0, 1) := dk_42 (dk_at dksX5_mud_0 13 rfl rfl)
theorem dX5_mud_14 : decode cX5_mud 14 = .ok (.getfield 162, 3) := dk_180 0 162 (dk_at dksX5_mud_0 14 rfl rfl)
theorem dX5_mud_17 : decode cX5_mud 17 = .ok (.istore_n 2, 1) := dk_61 (dk_at dksX5_mud_0 17 rfl rfl)
theorem dX5_mud_18 : decode cX5_mud 18 = .ok (.aload_n 0, 1) := dk_42 (dk_at dksX5_mud_0 18 rfl rfl)
theorem dX5_mud_19 : decode cX5_mud 19 = .ok (.iload_n 1, 1) := dk_27 (dk_at dksX5_mud_0 19 rfl rfl)
theorem dX5_mud_20 : decode cX5_mud 20 = .ok (.putfield 162, 3) := dk_181 0 162 (dk_at dksX5_mud_0 20 rfl rfl)
theorem dX5_mud_23 : decode cX5_mud 23 = .ok (.iload_n 2, 1) := dk_28 (dk_at dksX5_mud_0 23 rfl rfl)
theorem dX5_mud_24 : decode cX5_mud 24 = .ok (.ireturn, 1) := dk_172 (dk_at dksX5_mud_1 0 rfl rfl)
abbrev cX5_event : ByteArray := prog_12_method_29_code
def yX5_event : MethodName := ⟨RX5, "event", "(III)I"⟩
def dkwX5_event_3 : List UInt8 := [180, 0, 166, 4, 96, 181, 0, 166, 42, 180, 0, 166, 172]
abbrev dktX5_event_3 : List UInt8 := dkwX5_event_3 ++ []
def dkwX5_event_2 : List UInt8 := [79, 42, 180, 0, 37, 42, 180, 0, 166, 28, 79, 42, 180, 0, 40, 42, 180, 0, 166, 29, 79, 42, 89]
abbrev dktX5_event_2 : List UInt8 := dkwX5_event_2 ++ dktX5_event_3
def dkwX5_event_1 : List UInt8 := [16, 254, 172, 42, 180, 0, 166, 16, 8, 160, 0, 6, 16, 252, 172, 42, 180, 0, 34, 42, 180, 0, 166, 27]
abbrev dktX5_event_1 : List UInt8 := dkwX5_event_1 ++ dktX5_event_2
def dkwX5_event_0 : List UInt8 := [27, 184, 0, 147, 153, 0, 20, 28, 184, 0, 156, 153, 0, 13, 29, 3, 16, 15, 184, 0, 109, 154, 0, 6]
abbrev dktX5_event_0 : List UInt8 := dkwX5_event_0 ++ dktX5_event_1
theorem dksX5_event_0 : cX5_event.data.toList.drop 0 = dktX5_event_0 := by decide +kernel
theorem dksX5_event_1 : cX5_event.data.toList.drop 24 = dktX5_event_1 := dk_seg dksX5_event_0 24 rfl rfl
theorem dksX5_event_2 : cX5_event.data.toList.drop 48 = dktX5_event_2 := dk_seg dksX5_event_1 24 rfl rfl
theorem dksX5_event_3 : cX5_event.data.toList.drop 71 = dktX5_event_3 := dk_seg dksX5_event_2 23 rfl rfl
theorem dX5_event_0 : decode cX5_event 0 = .ok (.iload_n 1, 1) := dk_27 (dk_at dksX5_event_0 0 rfl rfl)
theorem dX5_event_1 : decode cX5_event 1 = .ok (.invokestatic 147, 3) := dk_184 0 147 (dk_at dksX5_event_0 1 rfl rfl)
theorem dX5_event_4 : decode cX5_event 4 = .ok (.ifCond .eq 20, 3) := dk_153 0 20 (dk_at dksX5_event_0 4 rfl rfl)
theorem dX5_event_7 : decode cX5_event 7 = .ok (.iload_n 2, 1) := dk_28 (dk_at dksX5_event_0 7 rfl rfl)
theorem dX5_event_8 : decode cX5_event 8 = .ok (.invokestatic 156, 3) := dk_184 0 156 (dk_at dksX5_event_0 8 rfl rfl)
theorem dX5_event_11 : decode cX5_event 11 = .ok (.ifCond .eq 13, 3) := dk_153 0 13 (dk_at dksX5_event_0 11 rfl rfl)
theorem dX5_event_14 : decode cX5_event 14 = .ok (.iload_n 3, 1) := dk_29 (dk_at dksX5_event_0 14 rfl rfl)
theorem dX5_event_15 : decode cX5_event 15 = .ok (.iconst 0, 1) := dk_3 (dk_at dksX5_event_0 15 rfl rfl)
theorem dX5_event_16 : decode cX5_event 16 = .ok (.bipush 15, 2) := dk_16 15 (dk_at dksX5_event_0 16 rfl rfl)
theorem dX5_event_18 : decode cX5_event 18 = .ok (.invokestatic 109, 3) := dk_184 0 109 (dk_at dksX5_event_0 18 rfl rfl)
theorem dX5_event_21 : decode cX5_event 21 = .ok (.ifCond .ne 6, 3) := dk_154 0 6 (dk_at dksX5_event_0 21 rfl rfl)
theorem dX5_event_24 : decode cX5_event 24 = .ok (.bipush (-2), 2) := dk_16 254 (dk_at dksX5_event_1 0 rfl rfl)
theorem dX5_event_26 : decode cX5_event 26 = .ok (.ireturn, 1) := dk_172 (dk_at dksX5_event_1 2 rfl rfl)
theorem dX5_event_27 : decode cX5_event 27 = .ok (.aload_n 0, 1) := dk_42 (dk_at dksX5_event_1 3 rfl rfl)
theorem dX5_event_28 : decode cX5_event 28 = .ok (.getfield 166, 3) := dk_180 0 166 (dk_at dksX5_event_1 4 rfl rfl)
theorem dX5_event_31 : decode cX5_event 31 = .ok (.bipush 8, 2) := dk_16 8 (dk_at dksX5_event_1 7 rfl rfl)
theorem dX5_event_33 : decode cX5_event 33 = .ok (.if_icmp .ne 6, 3) := dk_160 0 6 (dk_at dksX5_event_1 9 rfl rfl)
theorem dX5_event_36 : decode cX5_event 36 = .ok (.bipush (-4), 2) := dk_16 252 (dk_at dksX5_event_1 12 rfl rfl)
theorem dX5_event_38 : decode cX5_event 38 = .ok (.ireturn, 1) := dk_172 (dk_at dksX5_event_1 14 rfl rfl)
theorem dX5_event_39 : decode cX5_event 39 = .ok (.aload_n 0, 1) := dk_42 (dk_at dksX5_event_1 15 rfl rfl)
theorem dX5_event_40 : decode cX5_event 40 = .ok (.getfield 34, 3) := dk_180 0 34 (dk_at dksX5_event_1 16 rfl rfl)
theorem dX5_event_43 : decode cX5_event 43 = .ok (.aload_n 0, 1) := dk_42 (dk_at dksX5_event_1 19 rfl rfl)
theorem dX5_event_44 : decode cX5_event 44 = .ok (.getfield 166, 3) := dk_180 0 166 (dk_at dksX5_event_1 20 rfl rfl)
theorem dX5_event_47 : decode cX5_event 47 = .ok (.iload_n 1, 1) := dk_27 (dk_at dksX5_event_1 23 rfl rfl)
theorem dX5_event_48 : decode cX5_event 48 = .ok (.iastore, 1) := dk_79 (dk_at dksX5_event_2 0 rfl rfl)
theorem dX5_event_49 : decode cX5_event 49 = .ok (.aload_n 0, 1) := dk_42 (dk_at dksX5_event_2 1 rfl rfl)
theorem dX5_event_50 : decode cX5_event 50 = .ok (.getfield 37, 3) := dk_180 0 37 (dk_at dksX5_event_2 2 rfl rfl)
theorem dX5_event_53 : decode cX5_event 53 = .ok (.aload_n 0, 1) := dk_42 (dk_at dksX5_event_2 5 rfl rfl)
theorem dX5_event_54 : decode cX5_event 54 = .ok (.getfield 166, 3) := dk_180 0 166 (dk_at dksX5_event_2 6 rfl rfl)
theorem dX5_event_57 : decode cX5_event 57 = .ok (.iload_n 2, 1) := dk_28 (dk_at dksX5_event_2 9 rfl rfl)
theorem dX5_event_58 : decode cX5_event 58 = .ok (.iastore, 1) := dk_79 (dk_at dksX5_event_2 10 rfl rfl)
theorem dX5_event_59 : decode cX5_event 59 = .ok (.aload_n 0, 1) := dk_42 (dk_at dksX5_event_2 11 rfl rfl)
theorem dX5_event_60 : decode cX5_event 60 = .ok (.getfield 40, 3) := dk_180 0 40 (dk_at dksX5_event_2 12 rfl rfl)
theorem dX5_event_63 : decode cX5_event 63 = .ok (.aload_n 0, 1) := dk_42 (dk_at dksX5_event_2 15 rfl rfl)
theorem dX5_event_64 : decode cX5_event 64 = .ok (.getfield 166, 3) := dk_180 0 166 (dk_at dksX5_event_2 16 rfl rfl)
theorem dX5_event_67 : decode cX5_event 67 = .ok (.iload_n 3, 1) := dk_29 (dk_at dksX5_event_2 19 rfl rfl)
theorem dX5_event_68 : decode cX5_event 68 = .ok (.iastore, 1) := dk_79 (dk_at dksX5_event_2 20 rfl rfl)
theorem dX5_event_69 : decode cX5_event 69 = .ok (.aload_n 0, 1) := dk_42 (dk_at dksX5_event_2 21 rfl rfl)
theorem dX5_event_70 : decode cX5_event 70 = .ok (.dup, 1) := dk_89 (dk_at dksX5_event_2 22 rfl rfl)
theorem dX5_event_71 : decode cX5_event 71 = .ok (.getfield 166, 3) := dk_180 0 166 (dk_at dksX5_event_3 0 rfl rfl)
theorem dX5_event_74 : decode cX5_event 74 = .ok (.iconst 1, 1) := dk_4 (dk_at dksX5_event_3 3 rfl rfl)
theorem dX5_event_75 : decode cX5_event 75 = .ok (.iadd, 1) := dk_96 (dk_at dksX5_event_3 4 rfl rfl)
theorem dX5_event_76 : decode cX5_event 76 = .ok (.putfield 166, 3) := dk_181 0 166 (dk_at dksX5_event_3 5 rfl rfl)
theorem dX5_event_79 : decode cX5_event 79 = .ok (.aload_n 0, 1) := dk_42 (dk_at dksX5_event_3 8 rfl rfl)
theorem dX5_event_80 : decode cX5_event 80 = .ok (.getfield 166, 3) := dk_180 0 166 (dk_at dksX5_event_3 9 rfl rfl)
theorem dX5_event_83 : decode cX5_event 83 = .ok (.ireturn, 1) := dk_172 (dk_at dksX5_event_3 12 rfl rfl)
abbrev cX5_back : ByteArray := prog_12_method_30_code
def yX5_back : MethodName := ⟨RX5, "back", "()I"⟩
def dkwX5_back_1 : List UInt8 := [172]
abbrev dktX5_back_1 : List UInt8 := dkwX5_back_1 ++ []
def dkwX5_back_0 : List UInt8 := [42, 180, 0, 166, 154, 0, 6, 16, 253, 172, 42, 89, 180, 0, 166, 4, 100, 181, 0, 166, 42, 180, 0, 166]
abbrev dktX5_back_0 : List UInt8 := dkwX5_back_0 ++ dktX5_back_1
theorem dksX5_back_0 : cX5_back.data.toList.drop 0 = dktX5_back_0 := by decide +kernel
theorem dksX5_back_1 : cX5_back.data.toList.drop 24 = dktX5_back_1 := dk_seg dksX5_back_0 24 rfl rfl
theorem dX5_back_0 : decode cX5_back 0 = .ok (.aload_n 0, 1) := dk_42 (dk_at dksX5_back_0 0 rfl rfl)
theorem dX5_back_1 : decode cX5_back 1 = .ok (.getfield 166, 3) := dk_180 0 166 (dk_at dksX5_back_0 1 rfl rfl)
theorem dX5_back_4 : decode cX5_back 4 = .ok (.ifCond .ne 6, 3) := dk_154 0 6 (dk_at dksX5_back_0 4 rfl rfl)
theorem dX5_back_7 : decode cX5_back 7 = .ok (.bipush (-3), 2) := dk_16 253 (dk_at dksX5_back_0 7 rfl rfl)
theorem dX5_back_9 : decode cX5_back 9 = .ok (.ireturn, 1) := dk_172 (dk_at dksX5_back_0 9 rfl rfl)
theorem dX5_back_10 : decode cX5_back 10 = .ok (.aload_n 0, 1) := dk_42 (dk_at dksX5_back_0 10 rfl rfl)
theorem dX5_back_11 : decode cX5_back 11 = .ok (.dup, 1) := dk_89 (dk_at dksX5_back_0 11 rfl rfl)
theorem dX5_back_12 : decode cX5_back 12 = .ok (.getfield 166, 3) := dk_180 0 166 (dk_at dksX5_back_0 12 rfl rfl)
theorem dX5_back_15 : decode cX5_back 15 = .ok (.iconst 1, 1) := dk_4 (dk_at dksX5_back_0 15 rfl rfl)
theorem dX5_back_16 : decode cX5_back 16 = .ok (.isub, 1) := dk_100 (dk_at dksX5_back_0 16 rfl rfl)
theorem dX5_back_17 : decode cX5_back 17 = .ok (.putfield 166, 3) := dk_181 0 166 (dk_at dksX5_back_0 17 rfl rfl)
theorem dX5_back_20 : decode cX5_back 20 = .ok (.aload_n 0, 1) := dk_42 (dk_at dksX5_back_0 20 rfl rfl)
theorem dX5_back_21 : decode cX5_back 21 = .ok (.getfield 166, 3) := dk_180 0 166 (dk_at dksX5_back_0 21 rfl rfl)
theorem dX5_back_24 : decode cX5_back 24 = .ok (.ireturn, 1) := dk_172 (dk_at dksX5_back_1 0 rfl rfl)
abbrev cX5_read : ByteArray := prog_12_method_31_code
def yX5_read : MethodName := ⟨RX5, "read", "(I)I"⟩
def dkwX5_read_4 : List UInt8 := [172]
abbrev dktX5_read_4 : List UInt8 := dkwX5_read_4 ++ []
def dkwX5_read_3 : List UInt8 := [180, 0, 101, 29, 6, 28, 104, 96, 5, 96, 46, 182, 0, 175, 158, 0, 9, 132, 2, 1, 167, 255, 198, 28]
abbrev dktX5_read_3 : List UInt8 := dkwX5_read_3 ++ dktX5_read_4
def dkwX5_read_2 : List UInt8 := [180, 0, 101, 29, 6, 28, 104, 96, 46, 42, 180, 0, 101, 29, 6, 28, 104, 96, 4, 96, 46, 42]
abbrev dktX5_read_2 : List UInt8 := dkwX5_read_2 ++ dktX5_read_3
def dkwX5_read_1 : List UInt8 := [172, 3, 61, 16, 60, 27, 104, 62, 6, 28, 104, 5, 96, 42, 180, 0, 98, 27, 46, 162, 0, 50, 42, 42]
abbrev dktX5_read_1 : List UInt8 := dkwX5_read_1 ++ dktX5_read_2
def dkwX5_read_0 : List UInt8 := [27, 184, 0, 169, 154, 0, 6, 16, 254, 172, 42, 180, 0, 91, 27, 51, 154, 0, 9, 42, 4, 182, 0, 172]
abbrev dktX5_read_0 : List UInt8 := dkwX5_read_0 ++ dktX5_read_1
theorem dksX5_read_0 : cX5_read.data.toList.drop 0 = dktX5_read_0 := by decide +kernel
theorem dksX5_read_1 : cX5_read.data.toList.drop 24 = dktX5_read_1 := dk_seg dksX5_read_0 24 rfl rfl
theorem dksX5_read_2 : cX5_read.data.toList.drop 48 = dktX5_read_2 := dk_seg dksX5_read_1 24 rfl rfl
theorem dksX5_read_3 : cX5_read.data.toList.drop 70 = dktX5_read_3 := dk_seg dksX5_read_2 22 rfl rfl
theorem dksX5_read_4 : cX5_read.data.toList.drop 94 = dktX5_read_4 := dk_seg dksX5_read_3 24 rfl rfl
theorem dX5_read_0 : decode cX5_read 0 = .ok (.iload_n 1, 1) := dk_27 (dk_at dksX5_read_0 0 rfl rfl)
theorem dX5_read_1 : decode cX5_read 1 = .ok (.invokestatic 169, 3) := dk_184 0 169 (dk_at dksX5_read_0 1 rfl rfl)
theorem dX5_read_4 : decode cX5_read 4 = .ok (.ifCond .ne 6, 3) := dk_154 0 6 (dk_at dksX5_read_0 4 rfl rfl)
theorem dX5_read_7 : decode cX5_read 7 = .ok (.bipush (-2), 2) := dk_16 254 (dk_at dksX5_read_0 7 rfl rfl)
theorem dX5_read_9 : decode cX5_read 9 = .ok (.ireturn, 1) := dk_172 (dk_at dksX5_read_0 9 rfl rfl)
theorem dX5_read_10 : decode cX5_read 10 = .ok (.aload_n 0, 1) := dk_42 (dk_at dksX5_read_0 10 rfl rfl)
theorem dX5_read_11 : decode cX5_read 11 = .ok (.getfield 91, 3) := dk_180 0 91 (dk_at dksX5_read_0 11 rfl rfl)
theorem dX5_read_14 : decode cX5_read 14 = .ok (.iload_n 1, 1) := dk_27 (dk_at dksX5_read_0 14 rfl rfl)
theorem dX5_read_15 : decode cX5_read 15 = .ok (.baload, 1) := dk_51 (dk_at dksX5_read_0 15 rfl rfl)
theorem dX5_read_16 : decode cX5_read 16 = .ok (.ifCond .ne 9, 3) := dk_154 0 9 (dk_at dksX5_read_0 16 rfl rfl)
theorem dX5_read_19 : decode cX5_read 19 = .ok (.aload_n 0, 1) := dk_42 (dk_at dksX5_read_0 19 rfl rfl)
theorem dX5_read_20 : decode cX5_read 20 = .ok (.iconst 1, 1) := dk_4 (dk_at dksX5_read_0 20 rfl rfl)
theorem dX5_read_21 : decode cX5_read 21 = .ok (.invokevirtual 172, 3) := dk_182 0 172 (dk_at dksX5_read_0 21 rfl rfl)
theorem dX5_read_24 : decode cX5_read 24 = .ok (.ireturn, 1) := dk_172 (dk_at dksX5_read_1 0 rfl rfl)
theorem dX5_read_25 : decode cX5_read 25 = .ok (.iconst 0, 1) := dk_3 (dk_at dksX5_read_1 1 rfl rfl)
theorem dX5_read_26 : decode cX5_read 26 = .ok (.istore_n 2, 1) := dk_61 (dk_at dksX5_read_1 2 rfl rfl)
theorem dX5_read_27 : decode cX5_read 27 = .ok (.bipush 60, 2) := dk_16 60 (dk_at dksX5_read_1 3 rfl rfl)
theorem dX5_read_29 : decode cX5_read 29 = .ok (.iload_n 1, 1) := dk_27 (dk_at dksX5_read_1 5 rfl rfl)
theorem dX5_read_30 : decode cX5_read 30 = .ok (.imul, 1) := dk_104 (dk_at dksX5_read_1 6 rfl rfl)
theorem dX5_read_31 : decode cX5_read 31 = .ok (.istore_n 3, 1) := dk_62 (dk_at dksX5_read_1 7 rfl rfl)
theorem dX5_read_32 : decode cX5_read 32 = .ok (.iconst 3, 1) := dk_6 (dk_at dksX5_read_1 8 rfl rfl)
theorem dX5_read_33 : decode cX5_read 33 = .ok (.iload_n 2, 1) := dk_28 (dk_at dksX5_read_1 9 rfl rfl)
theorem dX5_read_34 : decode cX5_read 34 = .ok (.imul, 1) := dk_104 (dk_at dksX5_read_1 10 rfl rfl)
theorem dX5_read_35 : decode cX5_read 35 = .ok (.iconst 2, 1) := dk_5 (dk_at dksX5_read_1 11 rfl rfl)
theorem dX5_read_36 : decode cX5_read 36 = .ok (.iadd, 1) := dk_96 (dk_at dksX5_read_1 12 rfl rfl)
theorem dX5_read_37 : decode cX5_read 37 = .ok (.aload_n 0, 1) := dk_42 (dk_at dksX5_read_1 13 rfl rfl)
theorem dX5_read_38 : decode cX5_read 38 = .ok (.getfield 98, 3) := dk_180 0 98 (dk_at dksX5_read_1 14 rfl rfl)
theorem dX5_read_41 : decode cX5_read 41 = .ok (.iload_n 1, 1) := dk_27 (dk_at dksX5_read_1 17 rfl rfl)
theorem dX5_read_42 : decode cX5_read 42 = .ok (.iaload, 1) := dk_46 (dk_at dksX5_read_1 18 rfl rfl)
theorem dX5_read_43 : decode cX5_read 43 = .ok (.if_icmp .ge 50, 3) := dk_162 0 50 (dk_at dksX5_read_1 19 rfl rfl)
theorem dX5_read_46 : decode cX5_read 46 = .ok (.aload_n 0, 1) := dk_42 (dk_at dksX5_read_1 22 rfl rfl)
theorem dX5_read_47 : decode cX5_read 47 = .ok (.aload_n 0, 1) := dk_42 (dk_at dksX5_read_1 23 rfl rfl)
theorem dX5_read_48 : decode cX5_read 48 = .ok (.getfield 101, 3) := dk_180 0 101 (dk_at dksX5_read_2 0 rfl rfl)
theorem dX5_read_51 : decode cX5_read 51 = .ok (.iload_n 3, 1) := dk_29 (dk_at dksX5_read_2 3 rfl rfl)
theorem dX5_read_52 : decode cX5_read 52 = .ok (.iconst 3, 1) := dk_6 (dk_at dksX5_read_2 4 rfl rfl)
theorem dX5_read_53 : decode cX5_read 53 = .ok (.iload_n 2, 1) := dk_28 (dk_at dksX5_read_2 5 rfl rfl)
theorem dX5_read_54 : decode cX5_read 54 = .ok (.imul, 1) := dk_104 (dk_at dksX5_read_2 6 rfl rfl)
theorem dX5_read_55 : decode cX5_read 55 = .ok (.iadd, 1) := dk_96 (dk_at dksX5_read_2 7 rfl rfl)
theorem dX5_read_56 : decode cX5_read 56 = .ok (.iaload, 1) := dk_46 (dk_at dksX5_read_2 8 rfl rfl)
theorem dX5_read_57 : decode cX5_read 57 = .ok (.aload_n 0, 1) := dk_42 (dk_at dksX5_read_2 9 rfl rfl)
theorem dX5_read_58 : decode cX5_read 58 = .ok (.getfield 101, 3) := dk_180 0 101 (dk_at dksX5_read_2 10 rfl rfl)
theorem dX5_read_61 : decode cX5_read 61 = .ok (.iload_n 3, 1) := dk_29 (dk_at dksX5_read_2 13 rfl rfl)
theorem dX5_read_62 : decode cX5_read 62 = .ok (.iconst 3, 1) := dk_6 (dk_at dksX5_read_2 14 rfl rfl)
theorem dX5_read_63 : decode cX5_read 63 = .ok (.iload_n 2, 1) := dk_28 (dk_at dksX5_read_2 15 rfl rfl)
theorem dX5_read_64 : decode cX5_read 64 = .ok (.imul, 1) := dk_104 (dk_at dksX5_read_2 16 rfl rfl)
theorem dX5_read_65 : decode cX5_read 65 = .ok (.iadd, 1) := dk_96 (dk_at dksX5_read_2 17 rfl rfl)
theorem dX5_read_66 : decode cX5_read 66 = .ok (.iconst 1, 1) := dk_4 (dk_at dksX5_read_2 18 rfl rfl)
theorem dX5_read_67 : decode cX5_read 67 = .ok (.iadd, 1) := dk_96 (dk_at dksX5_read_2 19 rfl rfl)
theorem dX5_read_68 : decode cX5_read 68 = .ok (.iaload, 1) := dk_46 (dk_at dksX5_read_2 20 rfl rfl)
theorem dX5_read_69 : decode cX5_read 69 = .ok (.aload_n 0, 1) := dk_42 (dk_at dksX5_read_2 21 rfl rfl)
theorem dX5_read_70 : decode cX5_read 70 = .ok (.getfield 101, 3) := dk_180 0 101 (dk_at dksX5_read_3 0 rfl rfl)
theorem dX5_read_73 : decode cX5_read 73 = .ok (.iload_n 3, 1) := dk_29 (dk_at dksX5_read_3 3 rfl rfl)
theorem dX5_read_74 : decode cX5_read 74 = .ok (.iconst 3, 1) := dk_6 (dk_at dksX5_read_3 4 rfl rfl)
theorem dX5_read_75 : decode cX5_read 75 = .ok (.iload_n 2, 1) := dk_28 (dk_at dksX5_read_3 5 rfl rfl)
theorem dX5_read_76 : decode cX5_read 76 = .ok (.imul, 1) := dk_104 (dk_at dksX5_read_3 6 rfl rfl)
theorem dX5_read_77 : decode cX5_read 77 = .ok (.iadd, 1) := dk_96 (dk_at dksX5_read_3 7 rfl rfl)
theorem dX5_read_78 : decode cX5_read 78 = .ok (.iconst 2, 1) := dk_5 (dk_at dksX5_read_3 8 rfl rfl)
theorem dX5_read_79 : decode cX5_read 79 = .ok (.iadd, 1) := dk_96 (dk_at dksX5_read_3 9 rfl rfl)
theorem dX5_read_80 : decode cX5_read 80 = .ok (.iaload, 1) := dk_46 (dk_at dksX5_read_3 10 rfl rfl)
theorem dX5_read_81 : decode cX5_read 81 = .ok (.invokevirtual 175, 3) := dk_182 0 175 (dk_at dksX5_read_3 11 rfl rfl)
theorem dX5_read_84 : decode cX5_read 84 = .ok (.ifCond .le 9, 3) := dk_158 0 9 (dk_at dksX5_read_3 14 rfl rfl)
theorem dX5_read_87 : decode cX5_read 87 = .ok (.iinc 2 1, 3) := dk_132 2 1 (dk_at dksX5_read_3 17 rfl rfl)
theorem dX5_read_90 : decode cX5_read 90 = .ok (.goto (-58), 3) := dk_167 255 198 (dk_at dksX5_read_3 20 rfl rfl)
theorem dX5_read_93 : decode cX5_read 93 = .ok (.iload_n 2, 1) := dk_28 (dk_at dksX5_read_3 23 rfl rfl)
theorem dX5_read_94 : decode cX5_read 94 = .ok (.ireturn, 1) := dk_172 (dk_at dksX5_read_4 0 rfl rfl)
abbrev cX5_isSheet : ByteArray := prog_12_method_84_code
def yX5_isSheet : MethodName := ⟨RX5, "isSheet", "(I)Z"⟩
def dkwX5_isSheet_0 : List UInt8 := [26, 3, 6, 184, 0, 109, 172]
abbrev dktX5_isSheet_0 : List UInt8 := dkwX5_isSheet_0 ++ []
theorem dksX5_isSheet_0 : cX5_isSheet.data.toList.drop 0 = dktX5_isSheet_0 := by decide +kernel
theorem dX5_isSheet_0 : decode cX5_isSheet 0 = .ok (.iload_n 0, 1) := dk_26 (dk_at dksX5_isSheet_0 0 rfl rfl)
theorem dX5_isSheet_1 : decode cX5_isSheet 1 = .ok (.iconst 0, 1) := dk_3 (dk_at dksX5_isSheet_0 1 rfl rfl)
theorem dX5_isSheet_2 : decode cX5_isSheet 2 = .ok (.iconst 3, 1) := dk_6 (dk_at dksX5_isSheet_0 2 rfl rfl)
theorem dX5_isSheet_3 : decode cX5_isSheet 3 = .ok (.invokestatic 109, 3) := dk_184 0 109 (dk_at dksX5_isSheet_0 3 rfl rfl)
theorem dX5_isSheet_6 : decode cX5_isSheet 6 = .ok (.ireturn, 1) := dk_172 (dk_at dksX5_isSheet_0 6 rfl rfl)
abbrev cX5_meets : ByteArray := prog_12_method_83_code
def yX5_meets : MethodName := ⟨RX5, "meets", "(I)I"⟩
def dkwX5_meets_0 : List UInt8 := [42, 27, 181, 1, 72, 16, 246, 27, 100, 172]
abbrev dktX5_meets_0 : List UInt8 := dkwX5_meets_0 ++ []
theorem dksX5_meets_0 : cX5_meets.data.toList.drop 0 = dktX5_meets_0 := by decide +kernel
theorem dX5_meets_0 : decode cX5_meets 0 = .ok (.aload_n 0, 1) := dk_42 (dk_at dksX5_meets_0 0 rfl rfl)
theorem dX5_meets_1 : decode cX5_meets 1 = .ok (.iload_n 1, 1) := dk_27 (dk_at dksX5_meets_0 1 rfl rfl)
theorem dX5_meets_2 : decode cX5_meets 2 = .ok (.putfield 328, 3) := dk_181 1 72 (dk_at dksX5_meets_0 2 rfl rfl)
theorem dX5_meets_5 : decode cX5_meets 5 = .ok (.bipush (-10), 2) := dk_16 246 (dk_at dksX5_meets_0 5 rfl rfl)
theorem dX5_meets_7 : decode cX5_meets 7 = .ok (.iload_n 1, 1) := dk_27 (dk_at dksX5_meets_0 7 rfl rfl)
theorem dX5_meets_8 : decode cX5_meets 8 = .ok (.isub, 1) := dk_100 (dk_at dksX5_meets_0 8 rfl rfl)
theorem dX5_meets_9 : decode cX5_meets 9 = .ok (.ireturn, 1) := dk_172 (dk_at dksX5_meets_0 9 rfl rfl)
abbrev cX5_rope : ByteArray := prog_12_method_42_code
def yX5_rope : MethodName := ⟨RX5, "rope", "(II)I"⟩
def dkwX5_rope_1 : List UInt8 := [167, 0, 5, 16, 254, 172]
abbrev dktX5_rope_1 : List UInt8 := dkwX5_rope_1 ++ []
def dkwX5_rope_0 : List UInt8 := [27, 184, 0, 156, 153, 0, 21, 28, 3, 6, 184, 0, 109, 153, 0, 12, 42, 27, 28, 182, 0, 238]
abbrev dktX5_rope_0 : List UInt8 := dkwX5_rope_0 ++ dktX5_rope_1
theorem dksX5_rope_0 : cX5_rope.data.toList.drop 0 = dktX5_rope_0 := by decide +kernel
theorem dksX5_rope_1 : cX5_rope.data.toList.drop 22 = dktX5_rope_1 := dk_seg dksX5_rope_0 22 rfl rfl
theorem dX5_rope_0 : decode cX5_rope 0 = .ok (.iload_n 1, 1) := dk_27 (dk_at dksX5_rope_0 0 rfl rfl)
theorem dX5_rope_1 : decode cX5_rope 1 = .ok (.invokestatic 156, 3) := dk_184 0 156 (dk_at dksX5_rope_0 1 rfl rfl)
theorem dX5_rope_4 : decode cX5_rope 4 = .ok (.ifCond .eq 21, 3) := dk_153 0 21 (dk_at dksX5_rope_0 4 rfl rfl)
theorem dX5_rope_7 : decode cX5_rope 7 = .ok (.iload_n 2, 1) := dk_28 (dk_at dksX5_rope_0 7 rfl rfl)
theorem dX5_rope_8 : decode cX5_rope 8 = .ok (.iconst 0, 1) := dk_3 (dk_at dksX5_rope_0 8 rfl rfl)
theorem dX5_rope_9 : decode cX5_rope 9 = .ok (.iconst 3, 1) := dk_6 (dk_at dksX5_rope_0 9 rfl rfl)
theorem dX5_rope_10 : decode cX5_rope 10 = .ok (.invokestatic 109, 3) := dk_184 0 109 (dk_at dksX5_rope_0 10 rfl rfl)
theorem dX5_rope_13 : decode cX5_rope 13 = .ok (.ifCond .eq 12, 3) := dk_153 0 12 (dk_at dksX5_rope_0 13 rfl rfl)
theorem dX5_rope_16 : decode cX5_rope 16 = .ok (.aload_n 0, 1) := dk_42 (dk_at dksX5_rope_0 16 rfl rfl)
theorem dX5_rope_17 : decode cX5_rope 17 = .ok (.iload_n 1, 1) := dk_27 (dk_at dksX5_rope_0 17 rfl rfl)
theorem dX5_rope_18 : decode cX5_rope 18 = .ok (.iload_n 2, 1) := dk_28 (dk_at dksX5_rope_0 18 rfl rfl)
theorem dX5_rope_19 : decode cX5_rope 19 = .ok (.invokevirtual 238, 3) := dk_182 0 238 (dk_at dksX5_rope_0 19 rfl rfl)
theorem dX5_rope_22 : decode cX5_rope 22 = .ok (.goto 5, 3) := dk_167 0 5 (dk_at dksX5_rope_1 0 rfl rfl)
theorem dX5_rope_25 : decode cX5_rope 25 = .ok (.bipush (-2), 2) := dk_16 254 (dk_at dksX5_rope_1 3 rfl rfl)
theorem dX5_rope_27 : decode cX5_rope 27 = .ok (.ireturn, 1) := dk_172 (dk_at dksX5_rope_1 5 rfl rfl)
abbrev cX5_ropeOf : ByteArray := prog_12_method_41_code
def yX5_ropeOf : MethodName := ⟨RX5, "ropeOf", "(II)I"⟩
def dkwX5_ropeOf_1 : List UInt8 := [180, 0, 67, 27, 46, 167, 0, 15, 42, 180, 0, 70, 5, 27, 104, 28, 96, 4, 100, 46, 172]
abbrev dktX5_ropeOf_1 : List UInt8 := dkwX5_ropeOf_1 ++ []
def dkwX5_ropeOf_0 : List UInt8 := [42, 182, 0, 235, 28, 154, 0, 12, 42, 180, 0, 64, 27, 46, 167, 0, 29, 28, 6, 160, 0, 12, 42]
abbrev dktX5_ropeOf_0 : List UInt8 := dkwX5_ropeOf_0 ++ dktX5_ropeOf_1
theorem dksX5_ropeOf_0 : cX5_ropeOf.data.toList.drop 0 = dktX5_ropeOf_0 := by decide +kernel
theorem dksX5_ropeOf_1 : cX5_ropeOf.data.toList.drop 23 = dktX5_ropeOf_1 := dk_seg dksX5_ropeOf_0 23 rfl rfl
theorem dX5_ropeOf_0 : decode cX5_ropeOf 0 = .ok (.aload_n 0, 1) := dk_42 (dk_at dksX5_ropeOf_0 0 rfl rfl)
theorem dX5_ropeOf_1 : decode cX5_ropeOf 1 = .ok (.invokevirtual 235, 3) := dk_182 0 235 (dk_at dksX5_ropeOf_0 1 rfl rfl)
theorem dX5_ropeOf_4 : decode cX5_ropeOf 4 = .ok (.iload_n 2, 1) := dk_28 (dk_at dksX5_ropeOf_0 4 rfl rfl)
theorem dX5_ropeOf_5 : decode cX5_ropeOf 5 = .ok (.ifCond .ne 12, 3) := dk_154 0 12 (dk_at dksX5_ropeOf_0 5 rfl rfl)
theorem dX5_ropeOf_8 : decode cX5_ropeOf 8 = .ok (.aload_n 0, 1) := dk_42 (dk_at dksX5_ropeOf_0 8 rfl rfl)
theorem dX5_ropeOf_9 : decode cX5_ropeOf 9 = .ok (.getfield 64, 3) := dk_180 0 64 (dk_at dksX5_ropeOf_0 9 rfl rfl)
theorem dX5_ropeOf_12 : decode cX5_ropeOf 12 = .ok (.iload_n 1, 1) := dk_27 (dk_at dksX5_ropeOf_0 12 rfl rfl)
theorem dX5_ropeOf_13 : decode cX5_ropeOf 13 = .ok (.iaload, 1) := dk_46 (dk_at dksX5_ropeOf_0 13 rfl rfl)
theorem dX5_ropeOf_14 : decode cX5_ropeOf 14 = .ok (.goto 29, 3) := dk_167 0 29 (dk_at dksX5_ropeOf_0 14 rfl rfl)
theorem dX5_ropeOf_17 : decode cX5_ropeOf 17 = .ok (.iload_n 2, 1) := dk_28 (dk_at dksX5_ropeOf_0 17 rfl rfl)
theorem dX5_ropeOf_18 : decode cX5_ropeOf 18 = .ok (.iconst 3, 1) := dk_6 (dk_at dksX5_ropeOf_0 18 rfl rfl)
theorem dX5_ropeOf_19 : decode cX5_ropeOf 19 = .ok (.if_icmp .ne 12, 3) := dk_160 0 12 (dk_at dksX5_ropeOf_0 19 rfl rfl)
theorem dX5_ropeOf_22 : decode cX5_ropeOf 22 = .ok (.aload_n 0, 1) := dk_42 (dk_at dksX5_ropeOf_0 22 rfl rfl)
theorem dX5_ropeOf_23 : decode cX5_ropeOf 23 = .ok (.getfield 67, 3) := dk_180 0 67 (dk_at dksX5_ropeOf_1 0 rfl rfl)
theorem dX5_ropeOf_26 : decode cX5_ropeOf 26 = .ok (.iload_n 1, 1) := dk_27 (dk_at dksX5_ropeOf_1 3 rfl rfl)
theorem dX5_ropeOf_27 : decode cX5_ropeOf 27 = .ok (.iaload, 1) := dk_46 (dk_at dksX5_ropeOf_1 4 rfl rfl)
theorem dX5_ropeOf_28 : decode cX5_ropeOf 28 = .ok (.goto 15, 3) := dk_167 0 15 (dk_at dksX5_ropeOf_1 5 rfl rfl)
theorem dX5_ropeOf_31 : decode cX5_ropeOf 31 = .ok (.aload_n 0, 1) := dk_42 (dk_at dksX5_ropeOf_1 8 rfl rfl)
theorem dX5_ropeOf_32 : decode cX5_ropeOf 32 = .ok (.getfield 70, 3) := dk_180 0 70 (dk_at dksX5_ropeOf_1 9 rfl rfl)
theorem dX5_ropeOf_35 : decode cX5_ropeOf 35 = .ok (.iconst 2, 1) := dk_5 (dk_at dksX5_ropeOf_1 12 rfl rfl)
theorem dX5_ropeOf_36 : decode cX5_ropeOf 36 = .ok (.iload_n 1, 1) := dk_27 (dk_at dksX5_ropeOf_1 13 rfl rfl)
theorem dX5_ropeOf_37 : decode cX5_ropeOf 37 = .ok (.imul, 1) := dk_104 (dk_at dksX5_ropeOf_1 14 rfl rfl)
theorem dX5_ropeOf_38 : decode cX5_ropeOf 38 = .ok (.iload_n 2, 1) := dk_28 (dk_at dksX5_ropeOf_1 15 rfl rfl)
theorem dX5_ropeOf_39 : decode cX5_ropeOf 39 = .ok (.iadd, 1) := dk_96 (dk_at dksX5_ropeOf_1 16 rfl rfl)
theorem dX5_ropeOf_40 : decode cX5_ropeOf 40 = .ok (.iconst 1, 1) := dk_4 (dk_at dksX5_ropeOf_1 17 rfl rfl)
theorem dX5_ropeOf_41 : decode cX5_ropeOf 41 = .ok (.isub, 1) := dk_100 (dk_at dksX5_ropeOf_1 18 rfl rfl)
theorem dX5_ropeOf_42 : decode cX5_ropeOf 42 = .ok (.iaload, 1) := dk_46 (dk_at dksX5_ropeOf_1 19 rfl rfl)
theorem dX5_ropeOf_43 : decode cX5_ropeOf 43 = .ok (.ireturn, 1) := dk_172 (dk_at dksX5_ropeOf_1 20 rfl rfl)
abbrev cX5_runsTold : ByteArray := prog_12_method_40_code
def yX5_runsTold : MethodName := ⟨RX5, "runsTold", "()V"⟩
def dkwX5_runsTold_0 : List UInt8 := [42, 182, 0, 229, 42, 182, 0, 232, 177]
abbrev dktX5_runsTold_0 : List UInt8 := dkwX5_runsTold_0 ++ []
theorem dksX5_runsTold_0 : cX5_runsTold.data.toList.drop 0 = dktX5_runsTold_0 := by decide +kernel
theorem dX5_runsTold_0 : decode cX5_runsTold 0 = .ok (.aload_n 0, 1) := dk_42 (dk_at dksX5_runsTold_0 0 rfl rfl)
theorem dX5_runsTold_1 : decode cX5_runsTold 1 = .ok (.invokevirtual 229, 3) := dk_182 0 229 (dk_at dksX5_runsTold_0 1 rfl rfl)
theorem dX5_runsTold_4 : decode cX5_runsTold 4 = .ok (.aload_n 0, 1) := dk_42 (dk_at dksX5_runsTold_0 4 rfl rfl)
theorem dX5_runsTold_5 : decode cX5_runsTold 5 = .ok (.invokevirtual 232, 3) := dk_182 0 232 (dk_at dksX5_runsTold_0 5 rfl rfl)
theorem dX5_runsTold_8 : decode cX5_runsTold 8 = .ok (.return_, 1) := dk_177 (dk_at dksX5_runsTold_0 8 rfl rfl)
abbrev cX5_asTold : ByteArray := prog_12_method_32_code
def yX5_asTold : MethodName := ⟨RX5, "asTold", "()V"⟩
def dkwX5_asTold_2 : List UInt8 := [27, 16, 8, 112, 79, 132, 1, 1, 167, 255, 237, 42, 2, 181, 0, 181, 177]
abbrev dktX5_asTold_2 : List UInt8 := dkwX5_asTold_2 ++ []
def dkwX5_asTold_1 : List UInt8 := [132, 1, 1, 167, 255, 235, 42, 3, 181, 0, 178, 3, 60, 27, 16, 16, 162, 0, 19, 42, 180, 0, 46, 27]
abbrev dktX5_asTold_1 : List UInt8 := dkwX5_asTold_1 ++ dktX5_asTold_2
def dkwX5_asTold_0 : List UInt8 := [42, 182, 0, 138, 3, 60, 27, 16, 48, 162, 0, 21, 42, 180, 0, 43, 27, 42, 180, 0, 31, 27, 46, 79]
abbrev dktX5_asTold_0 : List UInt8 := dkwX5_asTold_0 ++ dktX5_asTold_1
theorem dksX5_asTold_0 : cX5_asTold.data.toList.drop 0 = dktX5_asTold_0 := by decide +kernel
theorem dksX5_asTold_1 : cX5_asTold.data.toList.drop 24 = dktX5_asTold_1 := dk_seg dksX5_asTold_0 24 rfl rfl
theorem dksX5_asTold_2 : cX5_asTold.data.toList.drop 48 = dktX5_asTold_2 := dk_seg dksX5_asTold_1 24 rfl rfl
theorem dX5_asTold_0 : decode cX5_asTold 0 = .ok (.aload_n 0, 1) := dk_42 (dk_at dksX5_asTold_0 0 rfl rfl)
theorem dX5_asTold_1 : decode cX5_asTold 1 = .ok (.invokevirtual 138, 3) := dk_182 0 138 (dk_at dksX5_asTold_0 1 rfl rfl)
theorem dX5_asTold_4 : decode cX5_asTold 4 = .ok (.iconst 0, 1) := dk_3 (dk_at dksX5_asTold_0 4 rfl rfl)
theorem dX5_asTold_5 : decode cX5_asTold 5 = .ok (.istore_n 1, 1) := dk_60 (dk_at dksX5_asTold_0 5 rfl rfl)
theorem dX5_asTold_6 : decode cX5_asTold 6 = .ok (.iload_n 1, 1) := dk_27 (dk_at dksX5_asTold_0 6 rfl rfl)
theorem dX5_asTold_7 : decode cX5_asTold 7 = .ok (.bipush 48, 2) := dk_16 48 (dk_at dksX5_asTold_0 7 rfl rfl)
theorem dX5_asTold_9 : decode cX5_asTold 9 = .ok (.if_icmp .ge 21, 3) := dk_162 0 21 (dk_at dksX5_asTold_0 9 rfl rfl)
theorem dX5_asTold_12 : decode cX5_asTold 12 = .ok (.aload_n 0, 1) := dk_42 (dk_at dksX5_asTold_0 12 rfl rfl)
theorem dX5_asTold_13 : decode cX5_asTold 13 = .ok (.getfield 43, 3) := dk_180 0 43 (dk_at dksX5_asTold_0 13 rfl rfl)
theorem dX5_asTold_16 : decode cX5_asTold 16 = .ok (.iload_n 1, 1) := dk_27 (dk_at dksX5_asTold_0 16 rfl rfl)
theorem dX5_asTold_17 : decode cX5_asTold 17 = .ok (.aload_n 0, 1) := dk_42 (dk_at dksX5_asTold_0 17 rfl rfl)
theorem dX5_asTold_18 : decode cX5_asTold 18 = .ok (.getfield 31, 3) := dk_180 0 31 (dk_at dksX5_asTold_0 18 rfl rfl)
theorem dX5_asTold_21 : decode cX5_asTold 21 = .ok (.iload_n 1, 1) := dk_27 (dk_at dksX5_asTold_0 21 rfl rfl)
theorem dX5_asTold_22 : decode cX5_asTold 22 = .ok (.iaload, 1) := dk_46 (dk_at dksX5_asTold_0 22 rfl rfl)
theorem dX5_asTold_23 : decode cX5_asTold 23 = .ok (.iastore, 1) := dk_79 (dk_at dksX5_asTold_0 23 rfl rfl)
theorem dX5_asTold_24 : decode cX5_asTold 24 = .ok (.iinc 1 1, 3) := dk_132 1 1 (dk_at dksX5_asTold_1 0 rfl rfl)
theorem dX5_asTold_27 : decode cX5_asTold 27 = .ok (.goto (-21), 3) := dk_167 255 235 (dk_at dksX5_asTold_1 3 rfl rfl)
theorem dX5_asTold_30 : decode cX5_asTold 30 = .ok (.aload_n 0, 1) := dk_42 (dk_at dksX5_asTold_1 6 rfl rfl)
theorem dX5_asTold_31 : decode cX5_asTold 31 = .ok (.iconst 0, 1) := dk_3 (dk_at dksX5_asTold_1 7 rfl rfl)
theorem dX5_asTold_32 : decode cX5_asTold 32 = .ok (.putfield 178, 3) := dk_181 0 178 (dk_at dksX5_asTold_1 8 rfl rfl)
theorem dX5_asTold_35 : decode cX5_asTold 35 = .ok (.iconst 0, 1) := dk_3 (dk_at dksX5_asTold_1 11 rfl rfl)
theorem dX5_asTold_36 : decode cX5_asTold 36 = .ok (.istore_n 1, 1) := dk_60 (dk_at dksX5_asTold_1 12 rfl rfl)
theorem dX5_asTold_37 : decode cX5_asTold 37 = .ok (.iload_n 1, 1) := dk_27 (dk_at dksX5_asTold_1 13 rfl rfl)
theorem dX5_asTold_38 : decode cX5_asTold 38 = .ok (.bipush 16, 2) := dk_16 16 (dk_at dksX5_asTold_1 14 rfl rfl)
theorem dX5_asTold_40 : decode cX5_asTold 40 = .ok (.if_icmp .ge 19, 3) := dk_162 0 19 (dk_at dksX5_asTold_1 16 rfl rfl)
theorem dX5_asTold_43 : decode cX5_asTold 43 = .ok (.aload_n 0, 1) := dk_42 (dk_at dksX5_asTold_1 19 rfl rfl)
theorem dX5_asTold_44 : decode cX5_asTold 44 = .ok (.getfield 46, 3) := dk_180 0 46 (dk_at dksX5_asTold_1 20 rfl rfl)
theorem dX5_asTold_47 : decode cX5_asTold 47 = .ok (.iload_n 1, 1) := dk_27 (dk_at dksX5_asTold_1 23 rfl rfl)
theorem dX5_asTold_48 : decode cX5_asTold 48 = .ok (.iload_n 1, 1) := dk_27 (dk_at dksX5_asTold_2 0 rfl rfl)
theorem dX5_asTold_49 : decode cX5_asTold 49 = .ok (.bipush 8, 2) := dk_16 8 (dk_at dksX5_asTold_2 1 rfl rfl)
theorem dX5_asTold_51 : decode cX5_asTold 51 = .ok (.irem, 1) := dk_112 (dk_at dksX5_asTold_2 3 rfl rfl)
theorem dX5_asTold_52 : decode cX5_asTold 52 = .ok (.iastore, 1) := dk_79 (dk_at dksX5_asTold_2 4 rfl rfl)
theorem dX5_asTold_53 : decode cX5_asTold 53 = .ok (.iinc 1 1, 3) := dk_132 1 1 (dk_at dksX5_asTold_2 5 rfl rfl)
theorem dX5_asTold_56 : decode cX5_asTold 56 = .ok (.goto (-19), 3) := dk_167 255 237 (dk_at dksX5_asTold_2 8 rfl rfl)
theorem dX5_asTold_59 : decode cX5_asTold 59 = .ok (.aload_n 0, 1) := dk_42 (dk_at dksX5_asTold_2 11 rfl rfl)
theorem dX5_asTold_60 : decode cX5_asTold 60 = .ok (.iconst (-1), 1) := dk_2 (dk_at dksX5_asTold_2 12 rfl rfl)
theorem dX5_asTold_61 : decode cX5_asTold 61 = .ok (.putfield 181, 3) := dk_181 0 181 (dk_at dksX5_asTold_2 13 rfl rfl)
theorem dX5_asTold_64 : decode cX5_asTold 64 = .ok (.return_, 1) := dk_177 (dk_at dksX5_asTold_2 16 rfl rfl)
abbrev cX5_runs : ByteArray := prog_12_method_39_code
def yX5_runs : MethodName := ⟨RX5, "runs", "()V"⟩
def dkwX5_runs_7 : List UInt8 := [162, 0, 14, 42, 27, 182, 0, 226, 132, 1, 1, 167, 255, 242, 177]
abbrev dktX5_runs_7 : List UInt8 := dkwX5_runs_7 ++ []
def dkwX5_runs_6 : List UInt8 := [27, 167, 0, 9, 42, 180, 0, 49, 28, 46, 79, 132, 1, 1, 167, 255, 147, 3, 60, 27, 16, 24]
abbrev dktX5_runs_6 : List UInt8 := dkwX5_runs_6 ++ dktX5_runs_7
def dkwX5_runs_5 : List UInt8 := [180, 0, 49, 28, 46, 46, 164, 0, 7, 4, 167, 0, 4, 3, 62, 42, 180, 0, 49, 28, 29, 153, 0, 7]
abbrev dktX5_runs_5 : List UInt8 := dkwX5_runs_5 ++ dktX5_runs_6
def dkwX5_runs_4 : List UInt8 := [153, 0, 37, 42, 180, 0, 49, 28, 46, 2, 159, 0, 23, 42, 180, 0, 46, 27, 46, 42, 180, 0, 46, 42]
abbrev dktX5_runs_4 : List UInt8 := dkwX5_runs_4 ++ dktX5_runs_5
def dkwX5_runs_3 : List UInt8 := [180, 0, 25, 27, 46, 167, 0, 4, 3, 79, 42, 180, 0, 55, 27, 3, 79, 42, 27, 182, 0, 216]
abbrev dktX5_runs_3 : List UInt8 := dkwX5_runs_3 ++ dktX5_runs_4
def dkwX5_runs_2 : List UInt8 := [162, 0, 109, 27, 16, 8, 108, 61, 42, 180, 0, 52, 27, 42, 27, 182, 0, 141, 153, 0, 12, 42]
abbrev dktX5_runs_2 : List UInt8 := dkwX5_runs_2 ++ dktX5_runs_3
def dkwX5_runs_1 : List UInt8 := [42, 3, 181, 0, 200, 42, 180, 0, 49, 3, 2, 79, 42, 180, 0, 49, 4, 2, 79, 3, 60, 27, 16, 16]
abbrev dktX5_runs_1 : List UInt8 := dkwX5_runs_1 ++ dktX5_runs_2
def dkwX5_runs_0 : List UInt8 := [42, 42, 180, 0, 162, 181, 0, 194, 42, 16, 12, 181, 0, 203, 42, 2, 181, 0, 206, 42, 2, 181, 0, 209]
abbrev dktX5_runs_0 : List UInt8 := dkwX5_runs_0 ++ dktX5_runs_1
theorem dksX5_runs_0 : cX5_runs.data.toList.drop 0 = dktX5_runs_0 := by decide +kernel
theorem dksX5_runs_1 : cX5_runs.data.toList.drop 24 = dktX5_runs_1 := dk_seg dksX5_runs_0 24 rfl rfl
theorem dksX5_runs_2 : cX5_runs.data.toList.drop 48 = dktX5_runs_2 := dk_seg dksX5_runs_1 24 rfl rfl
theorem dksX5_runs_3 : cX5_runs.data.toList.drop 70 = dktX5_runs_3 := dk_seg dksX5_runs_2 22 rfl rfl
theorem dksX5_runs_4 : cX5_runs.data.toList.drop 92 = dktX5_runs_4 := dk_seg dksX5_runs_3 22 rfl rfl
theorem dksX5_runs_5 : cX5_runs.data.toList.drop 116 = dktX5_runs_5 := dk_seg dksX5_runs_4 24 rfl rfl
theorem dksX5_runs_6 : cX5_runs.data.toList.drop 140 = dktX5_runs_6 := dk_seg dksX5_runs_5 24 rfl rfl
theorem dksX5_runs_7 : cX5_runs.data.toList.drop 162 = dktX5_runs_7 := dk_seg dksX5_runs_6 22 rfl rfl
theorem dX5_runs_0 : decode cX5_runs 0 = .ok (.aload_n 0, 1) := dk_42 (dk_at dksX5_runs_0 0 rfl rfl)
theorem dX5_runs_1 : decode cX5_runs 1 = .ok (.aload_n 0, 1) := dk_42 (dk_at dksX5_runs_0 1 rfl rfl)
theorem dX5_runs_2 : decode cX5_runs 2 = .ok (.getfield 162, 3) := dk_180 0 162 (dk_at dksX5_runs_0 2 rfl rfl)
theorem dX5_runs_5 : decode cX5_runs 5 = .ok (.putfield 194, 3) := dk_181 0 194 (dk_at dksX5_runs_0 5 rfl rfl)
theorem dX5_runs_8 : decode cX5_runs 8 = .ok (.aload_n 0, 1) := dk_42 (dk_at dksX5_runs_0 8 rfl rfl)
theorem dX5_runs_9 : decode cX5_runs 9 = .ok (.bipush 12, 2) := dk_16 12 (dk_at dksX5_runs_0 9 rfl rfl)
theorem dX5_runs_11 : decode cX5_runs 11 = .ok (.putfield 203, 3) := dk_181 0 203 (dk_at dksX5_runs_0 11 rfl rfl)
theorem dX5_runs_14 : decode cX5_runs 14 = .ok (.aload_n 0, 1) := dk_42 (dk_at dksX5_runs_0 14 rfl rfl)
theorem dX5_runs_15 : decode cX5_runs 15 = .ok (.iconst (-1), 1) := dk_2 (dk_at dksX5_runs_0 15 rfl rfl)
theorem dX5_runs_16 : decode cX5_runs 16 = .ok (.putfield 206, 3) := dk_181 0 206 (dk_at dksX5_runs_0 16 rfl rfl)
theorem dX5_runs_19 : decode cX5_runs 19 = .ok (.aload_n 0, 1) := dk_42 (dk_at dksX5_runs_0 19 rfl rfl)
theorem dX5_runs_20 : decode cX5_runs 20 = .ok (.iconst (-1), 1) := dk_2 (dk_at dksX5_runs_0 20 rfl rfl)
theorem dX5_runs_21 : decode cX5_runs 21 = .ok (.putfield 209, 3) := dk_181 0 209 (dk_at dksX5_runs_0 21 rfl rfl)
theorem dX5_runs_24 : decode cX5_runs 24 = .ok (.aload_n 0, 1) := dk_42 (dk_at dksX5_runs_1 0 rfl rfl)
theorem dX5_runs_25 : decode cX5_runs 25 = .ok (.iconst 0, 1) := dk_3 (dk_at dksX5_runs_1 1 rfl rfl)
theorem dX5_runs_26 : decode cX5_runs 26 = .ok (.putfield 200, 3) := dk_181 0 200 (dk_at dksX5_runs_1 2 rfl rfl)
theorem dX5_runs_29 : decode cX5_runs 29 = .ok (.aload_n 0, 1) := dk_42 (dk_at dksX5_runs_1 5 rfl rfl)
theorem dX5_runs_30 : decode cX5_runs 30 = .ok (.getfield 49, 3) := dk_180 0 49 (dk_at dksX5_runs_1 6 rfl rfl)
theorem dX5_runs_33 : decode cX5_runs 33 = .ok (.iconst 0, 1) := dk_3 (dk_at dksX5_runs_1 9 rfl rfl)
theorem dX5_runs_34 : decode cX5_runs 34 = .ok (.iconst (-1), 1) := dk_2 (dk_at dksX5_runs_1 10 rfl rfl)
theorem dX5_runs_35 : decode cX5_runs 35 = .ok (.iastore, 1) := dk_79 (dk_at dksX5_runs_1 11 rfl rfl)
theorem dX5_runs_36 : decode cX5_runs 36 = .ok (.aload_n 0, 1) := dk_42 (dk_at dksX5_runs_1 12 rfl rfl)
theorem dX5_runs_37 : decode cX5_runs 37 = .ok (.getfield 49, 3) := dk_180 0 49 (dk_at dksX5_runs_1 13 rfl rfl)
theorem dX5_runs_40 : decode cX5_runs 40 = .ok (.iconst 1, 1) := dk_4 (dk_at dksX5_runs_1 16 rfl rfl)
theorem dX5_runs_41 : decode cX5_runs 41 = .ok (.iconst (-1), 1) := dk_2 (dk_at dksX5_runs_1 17 rfl rfl)
theorem dX5_runs_42 : decode cX5_runs 42 = .ok (.iastore, 1) := dk_79 (dk_at dksX5_runs_1 18 rfl rfl)
theorem dX5_runs_43 : decode cX5_runs 43 = .ok (.iconst 0, 1) := dk_3 (dk_at dksX5_runs_1 19 rfl rfl)
theorem dX5_runs_44 : decode cX5_runs 44 = .ok (.istore_n 1, 1) := dk_60 (dk_at dksX5_runs_1 20 rfl rfl)
theorem dX5_runs_45 : decode cX5_runs 45 = .ok (.iload_n 1, 1) := dk_27 (dk_at dksX5_runs_1 21 rfl rfl)
theorem dX5_runs_46 : decode cX5_runs 46 = .ok (.bipush 16, 2) := dk_16 16 (dk_at dksX5_runs_1 22 rfl rfl)
theorem dX5_runs_48 : decode cX5_runs 48 = .ok (.if_icmp .ge 109, 3) := dk_162 0 109 (dk_at dksX5_runs_2 0 rfl rfl)
theorem dX5_runs_51 : decode cX5_runs 51 = .ok (.iload_n 1, 1) := dk_27 (dk_at dksX5_runs_2 3 rfl rfl)
theorem dX5_runs_52 : decode cX5_runs 52 = .ok (.bipush 8, 2) := dk_16 8 (dk_at dksX5_runs_2 4 rfl rfl)
theorem dX5_runs_54 : decode cX5_runs 54 = .ok (.idiv, 1) := dk_108 (dk_at dksX5_runs_2 6 rfl rfl)
theorem dX5_runs_55 : decode cX5_runs 55 = .ok (.istore_n 2, 1) := dk_61 (dk_at dksX5_runs_2 7 rfl rfl)
theorem dX5_runs_56 : decode cX5_runs 56 = .ok (.aload_n 0, 1) := dk_42 (dk_at dksX5_runs_2 8 rfl rfl)
theorem dX5_runs_57 : decode cX5_runs 57 = .ok (.getfield 52, 3) := dk_180 0 52 (dk_at dksX5_runs_2 9 rfl rfl)
theorem dX5_runs_60 : decode cX5_runs 60 = .ok (.iload_n 1, 1) := dk_27 (dk_at dksX5_runs_2 12 rfl rfl)
theorem dX5_runs_61 : decode cX5_runs 61 = .ok (.aload_n 0, 1) := dk_42 (dk_at dksX5_runs_2 13 rfl rfl)
theorem dX5_runs_62 : decode cX5_runs 62 = .ok (.iload_n 1, 1) := dk_27 (dk_at dksX5_runs_2 14 rfl rfl)
theorem dX5_runs_63 : decode cX5_runs 63 = .ok (.invokevirtual 141, 3) := dk_182 0 141 (dk_at dksX5_runs_2 15 rfl rfl)
theorem dX5_runs_66 : decode cX5_runs 66 = .ok (.ifCond .eq 12, 3) := dk_153 0 12 (dk_at dksX5_runs_2 18 rfl rfl)
theorem dX5_runs_69 : decode cX5_runs 69 = .ok (.aload_n 0, 1) := dk_42 (dk_at dksX5_runs_2 21 rfl rfl)
theorem dX5_runs_70 : decode cX5_runs 70 = .ok (.getfield 25, 3) := dk_180 0 25 (dk_at dksX5_runs_3 0 rfl rfl)
theorem dX5_runs_73 : decode cX5_runs 73 = .ok (.iload_n 1, 1) := dk_27 (dk_at dksX5_runs_3 3 rfl rfl)
theorem dX5_runs_74 : decode cX5_runs 74 = .ok (.iaload, 1) := dk_46 (dk_at dksX5_runs_3 4 rfl rfl)
theorem dX5_runs_75 : decode cX5_runs 75 = .ok (.goto 4, 3) := dk_167 0 4 (dk_at dksX5_runs_3 5 rfl rfl)
theorem dX5_runs_78 : decode cX5_runs 78 = .ok (.iconst 0, 1) := dk_3 (dk_at dksX5_runs_3 8 rfl rfl)
theorem dX5_runs_79 : decode cX5_runs 79 = .ok (.iastore, 1) := dk_79 (dk_at dksX5_runs_3 9 rfl rfl)
theorem dX5_runs_80 : decode cX5_runs 80 = .ok (.aload_n 0, 1) := dk_42 (dk_at dksX5_runs_3 10 rfl rfl)
theorem dX5_runs_81 : decode cX5_runs 81 = .ok (.getfield 55, 3) := dk_180 0 55 (dk_at dksX5_runs_3 11 rfl rfl)
theorem dX5_runs_84 : decode cX5_runs 84 = .ok (.iload_n 1, 1) := dk_27 (dk_at dksX5_runs_3 14 rfl rfl)
theorem dX5_runs_85 : decode cX5_runs 85 = .ok (.iconst 0, 1) := dk_3 (dk_at dksX5_runs_3 15 rfl rfl)
theorem dX5_runs_86 : decode cX5_runs 86 = .ok (.iastore, 1) := dk_79 (dk_at dksX5_runs_3 16 rfl rfl)
theorem dX5_runs_87 : decode cX5_runs 87 = .ok (.aload_n 0, 1) := dk_42 (dk_at dksX5_runs_3 17 rfl rfl)
theorem dX5_runs_88 : decode cX5_runs 88 = .ok (.iload_n 1, 1) := dk_27 (dk_at dksX5_runs_3 18 rfl rfl)
theorem dX5_runs_89 : decode cX5_runs 89 = .ok (.invokevirtual 216, 3) := dk_182 0 216 (dk_at dksX5_runs_3 19 rfl rfl)
theorem dX5_runs_92 : decode cX5_runs 92 = .ok (.ifCond .eq 37, 3) := dk_153 0 37 (dk_at dksX5_runs_4 0 rfl rfl)
theorem dX5_runs_95 : decode cX5_runs 95 = .ok (.aload_n 0, 1) := dk_42 (dk_at dksX5_runs_4 3 rfl rfl)
theorem dX5_runs_96 : decode cX5_runs 96 = .ok (.getfield 49, 3) := dk_180 0 49 (dk_at dksX5_runs_4 4 rfl rfl)
theorem dX5_runs_99 : decode cX5_runs 99 = .ok (.iload_n 2, 1) := dk_28 (dk_at dksX5_runs_4 7 rfl rfl)
theorem dX5_runs_100 : decode cX5_runs 100 = .ok (.iaload, 1) := dk_46 (dk_at dksX5_runs_4 8 rfl rfl)
theorem dX5_runs_101 : decode cX5_runs 101 = .ok (.iconst (-1), 1) := dk_2 (dk_at dksX5_runs_4 9 rfl rfl)
theorem dX5_runs_102 : decode cX5_runs 102 = .ok (.if_icmp .eq 23, 3) := dk_159 0 23 (dk_at dksX5_runs_4 10 rfl rfl)
theorem dX5_runs_105 : decode cX5_runs 105 = .ok (.aload_n 0, 1) := dk_42 (dk_at dksX5_runs_4 13 rfl rfl)
theorem dX5_runs_106 : decode cX5_runs 106 = .ok (.getfield 46, 3) := dk_180 0 46 (dk_at dksX5_runs_4 14 rfl rfl)
theorem dX5_runs_109 : decode cX5_runs 109 = .ok (.iload_n 1, 1) := dk_27 (dk_at dksX5_runs_4 17 rfl rfl)
theorem dX5_runs_110 : decode cX5_runs 110 = .ok (.iaload, 1) := dk_46 (dk_at dksX5_runs_4 18 rfl rfl)
theorem dX5_runs_111 : decode cX5_runs 111 = .ok (.aload_n 0, 1) := dk_42 (dk_at dksX5_runs_4 19 rfl rfl)
theorem dX5_runs_112 : decode cX5_runs 112 = .ok (.getfield 46, 3) := dk_180 0 46 (dk_at dksX5_runs_4 20 rfl rfl)
theorem dX5_runs_115 : decode cX5_runs 115 = .ok (.aload_n 0, 1) := dk_42 (dk_at dksX5_runs_4 23 rfl rfl)
theorem dX5_runs_116 : decode cX5_runs 116 = .ok (.getfield 49, 3) := dk_180 0 49 (dk_at dksX5_runs_5 0 rfl rfl)
theorem dX5_runs_119 : decode cX5_runs 119 = .ok (.iload_n 2, 1) := dk_28 (dk_at dksX5_runs_5 3 rfl rfl)
theorem dX5_runs_120 : decode cX5_runs 120 = .ok (.iaload, 1) := dk_46 (dk_at dksX5_runs_5 4 rfl rfl)
theorem dX5_runs_121 : decode cX5_runs 121 = .ok (.iaload, 1) := dk_46 (dk_at dksX5_runs_5 5 rfl rfl)
theorem dX5_runs_122 : decode cX5_runs 122 = .ok (.if_icmp .le 7, 3) := dk_164 0 7 (dk_at dksX5_runs_5 6 rfl rfl)
theorem dX5_runs_125 : decode cX5_runs 125 = .ok (.iconst 1, 1) := dk_4 (dk_at dksX5_runs_5 9 rfl rfl)
theorem dX5_runs_126 : decode cX5_runs 126 = .ok (.goto 4, 3) := dk_167 0 4 (dk_at dksX5_runs_5 10 rfl rfl)
theorem dX5_runs_129 : decode cX5_runs 129 = .ok (.iconst 0, 1) := dk_3 (dk_at dksX5_runs_5 13 rfl rfl)
theorem dX5_runs_130 : decode cX5_runs 130 = .ok (.istore_n 3, 1) := dk_62 (dk_at dksX5_runs_5 14 rfl rfl)
theorem dX5_runs_131 : decode cX5_runs 131 = .ok (.aload_n 0, 1) := dk_42 (dk_at dksX5_runs_5 15 rfl rfl)
theorem dX5_runs_132 : decode cX5_runs 132 = .ok (.getfield 49, 3) := dk_180 0 49 (dk_at dksX5_runs_5 16 rfl rfl)
theorem dX5_runs_135 : decode cX5_runs 135 = .ok (.iload_n 2, 1) := dk_28 (dk_at dksX5_runs_5 19 rfl rfl)
theorem dX5_runs_136 : decode cX5_runs 136 = .ok (.iload_n 3, 1) := dk_29 (dk_at dksX5_runs_5 20 rfl rfl)
theorem dX5_runs_137 : decode cX5_runs 137 = .ok (.ifCond .eq 7, 3) := dk_153 0 7 (dk_at dksX5_runs_5 21 rfl rfl)
theorem dX5_runs_140 : decode cX5_runs 140 = .ok (.iload_n 1, 1) := dk_27 (dk_at dksX5_runs_6 0 rfl rfl)
theorem dX5_runs_141 : decode cX5_runs 141 = .ok (.goto 9, 3) := dk_167 0 9 (dk_at dksX5_runs_6 1 rfl rfl)
theorem dX5_runs_144 : decode cX5_runs 144 = .ok (.aload_n 0, 1) := dk_42 (dk_at dksX5_runs_6 4 rfl rfl)
theorem dX5_runs_145 : decode cX5_runs 145 = .ok (.getfield 49, 3) := dk_180 0 49 (dk_at dksX5_runs_6 5 rfl rfl)
theorem dX5_runs_148 : decode cX5_runs 148 = .ok (.iload_n 2, 1) := dk_28 (dk_at dksX5_runs_6 8 rfl rfl)
theorem dX5_runs_149 : decode cX5_runs 149 = .ok (.iaload, 1) := dk_46 (dk_at dksX5_runs_6 9 rfl rfl)
theorem dX5_runs_150 : decode cX5_runs 150 = .ok (.iastore, 1) := dk_79 (dk_at dksX5_runs_6 10 rfl rfl)
theorem dX5_runs_151 : decode cX5_runs 151 = .ok (.iinc 1 1, 3) := dk_132 1 1 (dk_at dksX5_runs_6 11 rfl rfl)
theorem dX5_runs_154 : decode cX5_runs 154 = .ok (.goto (-109), 3) := dk_167 255 147 (dk_at dksX5_runs_6 14 rfl rfl)
theorem dX5_runs_157 : decode cX5_runs 157 = .ok (.iconst 0, 1) := dk_3 (dk_at dksX5_runs_6 17 rfl rfl)
theorem dX5_runs_158 : decode cX5_runs 158 = .ok (.istore_n 1, 1) := dk_60 (dk_at dksX5_runs_6 18 rfl rfl)
theorem dX5_runs_159 : decode cX5_runs 159 = .ok (.iload_n 1, 1) := dk_27 (dk_at dksX5_runs_6 19 rfl rfl)
theorem dX5_runs_160 : decode cX5_runs 160 = .ok (.bipush 24, 2) := dk_16 24 (dk_at dksX5_runs_6 20 rfl rfl)
theorem dX5_runs_162 : decode cX5_runs 162 = .ok (.if_icmp .ge 14, 3) := dk_162 0 14 (dk_at dksX5_runs_7 0 rfl rfl)
theorem dX5_runs_165 : decode cX5_runs 165 = .ok (.aload_n 0, 1) := dk_42 (dk_at dksX5_runs_7 3 rfl rfl)
theorem dX5_runs_166 : decode cX5_runs 166 = .ok (.iload_n 1, 1) := dk_27 (dk_at dksX5_runs_7 4 rfl rfl)
theorem dX5_runs_167 : decode cX5_runs 167 = .ok (.invokevirtual 226, 3) := dk_182 0 226 (dk_at dksX5_runs_7 5 rfl rfl)
theorem dX5_runs_170 : decode cX5_runs 170 = .ok (.iinc 1 1, 3) := dk_132 1 1 (dk_at dksX5_runs_7 8 rfl rfl)
theorem dX5_runs_173 : decode cX5_runs 173 = .ok (.goto (-14), 3) := dk_167 255 242 (dk_at dksX5_runs_7 11 rfl rfl)
theorem dX5_runs_176 : decode cX5_runs 176 = .ok (.return_, 1) := dk_177 (dk_at dksX5_runs_7 14 rfl rfl)
abbrev cX5_isHere : ByteArray := prog_12_method_33_code
def yX5_isHere : MethodName := ⟨RX5, "isHere", "(I)Z"⟩
def dkwX5_isHere_0 : List UInt8 := [42, 27, 182, 0, 141, 153, 0, 15, 27, 42, 180, 0, 181, 159, 0, 7, 4, 167, 0, 4, 3, 172]
abbrev dktX5_isHere_0 : List UInt8 := dkwX5_isHere_0 ++ []
theorem dksX5_isHere_0 : cX5_isHere.data.toList.drop 0 = dktX5_isHere_0 := by decide +kernel
theorem dX5_isHere_0 : decode cX5_isHere 0 = .ok (.aload_n 0, 1) := dk_42 (dk_at dksX5_isHere_0 0 rfl rfl)
theorem dX5_isHere_1 : decode cX5_isHere 1 = .ok (.iload_n 1, 1) := dk_27 (dk_at dksX5_isHere_0 1 rfl rfl)
theorem dX5_isHere_2 : decode cX5_isHere 2 = .ok (.invokevirtual 141, 3) := dk_182 0 141 (dk_at dksX5_isHere_0 2 rfl rfl)
theorem dX5_isHere_5 : decode cX5_isHere 5 = .ok (.ifCond .eq 15, 3) := dk_153 0 15 (dk_at dksX5_isHere_0 5 rfl rfl)
theorem dX5_isHere_8 : decode cX5_isHere 8 = .ok (.iload_n 1, 1) := dk_27 (dk_at dksX5_isHere_0 8 rfl rfl)
theorem dX5_isHere_9 : decode cX5_isHere 9 = .ok (.aload_n 0, 1) := dk_42 (dk_at dksX5_isHere_0 9 rfl rfl)
theorem dX5_isHere_10 : decode cX5_isHere 10 = .ok (.getfield 181, 3) := dk_180 0 181 (dk_at dksX5_isHere_0 10 rfl rfl)
theorem dX5_isHere_13 : decode cX5_isHere 13 = .ok (.if_icmp .eq 7, 3) := dk_159 0 7 (dk_at dksX5_isHere_0 13 rfl rfl)
theorem dX5_isHere_16 : decode cX5_isHere 16 = .ok (.iconst 1, 1) := dk_4 (dk_at dksX5_isHere_0 16 rfl rfl)
theorem dX5_isHere_17 : decode cX5_isHere 17 = .ok (.goto 4, 3) := dk_167 0 4 (dk_at dksX5_isHere_0 17 rfl rfl)
theorem dX5_isHere_20 : decode cX5_isHere 20 = .ok (.iconst 0, 1) := dk_3 (dk_at dksX5_isHere_0 20 rfl rfl)
theorem dX5_isHere_21 : decode cX5_isHere 21 = .ok (.ireturn, 1) := dk_172 (dk_at dksX5_isHere_0 21 rfl rfl)
abbrev cX5_goesBy : ByteArray := prog_12_method_38_code
def yX5_goesBy : MethodName := ⟨RX5, "goesBy", "(I)V"⟩
def dkwX5_goesBy_7 : List UInt8 := [132, 2, 1, 167, 255, 213, 177]
abbrev dktX5_goesBy_7 : List UInt8 := dkwX5_goesBy_7 ++ []
def dkwX5_goesBy_6 : List UInt8 := [42, 180, 0, 58, 28, 46, 79, 42, 180, 0, 76, 16, 16, 27, 104, 28, 96, 42, 180, 0, 52, 28, 46, 79]
abbrev dktX5_goesBy_6 : List UInt8 := dkwX5_goesBy_6 ++ dktX5_goesBy_7
def dkwX5_goesBy_5 : List UInt8 := [180, 0, 61, 4, 46, 79, 3, 61, 28, 16, 16, 162, 0, 43, 42, 180, 0, 73, 16, 16, 27, 104, 28, 96]
abbrev dktX5_goesBy_5 : List UInt8 := dkwX5_goesBy_5 ++ dktX5_goesBy_6
def dkwX5_goesBy_4 : List UInt8 := [42, 180, 0, 70, 5, 27, 104, 42, 180, 0, 61, 3, 46, 79, 42, 180, 0, 70, 5, 27, 104, 4, 96, 42]
abbrev dktX5_goesBy_4 : List UInt8 := dkwX5_goesBy_4 ++ dktX5_goesBy_5
def dkwX5_goesBy_3 : List UInt8 := [27, 182, 0, 223, 42, 180, 0, 64, 27, 42, 180, 0, 203, 79, 42, 180, 0, 67, 27, 42, 180, 0, 194, 79]
abbrev dktX5_goesBy_3 : List UInt8 := dkwX5_goesBy_3 ++ dktX5_goesBy_4
def dkwX5_goesBy_2 : List UInt8 := [160, 0, 9, 42, 28, 27, 182, 0, 219, 132, 2, 1, 167, 255, 218, 42, 180, 0, 206, 2, 160, 0, 8, 42]
abbrev dktX5_goesBy_2 : List UInt8 := dkwX5_goesBy_2 ++ dktX5_goesBy_3
def dkwX5_goesBy_1 : List UInt8 := [162, 0, 38, 42, 180, 0, 58, 28, 3, 79, 42, 28, 182, 0, 216, 153, 0, 17, 42, 180, 0, 206, 2]
abbrev dktX5_goesBy_1 : List UInt8 := dkwX5_goesBy_1 ++ dktX5_goesBy_2
def dkwX5_goesBy_0 : List UInt8 := [42, 27, 182, 0, 212, 42, 180, 0, 61, 3, 3, 79, 42, 180, 0, 61, 4, 3, 79, 3, 61, 28, 16, 16]
abbrev dktX5_goesBy_0 : List UInt8 := dkwX5_goesBy_0 ++ dktX5_goesBy_1
theorem dksX5_goesBy_0 : cX5_goesBy.data.toList.drop 0 = dktX5_goesBy_0 := by decide +kernel
theorem dksX5_goesBy_1 : cX5_goesBy.data.toList.drop 24 = dktX5_goesBy_1 := dk_seg dksX5_goesBy_0 24 rfl rfl
theorem dksX5_goesBy_2 : cX5_goesBy.data.toList.drop 47 = dktX5_goesBy_2 := dk_seg dksX5_goesBy_1 23 rfl rfl
theorem dksX5_goesBy_3 : cX5_goesBy.data.toList.drop 71 = dktX5_goesBy_3 := dk_seg dksX5_goesBy_2 24 rfl rfl
theorem dksX5_goesBy_4 : cX5_goesBy.data.toList.drop 95 = dktX5_goesBy_4 := dk_seg dksX5_goesBy_3 24 rfl rfl
theorem dksX5_goesBy_5 : cX5_goesBy.data.toList.drop 119 = dktX5_goesBy_5 := dk_seg dksX5_goesBy_4 24 rfl rfl
theorem dksX5_goesBy_6 : cX5_goesBy.data.toList.drop 143 = dktX5_goesBy_6 := dk_seg dksX5_goesBy_5 24 rfl rfl
theorem dksX5_goesBy_7 : cX5_goesBy.data.toList.drop 167 = dktX5_goesBy_7 := dk_seg dksX5_goesBy_6 24 rfl rfl
theorem dX5_goesBy_0 : decode cX5_goesBy 0 = .ok (.aload_n 0, 1) := dk_42 (dk_at dksX5_goesBy_0 0 rfl rfl)
theorem dX5_goesBy_1 : decode cX5_goesBy 1 = .ok (.iload_n 1, 1) := dk_27 (dk_at dksX5_goesBy_0 1 rfl rfl)
theorem dX5_goesBy_2 : decode cX5_goesBy 2 = .ok (.invokevirtual 212, 3) := dk_182 0 212 (dk_at dksX5_goesBy_0 2 rfl rfl)
theorem dX5_goesBy_5 : decode cX5_goesBy 5 = .ok (.aload_n 0, 1) := dk_42 (dk_at dksX5_goesBy_0 5 rfl rfl)
theorem dX5_goesBy_6 : decode cX5_goesBy 6 = .ok (.getfield 61, 3) := dk_180 0 61 (dk_at dksX5_goesBy_0 6 rfl rfl)
theorem dX5_goesBy_9 : decode cX5_goesBy 9 = .ok (.iconst 0, 1) := dk_3 (dk_at dksX5_goesBy_0 9 rfl rfl)
theorem dX5_goesBy_10 : decode cX5_goesBy 10 = .ok (.iconst 0, 1) := dk_3 (dk_at dksX5_goesBy_0 10 rfl rfl)
theorem dX5_goesBy_11 : decode cX5_goesBy 11 = .ok (.iastore, 1) := dk_79 (dk_at dksX5_goesBy_0 11 rfl rfl)
theorem dX5_goesBy_12 : decode cX5_goesBy 12 = .ok (.aload_n 0, 1) := dk_42 (dk_at dksX5_goesBy_0 12 rfl rfl)
theorem dX5_goesBy_13 : decode cX5_goesBy 13 = .ok (.getfield 61, 3) := dk_180 0 61 (dk_at dksX5_goesBy_0 13 rfl rfl)
theorem dX5_goesBy_16 : decode cX5_goesBy 16 = .ok (.iconst 1, 1) := dk_4 (dk_at dksX5_goesBy_0 16 rfl rfl)
theorem dX5_goesBy_17 : decode cX5_goesBy 17 = .ok (.iconst 0, 1) := dk_3 (dk_at dksX5_goesBy_0 17 rfl rfl)
theorem dX5_goesBy_18 : decode cX5_goesBy 18 = .ok (.iastore, 1) := dk_79 (dk_at dksX5_goesBy_0 18 rfl rfl)
theorem dX5_goesBy_19 : decode cX5_goesBy 19 = .ok (.iconst 0, 1) := dk_3 (dk_at dksX5_goesBy_0 19 rfl rfl)
theorem dX5_goesBy_20 : decode cX5_goesBy 20 = .ok (.istore_n 2, 1) := dk_61 (dk_at dksX5_goesBy_0 20 rfl rfl)
theorem dX5_goesBy_21 : decode cX5_goesBy 21 = .ok (.iload_n 2, 1) := dk_28 (dk_at dksX5_goesBy_0 21 rfl rfl)
theorem dX5_goesBy_22 : decode cX5_goesBy 22 = .ok (.bipush 16, 2) := dk_16 16 (dk_at dksX5_goesBy_0 22 rfl rfl)
theorem dX5_goesBy_24 : decode cX5_goesBy 24 = .ok (.if_icmp .ge 38, 3) := dk_162 0 38 (dk_at dksX5_goesBy_1 0 rfl rfl)
theorem dX5_goesBy_27 : decode cX5_goesBy 27 = .ok (.aload_n 0, 1) := dk_42 (dk_at dksX5_goesBy_1 3 rfl rfl)
theorem dX5_goesBy_28 : decode cX5_goesBy 28 = .ok (.getfield 58, 3) := dk_180 0 58 (dk_at dksX5_goesBy_1 4 rfl rfl)
theorem dX5_goesBy_31 : decode cX5_goesBy 31 = .ok (.iload_n 2, 1) := dk_28 (dk_at dksX5_goesBy_1 7 rfl rfl)
theorem dX5_goesBy_32 : decode cX5_goesBy 32 = .ok (.iconst 0, 1) := dk_3 (dk_at dksX5_goesBy_1 8 rfl rfl)
theorem dX5_goesBy_33 : decode cX5_goesBy 33 = .ok (.iastore, 1) := dk_79 (dk_at dksX5_goesBy_1 9 rfl rfl)
theorem dX5_goesBy_34 : decode cX5_goesBy 34 = .ok (.aload_n 0, 1) := dk_42 (dk_at dksX5_goesBy_1 10 rfl rfl)
theorem dX5_goesBy_35 : decode cX5_goesBy 35 = .ok (.iload_n 2, 1) := dk_28 (dk_at dksX5_goesBy_1 11 rfl rfl)
theorem dX5_goesBy_36 : decode cX5_goesBy 36 = .ok (.invokevirtual 216, 3) := dk_182 0 216 (dk_at dksX5_goesBy_1 12 rfl rfl)
theorem dX5_goesBy_39 : decode cX5_goesBy 39 = .ok (.ifCond .eq 17, 3) := dk_153 0 17 (dk_at dksX5_goesBy_1 15 rfl rfl)
theorem dX5_goesBy_42 : decode cX5_goesBy 42 = .ok (.aload_n 0, 1) := dk_42 (dk_at dksX5_goesBy_1 18 rfl rfl)
theorem dX5_goesBy_43 : decode cX5_goesBy 43 = .ok (.getfield 206, 3) := dk_180 0 206 (dk_at dksX5_goesBy_1 19 rfl rfl)
theorem dX5_goesBy_46 : decode cX5_goesBy 46 = .ok (.iconst (-1), 1) := dk_2 (dk_at dksX5_goesBy_1 22 rfl rfl)
theorem dX5_goesBy_47 : decode cX5_goesBy 47 = .ok (.if_icmp .ne 9, 3) := dk_160 0 9 (dk_at dksX5_goesBy_2 0 rfl rfl)
theorem dX5_goesBy_50 : decode cX5_goesBy 50 = .ok (.aload_n 0, 1) := dk_42 (dk_at dksX5_goesBy_2 3 rfl rfl)
theorem dX5_goesBy_51 : decode cX5_goesBy 51 = .ok (.iload_n 2, 1) := dk_28 (dk_at dksX5_goesBy_2 4 rfl rfl)
theorem dX5_goesBy_52 : decode cX5_goesBy 52 = .ok (.iload_n 1, 1) := dk_27 (dk_at dksX5_goesBy_2 5 rfl rfl)
theorem dX5_goesBy_53 : decode cX5_goesBy 53 = .ok (.invokevirtual 219, 3) := dk_182 0 219 (dk_at dksX5_goesBy_2 6 rfl rfl)
theorem dX5_goesBy_56 : decode cX5_goesBy 56 = .ok (.iinc 2 1, 3) := dk_132 2 1 (dk_at dksX5_goesBy_2 9 rfl rfl)
theorem dX5_goesBy_59 : decode cX5_goesBy 59 = .ok (.goto (-38), 3) := dk_167 255 218 (dk_at dksX5_goesBy_2 12 rfl rfl)
theorem dX5_goesBy_62 : decode cX5_goesBy 62 = .ok (.aload_n 0, 1) := dk_42 (dk_at dksX5_goesBy_2 15 rfl rfl)
theorem dX5_goesBy_63 : decode cX5_goesBy 63 = .ok (.getfield 206, 3) := dk_180 0 206 (dk_at dksX5_goesBy_2 16 rfl rfl)
theorem dX5_goesBy_66 : decode cX5_goesBy 66 = .ok (.iconst (-1), 1) := dk_2 (dk_at dksX5_goesBy_2 19 rfl rfl)
theorem dX5_goesBy_67 : decode cX5_goesBy 67 = .ok (.if_icmp .ne 8, 3) := dk_160 0 8 (dk_at dksX5_goesBy_2 20 rfl rfl)
theorem dX5_goesBy_70 : decode cX5_goesBy 70 = .ok (.aload_n 0, 1) := dk_42 (dk_at dksX5_goesBy_2 23 rfl rfl)
theorem dX5_goesBy_71 : decode cX5_goesBy 71 = .ok (.iload_n 1, 1) := dk_27 (dk_at dksX5_goesBy_3 0 rfl rfl)
theorem dX5_goesBy_72 : decode cX5_goesBy 72 = .ok (.invokevirtual 223, 3) := dk_182 0 223 (dk_at dksX5_goesBy_3 1 rfl rfl)
theorem dX5_goesBy_75 : decode cX5_goesBy 75 = .ok (.aload_n 0, 1) := dk_42 (dk_at dksX5_goesBy_3 4 rfl rfl)
theorem dX5_goesBy_76 : decode cX5_goesBy 76 = .ok (.getfield 64, 3) := dk_180 0 64 (dk_at dksX5_goesBy_3 5 rfl rfl)
theorem dX5_goesBy_79 : decode cX5_goesBy 79 = .ok (.iload_n 1, 1) := dk_27 (dk_at dksX5_goesBy_3 8 rfl rfl)
theorem dX5_goesBy_80 : decode cX5_goesBy 80 = .ok (.aload_n 0, 1) := dk_42 (dk_at dksX5_goesBy_3 9 rfl rfl)
theorem dX5_goesBy_81 : decode cX5_goesBy 81 = .ok (.getfield 203, 3) := dk_180 0 203 (dk_at dksX5_goesBy_3 10 rfl rfl)
theorem dX5_goesBy_84 : decode cX5_goesBy 84 = .ok (.iastore, 1) := dk_79 (dk_at dksX5_goesBy_3 13 rfl rfl)
theorem dX5_goesBy_85 : decode cX5_goesBy 85 = .ok (.aload_n 0, 1) := dk_42 (dk_at dksX5_goesBy_3 14 rfl rfl)
theorem dX5_goesBy_86 : decode cX5_goesBy 86 = .ok (.getfield 67, 3) := dk_180 0 67 (dk_at dksX5_goesBy_3 15 rfl rfl)
theorem dX5_goesBy_89 : decode cX5_goesBy 89 = .ok (.iload_n 1, 1) := dk_27 (dk_at dksX5_goesBy_3 18 rfl rfl)
theorem dX5_goesBy_90 : decode cX5_goesBy 90 = .ok (.aload_n 0, 1) := dk_42 (dk_at dksX5_goesBy_3 19 rfl rfl)
theorem dX5_goesBy_91 : decode cX5_goesBy 91 = .ok (.getfield 194, 3) := dk_180 0 194 (dk_at dksX5_goesBy_3 20 rfl rfl)
theorem dX5_goesBy_94 : decode cX5_goesBy 94 = .ok (.iastore, 1) := dk_79 (dk_at dksX5_goesBy_3 23 rfl rfl)
theorem dX5_goesBy_95 : decode cX5_goesBy 95 = .ok (.aload_n 0, 1) := dk_42 (dk_at dksX5_goesBy_4 0 rfl rfl)
theorem dX5_goesBy_96 : decode cX5_goesBy 96 = .ok (.getfield 70, 3) := dk_180 0 70 (dk_at dksX5_goesBy_4 1 rfl rfl)
theorem dX5_goesBy_99 : decode cX5_goesBy 99 = .ok (.iconst 2, 1) := dk_5 (dk_at dksX5_goesBy_4 4 rfl rfl)
theorem dX5_goesBy_100 : decode cX5_goesBy 100 = .ok (.iload_n 1, 1) := dk_27 (dk_at dksX5_goesBy_4 5 rfl rfl)
theorem dX5_goesBy_101 : decode cX5_goesBy 101 = .ok (.imul, 1) := dk_104 (dk_at dksX5_goesBy_4 6 rfl rfl)
theorem dX5_goesBy_102 : decode cX5_goesBy 102 = .ok (.aload_n 0, 1) := dk_42 (dk_at dksX5_goesBy_4 7 rfl rfl)
theorem dX5_goesBy_103 : decode cX5_goesBy 103 = .ok (.getfield 61, 3) := dk_180 0 61 (dk_at dksX5_goesBy_4 8 rfl rfl)
theorem dX5_goesBy_106 : decode cX5_goesBy 106 = .ok (.iconst 0, 1) := dk_3 (dk_at dksX5_goesBy_4 11 rfl rfl)
theorem dX5_goesBy_107 : decode cX5_goesBy 107 = .ok (.iaload, 1) := dk_46 (dk_at dksX5_goesBy_4 12 rfl rfl)
theorem dX5_goesBy_108 : decode cX5_goesBy 108 = .ok (.iastore, 1) := dk_79 (dk_at dksX5_goesBy_4 13 rfl rfl)
theorem dX5_goesBy_109 : decode cX5_goesBy 109 = .ok (.aload_n 0, 1) := dk_42 (dk_at dksX5_goesBy_4 14 rfl rfl)
theorem dX5_goesBy_110 : decode cX5_goesBy 110 = .ok (.getfield 70, 3) := dk_180 0 70 (dk_at dksX5_goesBy_4 15 rfl rfl)
theorem dX5_goesBy_113 : decode cX5_goesBy 113 = .ok (.iconst 2, 1) := dk_5 (dk_at dksX5_goesBy_4 18 rfl rfl)
theorem dX5_goesBy_114 : decode cX5_goesBy 114 = .ok (.iload_n 1, 1) := dk_27 (dk_at dksX5_goesBy_4 19 rfl rfl)
theorem dX5_goesBy_115 : decode cX5_goesBy 115 = .ok (.imul, 1) := dk_104 (dk_at dksX5_goesBy_4 20 rfl rfl)
theorem dX5_goesBy_116 : decode cX5_goesBy 116 = .ok (.iconst 1, 1) := dk_4 (dk_at dksX5_goesBy_4 21 rfl rfl)
theorem dX5_goesBy_117 : decode cX5_goesBy 117 = .ok (.iadd, 1) := dk_96 (dk_at dksX5_goesBy_4 22 rfl rfl)
theorem dX5_goesBy_118 : decode cX5_goesBy 118 = .ok (.aload_n 0, 1) := dk_42 (dk_at dksX5_goesBy_4 23 rfl rfl)
theorem dX5_goesBy_119 : decode cX5_goesBy 119 = .ok (.getfield 61, 3) := dk_180 0 61 (dk_at dksX5_goesBy_5 0 rfl rfl)
theorem dX5_goesBy_122 : decode cX5_goesBy 122 = .ok (.iconst 1, 1) := dk_4 (dk_at dksX5_goesBy_5 3 rfl rfl)
theorem dX5_goesBy_123 : decode cX5_goesBy 123 = .ok (.iaload, 1) := dk_46 (dk_at dksX5_goesBy_5 4 rfl rfl)
theorem dX5_goesBy_124 : decode cX5_goesBy 124 = .ok (.iastore, 1) := dk_79 (dk_at dksX5_goesBy_5 5 rfl rfl)
theorem dX5_goesBy_125 : decode cX5_goesBy 125 = .ok (.iconst 0, 1) := dk_3 (dk_at dksX5_goesBy_5 6 rfl rfl)
theorem dX5_goesBy_126 : decode cX5_goesBy 126 = .ok (.istore_n 2, 1) := dk_61 (dk_at dksX5_goesBy_5 7 rfl rfl)
theorem dX5_goesBy_127 : decode cX5_goesBy 127 = .ok (.iload_n 2, 1) := dk_28 (dk_at dksX5_goesBy_5 8 rfl rfl)
theorem dX5_goesBy_128 : decode cX5_goesBy 128 = .ok (.bipush 16, 2) := dk_16 16 (dk_at dksX5_goesBy_5 9 rfl rfl)
theorem dX5_goesBy_130 : decode cX5_goesBy 130 = .ok (.if_icmp .ge 43, 3) := dk_162 0 43 (dk_at dksX5_goesBy_5 11 rfl rfl)
theorem dX5_goesBy_133 : decode cX5_goesBy 133 = .ok (.aload_n 0, 1) := dk_42 (dk_at dksX5_goesBy_5 14 rfl rfl)
theorem dX5_goesBy_134 : decode cX5_goesBy 134 = .ok (.getfield 73, 3) := dk_180 0 73 (dk_at dksX5_goesBy_5 15 rfl rfl)
theorem dX5_goesBy_137 : decode cX5_goesBy 137 = .ok (.bipush 16, 2) := dk_16 16 (dk_at dksX5_goesBy_5 18 rfl rfl)
theorem dX5_goesBy_139 : decode cX5_goesBy 139 = .ok (.iload_n 1, 1) := dk_27 (dk_at dksX5_goesBy_5 20 rfl rfl)
theorem dX5_goesBy_140 : decode cX5_goesBy 140 = .ok (.imul, 1) := dk_104 (dk_at dksX5_goesBy_5 21 rfl rfl)
theorem dX5_goesBy_141 : decode cX5_goesBy 141 = .ok (.iload_n 2, 1) := dk_28 (dk_at dksX5_goesBy_5 22 rfl rfl)
theorem dX5_goesBy_142 : decode cX5_goesBy 142 = .ok (.iadd, 1) := dk_96 (dk_at dksX5_goesBy_5 23 rfl rfl)
theorem dX5_goesBy_143 : decode cX5_goesBy 143 = .ok (.aload_n 0, 1) := dk_42 (dk_at dksX5_goesBy_6 0 rfl rfl)
theorem dX5_goesBy_144 : decode cX5_goesBy 144 = .ok (.getfield 58, 3) := dk_180 0 58 (dk_at dksX5_goesBy_6 1 rfl rfl)
theorem dX5_goesBy_147 : decode cX5_goesBy 147 = .ok (.iload_n 2, 1) := dk_28 (dk_at dksX5_goesBy_6 4 rfl rfl)
theorem dX5_goesBy_148 : decode cX5_goesBy 148 = .ok (.iaload, 1) := dk_46 (dk_at dksX5_goesBy_6 5 rfl rfl)
theorem dX5_goesBy_149 : decode cX5_goesBy 149 = .ok (.iastore, 1) := dk_79 (dk_at dksX5_goesBy_6 6 rfl rfl)
theorem dX5_goesBy_150 : decode cX5_goesBy 150 = .ok (.aload_n 0, 1) := dk_42 (dk_at dksX5_goesBy_6 7 rfl rfl)
theorem dX5_goesBy_151 : decode cX5_goesBy 151 = .ok (.getfield 76, 3) := dk_180 0 76 (dk_at dksX5_goesBy_6 8 rfl rfl)
theorem dX5_goesBy_154 : decode cX5_goesBy 154 = .ok (.bipush 16, 2) := dk_16 16 (dk_at dksX5_goesBy_6 11 rfl rfl)
theorem dX5_goesBy_156 : decode cX5_goesBy 156 = .ok (.iload_n 1, 1) := dk_27 (dk_at dksX5_goesBy_6 13 rfl rfl)
theorem dX5_goesBy_157 : decode cX5_goesBy 157 = .ok (.imul, 1) := dk_104 (dk_at dksX5_goesBy_6 14 rfl rfl)
theorem dX5_goesBy_158 : decode cX5_goesBy 158 = .ok (.iload_n 2, 1) := dk_28 (dk_at dksX5_goesBy_6 15 rfl rfl)
theorem dX5_goesBy_159 : decode cX5_goesBy 159 = .ok (.iadd, 1) := dk_96 (dk_at dksX5_goesBy_6 16 rfl rfl)
theorem dX5_goesBy_160 : decode cX5_goesBy 160 = .ok (.aload_n 0, 1) := dk_42 (dk_at dksX5_goesBy_6 17 rfl rfl)
theorem dX5_goesBy_161 : decode cX5_goesBy 161 = .ok (.getfield 52, 3) := dk_180 0 52 (dk_at dksX5_goesBy_6 18 rfl rfl)
theorem dX5_goesBy_164 : decode cX5_goesBy 164 = .ok (.iload_n 2, 1) := dk_28 (dk_at dksX5_goesBy_6 21 rfl rfl)
theorem dX5_goesBy_165 : decode cX5_goesBy 165 = .ok (.iaload, 1) := dk_46 (dk_at dksX5_goesBy_6 22 rfl rfl)
theorem dX5_goesBy_166 : decode cX5_goesBy 166 = .ok (.iastore, 1) := dk_79 (dk_at dksX5_goesBy_6 23 rfl rfl)
theorem dX5_goesBy_167 : decode cX5_goesBy 167 = .ok (.iinc 2 1, 3) := dk_132 2 1 (dk_at dksX5_goesBy_7 0 rfl rfl)
theorem dX5_goesBy_170 : decode cX5_goesBy 170 = .ok (.goto (-43), 3) := dk_167 255 213 (dk_at dksX5_goesBy_7 3 rfl rfl)
theorem dX5_goesBy_173 : decode cX5_goesBy 173 = .ok (.return_, 1) := dk_177 (dk_at dksX5_goesBy_7 6 rfl rfl)
abbrev cX5_befalls : ByteArray := prog_12_method_34_code
def yX5_befalls : MethodName := ⟨RX5, "befalls", "(I)V"⟩
def dkwX5_befalls_5 : List UInt8 := [42, 180, 0, 184, 181, 0, 184, 132, 2, 1, 167, 255, 139, 177]
abbrev dktX5_befalls_5 : List UInt8 := dkwX5_befalls_5 ++ []
def dkwX5_befalls_4 : List UInt8 := [4, 167, 0, 4, 3, 96, 181, 0, 194, 42, 42, 180, 0, 34, 28, 46, 5, 160, 0, 7, 4, 167, 0, 7]
abbrev dktX5_befalls_4 : List UInt8 := dkwX5_befalls_4 ++ dktX5_befalls_5
def dkwX5_befalls_3 : List UInt8 := [42, 89, 180, 0, 194, 42, 180, 0, 34, 28, 46, 4, 160, 0, 16, 42, 180, 0, 194, 16, 9, 162, 0, 7]
abbrev dktX5_befalls_3 : List UInt8 := dkwX5_befalls_3 ++ dktX5_befalls_4
def dkwX5_befalls_2 : List UInt8 := [180, 0, 34, 28, 46, 154, 0, 14, 4, 42, 180, 0, 40, 28, 46, 120, 167, 0, 4, 3, 128, 181, 0, 187]
abbrev dktX5_befalls_2 : List UInt8 := dkwX5_befalls_2 ++ dktX5_befalls_3
def dkwX5_befalls_1 : List UInt8 := [28, 46, 27, 160, 0, 99, 42, 180, 0, 178, 28, 184, 0, 190, 154, 0, 88, 42, 89, 180, 0, 187, 42]
abbrev dktX5_befalls_1 : List UInt8 := dkwX5_befalls_1 ++ dktX5_befalls_2
def dkwX5_befalls_0 : List UInt8 := [42, 3, 181, 0, 184, 42, 3, 181, 0, 187, 3, 61, 28, 42, 180, 0, 166, 162, 0, 115, 42, 180, 0, 37]
abbrev dktX5_befalls_0 : List UInt8 := dkwX5_befalls_0 ++ dktX5_befalls_1
theorem dksX5_befalls_0 : cX5_befalls.data.toList.drop 0 = dktX5_befalls_0 := by decide +kernel
theorem dksX5_befalls_1 : cX5_befalls.data.toList.drop 24 = dktX5_befalls_1 := dk_seg dksX5_befalls_0 24 rfl rfl
theorem dksX5_befalls_2 : cX5_befalls.data.toList.drop 47 = dktX5_befalls_2 := dk_seg dksX5_befalls_1 23 rfl rfl
theorem dksX5_befalls_3 : cX5_befalls.data.toList.drop 71 = dktX5_befalls_3 := dk_seg dksX5_befalls_2 24 rfl rfl
theorem dksX5_befalls_4 : cX5_befalls.data.toList.drop 95 = dktX5_befalls_4 := dk_seg dksX5_befalls_3 24 rfl rfl
theorem dksX5_befalls_5 : cX5_befalls.data.toList.drop 119 = dktX5_befalls_5 := dk_seg dksX5_befalls_4 24 rfl rfl
theorem dX5_befalls_0 : decode cX5_befalls 0 = .ok (.aload_n 0, 1) := dk_42 (dk_at dksX5_befalls_0 0 rfl rfl)
theorem dX5_befalls_1 : decode cX5_befalls 1 = .ok (.iconst 0, 1) := dk_3 (dk_at dksX5_befalls_0 1 rfl rfl)
theorem dX5_befalls_2 : decode cX5_befalls 2 = .ok (.putfield 184, 3) := dk_181 0 184 (dk_at dksX5_befalls_0 2 rfl rfl)
theorem dX5_befalls_5 : decode cX5_befalls 5 = .ok (.aload_n 0, 1) := dk_42 (dk_at dksX5_befalls_0 5 rfl rfl)
theorem dX5_befalls_6 : decode cX5_befalls 6 = .ok (.iconst 0, 1) := dk_3 (dk_at dksX5_befalls_0 6 rfl rfl)
theorem dX5_befalls_7 : decode cX5_befalls 7 = .ok (.putfield 187, 3) := dk_181 0 187 (dk_at dksX5_befalls_0 7 rfl rfl)
theorem dX5_befalls_10 : decode cX5_befalls 10 = .ok (.iconst 0, 1) := dk_3 (dk_at dksX5_befalls_0 10 rfl rfl)
theorem dX5_befalls_11 : decode cX5_befalls 11 = .ok (.istore_n 2, 1) := dk_61 (dk_at dksX5_befalls_0 11 rfl rfl)
theorem dX5_befalls_12 : decode cX5_befalls 12 = .ok (.iload_n 2, 1) := dk_28 (dk_at dksX5_befalls_0 12 rfl rfl)
theorem dX5_befalls_13 : decode cX5_befalls 13 = .ok (.aload_n 0, 1) := dk_42 (dk_at dksX5_befalls_0 13 rfl rfl)
theorem dX5_befalls_14 : decode cX5_befalls 14 = .ok (.getfield 166, 3) := dk_180 0 166 (dk_at dksX5_befalls_0 14 rfl rfl)
theorem dX5_befalls_17 : decode cX5_befalls 17 = .ok (.if_icmp .ge 115, 3) := dk_162 0 115 (dk_at dksX5_befalls_0 17 rfl rfl)
theorem dX5_befalls_20 : decode cX5_befalls 20 = .ok (.aload_n 0, 1) := dk_42 (dk_at dksX5_befalls_0 20 rfl rfl)
theorem dX5_befalls_21 : decode cX5_befalls 21 = .ok (.getfield 37, 3) := dk_180 0 37 (dk_at dksX5_befalls_0 21 rfl rfl)
theorem dX5_befalls_24 : decode cX5_befalls 24 = .ok (.iload_n 2, 1) := dk_28 (dk_at dksX5_befalls_1 0 rfl rfl)
theorem dX5_befalls_25 : decode cX5_befalls 25 = .ok (.iaload, 1) := dk_46 (dk_at dksX5_befalls_1 1 rfl rfl)
theorem dX5_befalls_26 : decode cX5_befalls 26 = .ok (.iload_n 1, 1) := dk_27 (dk_at dksX5_befalls_1 2 rfl rfl)
theorem dX5_befalls_27 : decode cX5_befalls 27 = .ok (.if_icmp .ne 99, 3) := dk_160 0 99 (dk_at dksX5_befalls_1 3 rfl rfl)
theorem dX5_befalls_30 : decode cX5_befalls 30 = .ok (.aload_n 0, 1) := dk_42 (dk_at dksX5_befalls_1 6 rfl rfl)
theorem dX5_befalls_31 : decode cX5_befalls 31 = .ok (.getfield 178, 3) := dk_180 0 178 (dk_at dksX5_befalls_1 7 rfl rfl)
theorem dX5_befalls_34 : decode cX5_befalls 34 = .ok (.iload_n 2, 1) := dk_28 (dk_at dksX5_befalls_1 10 rfl rfl)
theorem dX5_befalls_35 : decode cX5_befalls 35 = .ok (.invokestatic 190, 3) := dk_184 0 190 (dk_at dksX5_befalls_1 11 rfl rfl)
theorem dX5_befalls_38 : decode cX5_befalls 38 = .ok (.ifCond .ne 88, 3) := dk_154 0 88 (dk_at dksX5_befalls_1 14 rfl rfl)
theorem dX5_befalls_41 : decode cX5_befalls 41 = .ok (.aload_n 0, 1) := dk_42 (dk_at dksX5_befalls_1 17 rfl rfl)
theorem dX5_befalls_42 : decode cX5_befalls 42 = .ok (.dup, 1) := dk_89 (dk_at dksX5_befalls_1 18 rfl rfl)
theorem dX5_befalls_43 : decode cX5_befalls 43 = .ok (.getfield 187, 3) := dk_180 0 187 (dk_at dksX5_befalls_1 19 rfl rfl)
theorem dX5_befalls_46 : decode cX5_befalls 46 = .ok (.aload_n 0, 1) := dk_42 (dk_at dksX5_befalls_1 22 rfl rfl)
theorem dX5_befalls_47 : decode cX5_befalls 47 = .ok (.getfield 34, 3) := dk_180 0 34 (dk_at dksX5_befalls_2 0 rfl rfl)
theorem dX5_befalls_50 : decode cX5_befalls 50 = .ok (.iload_n 2, 1) := dk_28 (dk_at dksX5_befalls_2 3 rfl rfl)
theorem dX5_befalls_51 : decode cX5_befalls 51 = .ok (.iaload, 1) := dk_46 (dk_at dksX5_befalls_2 4 rfl rfl)
theorem dX5_befalls_52 : decode cX5_befalls 52 = .ok (.ifCond .ne 14, 3) := dk_154 0 14 (dk_at dksX5_befalls_2 5 rfl rfl)
theorem dX5_befalls_55 : decode cX5_befalls 55 = .ok (.iconst 1, 1) := dk_4 (dk_at dksX5_befalls_2 8 rfl rfl)
theorem dX5_befalls_56 : decode cX5_befalls 56 = .ok (.aload_n 0, 1) := dk_42 (dk_at dksX5_befalls_2 9 rfl rfl)
theorem dX5_befalls_57 : decode cX5_befalls 57 = .ok (.getfield 40, 3) := dk_180 0 40 (dk_at dksX5_befalls_2 10 rfl rfl)
theorem dX5_befalls_60 : decode cX5_befalls 60 = .ok (.iload_n 2, 1) := dk_28 (dk_at dksX5_befalls_2 13 rfl rfl)
theorem dX5_befalls_61 : decode cX5_befalls 61 = .ok (.iaload, 1) := dk_46 (dk_at dksX5_befalls_2 14 rfl rfl)
theorem dX5_befalls_62 : decode cX5_befalls 62 = .ok (.ishl, 1) := dk_120 (dk_at dksX5_befalls_2 15 rfl rfl)
theorem dX5_befalls_63 : decode cX5_befalls 63 = .ok (.goto 4, 3) := dk_167 0 4 (dk_at dksX5_befalls_2 16 rfl rfl)
theorem dX5_befalls_66 : decode cX5_befalls 66 = .ok (.iconst 0, 1) := dk_3 (dk_at dksX5_befalls_2 19 rfl rfl)
theorem dX5_befalls_67 : decode cX5_befalls 67 = .ok (.ior, 1) := dk_128 (dk_at dksX5_befalls_2 20 rfl rfl)
theorem dX5_befalls_68 : decode cX5_befalls 68 = .ok (.putfield 187, 3) := dk_181 0 187 (dk_at dksX5_befalls_2 21 rfl rfl)
theorem dX5_befalls_71 : decode cX5_befalls 71 = .ok (.aload_n 0, 1) := dk_42 (dk_at dksX5_befalls_3 0 rfl rfl)
theorem dX5_befalls_72 : decode cX5_befalls 72 = .ok (.dup, 1) := dk_89 (dk_at dksX5_befalls_3 1 rfl rfl)
theorem dX5_befalls_73 : decode cX5_befalls 73 = .ok (.getfield 194, 3) := dk_180 0 194 (dk_at dksX5_befalls_3 2 rfl rfl)
theorem dX5_befalls_76 : decode cX5_befalls 76 = .ok (.aload_n 0, 1) := dk_42 (dk_at dksX5_befalls_3 5 rfl rfl)
theorem dX5_befalls_77 : decode cX5_befalls 77 = .ok (.getfield 34, 3) := dk_180 0 34 (dk_at dksX5_befalls_3 6 rfl rfl)
theorem dX5_befalls_80 : decode cX5_befalls 80 = .ok (.iload_n 2, 1) := dk_28 (dk_at dksX5_befalls_3 9 rfl rfl)
theorem dX5_befalls_81 : decode cX5_befalls 81 = .ok (.iaload, 1) := dk_46 (dk_at dksX5_befalls_3 10 rfl rfl)
theorem dX5_befalls_82 : decode cX5_befalls 82 = .ok (.iconst 1, 1) := dk_4 (dk_at dksX5_befalls_3 11 rfl rfl)
theorem dX5_befalls_83 : decode cX5_befalls 83 = .ok (.if_icmp .ne 16, 3) := dk_160 0 16 (dk_at dksX5_befalls_3 12 rfl rfl)
theorem dX5_befalls_86 : decode cX5_befalls 86 = .ok (.aload_n 0, 1) := dk_42 (dk_at dksX5_befalls_3 15 rfl rfl)
theorem dX5_befalls_87 : decode cX5_befalls 87 = .ok (.getfield 194, 3) := dk_180 0 194 (dk_at dksX5_befalls_3 16 rfl rfl)
theorem dX5_befalls_90 : decode cX5_befalls 90 = .ok (.bipush 9, 2) := dk_16 9 (dk_at dksX5_befalls_3 19 rfl rfl)
theorem dX5_befalls_92 : decode cX5_befalls 92 = .ok (.if_icmp .ge 7, 3) := dk_162 0 7 (dk_at dksX5_befalls_3 21 rfl rfl)
theorem dX5_befalls_95 : decode cX5_befalls 95 = .ok (.iconst 1, 1) := dk_4 (dk_at dksX5_befalls_4 0 rfl rfl)
theorem dX5_befalls_96 : decode cX5_befalls 96 = .ok (.goto 4, 3) := dk_167 0 4 (dk_at dksX5_befalls_4 1 rfl rfl)
theorem dX5_befalls_99 : decode cX5_befalls 99 = .ok (.iconst 0, 1) := dk_3 (dk_at dksX5_befalls_4 4 rfl rfl)
theorem dX5_befalls_100 : decode cX5_befalls 100 = .ok (.iadd, 1) := dk_96 (dk_at dksX5_befalls_4 5 rfl rfl)
theorem dX5_befalls_101 : decode cX5_befalls 101 = .ok (.putfield 194, 3) := dk_181 0 194 (dk_at dksX5_befalls_4 6 rfl rfl)
theorem dX5_befalls_104 : decode cX5_befalls 104 = .ok (.aload_n 0, 1) := dk_42 (dk_at dksX5_befalls_4 9 rfl rfl)
theorem dX5_befalls_105 : decode cX5_befalls 105 = .ok (.aload_n 0, 1) := dk_42 (dk_at dksX5_befalls_4 10 rfl rfl)
theorem dX5_befalls_106 : decode cX5_befalls 106 = .ok (.getfield 34, 3) := dk_180 0 34 (dk_at dksX5_befalls_4 11 rfl rfl)
theorem dX5_befalls_109 : decode cX5_befalls 109 = .ok (.iload_n 2, 1) := dk_28 (dk_at dksX5_befalls_4 14 rfl rfl)
theorem dX5_befalls_110 : decode cX5_befalls 110 = .ok (.iaload, 1) := dk_46 (dk_at dksX5_befalls_4 15 rfl rfl)
theorem dX5_befalls_111 : decode cX5_befalls 111 = .ok (.iconst 2, 1) := dk_5 (dk_at dksX5_befalls_4 16 rfl rfl)
theorem dX5_befalls_112 : decode cX5_befalls 112 = .ok (.if_icmp .ne 7, 3) := dk_160 0 7 (dk_at dksX5_befalls_4 17 rfl rfl)
theorem dX5_befalls_115 : decode cX5_befalls 115 = .ok (.iconst 1, 1) := dk_4 (dk_at dksX5_befalls_4 20 rfl rfl)
theorem dX5_befalls_116 : decode cX5_befalls 116 = .ok (.goto 7, 3) := dk_167 0 7 (dk_at dksX5_befalls_4 21 rfl rfl)
theorem dX5_befalls_119 : decode cX5_befalls 119 = .ok (.aload_n 0, 1) := dk_42 (dk_at dksX5_befalls_5 0 rfl rfl)
theorem dX5_befalls_120 : decode cX5_befalls 120 = .ok (.getfield 184, 3) := dk_180 0 184 (dk_at dksX5_befalls_5 1 rfl rfl)
theorem dX5_befalls_123 : decode cX5_befalls 123 = .ok (.putfield 184, 3) := dk_181 0 184 (dk_at dksX5_befalls_5 4 rfl rfl)
theorem dX5_befalls_126 : decode cX5_befalls 126 = .ok (.iinc 2 1, 3) := dk_132 2 1 (dk_at dksX5_befalls_5 7 rfl rfl)
theorem dX5_befalls_129 : decode cX5_befalls 129 = .ok (.goto (-117), 3) := dk_167 255 139 (dk_at dksX5_befalls_5 10 rfl rfl)
theorem dX5_befalls_132 : decode cX5_befalls 132 = .ok (.return_, 1) := dk_177 (dk_at dksX5_befalls_5 13 rfl rfl)
abbrev cX5_isIn : ByteArray := prog_12_method_4_code
def yX5_isIn : MethodName := ⟨RX5, "isIn", "(II)Z"⟩
def dkwX5_isIn_0 : List UInt8 := [26, 27, 122, 4, 126, 4, 160, 0, 7, 4, 167, 0, 4, 3, 172]
abbrev dktX5_isIn_0 : List UInt8 := dkwX5_isIn_0 ++ []
theorem dksX5_isIn_0 : cX5_isIn.data.toList.drop 0 = dktX5_isIn_0 := by decide +kernel
theorem dX5_isIn_0 : decode cX5_isIn 0 = .ok (.iload_n 0, 1) := dk_26 (dk_at dksX5_isIn_0 0 rfl rfl)
theorem dX5_isIn_1 : decode cX5_isIn 1 = .ok (.iload_n 1, 1) := dk_27 (dk_at dksX5_isIn_0 1 rfl rfl)
theorem dX5_isIn_2 : decode cX5_isIn 2 = .ok (.ishr, 1) := dk_122 (dk_at dksX5_isIn_0 2 rfl rfl)
theorem dX5_isIn_3 : decode cX5_isIn 3 = .ok (.iconst 1, 1) := dk_4 (dk_at dksX5_isIn_0 3 rfl rfl)
theorem dX5_isIn_4 : decode cX5_isIn 4 = .ok (.iand, 1) := dk_126 (dk_at dksX5_isIn_0 4 rfl rfl)
theorem dX5_isIn_5 : decode cX5_isIn 5 = .ok (.iconst 1, 1) := dk_4 (dk_at dksX5_isIn_0 5 rfl rfl)
theorem dX5_isIn_6 : decode cX5_isIn 6 = .ok (.if_icmp .ne 7, 3) := dk_160 0 7 (dk_at dksX5_isIn_0 6 rfl rfl)
theorem dX5_isIn_9 : decode cX5_isIn 9 = .ok (.iconst 1, 1) := dk_4 (dk_at dksX5_isIn_0 9 rfl rfl)
theorem dX5_isIn_10 : decode cX5_isIn 10 = .ok (.goto 4, 3) := dk_167 0 4 (dk_at dksX5_isIn_0 10 rfl rfl)
theorem dX5_isIn_13 : decode cX5_isIn 13 = .ok (.iconst 0, 1) := dk_3 (dk_at dksX5_isIn_0 13 rfl rfl)
theorem dX5_isIn_14 : decode cX5_isIn 14 = .ok (.ireturn, 1) := dk_172 (dk_at dksX5_isIn_0 14 rfl rfl)
abbrev cX5_pullsOne : ByteArray := prog_12_method_36_code
def yX5_pullsOne : MethodName := ⟨RX5, "pullsOne", "(II)V"⟩
def dkwX5_pullsOne_5 : List UInt8 := [42, 180, 0, 58, 27, 46, 96, 79, 177]
abbrev dktX5_pullsOne_5 : List UInt8 := dkwX5_pullsOne_5 ++ []
def dkwX5_pullsOne_4 : List UInt8 := [180, 0, 55, 27, 92, 46, 42, 180, 0, 58, 27, 46, 96, 79, 42, 180, 0, 61, 27, 16, 8, 108, 92, 46]
abbrev dktX5_pullsOne_4 : List UInt8 := dkwX5_pullsOne_4 ++ dktX5_pullsOne_5
def dkwX5_pullsOne_3 : List UInt8 := [180, 0, 58, 27, 21, 4, 21, 5, 164, 0, 11, 21, 4, 21, 5, 100, 167, 0, 4, 3, 79, 42]
abbrev dktX5_pullsOne_3 : List UInt8 := dkwX5_pullsOne_3 ++ dktX5_pullsOne_4
def dkwX5_pullsOne_2 : List UInt8 := [54, 4, 42, 180, 0, 19, 27, 46, 5, 160, 0, 7, 3, 167, 0, 7, 42, 180, 0, 194, 54, 5, 42]
abbrev dktX5_pullsOne_2 : List UInt8 := dkwX5_pullsOne_2 ++ dktX5_pullsOne_3
def dkwX5_pullsOne_1 : List UInt8 := [96, 46, 62, 42, 180, 0, 187, 27, 184, 0, 190, 153, 0, 7, 3, 167, 0, 9, 42, 27, 29, 182, 0, 197]
abbrev dktX5_pullsOne_1 : List UInt8 := dkwX5_pullsOne_1 ++ dktX5_pullsOne_2
def dkwX5_pullsOne_0 : List UInt8 := [42, 180, 0, 184, 4, 160, 0, 7, 3, 167, 0, 17, 42, 180, 0, 43, 16, 24, 27, 16, 8, 108, 104, 28]
abbrev dktX5_pullsOne_0 : List UInt8 := dkwX5_pullsOne_0 ++ dktX5_pullsOne_1
theorem dksX5_pullsOne_0 : cX5_pullsOne.data.toList.drop 0 = dktX5_pullsOne_0 := by decide +kernel
theorem dksX5_pullsOne_1 : cX5_pullsOne.data.toList.drop 24 = dktX5_pullsOne_1 := dk_seg dksX5_pullsOne_0 24 rfl rfl
theorem dksX5_pullsOne_2 : cX5_pullsOne.data.toList.drop 48 = dktX5_pullsOne_2 := dk_seg dksX5_pullsOne_1 24 rfl rfl
theorem dksX5_pullsOne_3 : cX5_pullsOne.data.toList.drop 71 = dktX5_pullsOne_3 := dk_seg dksX5_pullsOne_2 23 rfl rfl
theorem dksX5_pullsOne_4 : cX5_pullsOne.data.toList.drop 93 = dktX5_pullsOne_4 := dk_seg dksX5_pullsOne_3 22 rfl rfl
theorem dksX5_pullsOne_5 : cX5_pullsOne.data.toList.drop 117 = dktX5_pullsOne_5 := dk_seg dksX5_pullsOne_4 24 rfl rfl
theorem dX5_pullsOne_0 : decode cX5_pullsOne 0 = .ok (.aload_n 0, 1) := dk_42 (dk_at dksX5_pullsOne_0 0 rfl rfl)
theorem dX5_pullsOne_1 : decode cX5_pullsOne 1 = .ok (.getfield 184, 3) := dk_180 0 184 (dk_at dksX5_pullsOne_0 1 rfl rfl)
theorem dX5_pullsOne_4 : decode cX5_pullsOne 4 = .ok (.iconst 1, 1) := dk_4 (dk_at dksX5_pullsOne_0 4 rfl rfl)
theorem dX5_pullsOne_5 : decode cX5_pullsOne 5 = .ok (.if_icmp .ne 7, 3) := dk_160 0 7 (dk_at dksX5_pullsOne_0 5 rfl rfl)
theorem dX5_pullsOne_8 : decode cX5_pullsOne 8 = .ok (.iconst 0, 1) := dk_3 (dk_at dksX5_pullsOne_0 8 rfl rfl)
theorem dX5_pullsOne_9 : decode cX5_pullsOne 9 = .ok (.goto 17, 3) := dk_167 0 17 (dk_at dksX5_pullsOne_0 9 rfl rfl)
theorem dX5_pullsOne_12 : decode cX5_pullsOne 12 = .ok (.aload_n 0, 1) := dk_42 (dk_at dksX5_pullsOne_0 12 rfl rfl)
theorem dX5_pullsOne_13 : decode cX5_pullsOne 13 = .ok (.getfield 43, 3) := dk_180 0 43 (dk_at dksX5_pullsOne_0 13 rfl rfl)
theorem dX5_pullsOne_16 : decode cX5_pullsOne 16 = .ok (.bipush 24, 2) := dk_16 24 (dk_at dksX5_pullsOne_0 16 rfl rfl)
theorem dX5_pullsOne_18 : decode cX5_pullsOne 18 = .ok (.iload_n 1, 1) := dk_27 (dk_at dksX5_pullsOne_0 18 rfl rfl)
theorem dX5_pullsOne_19 : decode cX5_pullsOne 19 = .ok (.bipush 8, 2) := dk_16 8 (dk_at dksX5_pullsOne_0 19 rfl rfl)
theorem dX5_pullsOne_21 : decode cX5_pullsOne 21 = .ok (.idiv, 1) := dk_108 (dk_at dksX5_pullsOne_0 21 rfl rfl)
theorem dX5_pullsOne_22 : decode cX5_pullsOne 22 = .ok (.imul, 1) := dk_104 (dk_at dksX5_pullsOne_0 22 rfl rfl)
theorem dX5_pullsOne_23 : decode cX5_pullsOne 23 = .ok (.iload_n 2, 1) := dk_28 (dk_at dksX5_pullsOne_0 23 rfl rfl)
theorem dX5_pullsOne_24 : decode cX5_pullsOne 24 = .ok (.iadd, 1) := dk_96 (dk_at dksX5_pullsOne_1 0 rfl rfl)
theorem dX5_pullsOne_25 : decode cX5_pullsOne 25 = .ok (.iaload, 1) := dk_46 (dk_at dksX5_pullsOne_1 1 rfl rfl)
theorem dX5_pullsOne_26 : decode cX5_pullsOne 26 = .ok (.istore_n 3, 1) := dk_62 (dk_at dksX5_pullsOne_1 2 rfl rfl)
theorem dX5_pullsOne_27 : decode cX5_pullsOne 27 = .ok (.aload_n 0, 1) := dk_42 (dk_at dksX5_pullsOne_1 3 rfl rfl)
theorem dX5_pullsOne_28 : decode cX5_pullsOne 28 = .ok (.getfield 187, 3) := dk_180 0 187 (dk_at dksX5_pullsOne_1 4 rfl rfl)
theorem dX5_pullsOne_31 : decode cX5_pullsOne 31 = .ok (.iload_n 1, 1) := dk_27 (dk_at dksX5_pullsOne_1 7 rfl rfl)
theorem dX5_pullsOne_32 : decode cX5_pullsOne 32 = .ok (.invokestatic 190, 3) := dk_184 0 190 (dk_at dksX5_pullsOne_1 8 rfl rfl)
theorem dX5_pullsOne_35 : decode cX5_pullsOne 35 = .ok (.ifCond .eq 7, 3) := dk_153 0 7 (dk_at dksX5_pullsOne_1 11 rfl rfl)
theorem dX5_pullsOne_38 : decode cX5_pullsOne 38 = .ok (.iconst 0, 1) := dk_3 (dk_at dksX5_pullsOne_1 14 rfl rfl)
theorem dX5_pullsOne_39 : decode cX5_pullsOne 39 = .ok (.goto 9, 3) := dk_167 0 9 (dk_at dksX5_pullsOne_1 15 rfl rfl)
theorem dX5_pullsOne_42 : decode cX5_pullsOne 42 = .ok (.aload_n 0, 1) := dk_42 (dk_at dksX5_pullsOne_1 18 rfl rfl)
theorem dX5_pullsOne_43 : decode cX5_pullsOne 43 = .ok (.iload_n 1, 1) := dk_27 (dk_at dksX5_pullsOne_1 19 rfl rfl)
theorem dX5_pullsOne_44 : decode cX5_pullsOne 44 = .ok (.iload_n 3, 1) := dk_29 (dk_at dksX5_pullsOne_1 20 rfl rfl)
theorem dX5_pullsOne_45 : decode cX5_pullsOne 45 = .ok (.invokevirtual 197, 3) := dk_182 0 197 (dk_at dksX5_pullsOne_1 21 rfl rfl)
theorem dX5_pullsOne_48 : decode cX5_pullsOne 48 = .ok (.istore 4, 2) := dk_54 4 (dk_at dksX5_pullsOne_2 0 rfl rfl)
theorem dX5_pullsOne_50 : decode cX5_pullsOne 50 = .ok (.aload_n 0, 1) := dk_42 (dk_at dksX5_pullsOne_2 2 rfl rfl)
theorem dX5_pullsOne_51 : decode cX5_pullsOne 51 = .ok (.getfield 19, 3) := dk_180 0 19 (dk_at dksX5_pullsOne_2 3 rfl rfl)
theorem dX5_pullsOne_54 : decode cX5_pullsOne 54 = .ok (.iload_n 1, 1) := dk_27 (dk_at dksX5_pullsOne_2 6 rfl rfl)
theorem dX5_pullsOne_55 : decode cX5_pullsOne 55 = .ok (.iaload, 1) := dk_46 (dk_at dksX5_pullsOne_2 7 rfl rfl)
theorem dX5_pullsOne_56 : decode cX5_pullsOne 56 = .ok (.iconst 2, 1) := dk_5 (dk_at dksX5_pullsOne_2 8 rfl rfl)
theorem dX5_pullsOne_57 : decode cX5_pullsOne 57 = .ok (.if_icmp .ne 7, 3) := dk_160 0 7 (dk_at dksX5_pullsOne_2 9 rfl rfl)
theorem dX5_pullsOne_60 : decode cX5_pullsOne 60 = .ok (.iconst 0, 1) := dk_3 (dk_at dksX5_pullsOne_2 12 rfl rfl)
theorem dX5_pullsOne_61 : decode cX5_pullsOne 61 = .ok (.goto 7, 3) := dk_167 0 7 (dk_at dksX5_pullsOne_2 13 rfl rfl)
theorem dX5_pullsOne_64 : decode cX5_pullsOne 64 = .ok (.aload_n 0, 1) := dk_42 (dk_at dksX5_pullsOne_2 16 rfl rfl)
theorem dX5_pullsOne_65 : decode cX5_pullsOne 65 = .ok (.getfield 194, 3) := dk_180 0 194 (dk_at dksX5_pullsOne_2 17 rfl rfl)
theorem dX5_pullsOne_68 : decode cX5_pullsOne 68 = .ok (.istore 5, 2) := dk_54 5 (dk_at dksX5_pullsOne_2 20 rfl rfl)
theorem dX5_pullsOne_70 : decode cX5_pullsOne 70 = .ok (.aload_n 0, 1) := dk_42 (dk_at dksX5_pullsOne_2 22 rfl rfl)
theorem dX5_pullsOne_71 : decode cX5_pullsOne 71 = .ok (.getfield 58, 3) := dk_180 0 58 (dk_at dksX5_pullsOne_3 0 rfl rfl)
theorem dX5_pullsOne_74 : decode cX5_pullsOne 74 = .ok (.iload_n 1, 1) := dk_27 (dk_at dksX5_pullsOne_3 3 rfl rfl)
theorem dX5_pullsOne_75 : decode cX5_pullsOne 75 = .ok (.iload 4, 2) := dk_21 4 (dk_at dksX5_pullsOne_3 4 rfl rfl)
theorem dX5_pullsOne_77 : decode cX5_pullsOne 77 = .ok (.iload 5, 2) := dk_21 5 (dk_at dksX5_pullsOne_3 6 rfl rfl)
theorem dX5_pullsOne_79 : decode cX5_pullsOne 79 = .ok (.if_icmp .le 11, 3) := dk_164 0 11 (dk_at dksX5_pullsOne_3 8 rfl rfl)
theorem dX5_pullsOne_82 : decode cX5_pullsOne 82 = .ok (.iload 4, 2) := dk_21 4 (dk_at dksX5_pullsOne_3 11 rfl rfl)
theorem dX5_pullsOne_84 : decode cX5_pullsOne 84 = .ok (.iload 5, 2) := dk_21 5 (dk_at dksX5_pullsOne_3 13 rfl rfl)
theorem dX5_pullsOne_86 : decode cX5_pullsOne 86 = .ok (.isub, 1) := dk_100 (dk_at dksX5_pullsOne_3 15 rfl rfl)
theorem dX5_pullsOne_87 : decode cX5_pullsOne 87 = .ok (.goto 4, 3) := dk_167 0 4 (dk_at dksX5_pullsOne_3 16 rfl rfl)
theorem dX5_pullsOne_90 : decode cX5_pullsOne 90 = .ok (.iconst 0, 1) := dk_3 (dk_at dksX5_pullsOne_3 19 rfl rfl)
theorem dX5_pullsOne_91 : decode cX5_pullsOne 91 = .ok (.iastore, 1) := dk_79 (dk_at dksX5_pullsOne_3 20 rfl rfl)
theorem dX5_pullsOne_92 : decode cX5_pullsOne 92 = .ok (.aload_n 0, 1) := dk_42 (dk_at dksX5_pullsOne_3 21 rfl rfl)
theorem dX5_pullsOne_93 : decode cX5_pullsOne 93 = .ok (.getfield 55, 3) := dk_180 0 55 (dk_at dksX5_pullsOne_4 0 rfl rfl)
theorem dX5_pullsOne_96 : decode cX5_pullsOne 96 = .ok (.iload_n 1, 1) := dk_27 (dk_at dksX5_pullsOne_4 3 rfl rfl)
theorem dX5_pullsOne_97 : decode cX5_pullsOne 97 = .ok (.dup2, 1) := dk_92 (dk_at dksX5_pullsOne_4 4 rfl rfl)
theorem dX5_pullsOne_98 : decode cX5_pullsOne 98 = .ok (.iaload, 1) := dk_46 (dk_at dksX5_pullsOne_4 5 rfl rfl)
theorem dX5_pullsOne_99 : decode cX5_pullsOne 99 = .ok (.aload_n 0, 1) := dk_42 (dk_at dksX5_pullsOne_4 6 rfl rfl)
theorem dX5_pullsOne_100 : decode cX5_pullsOne 100 = .ok (.getfield 58, 3) := dk_180 0 58 (dk_at dksX5_pullsOne_4 7 rfl rfl)
theorem dX5_pullsOne_103 : decode cX5_pullsOne 103 = .ok (.iload_n 1, 1) := dk_27 (dk_at dksX5_pullsOne_4 10 rfl rfl)
theorem dX5_pullsOne_104 : decode cX5_pullsOne 104 = .ok (.iaload, 1) := dk_46 (dk_at dksX5_pullsOne_4 11 rfl rfl)
theorem dX5_pullsOne_105 : decode cX5_pullsOne 105 = .ok (.iadd, 1) := dk_96 (dk_at dksX5_pullsOne_4 12 rfl rfl)
theorem dX5_pullsOne_106 : decode cX5_pullsOne 106 = .ok (.iastore, 1) := dk_79 (dk_at dksX5_pullsOne_4 13 rfl rfl)
theorem dX5_pullsOne_107 : decode cX5_pullsOne 107 = .ok (.aload_n 0, 1) := dk_42 (dk_at dksX5_pullsOne_4 14 rfl rfl)
theorem dX5_pullsOne_108 : decode cX5_pullsOne 108 = .ok (.getfield 61, 3) := dk_180 0 61 (dk_at dksX5_pullsOne_4 15 rfl rfl)
theorem dX5_pullsOne_111 : decode cX5_pullsOne 111 = .ok (.iload_n 1, 1) := dk_27 (dk_at dksX5_pullsOne_4 18 rfl rfl)
theorem dX5_pullsOne_112 : decode cX5_pullsOne 112 = .ok (.bipush 8, 2) := dk_16 8 (dk_at dksX5_pullsOne_4 19 rfl rfl)
theorem dX5_pullsOne_114 : decode cX5_pullsOne 114 = .ok (.idiv, 1) := dk_108 (dk_at dksX5_pullsOne_4 21 rfl rfl)
theorem dX5_pullsOne_115 : decode cX5_pullsOne 115 = .ok (.dup2, 1) := dk_92 (dk_at dksX5_pullsOne_4 22 rfl rfl)
theorem dX5_pullsOne_116 : decode cX5_pullsOne 116 = .ok (.iaload, 1) := dk_46 (dk_at dksX5_pullsOne_4 23 rfl rfl)
theorem dX5_pullsOne_117 : decode cX5_pullsOne 117 = .ok (.aload_n 0, 1) := dk_42 (dk_at dksX5_pullsOne_5 0 rfl rfl)
theorem dX5_pullsOne_118 : decode cX5_pullsOne 118 = .ok (.getfield 58, 3) := dk_180 0 58 (dk_at dksX5_pullsOne_5 1 rfl rfl)
theorem dX5_pullsOne_121 : decode cX5_pullsOne 121 = .ok (.iload_n 1, 1) := dk_27 (dk_at dksX5_pullsOne_5 4 rfl rfl)
theorem dX5_pullsOne_122 : decode cX5_pullsOne 122 = .ok (.iaload, 1) := dk_46 (dk_at dksX5_pullsOne_5 5 rfl rfl)
theorem dX5_pullsOne_123 : decode cX5_pullsOne 123 = .ok (.iadd, 1) := dk_96 (dk_at dksX5_pullsOne_5 6 rfl rfl)
theorem dX5_pullsOne_124 : decode cX5_pullsOne 124 = .ok (.iastore, 1) := dk_79 (dk_at dksX5_pullsOne_5 7 rfl rfl)
theorem dX5_pullsOne_125 : decode cX5_pullsOne 125 = .ok (.return_, 1) := dk_177 (dk_at dksX5_pullsOne_5 8 rfl rfl)
abbrev cX5_strength : ByteArray := prog_12_method_35_code
def yX5_strength : MethodName := ⟨RX5, "strength", "(II)I"⟩
def dkwX5_strength_9 : List UInt8 := [96, 172]
abbrev dktX5_strength_9 : List UInt8 := dkwX5_strength_9 ++ []
def dkwX5_strength_8 : List UInt8 := [180, 0, 52, 27, 92, 46, 4, 100, 79, 42, 180, 0, 22, 27, 46, 29, 153, 0, 7, 5, 167, 0, 4, 3]
abbrev dktX5_strength_8 : List UInt8 := dkwX5_strength_8 ++ dktX5_strength_9
def dkwX5_strength_7 : List UInt8 := [153, 0, 7, 5, 167, 0, 4, 3, 96, 172, 42, 180, 0, 52, 27, 46, 154, 0, 5, 3, 172, 42]
abbrev dktX5_strength_7 : List UInt8 := dkwX5_strength_7 ++ dktX5_strength_8
def dkwX5_strength_6 : List UInt8 := [161, 0, 33, 42, 180, 0, 52, 27, 92, 46, 21, 4, 100, 79, 5, 42, 180, 0, 22, 27, 46, 104, 29]
abbrev dktX5_strength_6 : List UInt8 := dkwX5_strength_6 ++ dktX5_strength_7
def dkwX5_strength_5 : List UInt8 := [46, 154, 0, 7, 4, 167, 0, 4, 5, 54, 4, 28, 5, 160, 0, 44, 42, 180, 0, 52, 27, 46, 21, 4]
abbrev dktX5_strength_5 : List UInt8 := dkwX5_strength_5 ++ dktX5_strength_6
def dkwX5_strength_4 : List UInt8 := [21, 4, 96, 79, 29, 153, 0, 12, 42, 180, 0, 22, 27, 46, 167, 0, 4, 3, 172, 42, 180, 0, 19, 27]
abbrev dktX5_strength_4 : List UInt8 := dkwX5_strength_4 ++ dktX5_strength_5
def dkwX5_strength_3 : List UInt8 := [42, 180, 0, 25, 27, 46, 164, 0, 12, 42, 180, 0, 25, 27, 46, 167, 0, 12, 42, 180, 0, 52, 27, 46]
abbrev dktX5_strength_3 : List UInt8 := dkwX5_strength_3 ++ dktX5_strength_4
def dkwX5_strength_2 : List UInt8 := [160, 0, 7, 5, 167, 0, 4, 4, 54, 4, 42, 180, 0, 52, 27, 42, 180, 0, 52, 27, 46, 21, 4, 96]
abbrev dktX5_strength_2 : List UInt8 := dkwX5_strength_2 ++ dktX5_strength_3
def dkwX5_strength_1 : List UInt8 := [167, 0, 4, 3, 62, 28, 154, 0, 85, 29, 153, 0, 7, 3, 167, 0, 18, 42, 180, 0, 19, 27, 46, 4]
abbrev dktX5_strength_1 : List UInt8 := dkwX5_strength_1 ++ dktX5_strength_2
def dkwX5_strength_0 : List UInt8 := [42, 180, 0, 19, 27, 46, 5, 160, 0, 20, 42, 180, 0, 49, 27, 16, 8, 108, 46, 27, 160, 0, 7, 4]
abbrev dktX5_strength_0 : List UInt8 := dkwX5_strength_0 ++ dktX5_strength_1
theorem dksX5_strength_0 : cX5_strength.data.toList.drop 0 = dktX5_strength_0 := by decide +kernel
theorem dksX5_strength_1 : cX5_strength.data.toList.drop 24 = dktX5_strength_1 := dk_seg dksX5_strength_0 24 rfl rfl
theorem dksX5_strength_2 : cX5_strength.data.toList.drop 48 = dktX5_strength_2 := dk_seg dksX5_strength_1 24 rfl rfl
theorem dksX5_strength_3 : cX5_strength.data.toList.drop 72 = dktX5_strength_3 := dk_seg dksX5_strength_2 24 rfl rfl
theorem dksX5_strength_4 : cX5_strength.data.toList.drop 96 = dktX5_strength_4 := dk_seg dksX5_strength_3 24 rfl rfl
theorem dksX5_strength_5 : cX5_strength.data.toList.drop 120 = dktX5_strength_5 := dk_seg dksX5_strength_4 24 rfl rfl
theorem dksX5_strength_6 : cX5_strength.data.toList.drop 144 = dktX5_strength_6 := dk_seg dksX5_strength_5 24 rfl rfl
theorem dksX5_strength_7 : cX5_strength.data.toList.drop 167 = dktX5_strength_7 := dk_seg dksX5_strength_6 23 rfl rfl
theorem dksX5_strength_8 : cX5_strength.data.toList.drop 189 = dktX5_strength_8 := dk_seg dksX5_strength_7 22 rfl rfl
theorem dksX5_strength_9 : cX5_strength.data.toList.drop 213 = dktX5_strength_9 := dk_seg dksX5_strength_8 24 rfl rfl
theorem dX5_strength_0 : decode cX5_strength 0 = .ok (.aload_n 0, 1) := dk_42 (dk_at dksX5_strength_0 0 rfl rfl)
theorem dX5_strength_1 : decode cX5_strength 1 = .ok (.getfield 19, 3) := dk_180 0 19 (dk_at dksX5_strength_0 1 rfl rfl)
theorem dX5_strength_4 : decode cX5_strength 4 = .ok (.iload_n 1, 1) := dk_27 (dk_at dksX5_strength_0 4 rfl rfl)
theorem dX5_strength_5 : decode cX5_strength 5 = .ok (.iaload, 1) := dk_46 (dk_at dksX5_strength_0 5 rfl rfl)
theorem dX5_strength_6 : decode cX5_strength 6 = .ok (.iconst 2, 1) := dk_5 (dk_at dksX5_strength_0 6 rfl rfl)
theorem dX5_strength_7 : decode cX5_strength 7 = .ok (.if_icmp .ne 20, 3) := dk_160 0 20 (dk_at dksX5_strength_0 7 rfl rfl)
theorem dX5_strength_10 : decode cX5_strength 10 = .ok (.aload_n 0, 1) := dk_42 (dk_at dksX5_strength_0 10 rfl rfl)
theorem dX5_strength_11 : decode cX5_strength 11 = .ok (.getfield 49, 3) := dk_180 0 49 (dk_at dksX5_strength_0 11 rfl rfl)
theorem dX5_strength_14 : decode cX5_strength 14 = .ok (.iload_n 1, 1) := dk_27 (dk_at dksX5_strength_0 14 rfl rfl)
theorem dX5_strength_15 : decode cX5_strength 15 = .ok (.bipush 8, 2) := dk_16 8 (dk_at dksX5_strength_0 15 rfl rfl)
theorem dX5_strength_17 : decode cX5_strength 17 = .ok (.idiv, 1) := dk_108 (dk_at dksX5_strength_0 17 rfl rfl)
theorem dX5_strength_18 : decode cX5_strength 18 = .ok (.iaload, 1) := dk_46 (dk_at dksX5_strength_0 18 rfl rfl)
theorem dX5_strength_19 : decode cX5_strength 19 = .ok (.iload_n 1, 1) := dk_27 (dk_at dksX5_strength_0 19 rfl rfl)
theorem dX5_strength_20 : decode cX5_strength 20 = .ok (.if_icmp .ne 7, 3) := dk_160 0 7 (dk_at dksX5_strength_0 20 rfl rfl)
theorem dX5_strength_23 : decode cX5_strength 23 = .ok (.iconst 1, 1) := dk_4 (dk_at dksX5_strength_0 23 rfl rfl)
theorem dX5_strength_24 : decode cX5_strength 24 = .ok (.goto 4, 3) := dk_167 0 4 (dk_at dksX5_strength_1 0 rfl rfl)
theorem dX5_strength_27 : decode cX5_strength 27 = .ok (.iconst 0, 1) := dk_3 (dk_at dksX5_strength_1 3 rfl rfl)
theorem dX5_strength_28 : decode cX5_strength 28 = .ok (.istore_n 3, 1) := dk_62 (dk_at dksX5_strength_1 4 rfl rfl)
theorem dX5_strength_29 : decode cX5_strength 29 = .ok (.iload_n 2, 1) := dk_28 (dk_at dksX5_strength_1 5 rfl rfl)
theorem dX5_strength_30 : decode cX5_strength 30 = .ok (.ifCond .ne 85, 3) := dk_154 0 85 (dk_at dksX5_strength_1 6 rfl rfl)
theorem dX5_strength_33 : decode cX5_strength 33 = .ok (.iload_n 3, 1) := dk_29 (dk_at dksX5_strength_1 9 rfl rfl)
theorem dX5_strength_34 : decode cX5_strength 34 = .ok (.ifCond .eq 7, 3) := dk_153 0 7 (dk_at dksX5_strength_1 10 rfl rfl)
theorem dX5_strength_37 : decode cX5_strength 37 = .ok (.iconst 0, 1) := dk_3 (dk_at dksX5_strength_1 13 rfl rfl)
theorem dX5_strength_38 : decode cX5_strength 38 = .ok (.goto 18, 3) := dk_167 0 18 (dk_at dksX5_strength_1 14 rfl rfl)
theorem dX5_strength_41 : decode cX5_strength 41 = .ok (.aload_n 0, 1) := dk_42 (dk_at dksX5_strength_1 17 rfl rfl)
theorem dX5_strength_42 : decode cX5_strength 42 = .ok (.getfield 19, 3) := dk_180 0 19 (dk_at dksX5_strength_1 18 rfl rfl)
theorem dX5_strength_45 : decode cX5_strength 45 = .ok (.iload_n 1, 1) := dk_27 (dk_at dksX5_strength_1 21 rfl rfl)
theorem dX5_strength_46 : decode cX5_strength 46 = .ok (.iaload, 1) := dk_46 (dk_at dksX5_strength_1 22 rfl rfl)
theorem dX5_strength_47 : decode cX5_strength 47 = .ok (.iconst 1, 1) := dk_4 (dk_at dksX5_strength_1 23 rfl rfl)
theorem dX5_strength_48 : decode cX5_strength 48 = .ok (.if_icmp .ne 7, 3) := dk_160 0 7 (dk_at dksX5_strength_2 0 rfl rfl)
theorem dX5_strength_51 : decode cX5_strength 51 = .ok (.iconst 2, 1) := dk_5 (dk_at dksX5_strength_2 3 rfl rfl)
theorem dX5_strength_52 : decode cX5_strength 52 = .ok (.goto 4, 3) := dk_167 0 4 (dk_at dksX5_strength_2 4 rfl rfl)
theorem dX5_strength_55 : decode cX5_strength 55 = .ok (.iconst 1, 1) := dk_4 (dk_at dksX5_strength_2 7 rfl rfl)
theorem dX5_strength_56 : decode cX5_strength 56 = .ok (.istore 4, 2) := dk_54 4 (dk_at dksX5_strength_2 8 rfl rfl)
theorem dX5_strength_58 : decode cX5_strength 58 = .ok (.aload_n 0, 1) := dk_42 (dk_at dksX5_strength_2 10 rfl rfl)
theorem dX5_strength_59 : decode cX5_strength 59 = .ok (.getfield 52, 3) := dk_180 0 52 (dk_at dksX5_strength_2 11 rfl rfl)
theorem dX5_strength_62 : decode cX5_strength 62 = .ok (.iload_n 1, 1) := dk_27 (dk_at dksX5_strength_2 14 rfl rfl)
theorem dX5_strength_63 : decode cX5_strength 63 = .ok (.aload_n 0, 1) := dk_42 (dk_at dksX5_strength_2 15 rfl rfl)
theorem dX5_strength_64 : decode cX5_strength 64 = .ok (.getfield 52, 3) := dk_180 0 52 (dk_at dksX5_strength_2 16 rfl rfl)
theorem dX5_strength_67 : decode cX5_strength 67 = .ok (.iload_n 1, 1) := dk_27 (dk_at dksX5_strength_2 19 rfl rfl)
theorem dX5_strength_68 : decode cX5_strength 68 = .ok (.iaload, 1) := dk_46 (dk_at dksX5_strength_2 20 rfl rfl)
theorem dX5_strength_69 : decode cX5_strength 69 = .ok (.iload 4, 2) := dk_21 4 (dk_at dksX5_strength_2 21 rfl rfl)
theorem dX5_strength_71 : decode cX5_strength 71 = .ok (.iadd, 1) := dk_96 (dk_at dksX5_strength_2 23 rfl rfl)
theorem dX5_strength_72 : decode cX5_strength 72 = .ok (.aload_n 0, 1) := dk_42 (dk_at dksX5_strength_3 0 rfl rfl)
theorem dX5_strength_73 : decode cX5_strength 73 = .ok (.getfield 25, 3) := dk_180 0 25 (dk_at dksX5_strength_3 1 rfl rfl)
theorem dX5_strength_76 : decode cX5_strength 76 = .ok (.iload_n 1, 1) := dk_27 (dk_at dksX5_strength_3 4 rfl rfl)
theorem dX5_strength_77 : decode cX5_strength 77 = .ok (.iaload, 1) := dk_46 (dk_at dksX5_strength_3 5 rfl rfl)
theorem dX5_strength_78 : decode cX5_strength 78 = .ok (.if_icmp .le 12, 3) := dk_164 0 12 (dk_at dksX5_strength_3 6 rfl rfl)
theorem dX5_strength_81 : decode cX5_strength 81 = .ok (.aload_n 0, 1) := dk_42 (dk_at dksX5_strength_3 9 rfl rfl)
theorem dX5_strength_82 : decode cX5_strength 82 = .ok (.getfield 25, 3) := dk_180 0 25 (dk_at dksX5_strength_3 10 rfl rfl)
theorem dX5_strength_85 : decode cX5_strength 85 = .ok (.iload_n 1, 1) := dk_27 (dk_at dksX5_strength_3 13 rfl rfl)
theorem dX5_strength_86 : decode cX5_strength 86 = .ok (.iaload, 1) := dk_46 (dk_at dksX5_strength_3 14 rfl rfl)
theorem dX5_strength_87 : decode cX5_strength 87 = .ok (.goto 12, 3) := dk_167 0 12 (dk_at dksX5_strength_3 15 rfl rfl)
theorem dX5_strength_90 : decode cX5_strength 90 = .ok (.aload_n 0, 1) := dk_42 (dk_at dksX5_strength_3 18 rfl rfl)
theorem dX5_strength_91 : decode cX5_strength 91 = .ok (.getfield 52, 3) := dk_180 0 52 (dk_at dksX5_strength_3 19 rfl rfl)
theorem dX5_strength_94 : decode cX5_strength 94 = .ok (.iload_n 1, 1) := dk_27 (dk_at dksX5_strength_3 22 rfl rfl)
theorem dX5_strength_95 : decode cX5_strength 95 = .ok (.iaload, 1) := dk_46 (dk_at dksX5_strength_3 23 rfl rfl)
theorem dX5_strength_96 : decode cX5_strength 96 = .ok (.iload 4, 2) := dk_21 4 (dk_at dksX5_strength_4 0 rfl rfl)
theorem dX5_strength_98 : decode cX5_strength 98 = .ok (.iadd, 1) := dk_96 (dk_at dksX5_strength_4 2 rfl rfl)
theorem dX5_strength_99 : decode cX5_strength 99 = .ok (.iastore, 1) := dk_79 (dk_at dksX5_strength_4 3 rfl rfl)
theorem dX5_strength_100 : decode cX5_strength 100 = .ok (.iload_n 3, 1) := dk_29 (dk_at dksX5_strength_4 4 rfl rfl)
theorem dX5_strength_101 : decode cX5_strength 101 = .ok (.ifCond .eq 12, 3) := dk_153 0 12 (dk_at dksX5_strength_4 5 rfl rfl)
theorem dX5_strength_104 : decode cX5_strength 104 = .ok (.aload_n 0, 1) := dk_42 (dk_at dksX5_strength_4 8 rfl rfl)
theorem dX5_strength_105 : decode cX5_strength 105 = .ok (.getfield 22, 3) := dk_180 0 22 (dk_at dksX5_strength_4 9 rfl rfl)
theorem dX5_strength_108 : decode cX5_strength 108 = .ok (.iload_n 1, 1) := dk_27 (dk_at dksX5_strength_4 12 rfl rfl)
theorem dX5_strength_109 : decode cX5_strength 109 = .ok (.iaload, 1) := dk_46 (dk_at dksX5_strength_4 13 rfl rfl)
theorem dX5_strength_110 : decode cX5_strength 110 = .ok (.goto 4, 3) := dk_167 0 4 (dk_at dksX5_strength_4 14 rfl rfl)
theorem dX5_strength_113 : decode cX5_strength 113 = .ok (.iconst 0, 1) := dk_3 (dk_at dksX5_strength_4 17 rfl rfl)
theorem dX5_strength_114 : decode cX5_strength 114 = .ok (.ireturn, 1) := dk_172 (dk_at dksX5_strength_4 18 rfl rfl)
theorem dX5_strength_115 : decode cX5_strength 115 = .ok (.aload_n 0, 1) := dk_42 (dk_at dksX5_strength_4 19 rfl rfl)
theorem dX5_strength_116 : decode cX5_strength 116 = .ok (.getfield 19, 3) := dk_180 0 19 (dk_at dksX5_strength_4 20 rfl rfl)
theorem dX5_strength_119 : decode cX5_strength 119 = .ok (.iload_n 1, 1) := dk_27 (dk_at dksX5_strength_4 23 rfl rfl)
theorem dX5_strength_120 : decode cX5_strength 120 = .ok (.iaload, 1) := dk_46 (dk_at dksX5_strength_5 0 rfl rfl)
theorem dX5_strength_121 : decode cX5_strength 121 = .ok (.ifCond .ne 7, 3) := dk_154 0 7 (dk_at dksX5_strength_5 1 rfl rfl)
theorem dX5_strength_124 : decode cX5_strength 124 = .ok (.iconst 1, 1) := dk_4 (dk_at dksX5_strength_5 4 rfl rfl)
theorem dX5_strength_125 : decode cX5_strength 125 = .ok (.goto 4, 3) := dk_167 0 4 (dk_at dksX5_strength_5 5 rfl rfl)
theorem dX5_strength_128 : decode cX5_strength 128 = .ok (.iconst 2, 1) := dk_5 (dk_at dksX5_strength_5 8 rfl rfl)
theorem dX5_strength_129 : decode cX5_strength 129 = .ok (.istore 4, 2) := dk_54 4 (dk_at dksX5_strength_5 9 rfl rfl)
theorem dX5_strength_131 : decode cX5_strength 131 = .ok (.iload_n 2, 1) := dk_28 (dk_at dksX5_strength_5 11 rfl rfl)
theorem dX5_strength_132 : decode cX5_strength 132 = .ok (.iconst 2, 1) := dk_5 (dk_at dksX5_strength_5 12 rfl rfl)
theorem dX5_strength_133 : decode cX5_strength 133 = .ok (.if_icmp .ne 44, 3) := dk_160 0 44 (dk_at dksX5_strength_5 13 rfl rfl)
theorem dX5_strength_136 : decode cX5_strength 136 = .ok (.aload_n 0, 1) := dk_42 (dk_at dksX5_strength_5 16 rfl rfl)
theorem dX5_strength_137 : decode cX5_strength 137 = .ok (.getfield 52, 3) := dk_180 0 52 (dk_at dksX5_strength_5 17 rfl rfl)
theorem dX5_strength_140 : decode cX5_strength 140 = .ok (.iload_n 1, 1) := dk_27 (dk_at dksX5_strength_5 20 rfl rfl)
theorem dX5_strength_141 : decode cX5_strength 141 = .ok (.iaload, 1) := dk_46 (dk_at dksX5_strength_5 21 rfl rfl)
theorem dX5_strength_142 : decode cX5_strength 142 = .ok (.iload 4, 2) := dk_21 4 (dk_at dksX5_strength_5 22 rfl rfl)
theorem dX5_strength_144 : decode cX5_strength 144 = .ok (.if_icmp .lt 33, 3) := dk_161 0 33 (dk_at dksX5_strength_6 0 rfl rfl)
theorem dX5_strength_147 : decode cX5_strength 147 = .ok (.aload_n 0, 1) := dk_42 (dk_at dksX5_strength_6 3 rfl rfl)
theorem dX5_strength_148 : decode cX5_strength 148 = .ok (.getfield 52, 3) := dk_180 0 52 (dk_at dksX5_strength_6 4 rfl rfl)
theorem dX5_strength_151 : decode cX5_strength 151 = .ok (.iload_n 1, 1) := dk_27 (dk_at dksX5_strength_6 7 rfl rfl)
theorem dX5_strength_152 : decode cX5_strength 152 = .ok (.dup2, 1) := dk_92 (dk_at dksX5_strength_6 8 rfl rfl)
theorem dX5_strength_153 : decode cX5_strength 153 = .ok (.iaload, 1) := dk_46 (dk_at dksX5_strength_6 9 rfl rfl)
theorem dX5_strength_154 : decode cX5_strength 154 = .ok (.iload 4, 2) := dk_21 4 (dk_at dksX5_strength_6 10 rfl rfl)
theorem dX5_strength_156 : decode cX5_strength 156 = .ok (.isub, 1) := dk_100 (dk_at dksX5_strength_6 12 rfl rfl)
theorem dX5_strength_157 : decode cX5_strength 157 = .ok (.iastore, 1) := dk_79 (dk_at dksX5_strength_6 13 rfl rfl)
theorem dX5_strength_158 : decode cX5_strength 158 = .ok (.iconst 2, 1) := dk_5 (dk_at dksX5_strength_6 14 rfl rfl)
theorem dX5_strength_159 : decode cX5_strength 159 = .ok (.aload_n 0, 1) := dk_42 (dk_at dksX5_strength_6 15 rfl rfl)
theorem dX5_strength_160 : decode cX5_strength 160 = .ok (.getfield 22, 3) := dk_180 0 22 (dk_at dksX5_strength_6 16 rfl rfl)
theorem dX5_strength_163 : decode cX5_strength 163 = .ok (.iload_n 1, 1) := dk_27 (dk_at dksX5_strength_6 19 rfl rfl)
theorem dX5_strength_164 : decode cX5_strength 164 = .ok (.iaload, 1) := dk_46 (dk_at dksX5_strength_6 20 rfl rfl)
theorem dX5_strength_165 : decode cX5_strength 165 = .ok (.imul, 1) := dk_104 (dk_at dksX5_strength_6 21 rfl rfl)
theorem dX5_strength_166 : decode cX5_strength 166 = .ok (.iload_n 3, 1) := dk_29 (dk_at dksX5_strength_6 22 rfl rfl)
theorem dX5_strength_167 : decode cX5_strength 167 = .ok (.ifCond .eq 7, 3) := dk_153 0 7 (dk_at dksX5_strength_7 0 rfl rfl)
theorem dX5_strength_170 : decode cX5_strength 170 = .ok (.iconst 2, 1) := dk_5 (dk_at dksX5_strength_7 3 rfl rfl)
theorem dX5_strength_171 : decode cX5_strength 171 = .ok (.goto 4, 3) := dk_167 0 4 (dk_at dksX5_strength_7 4 rfl rfl)
theorem dX5_strength_174 : decode cX5_strength 174 = .ok (.iconst 0, 1) := dk_3 (dk_at dksX5_strength_7 7 rfl rfl)
theorem dX5_strength_175 : decode cX5_strength 175 = .ok (.iadd, 1) := dk_96 (dk_at dksX5_strength_7 8 rfl rfl)
theorem dX5_strength_176 : decode cX5_strength 176 = .ok (.ireturn, 1) := dk_172 (dk_at dksX5_strength_7 9 rfl rfl)
theorem dX5_strength_177 : decode cX5_strength 177 = .ok (.aload_n 0, 1) := dk_42 (dk_at dksX5_strength_7 10 rfl rfl)
theorem dX5_strength_178 : decode cX5_strength 178 = .ok (.getfield 52, 3) := dk_180 0 52 (dk_at dksX5_strength_7 11 rfl rfl)
theorem dX5_strength_181 : decode cX5_strength 181 = .ok (.iload_n 1, 1) := dk_27 (dk_at dksX5_strength_7 14 rfl rfl)
theorem dX5_strength_182 : decode cX5_strength 182 = .ok (.iaload, 1) := dk_46 (dk_at dksX5_strength_7 15 rfl rfl)
theorem dX5_strength_183 : decode cX5_strength 183 = .ok (.ifCond .ne 5, 3) := dk_154 0 5 (dk_at dksX5_strength_7 16 rfl rfl)
theorem dX5_strength_186 : decode cX5_strength 186 = .ok (.iconst 0, 1) := dk_3 (dk_at dksX5_strength_7 19 rfl rfl)
theorem dX5_strength_187 : decode cX5_strength 187 = .ok (.ireturn, 1) := dk_172 (dk_at dksX5_strength_7 20 rfl rfl)
theorem dX5_strength_188 : decode cX5_strength 188 = .ok (.aload_n 0, 1) := dk_42 (dk_at dksX5_strength_7 21 rfl rfl)
theorem dX5_strength_189 : decode cX5_strength 189 = .ok (.getfield 52, 3) := dk_180 0 52 (dk_at dksX5_strength_8 0 rfl rfl)
theorem dX5_strength_192 : decode cX5_strength 192 = .ok (.iload_n 1, 1) := dk_27 (dk_at dksX5_strength_8 3 rfl rfl)
theorem dX5_strength_193 : decode cX5_strength 193 = .ok (.dup2, 1) := dk_92 (dk_at dksX5_strength_8 4 rfl rfl)
theorem dX5_strength_194 : decode cX5_strength 194 = .ok (.iaload, 1) := dk_46 (dk_at dksX5_strength_8 5 rfl rfl)
theorem dX5_strength_195 : decode cX5_strength 195 = .ok (.iconst 1, 1) := dk_4 (dk_at dksX5_strength_8 6 rfl rfl)
theorem dX5_strength_196 : decode cX5_strength 196 = .ok (.isub, 1) := dk_100 (dk_at dksX5_strength_8 7 rfl rfl)
theorem dX5_strength_197 : decode cX5_strength 197 = .ok (.iastore, 1) := dk_79 (dk_at dksX5_strength_8 8 rfl rfl)
theorem dX5_strength_198 : decode cX5_strength 198 = .ok (.aload_n 0, 1) := dk_42 (dk_at dksX5_strength_8 9 rfl rfl)
theorem dX5_strength_199 : decode cX5_strength 199 = .ok (.getfield 22, 3) := dk_180 0 22 (dk_at dksX5_strength_8 10 rfl rfl)
theorem dX5_strength_202 : decode cX5_strength 202 = .ok (.iload_n 1, 1) := dk_27 (dk_at dksX5_strength_8 13 rfl rfl)
theorem dX5_strength_203 : decode cX5_strength 203 = .ok (.iaload, 1) := dk_46 (dk_at dksX5_strength_8 14 rfl rfl)
theorem dX5_strength_204 : decode cX5_strength 204 = .ok (.iload_n 3, 1) := dk_29 (dk_at dksX5_strength_8 15 rfl rfl)
theorem dX5_strength_205 : decode cX5_strength 205 = .ok (.ifCond .eq 7, 3) := dk_153 0 7 (dk_at dksX5_strength_8 16 rfl rfl)
theorem dX5_strength_208 : decode cX5_strength 208 = .ok (.iconst 2, 1) := dk_5 (dk_at dksX5_strength_8 19 rfl rfl)
theorem dX5_strength_209 : decode cX5_strength 209 = .ok (.goto 4, 3) := dk_167 0 4 (dk_at dksX5_strength_8 20 rfl rfl)
theorem dX5_strength_212 : decode cX5_strength 212 = .ok (.iconst 0, 1) := dk_3 (dk_at dksX5_strength_8 23 rfl rfl)
theorem dX5_strength_213 : decode cX5_strength 213 = .ok (.iadd, 1) := dk_96 (dk_at dksX5_strength_9 0 rfl rfl)
theorem dX5_strength_214 : decode cX5_strength 214 = .ok (.ireturn, 1) := dk_172 (dk_at dksX5_strength_9 1 rfl rfl)
abbrev cX5_goes : ByteArray := prog_12_method_37_code
def yX5_goes : MethodName := ⟨RX5, "goes", "(I)V"⟩
def dkwX5_goes_5 : List UInt8 := [27, 181, 0, 209, 177]
abbrev dktX5_goes_5 : List UInt8 := dkwX5_goes_5 ++ []
def dkwX5_goes_4 : List UInt8 := [163, 0, 7, 4, 167, 0, 4, 2, 181, 0, 206, 42, 42, 180, 0, 206, 2, 160, 0, 7, 2, 167, 0, 4]
abbrev dktX5_goes_4 : List UInt8 := dkwX5_goes_4 ++ dktX5_goes_5
def dkwX5_goes_3 : List UInt8 := [181, 0, 203, 42, 42, 180, 0, 203, 16, 22, 161, 0, 7, 3, 167, 0, 16, 42, 180, 0, 203, 5]
abbrev dktX5_goes_3 : List UInt8 := dkwX5_goes_3 ++ dktX5_goes_4
def dkwX5_goes_2 : List UInt8 := [167, 0, 4, 3, 96, 181, 0, 200, 42, 89, 180, 0, 203, 28, 156, 0, 8, 29, 116, 167, 0, 4, 29, 96]
abbrev dktX5_goes_2 : List UInt8 := dkwX5_goes_2 ++ dktX5_goes_3
def dkwX5_goes_1 : List UInt8 := [6, 108, 62, 29, 6, 164, 0, 7, 6, 167, 0, 4, 29, 62, 42, 89, 180, 0, 200, 28, 154, 0, 7, 4]
abbrev dktX5_goes_1 : List UInt8 := dkwX5_goes_1 ++ dktX5_goes_2
def dkwX5_goes_0 : List UInt8 := [42, 180, 0, 61, 3, 46, 42, 180, 0, 61, 4, 46, 100, 61, 28, 156, 0, 8, 28, 116, 167, 0, 4, 28]
abbrev dktX5_goes_0 : List UInt8 := dkwX5_goes_0 ++ dktX5_goes_1
theorem dksX5_goes_0 : cX5_goes.data.toList.drop 0 = dktX5_goes_0 := by decide +kernel
theorem dksX5_goes_1 : cX5_goes.data.toList.drop 24 = dktX5_goes_1 := dk_seg dksX5_goes_0 24 rfl rfl
theorem dksX5_goes_2 : cX5_goes.data.toList.drop 48 = dktX5_goes_2 := dk_seg dksX5_goes_1 24 rfl rfl
theorem dksX5_goes_3 : cX5_goes.data.toList.drop 72 = dktX5_goes_3 := dk_seg dksX5_goes_2 24 rfl rfl
theorem dksX5_goes_4 : cX5_goes.data.toList.drop 94 = dktX5_goes_4 := dk_seg dksX5_goes_3 22 rfl rfl
theorem dksX5_goes_5 : cX5_goes.data.toList.drop 118 = dktX5_goes_5 := dk_seg dksX5_goes_4 24 rfl rfl
theorem dX5_goes_0 : decode cX5_goes 0 = .ok (.aload_n 0, 1) := dk_42 (dk_at dksX5_goes_0 0 rfl rfl)
theorem dX5_goes_1 : decode cX5_goes 1 = .ok (.getfield 61, 3) := dk_180 0 61 (dk_at dksX5_goes_0 1 rfl rfl)
theorem dX5_goes_4 : decode cX5_goes 4 = .ok (.iconst 0, 1) := dk_3 (dk_at dksX5_goes_0 4 rfl rfl)
theorem dX5_goes_5 : decode cX5_goes 5 = .ok (.iaload, 1) := dk_46 (dk_at dksX5_goes_0 5 rfl rfl)
theorem dX5_goes_6 : decode cX5_goes 6 = .ok (.aload_n 0, 1) := dk_42 (dk_at dksX5_goes_0 6 rfl rfl)
theorem dX5_goes_7 : decode cX5_goes 7 = .ok (.getfield 61, 3) := dk_180 0 61 (dk_at dksX5_goes_0 7 rfl rfl)
theorem dX5_goes_10 : decode cX5_goes 10 = .ok (.iconst 1, 1) := dk_4 (dk_at dksX5_goes_0 10 rfl rfl)
theorem dX5_goes_11 : decode cX5_goes 11 = .ok (.iaload, 1) := dk_46 (dk_at dksX5_goes_0 11 rfl rfl)
theorem dX5_goes_12 : decode cX5_goes 12 = .ok (.isub, 1) := dk_100 (dk_at dksX5_goes_0 12 rfl rfl)
theorem dX5_goes_13 : decode cX5_goes 13 = .ok (.istore_n 2, 1) := dk_61 (dk_at dksX5_goes_0 13 rfl rfl)
theorem dX5_goes_14 : decode cX5_goes 14 = .ok (.iload_n 2, 1) := dk_28 (dk_at dksX5_goes_0 14 rfl rfl)
theorem dX5_goes_15 : decode cX5_goes 15 = .ok (.ifCond .ge 8, 3) := dk_156 0 8 (dk_at dksX5_goes_0 15 rfl rfl)
theorem dX5_goes_18 : decode cX5_goes 18 = .ok (.iload_n 2, 1) := dk_28 (dk_at dksX5_goes_0 18 rfl rfl)
theorem dX5_goes_19 : decode cX5_goes 19 = .ok (.ineg, 1) := dk_116 (dk_at dksX5_goes_0 19 rfl rfl)
theorem dX5_goes_20 : decode cX5_goes 20 = .ok (.goto 4, 3) := dk_167 0 4 (dk_at dksX5_goes_0 20 rfl rfl)
theorem dX5_goes_23 : decode cX5_goes 23 = .ok (.iload_n 2, 1) := dk_28 (dk_at dksX5_goes_0 23 rfl rfl)
theorem dX5_goes_24 : decode cX5_goes 24 = .ok (.iconst 3, 1) := dk_6 (dk_at dksX5_goes_1 0 rfl rfl)
theorem dX5_goes_25 : decode cX5_goes 25 = .ok (.idiv, 1) := dk_108 (dk_at dksX5_goes_1 1 rfl rfl)
theorem dX5_goes_26 : decode cX5_goes 26 = .ok (.istore_n 3, 1) := dk_62 (dk_at dksX5_goes_1 2 rfl rfl)
theorem dX5_goes_27 : decode cX5_goes 27 = .ok (.iload_n 3, 1) := dk_29 (dk_at dksX5_goes_1 3 rfl rfl)
theorem dX5_goes_28 : decode cX5_goes 28 = .ok (.iconst 3, 1) := dk_6 (dk_at dksX5_goes_1 4 rfl rfl)
theorem dX5_goes_29 : decode cX5_goes 29 = .ok (.if_icmp .le 7, 3) := dk_164 0 7 (dk_at dksX5_goes_1 5 rfl rfl)
theorem dX5_goes_32 : decode cX5_goes 32 = .ok (.iconst 3, 1) := dk_6 (dk_at dksX5_goes_1 8 rfl rfl)
theorem dX5_goes_33 : decode cX5_goes 33 = .ok (.goto 4, 3) := dk_167 0 4 (dk_at dksX5_goes_1 9 rfl rfl)
theorem dX5_goes_36 : decode cX5_goes 36 = .ok (.iload_n 3, 1) := dk_29 (dk_at dksX5_goes_1 12 rfl rfl)
theorem dX5_goes_37 : decode cX5_goes 37 = .ok (.istore_n 3, 1) := dk_62 (dk_at dksX5_goes_1 13 rfl rfl)
theorem dX5_goes_38 : decode cX5_goes 38 = .ok (.aload_n 0, 1) := dk_42 (dk_at dksX5_goes_1 14 rfl rfl)
theorem dX5_goes_39 : decode cX5_goes 39 = .ok (.dup, 1) := dk_89 (dk_at dksX5_goes_1 15 rfl rfl)
theorem dX5_goes_40 : decode cX5_goes 40 = .ok (.getfield 200, 3) := dk_180 0 200 (dk_at dksX5_goes_1 16 rfl rfl)
theorem dX5_goes_43 : decode cX5_goes 43 = .ok (.iload_n 2, 1) := dk_28 (dk_at dksX5_goes_1 19 rfl rfl)
theorem dX5_goes_44 : decode cX5_goes 44 = .ok (.ifCond .ne 7, 3) := dk_154 0 7 (dk_at dksX5_goes_1 20 rfl rfl)
theorem dX5_goes_47 : decode cX5_goes 47 = .ok (.iconst 1, 1) := dk_4 (dk_at dksX5_goes_1 23 rfl rfl)
theorem dX5_goes_48 : decode cX5_goes 48 = .ok (.goto 4, 3) := dk_167 0 4 (dk_at dksX5_goes_2 0 rfl rfl)
theorem dX5_goes_51 : decode cX5_goes 51 = .ok (.iconst 0, 1) := dk_3 (dk_at dksX5_goes_2 3 rfl rfl)
theorem dX5_goes_52 : decode cX5_goes 52 = .ok (.iadd, 1) := dk_96 (dk_at dksX5_goes_2 4 rfl rfl)
theorem dX5_goes_53 : decode cX5_goes 53 = .ok (.putfield 200, 3) := dk_181 0 200 (dk_at dksX5_goes_2 5 rfl rfl)
theorem dX5_goes_56 : decode cX5_goes 56 = .ok (.aload_n 0, 1) := dk_42 (dk_at dksX5_goes_2 8 rfl rfl)
theorem dX5_goes_57 : decode cX5_goes 57 = .ok (.dup, 1) := dk_89 (dk_at dksX5_goes_2 9 rfl rfl)
theorem dX5_goes_58 : decode cX5_goes 58 = .ok (.getfield 203, 3) := dk_180 0 203 (dk_at dksX5_goes_2 10 rfl rfl)
theorem dX5_goes_61 : decode cX5_goes 61 = .ok (.iload_n 2, 1) := dk_28 (dk_at dksX5_goes_2 13 rfl rfl)
theorem dX5_goes_62 : decode cX5_goes 62 = .ok (.ifCond .ge 8, 3) := dk_156 0 8 (dk_at dksX5_goes_2 14 rfl rfl)
theorem dX5_goes_65 : decode cX5_goes 65 = .ok (.iload_n 3, 1) := dk_29 (dk_at dksX5_goes_2 17 rfl rfl)
theorem dX5_goes_66 : decode cX5_goes 66 = .ok (.ineg, 1) := dk_116 (dk_at dksX5_goes_2 18 rfl rfl)
theorem dX5_goes_67 : decode cX5_goes 67 = .ok (.goto 4, 3) := dk_167 0 4 (dk_at dksX5_goes_2 19 rfl rfl)
theorem dX5_goes_70 : decode cX5_goes 70 = .ok (.iload_n 3, 1) := dk_29 (dk_at dksX5_goes_2 22 rfl rfl)
theorem dX5_goes_71 : decode cX5_goes 71 = .ok (.iadd, 1) := dk_96 (dk_at dksX5_goes_2 23 rfl rfl)
theorem dX5_goes_72 : decode cX5_goes 72 = .ok (.putfield 203, 3) := dk_181 0 203 (dk_at dksX5_goes_3 0 rfl rfl)
theorem dX5_goes_75 : decode cX5_goes 75 = .ok (.aload_n 0, 1) := dk_42 (dk_at dksX5_goes_3 3 rfl rfl)
theorem dX5_goes_76 : decode cX5_goes 76 = .ok (.aload_n 0, 1) := dk_42 (dk_at dksX5_goes_3 4 rfl rfl)
theorem dX5_goes_77 : decode cX5_goes 77 = .ok (.getfield 203, 3) := dk_180 0 203 (dk_at dksX5_goes_3 5 rfl rfl)
theorem dX5_goes_80 : decode cX5_goes 80 = .ok (.bipush 22, 2) := dk_16 22 (dk_at dksX5_goes_3 8 rfl rfl)
theorem dX5_goes_82 : decode cX5_goes 82 = .ok (.if_icmp .lt 7, 3) := dk_161 0 7 (dk_at dksX5_goes_3 10 rfl rfl)
theorem dX5_goes_85 : decode cX5_goes 85 = .ok (.iconst 0, 1) := dk_3 (dk_at dksX5_goes_3 13 rfl rfl)
theorem dX5_goes_86 : decode cX5_goes 86 = .ok (.goto 16, 3) := dk_167 0 16 (dk_at dksX5_goes_3 14 rfl rfl)
theorem dX5_goes_89 : decode cX5_goes 89 = .ok (.aload_n 0, 1) := dk_42 (dk_at dksX5_goes_3 17 rfl rfl)
theorem dX5_goes_90 : decode cX5_goes 90 = .ok (.getfield 203, 3) := dk_180 0 203 (dk_at dksX5_goes_3 18 rfl rfl)
theorem dX5_goes_93 : decode cX5_goes 93 = .ok (.iconst 2, 1) := dk_5 (dk_at dksX5_goes_3 21 rfl rfl)
theorem dX5_goes_94 : decode cX5_goes 94 = .ok (.if_icmp .gt 7, 3) := dk_163 0 7 (dk_at dksX5_goes_4 0 rfl rfl)
theorem dX5_goes_97 : decode cX5_goes 97 = .ok (.iconst 1, 1) := dk_4 (dk_at dksX5_goes_4 3 rfl rfl)
theorem dX5_goes_98 : decode cX5_goes 98 = .ok (.goto 4, 3) := dk_167 0 4 (dk_at dksX5_goes_4 4 rfl rfl)
theorem dX5_goes_101 : decode cX5_goes 101 = .ok (.iconst (-1), 1) := dk_2 (dk_at dksX5_goes_4 7 rfl rfl)
theorem dX5_goes_102 : decode cX5_goes 102 = .ok (.putfield 206, 3) := dk_181 0 206 (dk_at dksX5_goes_4 8 rfl rfl)
theorem dX5_goes_105 : decode cX5_goes 105 = .ok (.aload_n 0, 1) := dk_42 (dk_at dksX5_goes_4 11 rfl rfl)
theorem dX5_goes_106 : decode cX5_goes 106 = .ok (.aload_n 0, 1) := dk_42 (dk_at dksX5_goes_4 12 rfl rfl)
theorem dX5_goes_107 : decode cX5_goes 107 = .ok (.getfield 206, 3) := dk_180 0 206 (dk_at dksX5_goes_4 13 rfl rfl)
theorem dX5_goes_110 : decode cX5_goes 110 = .ok (.iconst (-1), 1) := dk_2 (dk_at dksX5_goes_4 16 rfl rfl)
theorem dX5_goes_111 : decode cX5_goes 111 = .ok (.if_icmp .ne 7, 3) := dk_160 0 7 (dk_at dksX5_goes_4 17 rfl rfl)
theorem dX5_goes_114 : decode cX5_goes 114 = .ok (.iconst (-1), 1) := dk_2 (dk_at dksX5_goes_4 20 rfl rfl)
theorem dX5_goes_115 : decode cX5_goes 115 = .ok (.goto 4, 3) := dk_167 0 4 (dk_at dksX5_goes_4 21 rfl rfl)
theorem dX5_goes_118 : decode cX5_goes 118 = .ok (.iload_n 1, 1) := dk_27 (dk_at dksX5_goes_5 0 rfl rfl)
theorem dX5_goes_119 : decode cX5_goes 119 = .ok (.putfield 209, 3) := dk_181 0 209 (dk_at dksX5_goes_5 1 rfl rfl)
theorem dX5_goes_122 : decode cX5_goes 122 = .ok (.return_, 1) := dk_177 (dk_at dksX5_goes_5 4 rfl rfl)
abbrev cX5_at : ByteArray := prog_12_method_44_code
def yX5_at : MethodName := ⟨RX5, "at", "(III)I"⟩
def dkwX5_at_1 : List UInt8 := [28, 29, 182, 0, 241, 167, 0, 5, 16, 254, 172]
abbrev dktX5_at_1 : List UInt8 := dkwX5_at_1 ++ []
def dkwX5_at_0 : List UInt8 := [27, 184, 0, 156, 153, 0, 28, 42, 28, 182, 0, 144, 153, 0, 20, 29, 184, 0, 153, 153, 0, 13, 42, 27]
abbrev dktX5_at_0 : List UInt8 := dkwX5_at_0 ++ dktX5_at_1
theorem dksX5_at_0 : cX5_at.data.toList.drop 0 = dktX5_at_0 := by decide +kernel
theorem dksX5_at_1 : cX5_at.data.toList.drop 24 = dktX5_at_1 := dk_seg dksX5_at_0 24 rfl rfl
theorem dX5_at_0 : decode cX5_at 0 = .ok (.iload_n 1, 1) := dk_27 (dk_at dksX5_at_0 0 rfl rfl)
theorem dX5_at_1 : decode cX5_at 1 = .ok (.invokestatic 156, 3) := dk_184 0 156 (dk_at dksX5_at_0 1 rfl rfl)
theorem dX5_at_4 : decode cX5_at 4 = .ok (.ifCond .eq 28, 3) := dk_153 0 28 (dk_at dksX5_at_0 4 rfl rfl)
theorem dX5_at_7 : decode cX5_at 7 = .ok (.aload_n 0, 1) := dk_42 (dk_at dksX5_at_0 7 rfl rfl)
theorem dX5_at_8 : decode cX5_at 8 = .ok (.iload_n 2, 1) := dk_28 (dk_at dksX5_at_0 8 rfl rfl)
theorem dX5_at_9 : decode cX5_at 9 = .ok (.invokevirtual 144, 3) := dk_182 0 144 (dk_at dksX5_at_0 9 rfl rfl)
theorem dX5_at_12 : decode cX5_at 12 = .ok (.ifCond .eq 20, 3) := dk_153 0 20 (dk_at dksX5_at_0 12 rfl rfl)
theorem dX5_at_15 : decode cX5_at 15 = .ok (.iload_n 3, 1) := dk_29 (dk_at dksX5_at_0 15 rfl rfl)
theorem dX5_at_16 : decode cX5_at 16 = .ok (.invokestatic 153, 3) := dk_184 0 153 (dk_at dksX5_at_0 16 rfl rfl)
theorem dX5_at_19 : decode cX5_at 19 = .ok (.ifCond .eq 13, 3) := dk_153 0 13 (dk_at dksX5_at_0 19 rfl rfl)
theorem dX5_at_22 : decode cX5_at 22 = .ok (.aload_n 0, 1) := dk_42 (dk_at dksX5_at_0 22 rfl rfl)
theorem dX5_at_23 : decode cX5_at 23 = .ok (.iload_n 1, 1) := dk_27 (dk_at dksX5_at_0 23 rfl rfl)
theorem dX5_at_24 : decode cX5_at 24 = .ok (.iload_n 2, 1) := dk_28 (dk_at dksX5_at_1 0 rfl rfl)
theorem dX5_at_25 : decode cX5_at 25 = .ok (.iload_n 3, 1) := dk_29 (dk_at dksX5_at_1 1 rfl rfl)
theorem dX5_at_26 : decode cX5_at 26 = .ok (.invokevirtual 241, 3) := dk_182 0 241 (dk_at dksX5_at_1 2 rfl rfl)
theorem dX5_at_29 : decode cX5_at 29 = .ok (.goto 5, 3) := dk_167 0 5 (dk_at dksX5_at_1 5 rfl rfl)
theorem dX5_at_32 : decode cX5_at 32 = .ok (.bipush (-2), 2) := dk_16 254 (dk_at dksX5_at_1 8 rfl rfl)
theorem dX5_at_34 : decode cX5_at 34 = .ok (.ireturn, 1) := dk_172 (dk_at dksX5_at_1 10 rfl rfl)
abbrev cX5_atOf : ByteArray := prog_12_method_43_code
def yX5_atOf : MethodName := ⟨RX5, "atOf", "(III)I"⟩
def dkwX5_atOf_1 : List UInt8 := [180, 0, 76, 16, 16, 27, 104, 28, 96, 46, 172]
abbrev dktX5_atOf_1 : List UInt8 := dkwX5_atOf_1 ++ []
def dkwX5_atOf_0 : List UInt8 := [42, 182, 0, 235, 29, 154, 0, 17, 42, 180, 0, 73, 16, 16, 27, 104, 28, 96, 46, 167, 0, 14, 42]
abbrev dktX5_atOf_0 : List UInt8 := dkwX5_atOf_0 ++ dktX5_atOf_1
theorem dksX5_atOf_0 : cX5_atOf.data.toList.drop 0 = dktX5_atOf_0 := by decide +kernel
theorem dksX5_atOf_1 : cX5_atOf.data.toList.drop 23 = dktX5_atOf_1 := dk_seg dksX5_atOf_0 23 rfl rfl
theorem dX5_atOf_0 : decode cX5_atOf 0 = .ok (.aload_n 0, 1) := dk_42 (dk_at dksX5_atOf_0 0 rfl rfl)
theorem dX5_atOf_1 : decode cX5_atOf 1 = .ok (.invokevirtual 235, 3) := dk_182 0 235 (dk_at dksX5_atOf_0 1 rfl rfl)
theorem dX5_atOf_4 : decode cX5_atOf 4 = .ok (.iload_n 3, 1) := dk_29 (dk_at dksX5_atOf_0 4 rfl rfl)
theorem dX5_atOf_5 : decode cX5_atOf 5 = .ok (.ifCond .ne 17, 3) := dk_154 0 17 (dk_at dksX5_atOf_0 5 rfl rfl)
theorem dX5_atOf_8 : decode cX5_atOf 8 = .ok (.aload_n 0, 1) := dk_42 (dk_at dksX5_atOf_0 8 rfl rfl)
theorem dX5_atOf_9 : decode cX5_atOf 9 = .ok (.getfield 73, 3) := dk_180 0 73 (dk_at dksX5_atOf_0 9 rfl rfl)
theorem dX5_atOf_12 : decode cX5_atOf 12 = .ok (.bipush 16, 2) := dk_16 16 (dk_at dksX5_atOf_0 12 rfl rfl)
theorem dX5_atOf_14 : decode cX5_atOf 14 = .ok (.iload_n 1, 1) := dk_27 (dk_at dksX5_atOf_0 14 rfl rfl)
theorem dX5_atOf_15 : decode cX5_atOf 15 = .ok (.imul, 1) := dk_104 (dk_at dksX5_atOf_0 15 rfl rfl)
theorem dX5_atOf_16 : decode cX5_atOf 16 = .ok (.iload_n 2, 1) := dk_28 (dk_at dksX5_atOf_0 16 rfl rfl)
theorem dX5_atOf_17 : decode cX5_atOf 17 = .ok (.iadd, 1) := dk_96 (dk_at dksX5_atOf_0 17 rfl rfl)
theorem dX5_atOf_18 : decode cX5_atOf 18 = .ok (.iaload, 1) := dk_46 (dk_at dksX5_atOf_0 18 rfl rfl)
theorem dX5_atOf_19 : decode cX5_atOf 19 = .ok (.goto 14, 3) := dk_167 0 14 (dk_at dksX5_atOf_0 19 rfl rfl)
theorem dX5_atOf_22 : decode cX5_atOf 22 = .ok (.aload_n 0, 1) := dk_42 (dk_at dksX5_atOf_0 22 rfl rfl)
theorem dX5_atOf_23 : decode cX5_atOf 23 = .ok (.getfield 76, 3) := dk_180 0 76 (dk_at dksX5_atOf_1 0 rfl rfl)
theorem dX5_atOf_26 : decode cX5_atOf 26 = .ok (.bipush 16, 2) := dk_16 16 (dk_at dksX5_atOf_1 3 rfl rfl)
theorem dX5_atOf_28 : decode cX5_atOf 28 = .ok (.iload_n 1, 1) := dk_27 (dk_at dksX5_atOf_1 5 rfl rfl)
theorem dX5_atOf_29 : decode cX5_atOf 29 = .ok (.imul, 1) := dk_104 (dk_at dksX5_atOf_1 6 rfl rfl)
theorem dX5_atOf_30 : decode cX5_atOf 30 = .ok (.iload_n 2, 1) := dk_28 (dk_at dksX5_atOf_1 7 rfl rfl)
theorem dX5_atOf_31 : decode cX5_atOf 31 = .ok (.iadd, 1) := dk_96 (dk_at dksX5_atOf_1 8 rfl rfl)
theorem dX5_atOf_32 : decode cX5_atOf 32 = .ok (.iaload, 1) := dk_46 (dk_at dksX5_atOf_1 9 rfl rfl)
theorem dX5_atOf_33 : decode cX5_atOf 33 = .ok (.ireturn, 1) := dk_172 (dk_at dksX5_atOf_1 10 rfl rfl)
abbrev cX5_won : ByteArray := prog_12_method_46_code
def yX5_won : MethodName := ⟨RX5, "won", "(I)I"⟩
def dkwX5_won_0 : List UInt8 := [27, 184, 0, 153, 153, 0, 11, 42, 27, 182, 0, 244, 167, 0, 5, 16, 254, 172]
abbrev dktX5_won_0 : List UInt8 := dkwX5_won_0 ++ []
theorem dksX5_won_0 : cX5_won.data.toList.drop 0 = dktX5_won_0 := by decide +kernel
theorem dX5_won_0 : decode cX5_won 0 = .ok (.iload_n 1, 1) := dk_27 (dk_at dksX5_won_0 0 rfl rfl)
theorem dX5_won_1 : decode cX5_won 1 = .ok (.invokestatic 153, 3) := dk_184 0 153 (dk_at dksX5_won_0 1 rfl rfl)
theorem dX5_won_4 : decode cX5_won 4 = .ok (.ifCond .eq 11, 3) := dk_153 0 11 (dk_at dksX5_won_0 4 rfl rfl)
theorem dX5_won_7 : decode cX5_won 7 = .ok (.aload_n 0, 1) := dk_42 (dk_at dksX5_won_0 7 rfl rfl)
theorem dX5_won_8 : decode cX5_won 8 = .ok (.iload_n 1, 1) := dk_27 (dk_at dksX5_won_0 8 rfl rfl)
theorem dX5_won_9 : decode cX5_won 9 = .ok (.invokevirtual 244, 3) := dk_182 0 244 (dk_at dksX5_won_0 9 rfl rfl)
theorem dX5_won_12 : decode cX5_won 12 = .ok (.goto 5, 3) := dk_167 0 5 (dk_at dksX5_won_0 12 rfl rfl)
theorem dX5_won_15 : decode cX5_won 15 = .ok (.bipush (-2), 2) := dk_16 254 (dk_at dksX5_won_0 15 rfl rfl)
theorem dX5_won_17 : decode cX5_won 17 = .ok (.ireturn, 1) := dk_172 (dk_at dksX5_won_0 17 rfl rfl)
abbrev cX5_wonOf : ByteArray := prog_12_method_45_code
def yX5_wonOf : MethodName := ⟨RX5, "wonOf", "(I)I"⟩
def dkwX5_wonOf_0 : List UInt8 := [42, 182, 0, 235, 27, 154, 0, 10, 42, 180, 0, 206, 167, 0, 7, 42, 180, 0, 209, 172]
abbrev dktX5_wonOf_0 : List UInt8 := dkwX5_wonOf_0 ++ []
theorem dksX5_wonOf_0 : cX5_wonOf.data.toList.drop 0 = dktX5_wonOf_0 := by decide +kernel
theorem dX5_wonOf_0 : decode cX5_wonOf 0 = .ok (.aload_n 0, 1) := dk_42 (dk_at dksX5_wonOf_0 0 rfl rfl)
theorem dX5_wonOf_1 : decode cX5_wonOf 1 = .ok (.invokevirtual 235, 3) := dk_182 0 235 (dk_at dksX5_wonOf_0 1 rfl rfl)
theorem dX5_wonOf_4 : decode cX5_wonOf 4 = .ok (.iload_n 1, 1) := dk_27 (dk_at dksX5_wonOf_0 4 rfl rfl)
theorem dX5_wonOf_5 : decode cX5_wonOf 5 = .ok (.ifCond .ne 10, 3) := dk_154 0 10 (dk_at dksX5_wonOf_0 5 rfl rfl)
theorem dX5_wonOf_8 : decode cX5_wonOf 8 = .ok (.aload_n 0, 1) := dk_42 (dk_at dksX5_wonOf_0 8 rfl rfl)
theorem dX5_wonOf_9 : decode cX5_wonOf 9 = .ok (.getfield 206, 3) := dk_180 0 206 (dk_at dksX5_wonOf_0 9 rfl rfl)
theorem dX5_wonOf_12 : decode cX5_wonOf 12 = .ok (.goto 7, 3) := dk_167 0 7 (dk_at dksX5_wonOf_0 12 rfl rfl)
theorem dX5_wonOf_15 : decode cX5_wonOf 15 = .ok (.aload_n 0, 1) := dk_42 (dk_at dksX5_wonOf_0 15 rfl rfl)
theorem dX5_wonOf_16 : decode cX5_wonOf 16 = .ok (.getfield 209, 3) := dk_180 0 209 (dk_at dksX5_wonOf_0 16 rfl rfl)
theorem dX5_wonOf_19 : decode cX5_wonOf 19 = .ok (.ireturn, 1) := dk_172 (dk_at dksX5_wonOf_0 19 rfl rfl)
abbrev cX5_furthest : ByteArray := prog_12_method_48_code
def yX5_furthest : MethodName := ⟨RX5, "furthest", "(I)I"⟩
def dkwX5_furthest_0 : List UInt8 := [27, 184, 0, 153, 153, 0, 11, 42, 27, 182, 0, 247, 167, 0, 5, 16, 254, 172]
abbrev dktX5_furthest_0 : List UInt8 := dkwX5_furthest_0 ++ []
theorem dksX5_furthest_0 : cX5_furthest.data.toList.drop 0 = dktX5_furthest_0 := by decide +kernel
theorem dX5_furthest_0 : decode cX5_furthest 0 = .ok (.iload_n 1, 1) := dk_27 (dk_at dksX5_furthest_0 0 rfl rfl)
theorem dX5_furthest_1 : decode cX5_furthest 1 = .ok (.invokestatic 153, 3) := dk_184 0 153 (dk_at dksX5_furthest_0 1 rfl rfl)
theorem dX5_furthest_4 : decode cX5_furthest 4 = .ok (.ifCond .eq 11, 3) := dk_153 0 11 (dk_at dksX5_furthest_0 4 rfl rfl)
theorem dX5_furthest_7 : decode cX5_furthest 7 = .ok (.aload_n 0, 1) := dk_42 (dk_at dksX5_furthest_0 7 rfl rfl)
theorem dX5_furthest_8 : decode cX5_furthest 8 = .ok (.iload_n 1, 1) := dk_27 (dk_at dksX5_furthest_0 8 rfl rfl)
theorem dX5_furthest_9 : decode cX5_furthest 9 = .ok (.invokevirtual 247, 3) := dk_182 0 247 (dk_at dksX5_furthest_0 9 rfl rfl)
theorem dX5_furthest_12 : decode cX5_furthest 12 = .ok (.goto 5, 3) := dk_167 0 5 (dk_at dksX5_furthest_0 12 rfl rfl)
theorem dX5_furthest_15 : decode cX5_furthest 15 = .ok (.bipush (-2), 2) := dk_16 254 (dk_at dksX5_furthest_0 15 rfl rfl)
theorem dX5_furthest_17 : decode cX5_furthest 17 = .ok (.ireturn, 1) := dk_172 (dk_at dksX5_furthest_0 17 rfl rfl)
abbrev cX5_furthestOf : ByteArray := prog_12_method_47_code
def yX5_furthestOf : MethodName := ⟨RX5, "furthestOf", "(I)I"⟩
def dkwX5_furthestOf_3 : List UInt8 := [132, 3, 1, 167, 255, 192, 28, 172]
abbrev dktX5_furthestOf_3 : List UInt8 := dkwX5_furthestOf_3 ++ []
def dkwX5_furthestOf_2 : List UInt8 := [167, 0, 4, 3, 54, 4, 21, 4, 153, 0, 12, 42, 180, 0, 64, 29, 46, 167, 0, 4, 28, 61]
abbrev dktX5_furthestOf_2 : List UInt8 := dkwX5_furthestOf_2 ++ dktX5_furthestOf_3
def dkwX5_furthestOf_1 : List UInt8 := [46, 28, 164, 0, 7, 4, 167, 0, 22, 3, 167, 0, 18, 42, 180, 0, 64, 29, 46, 28, 162, 0, 7, 4]
abbrev dktX5_furthestOf_1 : List UInt8 := dkwX5_furthestOf_1 ++ dktX5_furthestOf_2
def dkwX5_furthestOf_0 : List UInt8 := [42, 182, 0, 235, 16, 12, 61, 3, 62, 29, 16, 24, 162, 0, 64, 27, 154, 0, 21, 42, 180, 0, 64, 29]
abbrev dktX5_furthestOf_0 : List UInt8 := dkwX5_furthestOf_0 ++ dktX5_furthestOf_1
theorem dksX5_furthestOf_0 : cX5_furthestOf.data.toList.drop 0 = dktX5_furthestOf_0 := by decide +kernel
theorem dksX5_furthestOf_1 : cX5_furthestOf.data.toList.drop 24 = dktX5_furthestOf_1 := dk_seg dksX5_furthestOf_0 24 rfl rfl
theorem dksX5_furthestOf_2 : cX5_furthestOf.data.toList.drop 48 = dktX5_furthestOf_2 := dk_seg dksX5_furthestOf_1 24 rfl rfl
theorem dksX5_furthestOf_3 : cX5_furthestOf.data.toList.drop 70 = dktX5_furthestOf_3 := dk_seg dksX5_furthestOf_2 22 rfl rfl
theorem dX5_furthestOf_0 : decode cX5_furthestOf 0 = .ok (.aload_n 0, 1) := dk_42 (dk_at dksX5_furthestOf_0 0 rfl rfl)
theorem dX5_furthestOf_1 : decode cX5_furthestOf 1 = .ok (.invokevirtual 235, 3) := dk_182 0 235 (dk_at dksX5_furthestOf_0 1 rfl rfl)
theorem dX5_furthestOf_4 : decode cX5_furthestOf 4 = .ok (.bipush 12, 2) := dk_16 12 (dk_at dksX5_furthestOf_0 4 rfl rfl)
theorem dX5_furthestOf_6 : decode cX5_furthestOf 6 = .ok (.istore_n 2, 1) := dk_61 (dk_at dksX5_furthestOf_0 6 rfl rfl)
theorem dX5_furthestOf_7 : decode cX5_furthestOf 7 = .ok (.iconst 0, 1) := dk_3 (dk_at dksX5_furthestOf_0 7 rfl rfl)
theorem dX5_furthestOf_8 : decode cX5_furthestOf 8 = .ok (.istore_n 3, 1) := dk_62 (dk_at dksX5_furthestOf_0 8 rfl rfl)
theorem dX5_furthestOf_9 : decode cX5_furthestOf 9 = .ok (.iload_n 3, 1) := dk_29 (dk_at dksX5_furthestOf_0 9 rfl rfl)
theorem dX5_furthestOf_10 : decode cX5_furthestOf 10 = .ok (.bipush 24, 2) := dk_16 24 (dk_at dksX5_furthestOf_0 10 rfl rfl)
theorem dX5_furthestOf_12 : decode cX5_furthestOf 12 = .ok (.if_icmp .ge 64, 3) := dk_162 0 64 (dk_at dksX5_furthestOf_0 12 rfl rfl)
theorem dX5_furthestOf_15 : decode cX5_furthestOf 15 = .ok (.iload_n 1, 1) := dk_27 (dk_at dksX5_furthestOf_0 15 rfl rfl)
theorem dX5_furthestOf_16 : decode cX5_furthestOf 16 = .ok (.ifCond .ne 21, 3) := dk_154 0 21 (dk_at dksX5_furthestOf_0 16 rfl rfl)
theorem dX5_furthestOf_19 : decode cX5_furthestOf 19 = .ok (.aload_n 0, 1) := dk_42 (dk_at dksX5_furthestOf_0 19 rfl rfl)
theorem dX5_furthestOf_20 : decode cX5_furthestOf 20 = .ok (.getfield 64, 3) := dk_180 0 64 (dk_at dksX5_furthestOf_0 20 rfl rfl)
theorem dX5_furthestOf_23 : decode cX5_furthestOf 23 = .ok (.iload_n 3, 1) := dk_29 (dk_at dksX5_furthestOf_0 23 rfl rfl)
theorem dX5_furthestOf_24 : decode cX5_furthestOf 24 = .ok (.iaload, 1) := dk_46 (dk_at dksX5_furthestOf_1 0 rfl rfl)
theorem dX5_furthestOf_25 : decode cX5_furthestOf 25 = .ok (.iload_n 2, 1) := dk_28 (dk_at dksX5_furthestOf_1 1 rfl rfl)
theorem dX5_furthestOf_26 : decode cX5_furthestOf 26 = .ok (.if_icmp .le 7, 3) := dk_164 0 7 (dk_at dksX5_furthestOf_1 2 rfl rfl)
theorem dX5_furthestOf_29 : decode cX5_furthestOf 29 = .ok (.iconst 1, 1) := dk_4 (dk_at dksX5_furthestOf_1 5 rfl rfl)
theorem dX5_furthestOf_30 : decode cX5_furthestOf 30 = .ok (.goto 22, 3) := dk_167 0 22 (dk_at dksX5_furthestOf_1 6 rfl rfl)
theorem dX5_furthestOf_33 : decode cX5_furthestOf 33 = .ok (.iconst 0, 1) := dk_3 (dk_at dksX5_furthestOf_1 9 rfl rfl)
theorem dX5_furthestOf_34 : decode cX5_furthestOf 34 = .ok (.goto 18, 3) := dk_167 0 18 (dk_at dksX5_furthestOf_1 10 rfl rfl)
theorem dX5_furthestOf_37 : decode cX5_furthestOf 37 = .ok (.aload_n 0, 1) := dk_42 (dk_at dksX5_furthestOf_1 13 rfl rfl)
theorem dX5_furthestOf_38 : decode cX5_furthestOf 38 = .ok (.getfield 64, 3) := dk_180 0 64 (dk_at dksX5_furthestOf_1 14 rfl rfl)
theorem dX5_furthestOf_41 : decode cX5_furthestOf 41 = .ok (.iload_n 3, 1) := dk_29 (dk_at dksX5_furthestOf_1 17 rfl rfl)
theorem dX5_furthestOf_42 : decode cX5_furthestOf 42 = .ok (.iaload, 1) := dk_46 (dk_at dksX5_furthestOf_1 18 rfl rfl)
theorem dX5_furthestOf_43 : decode cX5_furthestOf 43 = .ok (.iload_n 2, 1) := dk_28 (dk_at dksX5_furthestOf_1 19 rfl rfl)
theorem dX5_furthestOf_44 : decode cX5_furthestOf 44 = .ok (.if_icmp .ge 7, 3) := dk_162 0 7 (dk_at dksX5_furthestOf_1 20 rfl rfl)
theorem dX5_furthestOf_47 : decode cX5_furthestOf 47 = .ok (.iconst 1, 1) := dk_4 (dk_at dksX5_furthestOf_1 23 rfl rfl)
theorem dX5_furthestOf_48 : decode cX5_furthestOf 48 = .ok (.goto 4, 3) := dk_167 0 4 (dk_at dksX5_furthestOf_2 0 rfl rfl)
theorem dX5_furthestOf_51 : decode cX5_furthestOf 51 = .ok (.iconst 0, 1) := dk_3 (dk_at dksX5_furthestOf_2 3 rfl rfl)
theorem dX5_furthestOf_52 : decode cX5_furthestOf 52 = .ok (.istore 4, 2) := dk_54 4 (dk_at dksX5_furthestOf_2 4 rfl rfl)
theorem dX5_furthestOf_54 : decode cX5_furthestOf 54 = .ok (.iload 4, 2) := dk_21 4 (dk_at dksX5_furthestOf_2 6 rfl rfl)
theorem dX5_furthestOf_56 : decode cX5_furthestOf 56 = .ok (.ifCond .eq 12, 3) := dk_153 0 12 (dk_at dksX5_furthestOf_2 8 rfl rfl)
theorem dX5_furthestOf_59 : decode cX5_furthestOf 59 = .ok (.aload_n 0, 1) := dk_42 (dk_at dksX5_furthestOf_2 11 rfl rfl)
theorem dX5_furthestOf_60 : decode cX5_furthestOf 60 = .ok (.getfield 64, 3) := dk_180 0 64 (dk_at dksX5_furthestOf_2 12 rfl rfl)
theorem dX5_furthestOf_63 : decode cX5_furthestOf 63 = .ok (.iload_n 3, 1) := dk_29 (dk_at dksX5_furthestOf_2 15 rfl rfl)
theorem dX5_furthestOf_64 : decode cX5_furthestOf 64 = .ok (.iaload, 1) := dk_46 (dk_at dksX5_furthestOf_2 16 rfl rfl)
theorem dX5_furthestOf_65 : decode cX5_furthestOf 65 = .ok (.goto 4, 3) := dk_167 0 4 (dk_at dksX5_furthestOf_2 17 rfl rfl)
theorem dX5_furthestOf_68 : decode cX5_furthestOf 68 = .ok (.iload_n 2, 1) := dk_28 (dk_at dksX5_furthestOf_2 20 rfl rfl)
theorem dX5_furthestOf_69 : decode cX5_furthestOf 69 = .ok (.istore_n 2, 1) := dk_61 (dk_at dksX5_furthestOf_2 21 rfl rfl)
theorem dX5_furthestOf_70 : decode cX5_furthestOf 70 = .ok (.iinc 3 1, 3) := dk_132 3 1 (dk_at dksX5_furthestOf_3 0 rfl rfl)
theorem dX5_furthestOf_73 : decode cX5_furthestOf 73 = .ok (.goto (-64), 3) := dk_167 255 192 (dk_at dksX5_furthestOf_3 3 rfl rfl)
theorem dX5_furthestOf_76 : decode cX5_furthestOf 76 = .ok (.iload_n 2, 1) := dk_28 (dk_at dksX5_furthestOf_3 6 rfl rfl)
theorem dX5_furthestOf_77 : decode cX5_furthestOf 77 = .ok (.ireturn, 1) := dk_172 (dk_at dksX5_furthestOf_3 7 rfl rfl)
abbrev cX5_done : ByteArray := prog_12_method_50_code
def yX5_done : MethodName := ⟨RX5, "done", "(I)I"⟩
def dkwX5_done_0 : List UInt8 := [42, 27, 182, 0, 144, 153, 0, 11, 42, 27, 182, 0, 250, 167, 0, 5, 16, 254, 172]
abbrev dktX5_done_0 : List UInt8 := dkwX5_done_0 ++ []
theorem dksX5_done_0 : cX5_done.data.toList.drop 0 = dktX5_done_0 := by decide +kernel
theorem dX5_done_0 : decode cX5_done 0 = .ok (.aload_n 0, 1) := dk_42 (dk_at dksX5_done_0 0 rfl rfl)
theorem dX5_done_1 : decode cX5_done 1 = .ok (.iload_n 1, 1) := dk_27 (dk_at dksX5_done_0 1 rfl rfl)
theorem dX5_done_2 : decode cX5_done 2 = .ok (.invokevirtual 144, 3) := dk_182 0 144 (dk_at dksX5_done_0 2 rfl rfl)
theorem dX5_done_5 : decode cX5_done 5 = .ok (.ifCond .eq 11, 3) := dk_153 0 11 (dk_at dksX5_done_0 5 rfl rfl)
theorem dX5_done_8 : decode cX5_done 8 = .ok (.aload_n 0, 1) := dk_42 (dk_at dksX5_done_0 8 rfl rfl)
theorem dX5_done_9 : decode cX5_done 9 = .ok (.iload_n 1, 1) := dk_27 (dk_at dksX5_done_0 9 rfl rfl)
theorem dX5_done_10 : decode cX5_done 10 = .ok (.invokevirtual 250, 3) := dk_182 0 250 (dk_at dksX5_done_0 10 rfl rfl)
theorem dX5_done_13 : decode cX5_done 13 = .ok (.goto 5, 3) := dk_167 0 5 (dk_at dksX5_done_0 13 rfl rfl)
theorem dX5_done_16 : decode cX5_done 16 = .ok (.bipush (-2), 2) := dk_16 254 (dk_at dksX5_done_0 16 rfl rfl)
theorem dX5_done_18 : decode cX5_done 18 = .ok (.ireturn, 1) := dk_172 (dk_at dksX5_done_0 18 rfl rfl)
abbrev cX5_doneOf : ByteArray := prog_12_method_49_code
def yX5_doneOf : MethodName := ⟨RX5, "doneOf", "(I)I"⟩
def dkwX5_doneOf_0 : List UInt8 := [42, 182, 0, 235, 42, 180, 0, 55, 27, 46, 172]
abbrev dktX5_doneOf_0 : List UInt8 := dkwX5_doneOf_0 ++ []
theorem dksX5_doneOf_0 : cX5_doneOf.data.toList.drop 0 = dktX5_doneOf_0 := by decide +kernel
theorem dX5_doneOf_0 : decode cX5_doneOf 0 = .ok (.aload_n 0, 1) := dk_42 (dk_at dksX5_doneOf_0 0 rfl rfl)
theorem dX5_doneOf_1 : decode cX5_doneOf 1 = .ok (.invokevirtual 235, 3) := dk_182 0 235 (dk_at dksX5_doneOf_0 1 rfl rfl)
theorem dX5_doneOf_4 : decode cX5_doneOf 4 = .ok (.aload_n 0, 1) := dk_42 (dk_at dksX5_doneOf_0 4 rfl rfl)
theorem dX5_doneOf_5 : decode cX5_doneOf 5 = .ok (.getfield 55, 3) := dk_180 0 55 (dk_at dksX5_doneOf_0 5 rfl rfl)
theorem dX5_doneOf_8 : decode cX5_doneOf 8 = .ok (.iload_n 1, 1) := dk_27 (dk_at dksX5_doneOf_0 8 rfl rfl)
theorem dX5_doneOf_9 : decode cX5_doneOf 9 = .ok (.iaload, 1) := dk_46 (dk_at dksX5_doneOf_0 9 rfl rfl)
theorem dX5_doneOf_10 : decode cX5_doneOf 10 = .ok (.ireturn, 1) := dk_172 (dk_at dksX5_doneOf_0 10 rfl rfl)
abbrev cX5_spent : ByteArray := prog_12_method_52_code
def yX5_spent : MethodName := ⟨RX5, "spent", "()I"⟩
theorem dX5_spent_0 : decode cX5_spent 0 = .ok (.aload_n 0, 1) := by decide +kernel
theorem dX5_spent_1 : decode cX5_spent 1 = .ok (.invokevirtual 253, 3) := by decide +kernel
theorem dX5_spent_4 : decode cX5_spent 4 = .ok (.ireturn, 1) := by decide +kernel
abbrev cX5_spentOf : ByteArray := prog_12_method_51_code
def yX5_spentOf : MethodName := ⟨RX5, "spentOf", "()I"⟩
def dkwX5_spentOf_2 : List UInt8 := [172]
abbrev dktX5_spentOf_2 : List UInt8 := dkwX5_spentOf_2 ++ []
def dkwX5_spentOf_1 : List UInt8 := [180, 0, 52, 28, 46, 154, 0, 9, 4, 28, 120, 167, 0, 4, 3, 128, 60, 132, 2, 1, 167, 255, 220, 27]
abbrev dktX5_spentOf_1 : List UInt8 := dkwX5_spentOf_1 ++ dktX5_spentOf_2
def dkwX5_spentOf_0 : List UInt8 := [42, 182, 0, 235, 3, 60, 3, 61, 28, 16, 16, 162, 0, 36, 27, 42, 28, 182, 0, 141, 153, 0, 18, 42]
abbrev dktX5_spentOf_0 : List UInt8 := dkwX5_spentOf_0 ++ dktX5_spentOf_1
theorem dksX5_spentOf_0 : cX5_spentOf.data.toList.drop 0 = dktX5_spentOf_0 := by decide +kernel
theorem dksX5_spentOf_1 : cX5_spentOf.data.toList.drop 24 = dktX5_spentOf_1 := dk_seg dksX5_spentOf_0 24 rfl rfl
theorem dksX5_spentOf_2 : cX5_spentOf.data.toList.drop 48 = dktX5_spentOf_2 := dk_seg dksX5_spentOf_1 24 rfl rfl
theorem dX5_spentOf_0 : decode cX5_spentOf 0 = .ok (.aload_n 0, 1) := dk_42 (dk_at dksX5_spentOf_0 0 rfl rfl)
theorem dX5_spentOf_1 : decode cX5_spentOf 1 = .ok (.invokevirtual 235, 3) := dk_182 0 235 (dk_at dksX5_spentOf_0 1 rfl rfl)
theorem dX5_spentOf_4 : decode cX5_spentOf 4 = .ok (.iconst 0, 1) := dk_3 (dk_at dksX5_spentOf_0 4 rfl rfl)
theorem dX5_spentOf_5 : decode cX5_spentOf 5 = .ok (.istore_n 1, 1) := dk_60 (dk_at dksX5_spentOf_0 5 rfl rfl)
theorem dX5_spentOf_6 : decode cX5_spentOf 6 = .ok (.iconst 0, 1) := dk_3 (dk_at dksX5_spentOf_0 6 rfl rfl)
theorem dX5_spentOf_7 : decode cX5_spentOf 7 = .ok (.istore_n 2, 1) := dk_61 (dk_at dksX5_spentOf_0 7 rfl rfl)
theorem dX5_spentOf_8 : decode cX5_spentOf 8 = .ok (.iload_n 2, 1) := dk_28 (dk_at dksX5_spentOf_0 8 rfl rfl)
theorem dX5_spentOf_9 : decode cX5_spentOf 9 = .ok (.bipush 16, 2) := dk_16 16 (dk_at dksX5_spentOf_0 9 rfl rfl)
theorem dX5_spentOf_11 : decode cX5_spentOf 11 = .ok (.if_icmp .ge 36, 3) := dk_162 0 36 (dk_at dksX5_spentOf_0 11 rfl rfl)
theorem dX5_spentOf_14 : decode cX5_spentOf 14 = .ok (.iload_n 1, 1) := dk_27 (dk_at dksX5_spentOf_0 14 rfl rfl)
theorem dX5_spentOf_15 : decode cX5_spentOf 15 = .ok (.aload_n 0, 1) := dk_42 (dk_at dksX5_spentOf_0 15 rfl rfl)
theorem dX5_spentOf_16 : decode cX5_spentOf 16 = .ok (.iload_n 2, 1) := dk_28 (dk_at dksX5_spentOf_0 16 rfl rfl)
theorem dX5_spentOf_17 : decode cX5_spentOf 17 = .ok (.invokevirtual 141, 3) := dk_182 0 141 (dk_at dksX5_spentOf_0 17 rfl rfl)
theorem dX5_spentOf_20 : decode cX5_spentOf 20 = .ok (.ifCond .eq 18, 3) := dk_153 0 18 (dk_at dksX5_spentOf_0 20 rfl rfl)
theorem dX5_spentOf_23 : decode cX5_spentOf 23 = .ok (.aload_n 0, 1) := dk_42 (dk_at dksX5_spentOf_0 23 rfl rfl)
theorem dX5_spentOf_24 : decode cX5_spentOf 24 = .ok (.getfield 52, 3) := dk_180 0 52 (dk_at dksX5_spentOf_1 0 rfl rfl)
theorem dX5_spentOf_27 : decode cX5_spentOf 27 = .ok (.iload_n 2, 1) := dk_28 (dk_at dksX5_spentOf_1 3 rfl rfl)
theorem dX5_spentOf_28 : decode cX5_spentOf 28 = .ok (.iaload, 1) := dk_46 (dk_at dksX5_spentOf_1 4 rfl rfl)
theorem dX5_spentOf_29 : decode cX5_spentOf 29 = .ok (.ifCond .ne 9, 3) := dk_154 0 9 (dk_at dksX5_spentOf_1 5 rfl rfl)
theorem dX5_spentOf_32 : decode cX5_spentOf 32 = .ok (.iconst 1, 1) := dk_4 (dk_at dksX5_spentOf_1 8 rfl rfl)
theorem dX5_spentOf_33 : decode cX5_spentOf 33 = .ok (.iload_n 2, 1) := dk_28 (dk_at dksX5_spentOf_1 9 rfl rfl)
theorem dX5_spentOf_34 : decode cX5_spentOf 34 = .ok (.ishl, 1) := dk_120 (dk_at dksX5_spentOf_1 10 rfl rfl)
theorem dX5_spentOf_35 : decode cX5_spentOf 35 = .ok (.goto 4, 3) := dk_167 0 4 (dk_at dksX5_spentOf_1 11 rfl rfl)
theorem dX5_spentOf_38 : decode cX5_spentOf 38 = .ok (.iconst 0, 1) := dk_3 (dk_at dksX5_spentOf_1 14 rfl rfl)
theorem dX5_spentOf_39 : decode cX5_spentOf 39 = .ok (.ior, 1) := dk_128 (dk_at dksX5_spentOf_1 15 rfl rfl)
theorem dX5_spentOf_40 : decode cX5_spentOf 40 = .ok (.istore_n 1, 1) := dk_60 (dk_at dksX5_spentOf_1 16 rfl rfl)
theorem dX5_spentOf_41 : decode cX5_spentOf 41 = .ok (.iinc 2 1, 3) := dk_132 2 1 (dk_at dksX5_spentOf_1 17 rfl rfl)
theorem dX5_spentOf_44 : decode cX5_spentOf 44 = .ok (.goto (-36), 3) := dk_167 255 220 (dk_at dksX5_spentOf_1 20 rfl rfl)
theorem dX5_spentOf_47 : decode cX5_spentOf 47 = .ok (.iload_n 1, 1) := dk_27 (dk_at dksX5_spentOf_1 23 rfl rfl)
theorem dX5_spentOf_48 : decode cX5_spentOf 48 = .ok (.ireturn, 1) := dk_172 (dk_at dksX5_spentOf_2 0 rfl rfl)
abbrev cX5_best : ByteArray := prog_12_method_54_code
def yX5_best : MethodName := ⟨RX5, "best", "()I"⟩
theorem dX5_best_0 : decode cX5_best 0 = .ok (.aload_n 0, 1) := by decide +kernel
theorem dX5_best_1 : decode cX5_best 1 = .ok (.invokevirtual 257, 3) := by decide +kernel
theorem dX5_best_4 : decode cX5_best 4 = .ok (.ireturn, 1) := by decide +kernel
abbrev cX5_bestOf : ByteArray := prog_12_method_53_code
def yX5_bestOf : MethodName := ⟨RX5, "bestOf", "()I"⟩
def dkwX5_bestOf_2 : List UInt8 := [46, 167, 0, 4, 28, 61, 132, 3, 1, 167, 255, 210, 27, 172]
abbrev dktX5_bestOf_2 : List UInt8 := dkwX5_bestOf_2 ++ []
def dkwX5_bestOf_1 : List UInt8 := [164, 0, 7, 29, 167, 0, 4, 27, 60, 42, 180, 0, 55, 29, 46, 28, 164, 0, 12, 42, 180, 0, 55, 29]
abbrev dktX5_bestOf_1 : List UInt8 := dkwX5_bestOf_1 ++ dktX5_bestOf_2
def dkwX5_bestOf_0 : List UInt8 := [42, 182, 0, 235, 2, 60, 3, 61, 3, 62, 29, 16, 16, 162, 0, 46, 42, 180, 0, 55, 29, 46, 28]
abbrev dktX5_bestOf_0 : List UInt8 := dkwX5_bestOf_0 ++ dktX5_bestOf_1
theorem dksX5_bestOf_0 : cX5_bestOf.data.toList.drop 0 = dktX5_bestOf_0 := by decide +kernel
theorem dksX5_bestOf_1 : cX5_bestOf.data.toList.drop 23 = dktX5_bestOf_1 := dk_seg dksX5_bestOf_0 23 rfl rfl
theorem dksX5_bestOf_2 : cX5_bestOf.data.toList.drop 47 = dktX5_bestOf_2 := dk_seg dksX5_bestOf_1 24 rfl rfl
theorem dX5_bestOf_0 : decode cX5_bestOf 0 = .ok (.aload_n 0, 1) := dk_42 (dk_at dksX5_bestOf_0 0 rfl rfl)
theorem dX5_bestOf_1 : decode cX5_bestOf 1 = .ok (.invokevirtual 235, 3) := dk_182 0 235 (dk_at dksX5_bestOf_0 1 rfl rfl)
theorem dX5_bestOf_4 : decode cX5_bestOf 4 = .ok (.iconst (-1), 1) := dk_2 (dk_at dksX5_bestOf_0 4 rfl rfl)
theorem dX5_bestOf_5 : decode cX5_bestOf 5 = .ok (.istore_n 1, 1) := dk_60 (dk_at dksX5_bestOf_0 5 rfl rfl)
theorem dX5_bestOf_6 : decode cX5_bestOf 6 = .ok (.iconst 0, 1) := dk_3 (dk_at dksX5_bestOf_0 6 rfl rfl)
theorem dX5_bestOf_7 : decode cX5_bestOf 7 = .ok (.istore_n 2, 1) := dk_61 (dk_at dksX5_bestOf_0 7 rfl rfl)
theorem dX5_bestOf_8 : decode cX5_bestOf 8 = .ok (.iconst 0, 1) := dk_3 (dk_at dksX5_bestOf_0 8 rfl rfl)
theorem dX5_bestOf_9 : decode cX5_bestOf 9 = .ok (.istore_n 3, 1) := dk_62 (dk_at dksX5_bestOf_0 9 rfl rfl)
theorem dX5_bestOf_10 : decode cX5_bestOf 10 = .ok (.iload_n 3, 1) := dk_29 (dk_at dksX5_bestOf_0 10 rfl rfl)
theorem dX5_bestOf_11 : decode cX5_bestOf 11 = .ok (.bipush 16, 2) := dk_16 16 (dk_at dksX5_bestOf_0 11 rfl rfl)
theorem dX5_bestOf_13 : decode cX5_bestOf 13 = .ok (.if_icmp .ge 46, 3) := dk_162 0 46 (dk_at dksX5_bestOf_0 13 rfl rfl)
theorem dX5_bestOf_16 : decode cX5_bestOf 16 = .ok (.aload_n 0, 1) := dk_42 (dk_at dksX5_bestOf_0 16 rfl rfl)
theorem dX5_bestOf_17 : decode cX5_bestOf 17 = .ok (.getfield 55, 3) := dk_180 0 55 (dk_at dksX5_bestOf_0 17 rfl rfl)
theorem dX5_bestOf_20 : decode cX5_bestOf 20 = .ok (.iload_n 3, 1) := dk_29 (dk_at dksX5_bestOf_0 20 rfl rfl)
theorem dX5_bestOf_21 : decode cX5_bestOf 21 = .ok (.iaload, 1) := dk_46 (dk_at dksX5_bestOf_0 21 rfl rfl)
theorem dX5_bestOf_22 : decode cX5_bestOf 22 = .ok (.iload_n 2, 1) := dk_28 (dk_at dksX5_bestOf_0 22 rfl rfl)
theorem dX5_bestOf_23 : decode cX5_bestOf 23 = .ok (.if_icmp .le 7, 3) := dk_164 0 7 (dk_at dksX5_bestOf_1 0 rfl rfl)
theorem dX5_bestOf_26 : decode cX5_bestOf 26 = .ok (.iload_n 3, 1) := dk_29 (dk_at dksX5_bestOf_1 3 rfl rfl)
theorem dX5_bestOf_27 : decode cX5_bestOf 27 = .ok (.goto 4, 3) := dk_167 0 4 (dk_at dksX5_bestOf_1 4 rfl rfl)
theorem dX5_bestOf_30 : decode cX5_bestOf 30 = .ok (.iload_n 1, 1) := dk_27 (dk_at dksX5_bestOf_1 7 rfl rfl)
theorem dX5_bestOf_31 : decode cX5_bestOf 31 = .ok (.istore_n 1, 1) := dk_60 (dk_at dksX5_bestOf_1 8 rfl rfl)
theorem dX5_bestOf_32 : decode cX5_bestOf 32 = .ok (.aload_n 0, 1) := dk_42 (dk_at dksX5_bestOf_1 9 rfl rfl)
theorem dX5_bestOf_33 : decode cX5_bestOf 33 = .ok (.getfield 55, 3) := dk_180 0 55 (dk_at dksX5_bestOf_1 10 rfl rfl)
theorem dX5_bestOf_36 : decode cX5_bestOf 36 = .ok (.iload_n 3, 1) := dk_29 (dk_at dksX5_bestOf_1 13 rfl rfl)
theorem dX5_bestOf_37 : decode cX5_bestOf 37 = .ok (.iaload, 1) := dk_46 (dk_at dksX5_bestOf_1 14 rfl rfl)
theorem dX5_bestOf_38 : decode cX5_bestOf 38 = .ok (.iload_n 2, 1) := dk_28 (dk_at dksX5_bestOf_1 15 rfl rfl)
theorem dX5_bestOf_39 : decode cX5_bestOf 39 = .ok (.if_icmp .le 12, 3) := dk_164 0 12 (dk_at dksX5_bestOf_1 16 rfl rfl)
theorem dX5_bestOf_42 : decode cX5_bestOf 42 = .ok (.aload_n 0, 1) := dk_42 (dk_at dksX5_bestOf_1 19 rfl rfl)
theorem dX5_bestOf_43 : decode cX5_bestOf 43 = .ok (.getfield 55, 3) := dk_180 0 55 (dk_at dksX5_bestOf_1 20 rfl rfl)
theorem dX5_bestOf_46 : decode cX5_bestOf 46 = .ok (.iload_n 3, 1) := dk_29 (dk_at dksX5_bestOf_1 23 rfl rfl)
theorem dX5_bestOf_47 : decode cX5_bestOf 47 = .ok (.iaload, 1) := dk_46 (dk_at dksX5_bestOf_2 0 rfl rfl)
theorem dX5_bestOf_48 : decode cX5_bestOf 48 = .ok (.goto 4, 3) := dk_167 0 4 (dk_at dksX5_bestOf_2 1 rfl rfl)
theorem dX5_bestOf_51 : decode cX5_bestOf 51 = .ok (.iload_n 2, 1) := dk_28 (dk_at dksX5_bestOf_2 4 rfl rfl)
theorem dX5_bestOf_52 : decode cX5_bestOf 52 = .ok (.istore_n 2, 1) := dk_61 (dk_at dksX5_bestOf_2 5 rfl rfl)
theorem dX5_bestOf_53 : decode cX5_bestOf 53 = .ok (.iinc 3 1, 3) := dk_132 3 1 (dk_at dksX5_bestOf_2 6 rfl rfl)
theorem dX5_bestOf_56 : decode cX5_bestOf 56 = .ok (.goto (-46), 3) := dk_167 255 210 (dk_at dksX5_bestOf_2 9 rfl rfl)
theorem dX5_bestOf_59 : decode cX5_bestOf 59 = .ok (.iload_n 1, 1) := dk_27 (dk_at dksX5_bestOf_2 12 rfl rfl)
theorem dX5_bestOf_60 : decode cX5_bestOf 60 = .ok (.ireturn, 1) := dk_172 (dk_at dksX5_bestOf_2 13 rfl rfl)
abbrev cX5_level : ByteArray := prog_12_method_56_code
def yX5_level : MethodName := ⟨RX5, "level", "()I"⟩
theorem dX5_level_0 : decode cX5_level 0 = .ok (.aload_n 0, 1) := by decide +kernel
theorem dX5_level_1 : decode cX5_level 1 = .ok (.invokevirtual 260, 3) := by decide +kernel
theorem dX5_level_4 : decode cX5_level 4 = .ok (.ireturn, 1) := by decide +kernel
abbrev cX5_levelOf : ByteArray := prog_12_method_55_code
def yX5_levelOf : MethodName := ⟨RX5, "levelOf", "()I"⟩
def dkwX5_levelOf_0 : List UInt8 := [42, 182, 0, 235, 42, 180, 0, 200, 172]
abbrev dktX5_levelOf_0 : List UInt8 := dkwX5_levelOf_0 ++ []
theorem dksX5_levelOf_0 : cX5_levelOf.data.toList.drop 0 = dktX5_levelOf_0 := by decide +kernel
theorem dX5_levelOf_0 : decode cX5_levelOf 0 = .ok (.aload_n 0, 1) := dk_42 (dk_at dksX5_levelOf_0 0 rfl rfl)
theorem dX5_levelOf_1 : decode cX5_levelOf 1 = .ok (.invokevirtual 235, 3) := dk_182 0 235 (dk_at dksX5_levelOf_0 1 rfl rfl)
theorem dX5_levelOf_4 : decode cX5_levelOf 4 = .ok (.aload_n 0, 1) := dk_42 (dk_at dksX5_levelOf_0 4 rfl rfl)
theorem dX5_levelOf_5 : decode cX5_levelOf 5 = .ok (.getfield 200, 3) := dk_180 0 200 (dk_at dksX5_levelOf_0 5 rfl rfl)
theorem dX5_levelOf_8 : decode cX5_levelOf 8 = .ok (.ireturn, 1) := dk_172 (dk_at dksX5_levelOf_0 8 rfl rfl)
abbrev cX5_better : ByteArray := prog_12_method_60_code
def yX5_better : MethodName := ⟨RX5, "better", "(III)I"⟩
def dkwX5_better_1 : List UInt8 := [29, 182, 1, 19, 167, 0, 5, 16, 254, 172]
abbrev dktX5_better_1 : List UInt8 := dkwX5_better_1 ++ []
def dkwX5_better_0 : List UInt8 := [27, 184, 0, 153, 153, 0, 27, 28, 184, 0, 156, 153, 0, 20, 29, 184, 0, 153, 153, 0, 13, 42, 27, 28]
abbrev dktX5_better_0 : List UInt8 := dkwX5_better_0 ++ dktX5_better_1
theorem dksX5_better_0 : cX5_better.data.toList.drop 0 = dktX5_better_0 := by decide +kernel
theorem dksX5_better_1 : cX5_better.data.toList.drop 24 = dktX5_better_1 := dk_seg dksX5_better_0 24 rfl rfl
theorem dX5_better_0 : decode cX5_better 0 = .ok (.iload_n 1, 1) := dk_27 (dk_at dksX5_better_0 0 rfl rfl)
theorem dX5_better_1 : decode cX5_better 1 = .ok (.invokestatic 153, 3) := dk_184 0 153 (dk_at dksX5_better_0 1 rfl rfl)
theorem dX5_better_4 : decode cX5_better 4 = .ok (.ifCond .eq 27, 3) := dk_153 0 27 (dk_at dksX5_better_0 4 rfl rfl)
theorem dX5_better_7 : decode cX5_better 7 = .ok (.iload_n 2, 1) := dk_28 (dk_at dksX5_better_0 7 rfl rfl)
theorem dX5_better_8 : decode cX5_better 8 = .ok (.invokestatic 156, 3) := dk_184 0 156 (dk_at dksX5_better_0 8 rfl rfl)
theorem dX5_better_11 : decode cX5_better 11 = .ok (.ifCond .eq 20, 3) := dk_153 0 20 (dk_at dksX5_better_0 11 rfl rfl)
theorem dX5_better_14 : decode cX5_better 14 = .ok (.iload_n 3, 1) := dk_29 (dk_at dksX5_better_0 14 rfl rfl)
theorem dX5_better_15 : decode cX5_better 15 = .ok (.invokestatic 153, 3) := dk_184 0 153 (dk_at dksX5_better_0 15 rfl rfl)
theorem dX5_better_18 : decode cX5_better 18 = .ok (.ifCond .eq 13, 3) := dk_153 0 13 (dk_at dksX5_better_0 18 rfl rfl)
theorem dX5_better_21 : decode cX5_better 21 = .ok (.aload_n 0, 1) := dk_42 (dk_at dksX5_better_0 21 rfl rfl)
theorem dX5_better_22 : decode cX5_better 22 = .ok (.iload_n 1, 1) := dk_27 (dk_at dksX5_better_0 22 rfl rfl)
theorem dX5_better_23 : decode cX5_better 23 = .ok (.iload_n 2, 1) := dk_28 (dk_at dksX5_better_0 23 rfl rfl)
theorem dX5_better_24 : decode cX5_better 24 = .ok (.iload_n 3, 1) := dk_29 (dk_at dksX5_better_1 0 rfl rfl)
theorem dX5_better_25 : decode cX5_better 25 = .ok (.invokevirtual 275, 3) := dk_182 1 19 (dk_at dksX5_better_1 1 rfl rfl)
theorem dX5_better_28 : decode cX5_better 28 = .ok (.goto 5, 3) := dk_167 0 5 (dk_at dksX5_better_1 4 rfl rfl)
theorem dX5_better_31 : decode cX5_better 31 = .ok (.bipush (-2), 2) := dk_16 254 (dk_at dksX5_better_1 7 rfl rfl)
theorem dX5_better_33 : decode cX5_better 33 = .ok (.ireturn, 1) := dk_172 (dk_at dksX5_better_1 9 rfl rfl)
abbrev cX5_betterOf : ByteArray := prog_12_method_59_code
def yX5_betterOf : MethodName := ⟨RX5, "betterOf", "(III)I"⟩
def dkwX5_betterOf_2 : List UInt8 := [167, 0, 7, 42, 180, 1, 10, 172]
abbrev dktX5_betterOf_2 : List UInt8 := dkwX5_betterOf_2 ++ []
def dkwX5_betterOf_1 : List UInt8 := [21, 4, 79, 42, 21, 4, 27, 182, 1, 16, 132, 4, 1, 167, 255, 227, 29, 154, 0, 10, 42, 180, 1, 7]
abbrev dktX5_betterOf_1 : List UInt8 := dkwX5_betterOf_1 ++ dktX5_betterOf_2
def dkwX5_betterOf_0 : List UInt8 := [42, 182, 1, 13, 3, 54, 4, 21, 4, 6, 162, 0, 29, 42, 180, 0, 43, 16, 24, 27, 104, 28, 96]
abbrev dktX5_betterOf_0 : List UInt8 := dkwX5_betterOf_0 ++ dktX5_betterOf_1
theorem dksX5_betterOf_0 : cX5_betterOf.data.toList.drop 0 = dktX5_betterOf_0 := by decide +kernel
theorem dksX5_betterOf_1 : cX5_betterOf.data.toList.drop 23 = dktX5_betterOf_1 := dk_seg dksX5_betterOf_0 23 rfl rfl
theorem dksX5_betterOf_2 : cX5_betterOf.data.toList.drop 47 = dktX5_betterOf_2 := dk_seg dksX5_betterOf_1 24 rfl rfl
theorem dX5_betterOf_0 : decode cX5_betterOf 0 = .ok (.aload_n 0, 1) := dk_42 (dk_at dksX5_betterOf_0 0 rfl rfl)
theorem dX5_betterOf_1 : decode cX5_betterOf 1 = .ok (.invokevirtual 269, 3) := dk_182 1 13 (dk_at dksX5_betterOf_0 1 rfl rfl)
theorem dX5_betterOf_4 : decode cX5_betterOf 4 = .ok (.iconst 0, 1) := dk_3 (dk_at dksX5_betterOf_0 4 rfl rfl)
theorem dX5_betterOf_5 : decode cX5_betterOf 5 = .ok (.istore 4, 2) := dk_54 4 (dk_at dksX5_betterOf_0 5 rfl rfl)
theorem dX5_betterOf_7 : decode cX5_betterOf 7 = .ok (.iload 4, 2) := dk_21 4 (dk_at dksX5_betterOf_0 7 rfl rfl)
theorem dX5_betterOf_9 : decode cX5_betterOf 9 = .ok (.iconst 3, 1) := dk_6 (dk_at dksX5_betterOf_0 9 rfl rfl)
theorem dX5_betterOf_10 : decode cX5_betterOf 10 = .ok (.if_icmp .ge 29, 3) := dk_162 0 29 (dk_at dksX5_betterOf_0 10 rfl rfl)
theorem dX5_betterOf_13 : decode cX5_betterOf 13 = .ok (.aload_n 0, 1) := dk_42 (dk_at dksX5_betterOf_0 13 rfl rfl)
theorem dX5_betterOf_14 : decode cX5_betterOf 14 = .ok (.getfield 43, 3) := dk_180 0 43 (dk_at dksX5_betterOf_0 14 rfl rfl)
theorem dX5_betterOf_17 : decode cX5_betterOf 17 = .ok (.bipush 24, 2) := dk_16 24 (dk_at dksX5_betterOf_0 17 rfl rfl)
theorem dX5_betterOf_19 : decode cX5_betterOf 19 = .ok (.iload_n 1, 1) := dk_27 (dk_at dksX5_betterOf_0 19 rfl rfl)
theorem dX5_betterOf_20 : decode cX5_betterOf 20 = .ok (.imul, 1) := dk_104 (dk_at dksX5_betterOf_0 20 rfl rfl)
theorem dX5_betterOf_21 : decode cX5_betterOf 21 = .ok (.iload_n 2, 1) := dk_28 (dk_at dksX5_betterOf_0 21 rfl rfl)
theorem dX5_betterOf_22 : decode cX5_betterOf 22 = .ok (.iadd, 1) := dk_96 (dk_at dksX5_betterOf_0 22 rfl rfl)
theorem dX5_betterOf_23 : decode cX5_betterOf 23 = .ok (.iload 4, 2) := dk_21 4 (dk_at dksX5_betterOf_1 0 rfl rfl)
theorem dX5_betterOf_25 : decode cX5_betterOf 25 = .ok (.iastore, 1) := dk_79 (dk_at dksX5_betterOf_1 2 rfl rfl)
theorem dX5_betterOf_26 : decode cX5_betterOf 26 = .ok (.aload_n 0, 1) := dk_42 (dk_at dksX5_betterOf_1 3 rfl rfl)
theorem dX5_betterOf_27 : decode cX5_betterOf 27 = .ok (.iload 4, 2) := dk_21 4 (dk_at dksX5_betterOf_1 4 rfl rfl)
theorem dX5_betterOf_29 : decode cX5_betterOf 29 = .ok (.iload_n 1, 1) := dk_27 (dk_at dksX5_betterOf_1 6 rfl rfl)
theorem dX5_betterOf_30 : decode cX5_betterOf 30 = .ok (.invokevirtual 272, 3) := dk_182 1 16 (dk_at dksX5_betterOf_1 7 rfl rfl)
theorem dX5_betterOf_33 : decode cX5_betterOf 33 = .ok (.iinc 4 1, 3) := dk_132 4 1 (dk_at dksX5_betterOf_1 10 rfl rfl)
theorem dX5_betterOf_36 : decode cX5_betterOf 36 = .ok (.goto (-29), 3) := dk_167 255 227 (dk_at dksX5_betterOf_1 13 rfl rfl)
theorem dX5_betterOf_39 : decode cX5_betterOf 39 = .ok (.iload_n 3, 1) := dk_29 (dk_at dksX5_betterOf_1 16 rfl rfl)
theorem dX5_betterOf_40 : decode cX5_betterOf 40 = .ok (.ifCond .ne 10, 3) := dk_154 0 10 (dk_at dksX5_betterOf_1 17 rfl rfl)
theorem dX5_betterOf_43 : decode cX5_betterOf 43 = .ok (.aload_n 0, 1) := dk_42 (dk_at dksX5_betterOf_1 20 rfl rfl)
theorem dX5_betterOf_44 : decode cX5_betterOf 44 = .ok (.getfield 263, 3) := dk_180 1 7 (dk_at dksX5_betterOf_1 21 rfl rfl)
theorem dX5_betterOf_47 : decode cX5_betterOf 47 = .ok (.goto 7, 3) := dk_167 0 7 (dk_at dksX5_betterOf_2 0 rfl rfl)
theorem dX5_betterOf_50 : decode cX5_betterOf 50 = .ok (.aload_n 0, 1) := dk_42 (dk_at dksX5_betterOf_2 3 rfl rfl)
theorem dX5_betterOf_51 : decode cX5_betterOf 51 = .ok (.getfield 266, 3) := dk_180 1 10 (dk_at dksX5_betterOf_2 4 rfl rfl)
theorem dX5_betterOf_54 : decode cX5_betterOf 54 = .ok (.ireturn, 1) := dk_172 (dk_at dksX5_betterOf_2 7 rfl rfl)
abbrev cX5_starts : ByteArray := prog_12_method_57_code
def yX5_starts : MethodName := ⟨RX5, "starts", "()V"⟩
def dkwX5_starts_0 : List UInt8 := [42, 182, 0, 229, 42, 2, 181, 1, 7, 42, 2, 181, 1, 10, 177]
abbrev dktX5_starts_0 : List UInt8 := dkwX5_starts_0 ++ []
theorem dksX5_starts_0 : cX5_starts.data.toList.drop 0 = dktX5_starts_0 := by decide +kernel
theorem dX5_starts_0 : decode cX5_starts 0 = .ok (.aload_n 0, 1) := dk_42 (dk_at dksX5_starts_0 0 rfl rfl)
theorem dX5_starts_1 : decode cX5_starts 1 = .ok (.invokevirtual 229, 3) := dk_182 0 229 (dk_at dksX5_starts_0 1 rfl rfl)
theorem dX5_starts_4 : decode cX5_starts 4 = .ok (.aload_n 0, 1) := dk_42 (dk_at dksX5_starts_0 4 rfl rfl)
theorem dX5_starts_5 : decode cX5_starts 5 = .ok (.iconst (-1), 1) := dk_2 (dk_at dksX5_starts_0 5 rfl rfl)
theorem dX5_starts_6 : decode cX5_starts 6 = .ok (.putfield 263, 3) := dk_181 1 7 (dk_at dksX5_starts_0 6 rfl rfl)
theorem dX5_starts_9 : decode cX5_starts 9 = .ok (.aload_n 0, 1) := dk_42 (dk_at dksX5_starts_0 9 rfl rfl)
theorem dX5_starts_10 : decode cX5_starts 10 = .ok (.iconst (-1), 1) := dk_2 (dk_at dksX5_starts_0 10 rfl rfl)
theorem dX5_starts_11 : decode cX5_starts 11 = .ok (.putfield 266, 3) := dk_181 1 10 (dk_at dksX5_starts_0 11 rfl rfl)
theorem dX5_starts_14 : decode cX5_starts 14 = .ok (.return_, 1) := dk_177 (dk_at dksX5_starts_0 14 rfl rfl)
abbrev cX5_tries : ByteArray := prog_12_method_58_code
def yX5_tries : MethodName := ⟨RX5, "tries", "(II)V"⟩
def dkwX5_tries_3 : List UInt8 := [167, 0, 7, 42, 180, 1, 10, 181, 1, 10, 177]
abbrev dktX5_tries_3 : List UInt8 := dkwX5_tries_3 ++ []
def dkwX5_tries_2 : List UInt8 := [29, 153, 0, 7, 27, 167, 0, 7, 42, 180, 1, 7, 181, 1, 7, 42, 29, 153, 0, 10, 42, 180, 0, 203]
abbrev dktX5_tries_2 : List UInt8 := dkwX5_tries_2 ++ dktX5_tries_3
def dkwX5_tries_1 : List UInt8 := [164, 0, 21, 167, 0, 14, 42, 180, 0, 203, 42, 180, 1, 10, 162, 0, 7, 4, 167, 0, 4, 3, 62, 42]
abbrev dktX5_tries_1 : List UInt8 := dkwX5_tries_1 ++ dktX5_tries_2
def dkwX5_tries_0 : List UInt8 := [42, 182, 0, 232, 42, 180, 1, 7, 2, 159, 0, 32, 28, 154, 0, 17, 42, 180, 0, 203, 42, 180, 1, 10]
abbrev dktX5_tries_0 : List UInt8 := dkwX5_tries_0 ++ dktX5_tries_1
theorem dksX5_tries_0 : cX5_tries.data.toList.drop 0 = dktX5_tries_0 := by decide +kernel
theorem dksX5_tries_1 : cX5_tries.data.toList.drop 24 = dktX5_tries_1 := dk_seg dksX5_tries_0 24 rfl rfl
theorem dksX5_tries_2 : cX5_tries.data.toList.drop 48 = dktX5_tries_2 := dk_seg dksX5_tries_1 24 rfl rfl
theorem dksX5_tries_3 : cX5_tries.data.toList.drop 72 = dktX5_tries_3 := dk_seg dksX5_tries_2 24 rfl rfl
theorem dX5_tries_0 : decode cX5_tries 0 = .ok (.aload_n 0, 1) := dk_42 (dk_at dksX5_tries_0 0 rfl rfl)
theorem dX5_tries_1 : decode cX5_tries 1 = .ok (.invokevirtual 232, 3) := dk_182 0 232 (dk_at dksX5_tries_0 1 rfl rfl)
theorem dX5_tries_4 : decode cX5_tries 4 = .ok (.aload_n 0, 1) := dk_42 (dk_at dksX5_tries_0 4 rfl rfl)
theorem dX5_tries_5 : decode cX5_tries 5 = .ok (.getfield 263, 3) := dk_180 1 7 (dk_at dksX5_tries_0 5 rfl rfl)
theorem dX5_tries_8 : decode cX5_tries 8 = .ok (.iconst (-1), 1) := dk_2 (dk_at dksX5_tries_0 8 rfl rfl)
theorem dX5_tries_9 : decode cX5_tries 9 = .ok (.if_icmp .eq 32, 3) := dk_159 0 32 (dk_at dksX5_tries_0 9 rfl rfl)
theorem dX5_tries_12 : decode cX5_tries 12 = .ok (.iload_n 2, 1) := dk_28 (dk_at dksX5_tries_0 12 rfl rfl)
theorem dX5_tries_13 : decode cX5_tries 13 = .ok (.ifCond .ne 17, 3) := dk_154 0 17 (dk_at dksX5_tries_0 13 rfl rfl)
theorem dX5_tries_16 : decode cX5_tries 16 = .ok (.aload_n 0, 1) := dk_42 (dk_at dksX5_tries_0 16 rfl rfl)
theorem dX5_tries_17 : decode cX5_tries 17 = .ok (.getfield 203, 3) := dk_180 0 203 (dk_at dksX5_tries_0 17 rfl rfl)
theorem dX5_tries_20 : decode cX5_tries 20 = .ok (.aload_n 0, 1) := dk_42 (dk_at dksX5_tries_0 20 rfl rfl)
theorem dX5_tries_21 : decode cX5_tries 21 = .ok (.getfield 266, 3) := dk_180 1 10 (dk_at dksX5_tries_0 21 rfl rfl)
theorem dX5_tries_24 : decode cX5_tries 24 = .ok (.if_icmp .le 21, 3) := dk_164 0 21 (dk_at dksX5_tries_1 0 rfl rfl)
theorem dX5_tries_27 : decode cX5_tries 27 = .ok (.goto 14, 3) := dk_167 0 14 (dk_at dksX5_tries_1 3 rfl rfl)
theorem dX5_tries_30 : decode cX5_tries 30 = .ok (.aload_n 0, 1) := dk_42 (dk_at dksX5_tries_1 6 rfl rfl)
theorem dX5_tries_31 : decode cX5_tries 31 = .ok (.getfield 203, 3) := dk_180 0 203 (dk_at dksX5_tries_1 7 rfl rfl)
theorem dX5_tries_34 : decode cX5_tries 34 = .ok (.aload_n 0, 1) := dk_42 (dk_at dksX5_tries_1 10 rfl rfl)
theorem dX5_tries_35 : decode cX5_tries 35 = .ok (.getfield 266, 3) := dk_180 1 10 (dk_at dksX5_tries_1 11 rfl rfl)
theorem dX5_tries_38 : decode cX5_tries 38 = .ok (.if_icmp .ge 7, 3) := dk_162 0 7 (dk_at dksX5_tries_1 14 rfl rfl)
theorem dX5_tries_41 : decode cX5_tries 41 = .ok (.iconst 1, 1) := dk_4 (dk_at dksX5_tries_1 17 rfl rfl)
theorem dX5_tries_42 : decode cX5_tries 42 = .ok (.goto 4, 3) := dk_167 0 4 (dk_at dksX5_tries_1 18 rfl rfl)
theorem dX5_tries_45 : decode cX5_tries 45 = .ok (.iconst 0, 1) := dk_3 (dk_at dksX5_tries_1 21 rfl rfl)
theorem dX5_tries_46 : decode cX5_tries 46 = .ok (.istore_n 3, 1) := dk_62 (dk_at dksX5_tries_1 22 rfl rfl)
theorem dX5_tries_47 : decode cX5_tries 47 = .ok (.aload_n 0, 1) := dk_42 (dk_at dksX5_tries_1 23 rfl rfl)
theorem dX5_tries_48 : decode cX5_tries 48 = .ok (.iload_n 3, 1) := dk_29 (dk_at dksX5_tries_2 0 rfl rfl)
theorem dX5_tries_49 : decode cX5_tries 49 = .ok (.ifCond .eq 7, 3) := dk_153 0 7 (dk_at dksX5_tries_2 1 rfl rfl)
theorem dX5_tries_52 : decode cX5_tries 52 = .ok (.iload_n 1, 1) := dk_27 (dk_at dksX5_tries_2 4 rfl rfl)
theorem dX5_tries_53 : decode cX5_tries 53 = .ok (.goto 7, 3) := dk_167 0 7 (dk_at dksX5_tries_2 5 rfl rfl)
theorem dX5_tries_56 : decode cX5_tries 56 = .ok (.aload_n 0, 1) := dk_42 (dk_at dksX5_tries_2 8 rfl rfl)
theorem dX5_tries_57 : decode cX5_tries 57 = .ok (.getfield 263, 3) := dk_180 1 7 (dk_at dksX5_tries_2 9 rfl rfl)
theorem dX5_tries_60 : decode cX5_tries 60 = .ok (.putfield 263, 3) := dk_181 1 7 (dk_at dksX5_tries_2 12 rfl rfl)
theorem dX5_tries_63 : decode cX5_tries 63 = .ok (.aload_n 0, 1) := dk_42 (dk_at dksX5_tries_2 15 rfl rfl)
theorem dX5_tries_64 : decode cX5_tries 64 = .ok (.iload_n 3, 1) := dk_29 (dk_at dksX5_tries_2 16 rfl rfl)
theorem dX5_tries_65 : decode cX5_tries 65 = .ok (.ifCond .eq 10, 3) := dk_153 0 10 (dk_at dksX5_tries_2 17 rfl rfl)
theorem dX5_tries_68 : decode cX5_tries 68 = .ok (.aload_n 0, 1) := dk_42 (dk_at dksX5_tries_2 20 rfl rfl)
theorem dX5_tries_69 : decode cX5_tries 69 = .ok (.getfield 203, 3) := dk_180 0 203 (dk_at dksX5_tries_2 21 rfl rfl)
theorem dX5_tries_72 : decode cX5_tries 72 = .ok (.goto 7, 3) := dk_167 0 7 (dk_at dksX5_tries_3 0 rfl rfl)
theorem dX5_tries_75 : decode cX5_tries 75 = .ok (.aload_n 0, 1) := dk_42 (dk_at dksX5_tries_3 3 rfl rfl)
theorem dX5_tries_76 : decode cX5_tries 76 = .ok (.getfield 266, 3) := dk_180 1 10 (dk_at dksX5_tries_3 4 rfl rfl)
theorem dX5_tries_79 : decode cX5_tries 79 = .ok (.putfield 266, 3) := dk_181 1 10 (dk_at dksX5_tries_3 7 rfl rfl)
theorem dX5_tries_82 : decode cX5_tries 82 = .ok (.return_, 1) := dk_177 (dk_at dksX5_tries_3 10 rfl rfl)
abbrev cX5_swap : ByteArray := prog_12_method_62_code
def yX5_swap : MethodName := ⟨RX5, "swap", "(II)I"⟩
def dkwX5_swap_1 : List UInt8 := [16, 254, 172]
abbrev dktX5_swap_1 : List UInt8 := dkwX5_swap_1 ++ []
def dkwX5_swap_0 : List UInt8 := [27, 184, 0, 153, 153, 0, 19, 28, 184, 0, 147, 153, 0, 12, 42, 27, 28, 182, 1, 22, 167, 0, 5]
abbrev dktX5_swap_0 : List UInt8 := dkwX5_swap_0 ++ dktX5_swap_1
theorem dksX5_swap_0 : cX5_swap.data.toList.drop 0 = dktX5_swap_0 := by decide +kernel
theorem dksX5_swap_1 : cX5_swap.data.toList.drop 23 = dktX5_swap_1 := dk_seg dksX5_swap_0 23 rfl rfl
theorem dX5_swap_0 : decode cX5_swap 0 = .ok (.iload_n 1, 1) := dk_27 (dk_at dksX5_swap_0 0 rfl rfl)
theorem dX5_swap_1 : decode cX5_swap 1 = .ok (.invokestatic 153, 3) := dk_184 0 153 (dk_at dksX5_swap_0 1 rfl rfl)
theorem dX5_swap_4 : decode cX5_swap 4 = .ok (.ifCond .eq 19, 3) := dk_153 0 19 (dk_at dksX5_swap_0 4 rfl rfl)
theorem dX5_swap_7 : decode cX5_swap 7 = .ok (.iload_n 2, 1) := dk_28 (dk_at dksX5_swap_0 7 rfl rfl)
theorem dX5_swap_8 : decode cX5_swap 8 = .ok (.invokestatic 147, 3) := dk_184 0 147 (dk_at dksX5_swap_0 8 rfl rfl)
theorem dX5_swap_11 : decode cX5_swap 11 = .ok (.ifCond .eq 12, 3) := dk_153 0 12 (dk_at dksX5_swap_0 11 rfl rfl)
theorem dX5_swap_14 : decode cX5_swap 14 = .ok (.aload_n 0, 1) := dk_42 (dk_at dksX5_swap_0 14 rfl rfl)
theorem dX5_swap_15 : decode cX5_swap 15 = .ok (.iload_n 1, 1) := dk_27 (dk_at dksX5_swap_0 15 rfl rfl)
theorem dX5_swap_16 : decode cX5_swap 16 = .ok (.iload_n 2, 1) := dk_28 (dk_at dksX5_swap_0 16 rfl rfl)
theorem dX5_swap_17 : decode cX5_swap 17 = .ok (.invokevirtual 278, 3) := dk_182 1 22 (dk_at dksX5_swap_0 17 rfl rfl)
theorem dX5_swap_20 : decode cX5_swap 20 = .ok (.goto 5, 3) := dk_167 0 5 (dk_at dksX5_swap_0 20 rfl rfl)
theorem dX5_swap_23 : decode cX5_swap 23 = .ok (.bipush (-2), 2) := dk_16 254 (dk_at dksX5_swap_1 0 rfl rfl)
theorem dX5_swap_25 : decode cX5_swap 25 = .ok (.ireturn, 1) := dk_172 (dk_at dksX5_swap_1 2 rfl rfl)
abbrev cX5_swapOf : ByteArray := prog_12_method_61_code
def yX5_swapOf : MethodName := ⟨RX5, "swapOf", "(II)I"⟩
def dkwX5_swapOf_6 : List UInt8 := [167, 0, 22, 28, 4, 160, 0, 13, 42, 180, 1, 7, 16, 16, 112, 167, 0, 7, 42, 180, 1, 10, 172]
abbrev dktX5_swapOf_6 : List UInt8 := dkwX5_swapOf_6 ++ []
def dkwX5_swapOf_5 : List UInt8 := [42, 180, 1, 7, 2, 160, 0, 7, 2, 167, 0, 36, 28, 154, 0, 13, 42, 180, 1, 7, 16, 16, 108]
abbrev dktX5_swapOf_5 : List UInt8 := dkwX5_swapOf_5 ++ dktX5_swapOf_6
def dkwX5_swapOf_4 : List UInt8 := [42, 180, 0, 46, 21, 5, 21, 5, 16, 8, 112, 79, 132, 5, 1, 167, 255, 179, 132, 4, 1, 167, 255, 154]
abbrev dktX5_swapOf_4 : List UInt8 := dkwX5_swapOf_4 ++ dktX5_swapOf_5
def dkwX5_swapOf_3 : List UInt8 := [16, 16, 21, 4, 104, 21, 5, 96, 27, 182, 1, 16, 42, 180, 0, 46, 21, 4, 21, 4, 16, 8, 112, 79]
abbrev dktX5_swapOf_3 : List UInt8 := dkwX5_swapOf_3 ++ dktX5_swapOf_4
def dkwX5_swapOf_2 : List UInt8 := [180, 0, 46, 21, 4, 21, 5, 16, 8, 112, 79, 42, 180, 0, 46, 21, 5, 21, 4, 16, 8, 112, 79, 42]
abbrev dktX5_swapOf_2 : List UInt8 := dkwX5_swapOf_2 ++ dktX5_swapOf_3
def dkwX5_swapOf_1 : List UInt8 := [162, 0, 95, 21, 4, 4, 96, 54, 5, 21, 5, 29, 42, 180, 0, 16, 27, 46, 96, 162, 0, 70, 42]
abbrev dktX5_swapOf_1 : List UInt8 := dkwX5_swapOf_1 ++ dktX5_swapOf_2
def dkwX5_swapOf_0 : List UInt8 := [42, 182, 1, 13, 16, 8, 27, 104, 62, 29, 54, 4, 21, 4, 29, 42, 180, 0, 16, 27, 46, 96]
abbrev dktX5_swapOf_0 : List UInt8 := dkwX5_swapOf_0 ++ dktX5_swapOf_1
theorem dksX5_swapOf_0 : cX5_swapOf.data.toList.drop 0 = dktX5_swapOf_0 := by decide +kernel
theorem dksX5_swapOf_1 : cX5_swapOf.data.toList.drop 22 = dktX5_swapOf_1 := dk_seg dksX5_swapOf_0 22 rfl rfl
theorem dksX5_swapOf_2 : cX5_swapOf.data.toList.drop 45 = dktX5_swapOf_2 := dk_seg dksX5_swapOf_1 23 rfl rfl
theorem dksX5_swapOf_3 : cX5_swapOf.data.toList.drop 69 = dktX5_swapOf_3 := dk_seg dksX5_swapOf_2 24 rfl rfl
theorem dksX5_swapOf_4 : cX5_swapOf.data.toList.drop 93 = dktX5_swapOf_4 := dk_seg dksX5_swapOf_3 24 rfl rfl
theorem dksX5_swapOf_5 : cX5_swapOf.data.toList.drop 117 = dktX5_swapOf_5 := dk_seg dksX5_swapOf_4 24 rfl rfl
theorem dksX5_swapOf_6 : cX5_swapOf.data.toList.drop 140 = dktX5_swapOf_6 := dk_seg dksX5_swapOf_5 23 rfl rfl
theorem dX5_swapOf_0 : decode cX5_swapOf 0 = .ok (.aload_n 0, 1) := dk_42 (dk_at dksX5_swapOf_0 0 rfl rfl)
theorem dX5_swapOf_1 : decode cX5_swapOf 1 = .ok (.invokevirtual 269, 3) := dk_182 1 13 (dk_at dksX5_swapOf_0 1 rfl rfl)
theorem dX5_swapOf_4 : decode cX5_swapOf 4 = .ok (.bipush 8, 2) := dk_16 8 (dk_at dksX5_swapOf_0 4 rfl rfl)
theorem dX5_swapOf_6 : decode cX5_swapOf 6 = .ok (.iload_n 1, 1) := dk_27 (dk_at dksX5_swapOf_0 6 rfl rfl)
theorem dX5_swapOf_7 : decode cX5_swapOf 7 = .ok (.imul, 1) := dk_104 (dk_at dksX5_swapOf_0 7 rfl rfl)
theorem dX5_swapOf_8 : decode cX5_swapOf 8 = .ok (.istore_n 3, 1) := dk_62 (dk_at dksX5_swapOf_0 8 rfl rfl)
theorem dX5_swapOf_9 : decode cX5_swapOf 9 = .ok (.iload_n 3, 1) := dk_29 (dk_at dksX5_swapOf_0 9 rfl rfl)
theorem dX5_swapOf_10 : decode cX5_swapOf 10 = .ok (.istore 4, 2) := dk_54 4 (dk_at dksX5_swapOf_0 10 rfl rfl)
theorem dX5_swapOf_12 : decode cX5_swapOf 12 = .ok (.iload 4, 2) := dk_21 4 (dk_at dksX5_swapOf_0 12 rfl rfl)
theorem dX5_swapOf_14 : decode cX5_swapOf 14 = .ok (.iload_n 3, 1) := dk_29 (dk_at dksX5_swapOf_0 14 rfl rfl)
theorem dX5_swapOf_15 : decode cX5_swapOf 15 = .ok (.aload_n 0, 1) := dk_42 (dk_at dksX5_swapOf_0 15 rfl rfl)
theorem dX5_swapOf_16 : decode cX5_swapOf 16 = .ok (.getfield 16, 3) := dk_180 0 16 (dk_at dksX5_swapOf_0 16 rfl rfl)
theorem dX5_swapOf_19 : decode cX5_swapOf 19 = .ok (.iload_n 1, 1) := dk_27 (dk_at dksX5_swapOf_0 19 rfl rfl)
theorem dX5_swapOf_20 : decode cX5_swapOf 20 = .ok (.iaload, 1) := dk_46 (dk_at dksX5_swapOf_0 20 rfl rfl)
theorem dX5_swapOf_21 : decode cX5_swapOf 21 = .ok (.iadd, 1) := dk_96 (dk_at dksX5_swapOf_0 21 rfl rfl)
theorem dX5_swapOf_22 : decode cX5_swapOf 22 = .ok (.if_icmp .ge 95, 3) := dk_162 0 95 (dk_at dksX5_swapOf_1 0 rfl rfl)
theorem dX5_swapOf_25 : decode cX5_swapOf 25 = .ok (.iload 4, 2) := dk_21 4 (dk_at dksX5_swapOf_1 3 rfl rfl)
theorem dX5_swapOf_27 : decode cX5_swapOf 27 = .ok (.iconst 1, 1) := dk_4 (dk_at dksX5_swapOf_1 5 rfl rfl)
theorem dX5_swapOf_28 : decode cX5_swapOf 28 = .ok (.iadd, 1) := dk_96 (dk_at dksX5_swapOf_1 6 rfl rfl)
theorem dX5_swapOf_29 : decode cX5_swapOf 29 = .ok (.istore 5, 2) := dk_54 5 (dk_at dksX5_swapOf_1 7 rfl rfl)
theorem dX5_swapOf_31 : decode cX5_swapOf 31 = .ok (.iload 5, 2) := dk_21 5 (dk_at dksX5_swapOf_1 9 rfl rfl)
theorem dX5_swapOf_33 : decode cX5_swapOf 33 = .ok (.iload_n 3, 1) := dk_29 (dk_at dksX5_swapOf_1 11 rfl rfl)
theorem dX5_swapOf_34 : decode cX5_swapOf 34 = .ok (.aload_n 0, 1) := dk_42 (dk_at dksX5_swapOf_1 12 rfl rfl)
theorem dX5_swapOf_35 : decode cX5_swapOf 35 = .ok (.getfield 16, 3) := dk_180 0 16 (dk_at dksX5_swapOf_1 13 rfl rfl)
theorem dX5_swapOf_38 : decode cX5_swapOf 38 = .ok (.iload_n 1, 1) := dk_27 (dk_at dksX5_swapOf_1 16 rfl rfl)
theorem dX5_swapOf_39 : decode cX5_swapOf 39 = .ok (.iaload, 1) := dk_46 (dk_at dksX5_swapOf_1 17 rfl rfl)
theorem dX5_swapOf_40 : decode cX5_swapOf 40 = .ok (.iadd, 1) := dk_96 (dk_at dksX5_swapOf_1 18 rfl rfl)
theorem dX5_swapOf_41 : decode cX5_swapOf 41 = .ok (.if_icmp .ge 70, 3) := dk_162 0 70 (dk_at dksX5_swapOf_1 19 rfl rfl)
theorem dX5_swapOf_44 : decode cX5_swapOf 44 = .ok (.aload_n 0, 1) := dk_42 (dk_at dksX5_swapOf_1 22 rfl rfl)
theorem dX5_swapOf_45 : decode cX5_swapOf 45 = .ok (.getfield 46, 3) := dk_180 0 46 (dk_at dksX5_swapOf_2 0 rfl rfl)
theorem dX5_swapOf_48 : decode cX5_swapOf 48 = .ok (.iload 4, 2) := dk_21 4 (dk_at dksX5_swapOf_2 3 rfl rfl)
theorem dX5_swapOf_50 : decode cX5_swapOf 50 = .ok (.iload 5, 2) := dk_21 5 (dk_at dksX5_swapOf_2 5 rfl rfl)
theorem dX5_swapOf_52 : decode cX5_swapOf 52 = .ok (.bipush 8, 2) := dk_16 8 (dk_at dksX5_swapOf_2 7 rfl rfl)
theorem dX5_swapOf_54 : decode cX5_swapOf 54 = .ok (.irem, 1) := dk_112 (dk_at dksX5_swapOf_2 9 rfl rfl)
theorem dX5_swapOf_55 : decode cX5_swapOf 55 = .ok (.iastore, 1) := dk_79 (dk_at dksX5_swapOf_2 10 rfl rfl)
theorem dX5_swapOf_56 : decode cX5_swapOf 56 = .ok (.aload_n 0, 1) := dk_42 (dk_at dksX5_swapOf_2 11 rfl rfl)
theorem dX5_swapOf_57 : decode cX5_swapOf 57 = .ok (.getfield 46, 3) := dk_180 0 46 (dk_at dksX5_swapOf_2 12 rfl rfl)
theorem dX5_swapOf_60 : decode cX5_swapOf 60 = .ok (.iload 5, 2) := dk_21 5 (dk_at dksX5_swapOf_2 15 rfl rfl)
theorem dX5_swapOf_62 : decode cX5_swapOf 62 = .ok (.iload 4, 2) := dk_21 4 (dk_at dksX5_swapOf_2 17 rfl rfl)
theorem dX5_swapOf_64 : decode cX5_swapOf 64 = .ok (.bipush 8, 2) := dk_16 8 (dk_at dksX5_swapOf_2 19 rfl rfl)
theorem dX5_swapOf_66 : decode cX5_swapOf 66 = .ok (.irem, 1) := dk_112 (dk_at dksX5_swapOf_2 21 rfl rfl)
theorem dX5_swapOf_67 : decode cX5_swapOf 67 = .ok (.iastore, 1) := dk_79 (dk_at dksX5_swapOf_2 22 rfl rfl)
theorem dX5_swapOf_68 : decode cX5_swapOf 68 = .ok (.aload_n 0, 1) := dk_42 (dk_at dksX5_swapOf_2 23 rfl rfl)
theorem dX5_swapOf_69 : decode cX5_swapOf 69 = .ok (.bipush 16, 2) := dk_16 16 (dk_at dksX5_swapOf_3 0 rfl rfl)
theorem dX5_swapOf_71 : decode cX5_swapOf 71 = .ok (.iload 4, 2) := dk_21 4 (dk_at dksX5_swapOf_3 2 rfl rfl)
theorem dX5_swapOf_73 : decode cX5_swapOf 73 = .ok (.imul, 1) := dk_104 (dk_at dksX5_swapOf_3 4 rfl rfl)
theorem dX5_swapOf_74 : decode cX5_swapOf 74 = .ok (.iload 5, 2) := dk_21 5 (dk_at dksX5_swapOf_3 5 rfl rfl)
theorem dX5_swapOf_76 : decode cX5_swapOf 76 = .ok (.iadd, 1) := dk_96 (dk_at dksX5_swapOf_3 7 rfl rfl)
theorem dX5_swapOf_77 : decode cX5_swapOf 77 = .ok (.iload_n 1, 1) := dk_27 (dk_at dksX5_swapOf_3 8 rfl rfl)
theorem dX5_swapOf_78 : decode cX5_swapOf 78 = .ok (.invokevirtual 272, 3) := dk_182 1 16 (dk_at dksX5_swapOf_3 9 rfl rfl)
theorem dX5_swapOf_81 : decode cX5_swapOf 81 = .ok (.aload_n 0, 1) := dk_42 (dk_at dksX5_swapOf_3 12 rfl rfl)
theorem dX5_swapOf_82 : decode cX5_swapOf 82 = .ok (.getfield 46, 3) := dk_180 0 46 (dk_at dksX5_swapOf_3 13 rfl rfl)
theorem dX5_swapOf_85 : decode cX5_swapOf 85 = .ok (.iload 4, 2) := dk_21 4 (dk_at dksX5_swapOf_3 16 rfl rfl)
theorem dX5_swapOf_87 : decode cX5_swapOf 87 = .ok (.iload 4, 2) := dk_21 4 (dk_at dksX5_swapOf_3 18 rfl rfl)
theorem dX5_swapOf_89 : decode cX5_swapOf 89 = .ok (.bipush 8, 2) := dk_16 8 (dk_at dksX5_swapOf_3 20 rfl rfl)
theorem dX5_swapOf_91 : decode cX5_swapOf 91 = .ok (.irem, 1) := dk_112 (dk_at dksX5_swapOf_3 22 rfl rfl)
theorem dX5_swapOf_92 : decode cX5_swapOf 92 = .ok (.iastore, 1) := dk_79 (dk_at dksX5_swapOf_3 23 rfl rfl)
theorem dX5_swapOf_93 : decode cX5_swapOf 93 = .ok (.aload_n 0, 1) := dk_42 (dk_at dksX5_swapOf_4 0 rfl rfl)
theorem dX5_swapOf_94 : decode cX5_swapOf 94 = .ok (.getfield 46, 3) := dk_180 0 46 (dk_at dksX5_swapOf_4 1 rfl rfl)
theorem dX5_swapOf_97 : decode cX5_swapOf 97 = .ok (.iload 5, 2) := dk_21 5 (dk_at dksX5_swapOf_4 4 rfl rfl)
theorem dX5_swapOf_99 : decode cX5_swapOf 99 = .ok (.iload 5, 2) := dk_21 5 (dk_at dksX5_swapOf_4 6 rfl rfl)
theorem dX5_swapOf_101 : decode cX5_swapOf 101 = .ok (.bipush 8, 2) := dk_16 8 (dk_at dksX5_swapOf_4 8 rfl rfl)
theorem dX5_swapOf_103 : decode cX5_swapOf 103 = .ok (.irem, 1) := dk_112 (dk_at dksX5_swapOf_4 10 rfl rfl)
theorem dX5_swapOf_104 : decode cX5_swapOf 104 = .ok (.iastore, 1) := dk_79 (dk_at dksX5_swapOf_4 11 rfl rfl)
theorem dX5_swapOf_105 : decode cX5_swapOf 105 = .ok (.iinc 5 1, 3) := dk_132 5 1 (dk_at dksX5_swapOf_4 12 rfl rfl)
theorem dX5_swapOf_108 : decode cX5_swapOf 108 = .ok (.goto (-77), 3) := dk_167 255 179 (dk_at dksX5_swapOf_4 15 rfl rfl)
theorem dX5_swapOf_111 : decode cX5_swapOf 111 = .ok (.iinc 4 1, 3) := dk_132 4 1 (dk_at dksX5_swapOf_4 18 rfl rfl)
theorem dX5_swapOf_114 : decode cX5_swapOf 114 = .ok (.goto (-102), 3) := dk_167 255 154 (dk_at dksX5_swapOf_4 21 rfl rfl)
theorem dX5_swapOf_117 : decode cX5_swapOf 117 = .ok (.aload_n 0, 1) := dk_42 (dk_at dksX5_swapOf_5 0 rfl rfl)
theorem dX5_swapOf_118 : decode cX5_swapOf 118 = .ok (.getfield 263, 3) := dk_180 1 7 (dk_at dksX5_swapOf_5 1 rfl rfl)
theorem dX5_swapOf_121 : decode cX5_swapOf 121 = .ok (.iconst (-1), 1) := dk_2 (dk_at dksX5_swapOf_5 4 rfl rfl)
theorem dX5_swapOf_122 : decode cX5_swapOf 122 = .ok (.if_icmp .ne 7, 3) := dk_160 0 7 (dk_at dksX5_swapOf_5 5 rfl rfl)
theorem dX5_swapOf_125 : decode cX5_swapOf 125 = .ok (.iconst (-1), 1) := dk_2 (dk_at dksX5_swapOf_5 8 rfl rfl)
theorem dX5_swapOf_126 : decode cX5_swapOf 126 = .ok (.goto 36, 3) := dk_167 0 36 (dk_at dksX5_swapOf_5 9 rfl rfl)
theorem dX5_swapOf_129 : decode cX5_swapOf 129 = .ok (.iload_n 2, 1) := dk_28 (dk_at dksX5_swapOf_5 12 rfl rfl)
theorem dX5_swapOf_130 : decode cX5_swapOf 130 = .ok (.ifCond .ne 13, 3) := dk_154 0 13 (dk_at dksX5_swapOf_5 13 rfl rfl)
theorem dX5_swapOf_133 : decode cX5_swapOf 133 = .ok (.aload_n 0, 1) := dk_42 (dk_at dksX5_swapOf_5 16 rfl rfl)
theorem dX5_swapOf_134 : decode cX5_swapOf 134 = .ok (.getfield 263, 3) := dk_180 1 7 (dk_at dksX5_swapOf_5 17 rfl rfl)
theorem dX5_swapOf_137 : decode cX5_swapOf 137 = .ok (.bipush 16, 2) := dk_16 16 (dk_at dksX5_swapOf_5 20 rfl rfl)
theorem dX5_swapOf_139 : decode cX5_swapOf 139 = .ok (.idiv, 1) := dk_108 (dk_at dksX5_swapOf_5 22 rfl rfl)
theorem dX5_swapOf_140 : decode cX5_swapOf 140 = .ok (.goto 22, 3) := dk_167 0 22 (dk_at dksX5_swapOf_6 0 rfl rfl)
theorem dX5_swapOf_143 : decode cX5_swapOf 143 = .ok (.iload_n 2, 1) := dk_28 (dk_at dksX5_swapOf_6 3 rfl rfl)
theorem dX5_swapOf_144 : decode cX5_swapOf 144 = .ok (.iconst 1, 1) := dk_4 (dk_at dksX5_swapOf_6 4 rfl rfl)
theorem dX5_swapOf_145 : decode cX5_swapOf 145 = .ok (.if_icmp .ne 13, 3) := dk_160 0 13 (dk_at dksX5_swapOf_6 5 rfl rfl)
theorem dX5_swapOf_148 : decode cX5_swapOf 148 = .ok (.aload_n 0, 1) := dk_42 (dk_at dksX5_swapOf_6 8 rfl rfl)
theorem dX5_swapOf_149 : decode cX5_swapOf 149 = .ok (.getfield 263, 3) := dk_180 1 7 (dk_at dksX5_swapOf_6 9 rfl rfl)
theorem dX5_swapOf_152 : decode cX5_swapOf 152 = .ok (.bipush 16, 2) := dk_16 16 (dk_at dksX5_swapOf_6 12 rfl rfl)
theorem dX5_swapOf_154 : decode cX5_swapOf 154 = .ok (.irem, 1) := dk_112 (dk_at dksX5_swapOf_6 14 rfl rfl)
theorem dX5_swapOf_155 : decode cX5_swapOf 155 = .ok (.goto 7, 3) := dk_167 0 7 (dk_at dksX5_swapOf_6 15 rfl rfl)
theorem dX5_swapOf_158 : decode cX5_swapOf 158 = .ok (.aload_n 0, 1) := dk_42 (dk_at dksX5_swapOf_6 18 rfl rfl)
theorem dX5_swapOf_159 : decode cX5_swapOf 159 = .ok (.getfield 266, 3) := dk_180 1 10 (dk_at dksX5_swapOf_6 19 rfl rfl)
theorem dX5_swapOf_162 : decode cX5_swapOf 162 = .ok (.ireturn, 1) := dk_172 (dk_at dksX5_swapOf_6 22 rfl rfl)
abbrev cX5_out : ByteArray := prog_12_method_64_code
def yX5_out : MethodName := ⟨RX5, "out", "(II)I"⟩
def dkwX5_out_1 : List UInt8 := [16, 254, 172]
abbrev dktX5_out_1 : List UInt8 := dkwX5_out_1 ++ []
def dkwX5_out_0 : List UInt8 := [27, 184, 0, 153, 153, 0, 19, 28, 184, 0, 153, 153, 0, 12, 42, 27, 28, 182, 1, 25, 167, 0, 5]
abbrev dktX5_out_0 : List UInt8 := dkwX5_out_0 ++ dktX5_out_1
theorem dksX5_out_0 : cX5_out.data.toList.drop 0 = dktX5_out_0 := by decide +kernel
theorem dksX5_out_1 : cX5_out.data.toList.drop 23 = dktX5_out_1 := dk_seg dksX5_out_0 23 rfl rfl
theorem dX5_out_0 : decode cX5_out 0 = .ok (.iload_n 1, 1) := dk_27 (dk_at dksX5_out_0 0 rfl rfl)
theorem dX5_out_1 : decode cX5_out 1 = .ok (.invokestatic 153, 3) := dk_184 0 153 (dk_at dksX5_out_0 1 rfl rfl)
theorem dX5_out_4 : decode cX5_out 4 = .ok (.ifCond .eq 19, 3) := dk_153 0 19 (dk_at dksX5_out_0 4 rfl rfl)
theorem dX5_out_7 : decode cX5_out 7 = .ok (.iload_n 2, 1) := dk_28 (dk_at dksX5_out_0 7 rfl rfl)
theorem dX5_out_8 : decode cX5_out 8 = .ok (.invokestatic 153, 3) := dk_184 0 153 (dk_at dksX5_out_0 8 rfl rfl)
theorem dX5_out_11 : decode cX5_out 11 = .ok (.ifCond .eq 12, 3) := dk_153 0 12 (dk_at dksX5_out_0 11 rfl rfl)
theorem dX5_out_14 : decode cX5_out 14 = .ok (.aload_n 0, 1) := dk_42 (dk_at dksX5_out_0 14 rfl rfl)
theorem dX5_out_15 : decode cX5_out 15 = .ok (.iload_n 1, 1) := dk_27 (dk_at dksX5_out_0 15 rfl rfl)
theorem dX5_out_16 : decode cX5_out 16 = .ok (.iload_n 2, 1) := dk_28 (dk_at dksX5_out_0 16 rfl rfl)
theorem dX5_out_17 : decode cX5_out 17 = .ok (.invokevirtual 281, 3) := dk_182 1 25 (dk_at dksX5_out_0 17 rfl rfl)
theorem dX5_out_20 : decode cX5_out 20 = .ok (.goto 5, 3) := dk_167 0 5 (dk_at dksX5_out_0 20 rfl rfl)
theorem dX5_out_23 : decode cX5_out 23 = .ok (.bipush (-2), 2) := dk_16 254 (dk_at dksX5_out_1 0 rfl rfl)
theorem dX5_out_25 : decode cX5_out 25 = .ok (.ireturn, 1) := dk_172 (dk_at dksX5_out_1 2 rfl rfl)
abbrev cX5_outOf : ByteArray := prog_12_method_63_code
def yX5_outOf : MethodName := ⟨RX5, "outOf", "(II)I"⟩
def dkwX5_outOf_2 : List UInt8 := [180, 1, 7, 167, 0, 7, 42, 180, 1, 10, 172]
abbrev dktX5_outOf_2 : List UInt8 := dkwX5_outOf_2 ++ []
def dkwX5_outOf_1 : List UInt8 := [42, 29, 181, 0, 181, 42, 29, 27, 182, 1, 16, 132, 3, 1, 167, 255, 227, 28, 154, 0, 10, 42]
abbrev dktX5_outOf_1 : List UInt8 := dkwX5_outOf_1 ++ dktX5_outOf_2
def dkwX5_outOf_0 : List UInt8 := [42, 182, 1, 13, 16, 8, 27, 104, 62, 29, 16, 8, 27, 104, 42, 180, 0, 16, 27, 46, 96, 162, 0, 20]
abbrev dktX5_outOf_0 : List UInt8 := dkwX5_outOf_0 ++ dktX5_outOf_1
theorem dksX5_outOf_0 : cX5_outOf.data.toList.drop 0 = dktX5_outOf_0 := by decide +kernel
theorem dksX5_outOf_1 : cX5_outOf.data.toList.drop 24 = dktX5_outOf_1 := dk_seg dksX5_outOf_0 24 rfl rfl
theorem dksX5_outOf_2 : cX5_outOf.data.toList.drop 46 = dktX5_outOf_2 := dk_seg dksX5_outOf_1 22 rfl rfl
theorem dX5_outOf_0 : decode cX5_outOf 0 = .ok (.aload_n 0, 1) := dk_42 (dk_at dksX5_outOf_0 0 rfl rfl)
theorem dX5_outOf_1 : decode cX5_outOf 1 = .ok (.invokevirtual 269, 3) := dk_182 1 13 (dk_at dksX5_outOf_0 1 rfl rfl)
theorem dX5_outOf_4 : decode cX5_outOf 4 = .ok (.bipush 8, 2) := dk_16 8 (dk_at dksX5_outOf_0 4 rfl rfl)
theorem dX5_outOf_6 : decode cX5_outOf 6 = .ok (.iload_n 1, 1) := dk_27 (dk_at dksX5_outOf_0 6 rfl rfl)
theorem dX5_outOf_7 : decode cX5_outOf 7 = .ok (.imul, 1) := dk_104 (dk_at dksX5_outOf_0 7 rfl rfl)
theorem dX5_outOf_8 : decode cX5_outOf 8 = .ok (.istore_n 3, 1) := dk_62 (dk_at dksX5_outOf_0 8 rfl rfl)
theorem dX5_outOf_9 : decode cX5_outOf 9 = .ok (.iload_n 3, 1) := dk_29 (dk_at dksX5_outOf_0 9 rfl rfl)
theorem dX5_outOf_10 : decode cX5_outOf 10 = .ok (.bipush 8, 2) := dk_16 8 (dk_at dksX5_outOf_0 10 rfl rfl)
theorem dX5_outOf_12 : decode cX5_outOf 12 = .ok (.iload_n 1, 1) := dk_27 (dk_at dksX5_outOf_0 12 rfl rfl)
theorem dX5_outOf_13 : decode cX5_outOf 13 = .ok (.imul, 1) := dk_104 (dk_at dksX5_outOf_0 13 rfl rfl)
theorem dX5_outOf_14 : decode cX5_outOf 14 = .ok (.aload_n 0, 1) := dk_42 (dk_at dksX5_outOf_0 14 rfl rfl)
theorem dX5_outOf_15 : decode cX5_outOf 15 = .ok (.getfield 16, 3) := dk_180 0 16 (dk_at dksX5_outOf_0 15 rfl rfl)
theorem dX5_outOf_18 : decode cX5_outOf 18 = .ok (.iload_n 1, 1) := dk_27 (dk_at dksX5_outOf_0 18 rfl rfl)
theorem dX5_outOf_19 : decode cX5_outOf 19 = .ok (.iaload, 1) := dk_46 (dk_at dksX5_outOf_0 19 rfl rfl)
theorem dX5_outOf_20 : decode cX5_outOf 20 = .ok (.iadd, 1) := dk_96 (dk_at dksX5_outOf_0 20 rfl rfl)
theorem dX5_outOf_21 : decode cX5_outOf 21 = .ok (.if_icmp .ge 20, 3) := dk_162 0 20 (dk_at dksX5_outOf_0 21 rfl rfl)
theorem dX5_outOf_24 : decode cX5_outOf 24 = .ok (.aload_n 0, 1) := dk_42 (dk_at dksX5_outOf_1 0 rfl rfl)
theorem dX5_outOf_25 : decode cX5_outOf 25 = .ok (.iload_n 3, 1) := dk_29 (dk_at dksX5_outOf_1 1 rfl rfl)
theorem dX5_outOf_26 : decode cX5_outOf 26 = .ok (.putfield 181, 3) := dk_181 0 181 (dk_at dksX5_outOf_1 2 rfl rfl)
theorem dX5_outOf_29 : decode cX5_outOf 29 = .ok (.aload_n 0, 1) := dk_42 (dk_at dksX5_outOf_1 5 rfl rfl)
theorem dX5_outOf_30 : decode cX5_outOf 30 = .ok (.iload_n 3, 1) := dk_29 (dk_at dksX5_outOf_1 6 rfl rfl)
theorem dX5_outOf_31 : decode cX5_outOf 31 = .ok (.iload_n 1, 1) := dk_27 (dk_at dksX5_outOf_1 7 rfl rfl)
theorem dX5_outOf_32 : decode cX5_outOf 32 = .ok (.invokevirtual 272, 3) := dk_182 1 16 (dk_at dksX5_outOf_1 8 rfl rfl)
theorem dX5_outOf_35 : decode cX5_outOf 35 = .ok (.iinc 3 1, 3) := dk_132 3 1 (dk_at dksX5_outOf_1 11 rfl rfl)
theorem dX5_outOf_38 : decode cX5_outOf 38 = .ok (.goto (-29), 3) := dk_167 255 227 (dk_at dksX5_outOf_1 14 rfl rfl)
theorem dX5_outOf_41 : decode cX5_outOf 41 = .ok (.iload_n 2, 1) := dk_28 (dk_at dksX5_outOf_1 17 rfl rfl)
theorem dX5_outOf_42 : decode cX5_outOf 42 = .ok (.ifCond .ne 10, 3) := dk_154 0 10 (dk_at dksX5_outOf_1 18 rfl rfl)
theorem dX5_outOf_45 : decode cX5_outOf 45 = .ok (.aload_n 0, 1) := dk_42 (dk_at dksX5_outOf_1 21 rfl rfl)
theorem dX5_outOf_46 : decode cX5_outOf 46 = .ok (.getfield 263, 3) := dk_180 1 7 (dk_at dksX5_outOf_2 0 rfl rfl)
theorem dX5_outOf_49 : decode cX5_outOf 49 = .ok (.goto 7, 3) := dk_167 0 7 (dk_at dksX5_outOf_2 3 rfl rfl)
theorem dX5_outOf_52 : decode cX5_outOf 52 = .ok (.aload_n 0, 1) := dk_42 (dk_at dksX5_outOf_2 6 rfl rfl)
theorem dX5_outOf_53 : decode cX5_outOf 53 = .ok (.getfield 266, 3) := dk_180 1 10 (dk_at dksX5_outOf_2 7 rfl rfl)
theorem dX5_outOf_56 : decode cX5_outOf 56 = .ok (.ireturn, 1) := dk_172 (dk_at dksX5_outOf_2 10 rfl rfl)
abbrev cX5_spare : ByteArray := prog_12_method_68_code
def yX5_spare : MethodName := ⟨RX5, "spare", "(I)I"⟩
def dkwX5_spare_0 : List UInt8 := [27, 2, 4, 184, 0, 109, 153, 0, 15, 42, 42, 182, 1, 31, 27, 182, 1, 34, 167, 0, 5, 16, 254, 172]
abbrev dktX5_spare_0 : List UInt8 := dkwX5_spare_0 ++ []
theorem dksX5_spare_0 : cX5_spare.data.toList.drop 0 = dktX5_spare_0 := by decide +kernel
theorem dX5_spare_0 : decode cX5_spare 0 = .ok (.iload_n 1, 1) := dk_27 (dk_at dksX5_spare_0 0 rfl rfl)
theorem dX5_spare_1 : decode cX5_spare 1 = .ok (.iconst (-1), 1) := dk_2 (dk_at dksX5_spare_0 1 rfl rfl)
theorem dX5_spare_2 : decode cX5_spare 2 = .ok (.iconst 1, 1) := dk_4 (dk_at dksX5_spare_0 2 rfl rfl)
theorem dX5_spare_3 : decode cX5_spare 3 = .ok (.invokestatic 109, 3) := dk_184 0 109 (dk_at dksX5_spare_0 3 rfl rfl)
theorem dX5_spare_6 : decode cX5_spare 6 = .ok (.ifCond .eq 15, 3) := dk_153 0 15 (dk_at dksX5_spare_0 6 rfl rfl)
theorem dX5_spare_9 : decode cX5_spare 9 = .ok (.aload_n 0, 1) := dk_42 (dk_at dksX5_spare_0 9 rfl rfl)
theorem dX5_spare_10 : decode cX5_spare 10 = .ok (.aload_n 0, 1) := dk_42 (dk_at dksX5_spare_0 10 rfl rfl)
theorem dX5_spare_11 : decode cX5_spare 11 = .ok (.invokevirtual 287, 3) := dk_182 1 31 (dk_at dksX5_spare_0 11 rfl rfl)
theorem dX5_spare_14 : decode cX5_spare 14 = .ok (.iload_n 1, 1) := dk_27 (dk_at dksX5_spare_0 14 rfl rfl)
theorem dX5_spare_15 : decode cX5_spare 15 = .ok (.invokevirtual 290, 3) := dk_182 1 34 (dk_at dksX5_spare_0 15 rfl rfl)
theorem dX5_spare_18 : decode cX5_spare 18 = .ok (.goto 5, 3) := dk_167 0 5 (dk_at dksX5_spare_0 18 rfl rfl)
theorem dX5_spare_21 : decode cX5_spare 21 = .ok (.bipush (-2), 2) := dk_16 254 (dk_at dksX5_spare_0 21 rfl rfl)
theorem dX5_spare_23 : decode cX5_spare 23 = .ok (.ireturn, 1) := dk_172 (dk_at dksX5_spare_0 23 rfl rfl)
abbrev cX5_spareBy : ByteArray := prog_12_method_66_code
def yX5_spareBy : MethodName := ⟨RX5, "spareBy", "()I"⟩
def dkwX5_spareBy_4 : List UInt8 := [128, 182, 1, 28, 153, 0, 5, 5, 172, 132, 2, 1, 167, 255, 215, 132, 1, 1, 167, 255, 197, 2, 172]
abbrev dktX5_spareBy_4 : List UInt8 := dkwX5_spareBy_4 ++ []
def dkwX5_spareBy_3 : List UInt8 := [162, 0, 39, 42, 180, 0, 79, 3, 27, 79, 42, 180, 0, 79, 4, 28, 79, 42, 4, 27, 120, 4, 28, 120]
abbrev dktX5_spareBy_3 : List UInt8 := dkwX5_spareBy_3 ++ dktX5_spareBy_4
def dkwX5_spareBy_2 : List UInt8 := [167, 255, 226, 3, 60, 27, 42, 180, 0, 166, 162, 0, 57, 27, 4, 96, 61, 28, 42, 180, 0, 166]
abbrev dktX5_spareBy_2 : List UInt8 := dkwX5_spareBy_2 ++ dktX5_spareBy_3
def dkwX5_spareBy_1 : List UInt8 := [42, 180, 0, 79, 3, 27, 79, 42, 4, 27, 120, 182, 1, 28, 153, 0, 5, 4, 172, 132, 1, 1]
abbrev dktX5_spareBy_1 : List UInt8 := dkwX5_spareBy_1 ++ dktX5_spareBy_2
def dkwX5_spareBy_0 : List UInt8 := [42, 182, 0, 229, 42, 3, 182, 1, 28, 153, 0, 5, 3, 172, 3, 60, 27, 42, 180, 0, 166, 162, 0, 28]
abbrev dktX5_spareBy_0 : List UInt8 := dkwX5_spareBy_0 ++ dktX5_spareBy_1
theorem dksX5_spareBy_0 : cX5_spareBy.data.toList.drop 0 = dktX5_spareBy_0 := by decide +kernel
theorem dksX5_spareBy_1 : cX5_spareBy.data.toList.drop 24 = dktX5_spareBy_1 := dk_seg dksX5_spareBy_0 24 rfl rfl
theorem dksX5_spareBy_2 : cX5_spareBy.data.toList.drop 46 = dktX5_spareBy_2 := dk_seg dksX5_spareBy_1 22 rfl rfl
theorem dksX5_spareBy_3 : cX5_spareBy.data.toList.drop 68 = dktX5_spareBy_3 := dk_seg dksX5_spareBy_2 22 rfl rfl
theorem dksX5_spareBy_4 : cX5_spareBy.data.toList.drop 92 = dktX5_spareBy_4 := dk_seg dksX5_spareBy_3 24 rfl rfl
theorem dX5_spareBy_0 : decode cX5_spareBy 0 = .ok (.aload_n 0, 1) := dk_42 (dk_at dksX5_spareBy_0 0 rfl rfl)
theorem dX5_spareBy_1 : decode cX5_spareBy 1 = .ok (.invokevirtual 229, 3) := dk_182 0 229 (dk_at dksX5_spareBy_0 1 rfl rfl)
theorem dX5_spareBy_4 : decode cX5_spareBy 4 = .ok (.aload_n 0, 1) := dk_42 (dk_at dksX5_spareBy_0 4 rfl rfl)
theorem dX5_spareBy_5 : decode cX5_spareBy 5 = .ok (.iconst 0, 1) := dk_3 (dk_at dksX5_spareBy_0 5 rfl rfl)
theorem dX5_spareBy_6 : decode cX5_spareBy 6 = .ok (.invokevirtual 284, 3) := dk_182 1 28 (dk_at dksX5_spareBy_0 6 rfl rfl)
theorem dX5_spareBy_9 : decode cX5_spareBy 9 = .ok (.ifCond .eq 5, 3) := dk_153 0 5 (dk_at dksX5_spareBy_0 9 rfl rfl)
theorem dX5_spareBy_12 : decode cX5_spareBy 12 = .ok (.iconst 0, 1) := dk_3 (dk_at dksX5_spareBy_0 12 rfl rfl)
theorem dX5_spareBy_13 : decode cX5_spareBy 13 = .ok (.ireturn, 1) := dk_172 (dk_at dksX5_spareBy_0 13 rfl rfl)
theorem dX5_spareBy_14 : decode cX5_spareBy 14 = .ok (.iconst 0, 1) := dk_3 (dk_at dksX5_spareBy_0 14 rfl rfl)
theorem dX5_spareBy_15 : decode cX5_spareBy 15 = .ok (.istore_n 1, 1) := dk_60 (dk_at dksX5_spareBy_0 15 rfl rfl)
theorem dX5_spareBy_16 : decode cX5_spareBy 16 = .ok (.iload_n 1, 1) := dk_27 (dk_at dksX5_spareBy_0 16 rfl rfl)
theorem dX5_spareBy_17 : decode cX5_spareBy 17 = .ok (.aload_n 0, 1) := dk_42 (dk_at dksX5_spareBy_0 17 rfl rfl)
theorem dX5_spareBy_18 : decode cX5_spareBy 18 = .ok (.getfield 166, 3) := dk_180 0 166 (dk_at dksX5_spareBy_0 18 rfl rfl)
theorem dX5_spareBy_21 : decode cX5_spareBy 21 = .ok (.if_icmp .ge 28, 3) := dk_162 0 28 (dk_at dksX5_spareBy_0 21 rfl rfl)
theorem dX5_spareBy_24 : decode cX5_spareBy 24 = .ok (.aload_n 0, 1) := dk_42 (dk_at dksX5_spareBy_1 0 rfl rfl)
theorem dX5_spareBy_25 : decode cX5_spareBy 25 = .ok (.getfield 79, 3) := dk_180 0 79 (dk_at dksX5_spareBy_1 1 rfl rfl)
theorem dX5_spareBy_28 : decode cX5_spareBy 28 = .ok (.iconst 0, 1) := dk_3 (dk_at dksX5_spareBy_1 4 rfl rfl)
theorem dX5_spareBy_29 : decode cX5_spareBy 29 = .ok (.iload_n 1, 1) := dk_27 (dk_at dksX5_spareBy_1 5 rfl rfl)
theorem dX5_spareBy_30 : decode cX5_spareBy 30 = .ok (.iastore, 1) := dk_79 (dk_at dksX5_spareBy_1 6 rfl rfl)
theorem dX5_spareBy_31 : decode cX5_spareBy 31 = .ok (.aload_n 0, 1) := dk_42 (dk_at dksX5_spareBy_1 7 rfl rfl)
theorem dX5_spareBy_32 : decode cX5_spareBy 32 = .ok (.iconst 1, 1) := dk_4 (dk_at dksX5_spareBy_1 8 rfl rfl)
theorem dX5_spareBy_33 : decode cX5_spareBy 33 = .ok (.iload_n 1, 1) := dk_27 (dk_at dksX5_spareBy_1 9 rfl rfl)
theorem dX5_spareBy_34 : decode cX5_spareBy 34 = .ok (.ishl, 1) := dk_120 (dk_at dksX5_spareBy_1 10 rfl rfl)
theorem dX5_spareBy_35 : decode cX5_spareBy 35 = .ok (.invokevirtual 284, 3) := dk_182 1 28 (dk_at dksX5_spareBy_1 11 rfl rfl)
theorem dX5_spareBy_38 : decode cX5_spareBy 38 = .ok (.ifCond .eq 5, 3) := dk_153 0 5 (dk_at dksX5_spareBy_1 14 rfl rfl)
theorem dX5_spareBy_41 : decode cX5_spareBy 41 = .ok (.iconst 1, 1) := dk_4 (dk_at dksX5_spareBy_1 17 rfl rfl)
theorem dX5_spareBy_42 : decode cX5_spareBy 42 = .ok (.ireturn, 1) := dk_172 (dk_at dksX5_spareBy_1 18 rfl rfl)
theorem dX5_spareBy_43 : decode cX5_spareBy 43 = .ok (.iinc 1 1, 3) := dk_132 1 1 (dk_at dksX5_spareBy_1 19 rfl rfl)
theorem dX5_spareBy_46 : decode cX5_spareBy 46 = .ok (.goto (-30), 3) := dk_167 255 226 (dk_at dksX5_spareBy_2 0 rfl rfl)
theorem dX5_spareBy_49 : decode cX5_spareBy 49 = .ok (.iconst 0, 1) := dk_3 (dk_at dksX5_spareBy_2 3 rfl rfl)
theorem dX5_spareBy_50 : decode cX5_spareBy 50 = .ok (.istore_n 1, 1) := dk_60 (dk_at dksX5_spareBy_2 4 rfl rfl)
theorem dX5_spareBy_51 : decode cX5_spareBy 51 = .ok (.iload_n 1, 1) := dk_27 (dk_at dksX5_spareBy_2 5 rfl rfl)
theorem dX5_spareBy_52 : decode cX5_spareBy 52 = .ok (.aload_n 0, 1) := dk_42 (dk_at dksX5_spareBy_2 6 rfl rfl)
theorem dX5_spareBy_53 : decode cX5_spareBy 53 = .ok (.getfield 166, 3) := dk_180 0 166 (dk_at dksX5_spareBy_2 7 rfl rfl)
theorem dX5_spareBy_56 : decode cX5_spareBy 56 = .ok (.if_icmp .ge 57, 3) := dk_162 0 57 (dk_at dksX5_spareBy_2 10 rfl rfl)
theorem dX5_spareBy_59 : decode cX5_spareBy 59 = .ok (.iload_n 1, 1) := dk_27 (dk_at dksX5_spareBy_2 13 rfl rfl)
theorem dX5_spareBy_60 : decode cX5_spareBy 60 = .ok (.iconst 1, 1) := dk_4 (dk_at dksX5_spareBy_2 14 rfl rfl)
theorem dX5_spareBy_61 : decode cX5_spareBy 61 = .ok (.iadd, 1) := dk_96 (dk_at dksX5_spareBy_2 15 rfl rfl)
theorem dX5_spareBy_62 : decode cX5_spareBy 62 = .ok (.istore_n 2, 1) := dk_61 (dk_at dksX5_spareBy_2 16 rfl rfl)
theorem dX5_spareBy_63 : decode cX5_spareBy 63 = .ok (.iload_n 2, 1) := dk_28 (dk_at dksX5_spareBy_2 17 rfl rfl)
theorem dX5_spareBy_64 : decode cX5_spareBy 64 = .ok (.aload_n 0, 1) := dk_42 (dk_at dksX5_spareBy_2 18 rfl rfl)
theorem dX5_spareBy_65 : decode cX5_spareBy 65 = .ok (.getfield 166, 3) := dk_180 0 166 (dk_at dksX5_spareBy_2 19 rfl rfl)
theorem dX5_spareBy_68 : decode cX5_spareBy 68 = .ok (.if_icmp .ge 39, 3) := dk_162 0 39 (dk_at dksX5_spareBy_3 0 rfl rfl)
theorem dX5_spareBy_71 : decode cX5_spareBy 71 = .ok (.aload_n 0, 1) := dk_42 (dk_at dksX5_spareBy_3 3 rfl rfl)
theorem dX5_spareBy_72 : decode cX5_spareBy 72 = .ok (.getfield 79, 3) := dk_180 0 79 (dk_at dksX5_spareBy_3 4 rfl rfl)
theorem dX5_spareBy_75 : decode cX5_spareBy 75 = .ok (.iconst 0, 1) := dk_3 (dk_at dksX5_spareBy_3 7 rfl rfl)
theorem dX5_spareBy_76 : decode cX5_spareBy 76 = .ok (.iload_n 1, 1) := dk_27 (dk_at dksX5_spareBy_3 8 rfl rfl)
theorem dX5_spareBy_77 : decode cX5_spareBy 77 = .ok (.iastore, 1) := dk_79 (dk_at dksX5_spareBy_3 9 rfl rfl)
theorem dX5_spareBy_78 : decode cX5_spareBy 78 = .ok (.aload_n 0, 1) := dk_42 (dk_at dksX5_spareBy_3 10 rfl rfl)
theorem dX5_spareBy_79 : decode cX5_spareBy 79 = .ok (.getfield 79, 3) := dk_180 0 79 (dk_at dksX5_spareBy_3 11 rfl rfl)
theorem dX5_spareBy_82 : decode cX5_spareBy 82 = .ok (.iconst 1, 1) := dk_4 (dk_at dksX5_spareBy_3 14 rfl rfl)
theorem dX5_spareBy_83 : decode cX5_spareBy 83 = .ok (.iload_n 2, 1) := dk_28 (dk_at dksX5_spareBy_3 15 rfl rfl)
theorem dX5_spareBy_84 : decode cX5_spareBy 84 = .ok (.iastore, 1) := dk_79 (dk_at dksX5_spareBy_3 16 rfl rfl)
theorem dX5_spareBy_85 : decode cX5_spareBy 85 = .ok (.aload_n 0, 1) := dk_42 (dk_at dksX5_spareBy_3 17 rfl rfl)
theorem dX5_spareBy_86 : decode cX5_spareBy 86 = .ok (.iconst 1, 1) := dk_4 (dk_at dksX5_spareBy_3 18 rfl rfl)
theorem dX5_spareBy_87 : decode cX5_spareBy 87 = .ok (.iload_n 1, 1) := dk_27 (dk_at dksX5_spareBy_3 19 rfl rfl)
theorem dX5_spareBy_88 : decode cX5_spareBy 88 = .ok (.ishl, 1) := dk_120 (dk_at dksX5_spareBy_3 20 rfl rfl)
theorem dX5_spareBy_89 : decode cX5_spareBy 89 = .ok (.iconst 1, 1) := dk_4 (dk_at dksX5_spareBy_3 21 rfl rfl)
theorem dX5_spareBy_90 : decode cX5_spareBy 90 = .ok (.iload_n 2, 1) := dk_28 (dk_at dksX5_spareBy_3 22 rfl rfl)
theorem dX5_spareBy_91 : decode cX5_spareBy 91 = .ok (.ishl, 1) := dk_120 (dk_at dksX5_spareBy_3 23 rfl rfl)
theorem dX5_spareBy_92 : decode cX5_spareBy 92 = .ok (.ior, 1) := dk_128 (dk_at dksX5_spareBy_4 0 rfl rfl)
theorem dX5_spareBy_93 : decode cX5_spareBy 93 = .ok (.invokevirtual 284, 3) := dk_182 1 28 (dk_at dksX5_spareBy_4 1 rfl rfl)
theorem dX5_spareBy_96 : decode cX5_spareBy 96 = .ok (.ifCond .eq 5, 3) := dk_153 0 5 (dk_at dksX5_spareBy_4 4 rfl rfl)
theorem dX5_spareBy_99 : decode cX5_spareBy 99 = .ok (.iconst 2, 1) := dk_5 (dk_at dksX5_spareBy_4 7 rfl rfl)
theorem dX5_spareBy_100 : decode cX5_spareBy 100 = .ok (.ireturn, 1) := dk_172 (dk_at dksX5_spareBy_4 8 rfl rfl)
theorem dX5_spareBy_101 : decode cX5_spareBy 101 = .ok (.iinc 2 1, 3) := dk_132 2 1 (dk_at dksX5_spareBy_4 9 rfl rfl)
theorem dX5_spareBy_104 : decode cX5_spareBy 104 = .ok (.goto (-41), 3) := dk_167 255 215 (dk_at dksX5_spareBy_4 12 rfl rfl)
theorem dX5_spareBy_107 : decode cX5_spareBy 107 = .ok (.iinc 1 1, 3) := dk_132 1 1 (dk_at dksX5_spareBy_4 15 rfl rfl)
theorem dX5_spareBy_110 : decode cX5_spareBy 110 = .ok (.goto (-59), 3) := dk_167 255 197 (dk_at dksX5_spareBy_4 18 rfl rfl)
theorem dX5_spareBy_113 : decode cX5_spareBy 113 = .ok (.iconst (-1), 1) := dk_2 (dk_at dksX5_spareBy_4 21 rfl rfl)
theorem dX5_spareBy_114 : decode cX5_spareBy 114 = .ok (.ireturn, 1) := dk_172 (dk_at dksX5_spareBy_4 22 rfl rfl)
abbrev cX5_isSpared : ByteArray := prog_12_method_65_code
def yX5_isSpared : MethodName := ⟨RX5, "isSpared", "(I)Z"⟩
def dkwX5_isSpared_0 : List UInt8 := [42, 27, 181, 0, 178, 42, 182, 0, 232, 42, 180, 0, 206, 4, 159, 0, 7, 4, 167, 0, 4, 3, 172]
abbrev dktX5_isSpared_0 : List UInt8 := dkwX5_isSpared_0 ++ []
theorem dksX5_isSpared_0 : cX5_isSpared.data.toList.drop 0 = dktX5_isSpared_0 := by decide +kernel
theorem dX5_isSpared_0 : decode cX5_isSpared 0 = .ok (.aload_n 0, 1) := dk_42 (dk_at dksX5_isSpared_0 0 rfl rfl)
theorem dX5_isSpared_1 : decode cX5_isSpared 1 = .ok (.iload_n 1, 1) := dk_27 (dk_at dksX5_isSpared_0 1 rfl rfl)
theorem dX5_isSpared_2 : decode cX5_isSpared 2 = .ok (.putfield 178, 3) := dk_181 0 178 (dk_at dksX5_isSpared_0 2 rfl rfl)
theorem dX5_isSpared_5 : decode cX5_isSpared 5 = .ok (.aload_n 0, 1) := dk_42 (dk_at dksX5_isSpared_0 5 rfl rfl)
theorem dX5_isSpared_6 : decode cX5_isSpared 6 = .ok (.invokevirtual 232, 3) := dk_182 0 232 (dk_at dksX5_isSpared_0 6 rfl rfl)
theorem dX5_isSpared_9 : decode cX5_isSpared 9 = .ok (.aload_n 0, 1) := dk_42 (dk_at dksX5_isSpared_0 9 rfl rfl)
theorem dX5_isSpared_10 : decode cX5_isSpared 10 = .ok (.getfield 206, 3) := dk_180 0 206 (dk_at dksX5_isSpared_0 10 rfl rfl)
theorem dX5_isSpared_13 : decode cX5_isSpared 13 = .ok (.iconst 1, 1) := dk_4 (dk_at dksX5_isSpared_0 13 rfl rfl)
theorem dX5_isSpared_14 : decode cX5_isSpared 14 = .ok (.if_icmp .eq 7, 3) := dk_159 0 7 (dk_at dksX5_isSpared_0 14 rfl rfl)
theorem dX5_isSpared_17 : decode cX5_isSpared 17 = .ok (.iconst 1, 1) := dk_4 (dk_at dksX5_isSpared_0 17 rfl rfl)
theorem dX5_isSpared_18 : decode cX5_isSpared 18 = .ok (.goto 4, 3) := dk_167 0 4 (dk_at dksX5_isSpared_0 18 rfl rfl)
theorem dX5_isSpared_21 : decode cX5_isSpared 21 = .ok (.iconst 0, 1) := dk_3 (dk_at dksX5_isSpared_0 21 rfl rfl)
theorem dX5_isSpared_22 : decode cX5_isSpared 22 = .ok (.ireturn, 1) := dk_172 (dk_at dksX5_isSpared_0 22 rfl rfl)
abbrev cX5_ofRow : ByteArray := prog_12_method_67_code
def yX5_ofRow : MethodName := ⟨RX5, "ofRow", "(II)I"⟩
def dkwX5_ofRow_1 : List UInt8 := [172]
abbrev dktX5_ofRow_1 : List UInt8 := dkwX5_ofRow_1 ++ []
def dkwX5_ofRow_0 : List UInt8 := [28, 2, 160, 0, 7, 27, 167, 0, 18, 28, 27, 162, 0, 12, 42, 180, 0, 79, 28, 46, 167, 0, 4, 2]
abbrev dktX5_ofRow_0 : List UInt8 := dkwX5_ofRow_0 ++ dktX5_ofRow_1
theorem dksX5_ofRow_0 : cX5_ofRow.data.toList.drop 0 = dktX5_ofRow_0 := by decide +kernel
theorem dksX5_ofRow_1 : cX5_ofRow.data.toList.drop 24 = dktX5_ofRow_1 := dk_seg dksX5_ofRow_0 24 rfl rfl
theorem dX5_ofRow_0 : decode cX5_ofRow 0 = .ok (.iload_n 2, 1) := dk_28 (dk_at dksX5_ofRow_0 0 rfl rfl)
theorem dX5_ofRow_1 : decode cX5_ofRow 1 = .ok (.iconst (-1), 1) := dk_2 (dk_at dksX5_ofRow_0 1 rfl rfl)
theorem dX5_ofRow_2 : decode cX5_ofRow 2 = .ok (.if_icmp .ne 7, 3) := dk_160 0 7 (dk_at dksX5_ofRow_0 2 rfl rfl)
theorem dX5_ofRow_5 : decode cX5_ofRow 5 = .ok (.iload_n 1, 1) := dk_27 (dk_at dksX5_ofRow_0 5 rfl rfl)
theorem dX5_ofRow_6 : decode cX5_ofRow 6 = .ok (.goto 18, 3) := dk_167 0 18 (dk_at dksX5_ofRow_0 6 rfl rfl)
theorem dX5_ofRow_9 : decode cX5_ofRow 9 = .ok (.iload_n 2, 1) := dk_28 (dk_at dksX5_ofRow_0 9 rfl rfl)
theorem dX5_ofRow_10 : decode cX5_ofRow 10 = .ok (.iload_n 1, 1) := dk_27 (dk_at dksX5_ofRow_0 10 rfl rfl)
theorem dX5_ofRow_11 : decode cX5_ofRow 11 = .ok (.if_icmp .ge 12, 3) := dk_162 0 12 (dk_at dksX5_ofRow_0 11 rfl rfl)
theorem dX5_ofRow_14 : decode cX5_ofRow 14 = .ok (.aload_n 0, 1) := dk_42 (dk_at dksX5_ofRow_0 14 rfl rfl)
theorem dX5_ofRow_15 : decode cX5_ofRow 15 = .ok (.getfield 79, 3) := dk_180 0 79 (dk_at dksX5_ofRow_0 15 rfl rfl)
theorem dX5_ofRow_18 : decode cX5_ofRow 18 = .ok (.iload_n 2, 1) := dk_28 (dk_at dksX5_ofRow_0 18 rfl rfl)
theorem dX5_ofRow_19 : decode cX5_ofRow 19 = .ok (.iaload, 1) := dk_46 (dk_at dksX5_ofRow_0 19 rfl rfl)
theorem dX5_ofRow_20 : decode cX5_ofRow 20 = .ok (.goto 4, 3) := dk_167 0 4 (dk_at dksX5_ofRow_0 20 rfl rfl)
theorem dX5_ofRow_23 : decode cX5_ofRow 23 = .ok (.iconst (-1), 1) := dk_2 (dk_at dksX5_ofRow_0 23 rfl rfl)
theorem dX5_ofRow_24 : decode cX5_ofRow 24 = .ok (.ireturn, 1) := dk_172 (dk_at dksX5_ofRow_1 0 rfl rfl)
abbrev cX5_seen : ByteArray := prog_12_method_69_code
def yX5_seen : MethodName := ⟨RX5, "seen", "(II)I"⟩
def dkwX5_seen_2 : List UInt8 := [180, 1, 37, 28, 79, 42, 89, 180, 1, 37, 4, 96, 181, 1, 37, 42, 180, 1, 37, 172]
abbrev dktX5_seen_2 : List UInt8 := dkwX5_seen_2 ++ []
def dkwX5_seen_1 : List UInt8 := [16, 8, 160, 0, 6, 16, 252, 172, 42, 180, 0, 82, 42, 180, 1, 37, 27, 79, 42, 180, 0, 85, 42]
abbrev dktX5_seen_1 : List UInt8 := dkwX5_seen_1 ++ dktX5_seen_2
def dkwX5_seen_0 : List UInt8 := [27, 184, 0, 156, 153, 0, 13, 28, 3, 16, 24, 184, 0, 109, 154, 0, 6, 16, 254, 172, 42, 180, 1, 37]
abbrev dktX5_seen_0 : List UInt8 := dkwX5_seen_0 ++ dktX5_seen_1
theorem dksX5_seen_0 : cX5_seen.data.toList.drop 0 = dktX5_seen_0 := by decide +kernel
theorem dksX5_seen_1 : cX5_seen.data.toList.drop 24 = dktX5_seen_1 := dk_seg dksX5_seen_0 24 rfl rfl
theorem dksX5_seen_2 : cX5_seen.data.toList.drop 47 = dktX5_seen_2 := dk_seg dksX5_seen_1 23 rfl rfl
theorem dX5_seen_0 : decode cX5_seen 0 = .ok (.iload_n 1, 1) := dk_27 (dk_at dksX5_seen_0 0 rfl rfl)
theorem dX5_seen_1 : decode cX5_seen 1 = .ok (.invokestatic 156, 3) := dk_184 0 156 (dk_at dksX5_seen_0 1 rfl rfl)
theorem dX5_seen_4 : decode cX5_seen 4 = .ok (.ifCond .eq 13, 3) := dk_153 0 13 (dk_at dksX5_seen_0 4 rfl rfl)
theorem dX5_seen_7 : decode cX5_seen 7 = .ok (.iload_n 2, 1) := dk_28 (dk_at dksX5_seen_0 7 rfl rfl)
theorem dX5_seen_8 : decode cX5_seen 8 = .ok (.iconst 0, 1) := dk_3 (dk_at dksX5_seen_0 8 rfl rfl)
theorem dX5_seen_9 : decode cX5_seen 9 = .ok (.bipush 24, 2) := dk_16 24 (dk_at dksX5_seen_0 9 rfl rfl)
theorem dX5_seen_11 : decode cX5_seen 11 = .ok (.invokestatic 109, 3) := dk_184 0 109 (dk_at dksX5_seen_0 11 rfl rfl)
theorem dX5_seen_14 : decode cX5_seen 14 = .ok (.ifCond .ne 6, 3) := dk_154 0 6 (dk_at dksX5_seen_0 14 rfl rfl)
theorem dX5_seen_17 : decode cX5_seen 17 = .ok (.bipush (-2), 2) := dk_16 254 (dk_at dksX5_seen_0 17 rfl rfl)
theorem dX5_seen_19 : decode cX5_seen 19 = .ok (.ireturn, 1) := dk_172 (dk_at dksX5_seen_0 19 rfl rfl)
theorem dX5_seen_20 : decode cX5_seen 20 = .ok (.aload_n 0, 1) := dk_42 (dk_at dksX5_seen_0 20 rfl rfl)
theorem dX5_seen_21 : decode cX5_seen 21 = .ok (.getfield 293, 3) := dk_180 1 37 (dk_at dksX5_seen_0 21 rfl rfl)
theorem dX5_seen_24 : decode cX5_seen 24 = .ok (.bipush 8, 2) := dk_16 8 (dk_at dksX5_seen_1 0 rfl rfl)
theorem dX5_seen_26 : decode cX5_seen 26 = .ok (.if_icmp .ne 6, 3) := dk_160 0 6 (dk_at dksX5_seen_1 2 rfl rfl)
theorem dX5_seen_29 : decode cX5_seen 29 = .ok (.bipush (-4), 2) := dk_16 252 (dk_at dksX5_seen_1 5 rfl rfl)
theorem dX5_seen_31 : decode cX5_seen 31 = .ok (.ireturn, 1) := dk_172 (dk_at dksX5_seen_1 7 rfl rfl)
theorem dX5_seen_32 : decode cX5_seen 32 = .ok (.aload_n 0, 1) := dk_42 (dk_at dksX5_seen_1 8 rfl rfl)
theorem dX5_seen_33 : decode cX5_seen 33 = .ok (.getfield 82, 3) := dk_180 0 82 (dk_at dksX5_seen_1 9 rfl rfl)
theorem dX5_seen_36 : decode cX5_seen 36 = .ok (.aload_n 0, 1) := dk_42 (dk_at dksX5_seen_1 12 rfl rfl)
theorem dX5_seen_37 : decode cX5_seen 37 = .ok (.getfield 293, 3) := dk_180 1 37 (dk_at dksX5_seen_1 13 rfl rfl)
theorem dX5_seen_40 : decode cX5_seen 40 = .ok (.iload_n 1, 1) := dk_27 (dk_at dksX5_seen_1 16 rfl rfl)
theorem dX5_seen_41 : decode cX5_seen 41 = .ok (.iastore, 1) := dk_79 (dk_at dksX5_seen_1 17 rfl rfl)
theorem dX5_seen_42 : decode cX5_seen 42 = .ok (.aload_n 0, 1) := dk_42 (dk_at dksX5_seen_1 18 rfl rfl)
theorem dX5_seen_43 : decode cX5_seen 43 = .ok (.getfield 85, 3) := dk_180 0 85 (dk_at dksX5_seen_1 19 rfl rfl)
theorem dX5_seen_46 : decode cX5_seen 46 = .ok (.aload_n 0, 1) := dk_42 (dk_at dksX5_seen_1 22 rfl rfl)
theorem dX5_seen_47 : decode cX5_seen 47 = .ok (.getfield 293, 3) := dk_180 1 37 (dk_at dksX5_seen_2 0 rfl rfl)
theorem dX5_seen_50 : decode cX5_seen 50 = .ok (.iload_n 2, 1) := dk_28 (dk_at dksX5_seen_2 3 rfl rfl)
theorem dX5_seen_51 : decode cX5_seen 51 = .ok (.iastore, 1) := dk_79 (dk_at dksX5_seen_2 4 rfl rfl)
theorem dX5_seen_52 : decode cX5_seen 52 = .ok (.aload_n 0, 1) := dk_42 (dk_at dksX5_seen_2 5 rfl rfl)
theorem dX5_seen_53 : decode cX5_seen 53 = .ok (.dup, 1) := dk_89 (dk_at dksX5_seen_2 6 rfl rfl)
theorem dX5_seen_54 : decode cX5_seen 54 = .ok (.getfield 293, 3) := dk_180 1 37 (dk_at dksX5_seen_2 7 rfl rfl)
theorem dX5_seen_57 : decode cX5_seen 57 = .ok (.iconst 1, 1) := dk_4 (dk_at dksX5_seen_2 10 rfl rfl)
theorem dX5_seen_58 : decode cX5_seen 58 = .ok (.iadd, 1) := dk_96 (dk_at dksX5_seen_2 11 rfl rfl)
theorem dX5_seen_59 : decode cX5_seen 59 = .ok (.putfield 293, 3) := dk_181 1 37 (dk_at dksX5_seen_2 12 rfl rfl)
theorem dX5_seen_62 : decode cX5_seen 62 = .ok (.aload_n 0, 1) := dk_42 (dk_at dksX5_seen_2 15 rfl rfl)
theorem dX5_seen_63 : decode cX5_seen 63 = .ok (.getfield 293, 3) := dk_180 1 37 (dk_at dksX5_seen_2 16 rfl rfl)
theorem dX5_seen_66 : decode cX5_seen 66 = .ok (.ireturn, 1) := dk_172 (dk_at dksX5_seen_2 19 rfl rfl)
abbrev cX5_forget : ByteArray := prog_12_method_70_code
def yX5_forget : MethodName := ⟨RX5, "forget", "()I"⟩
def dkwX5_forget_0 : List UInt8 := [42, 180, 1, 37, 60, 42, 3, 181, 1, 37, 27, 172]
abbrev dktX5_forget_0 : List UInt8 := dkwX5_forget_0 ++ []
theorem dksX5_forget_0 : cX5_forget.data.toList.drop 0 = dktX5_forget_0 := by decide +kernel
theorem dX5_forget_0 : decode cX5_forget 0 = .ok (.aload_n 0, 1) := dk_42 (dk_at dksX5_forget_0 0 rfl rfl)
theorem dX5_forget_1 : decode cX5_forget 1 = .ok (.getfield 293, 3) := dk_180 1 37 (dk_at dksX5_forget_0 1 rfl rfl)
theorem dX5_forget_4 : decode cX5_forget 4 = .ok (.istore_n 1, 1) := dk_60 (dk_at dksX5_forget_0 4 rfl rfl)
theorem dX5_forget_5 : decode cX5_forget 5 = .ok (.aload_n 0, 1) := dk_42 (dk_at dksX5_forget_0 5 rfl rfl)
theorem dX5_forget_6 : decode cX5_forget 6 = .ok (.iconst 0, 1) := dk_3 (dk_at dksX5_forget_0 6 rfl rfl)
theorem dX5_forget_7 : decode cX5_forget 7 = .ok (.putfield 293, 3) := dk_181 1 37 (dk_at dksX5_forget_0 7 rfl rfl)
theorem dX5_forget_10 : decode cX5_forget 10 = .ok (.iload_n 1, 1) := dk_27 (dk_at dksX5_forget_0 10 rfl rfl)
theorem dX5_forget_11 : decode cX5_forget 11 = .ok (.ireturn, 1) := dk_172 (dk_at dksX5_forget_0 11 rfl rfl)
abbrev cX5_never : ByteArray := prog_12_method_73_code
def yX5_never : MethodName := ⟨RX5, "never", "()I"⟩
theorem dX5_never_0 : decode cX5_never 0 = .ok (.aload_n 0, 1) := by decide +kernel
theorem dX5_never_1 : decode cX5_never 1 = .ok (.invokevirtual 300, 3) := by decide +kernel
theorem dX5_never_4 : decode cX5_never 4 = .ok (.ireturn, 1) := by decide +kernel
abbrev cX5_neverNow : ByteArray := prog_12_method_72_code
def yX5_neverNow : MethodName := ⟨RX5, "neverNow", "()I"⟩
def dkwX5_neverNow_1 : List UInt8 := [42, 182, 1, 40, 153, 0, 9, 4, 28, 120, 167, 0, 4, 3, 128, 60, 132, 2, 1, 167, 255, 221, 27, 172]
abbrev dktX5_neverNow_1 : List UInt8 := dkwX5_neverNow_1 ++ []
def dkwX5_neverNow_0 : List UInt8 := [42, 182, 0, 229, 3, 60, 3, 61, 28, 42, 180, 0, 166, 162, 0, 33, 42, 4, 28, 120, 181, 0, 178, 27]
abbrev dktX5_neverNow_0 : List UInt8 := dkwX5_neverNow_0 ++ dktX5_neverNow_1
theorem dksX5_neverNow_0 : cX5_neverNow.data.toList.drop 0 = dktX5_neverNow_0 := by decide +kernel
theorem dksX5_neverNow_1 : cX5_neverNow.data.toList.drop 24 = dktX5_neverNow_1 := dk_seg dksX5_neverNow_0 24 rfl rfl
theorem dX5_neverNow_0 : decode cX5_neverNow 0 = .ok (.aload_n 0, 1) := dk_42 (dk_at dksX5_neverNow_0 0 rfl rfl)
theorem dX5_neverNow_1 : decode cX5_neverNow 1 = .ok (.invokevirtual 229, 3) := dk_182 0 229 (dk_at dksX5_neverNow_0 1 rfl rfl)
theorem dX5_neverNow_4 : decode cX5_neverNow 4 = .ok (.iconst 0, 1) := dk_3 (dk_at dksX5_neverNow_0 4 rfl rfl)
theorem dX5_neverNow_5 : decode cX5_neverNow 5 = .ok (.istore_n 1, 1) := dk_60 (dk_at dksX5_neverNow_0 5 rfl rfl)
theorem dX5_neverNow_6 : decode cX5_neverNow 6 = .ok (.iconst 0, 1) := dk_3 (dk_at dksX5_neverNow_0 6 rfl rfl)
theorem dX5_neverNow_7 : decode cX5_neverNow 7 = .ok (.istore_n 2, 1) := dk_61 (dk_at dksX5_neverNow_0 7 rfl rfl)
theorem dX5_neverNow_8 : decode cX5_neverNow 8 = .ok (.iload_n 2, 1) := dk_28 (dk_at dksX5_neverNow_0 8 rfl rfl)
theorem dX5_neverNow_9 : decode cX5_neverNow 9 = .ok (.aload_n 0, 1) := dk_42 (dk_at dksX5_neverNow_0 9 rfl rfl)
theorem dX5_neverNow_10 : decode cX5_neverNow 10 = .ok (.getfield 166, 3) := dk_180 0 166 (dk_at dksX5_neverNow_0 10 rfl rfl)
theorem dX5_neverNow_13 : decode cX5_neverNow 13 = .ok (.if_icmp .ge 33, 3) := dk_162 0 33 (dk_at dksX5_neverNow_0 13 rfl rfl)
theorem dX5_neverNow_16 : decode cX5_neverNow 16 = .ok (.aload_n 0, 1) := dk_42 (dk_at dksX5_neverNow_0 16 rfl rfl)
theorem dX5_neverNow_17 : decode cX5_neverNow 17 = .ok (.iconst 1, 1) := dk_4 (dk_at dksX5_neverNow_0 17 rfl rfl)
theorem dX5_neverNow_18 : decode cX5_neverNow 18 = .ok (.iload_n 2, 1) := dk_28 (dk_at dksX5_neverNow_0 18 rfl rfl)
theorem dX5_neverNow_19 : decode cX5_neverNow 19 = .ok (.ishl, 1) := dk_120 (dk_at dksX5_neverNow_0 19 rfl rfl)
theorem dX5_neverNow_20 : decode cX5_neverNow 20 = .ok (.putfield 178, 3) := dk_181 0 178 (dk_at dksX5_neverNow_0 20 rfl rfl)
theorem dX5_neverNow_23 : decode cX5_neverNow 23 = .ok (.iload_n 1, 1) := dk_27 (dk_at dksX5_neverNow_0 23 rfl rfl)
theorem dX5_neverNow_24 : decode cX5_neverNow 24 = .ok (.aload_n 0, 1) := dk_42 (dk_at dksX5_neverNow_1 0 rfl rfl)
theorem dX5_neverNow_25 : decode cX5_neverNow 25 = .ok (.invokevirtual 296, 3) := dk_182 1 40 (dk_at dksX5_neverNow_1 1 rfl rfl)
theorem dX5_neverNow_28 : decode cX5_neverNow 28 = .ok (.ifCond .eq 9, 3) := dk_153 0 9 (dk_at dksX5_neverNow_1 4 rfl rfl)
theorem dX5_neverNow_31 : decode cX5_neverNow 31 = .ok (.iconst 1, 1) := dk_4 (dk_at dksX5_neverNow_1 7 rfl rfl)
theorem dX5_neverNow_32 : decode cX5_neverNow 32 = .ok (.iload_n 2, 1) := dk_28 (dk_at dksX5_neverNow_1 8 rfl rfl)
theorem dX5_neverNow_33 : decode cX5_neverNow 33 = .ok (.ishl, 1) := dk_120 (dk_at dksX5_neverNow_1 9 rfl rfl)
theorem dX5_neverNow_34 : decode cX5_neverNow 34 = .ok (.goto 4, 3) := dk_167 0 4 (dk_at dksX5_neverNow_1 10 rfl rfl)
theorem dX5_neverNow_37 : decode cX5_neverNow 37 = .ok (.iconst 0, 1) := dk_3 (dk_at dksX5_neverNow_1 13 rfl rfl)
theorem dX5_neverNow_38 : decode cX5_neverNow 38 = .ok (.ior, 1) := dk_128 (dk_at dksX5_neverNow_1 14 rfl rfl)
theorem dX5_neverNow_39 : decode cX5_neverNow 39 = .ok (.istore_n 1, 1) := dk_60 (dk_at dksX5_neverNow_1 15 rfl rfl)
theorem dX5_neverNow_40 : decode cX5_neverNow 40 = .ok (.iinc 2 1, 3) := dk_132 2 1 (dk_at dksX5_neverNow_1 16 rfl rfl)
theorem dX5_neverNow_43 : decode cX5_neverNow 43 = .ok (.goto (-35), 3) := dk_167 255 221 (dk_at dksX5_neverNow_1 19 rfl rfl)
theorem dX5_neverNow_46 : decode cX5_neverNow 46 = .ok (.iload_n 1, 1) := dk_27 (dk_at dksX5_neverNow_1 22 rfl rfl)
theorem dX5_neverNow_47 : decode cX5_neverNow 47 = .ok (.ireturn, 1) := dk_172 (dk_at dksX5_neverNow_1 23 rfl rfl)
abbrev cX5_isSeen : ByteArray := prog_12_method_71_code
def yX5_isSeen : MethodName := ⟨RX5, "isSeen", "()Z"⟩
def dkwX5_isSeen_2 : List UInt8 := [132, 2, 1, 167, 255, 215, 27, 172]
abbrev dktX5_isSeen_2 : List UInt8 := dkwX5_isSeen_2 ++ []
def dkwX5_isSeen_1 : List UInt8 := [42, 180, 0, 82, 28, 46, 46, 42, 180, 0, 85, 28, 46, 160, 0, 7, 4, 167, 0, 4, 3, 60]
abbrev dktX5_isSeen_1 : List UInt8 := dkwX5_isSeen_1 ++ dktX5_isSeen_2
def dkwX5_isSeen_0 : List UInt8 := [42, 182, 0, 232, 4, 60, 3, 61, 28, 42, 180, 1, 37, 162, 0, 39, 27, 153, 0, 35, 42, 180, 0, 64]
abbrev dktX5_isSeen_0 : List UInt8 := dkwX5_isSeen_0 ++ dktX5_isSeen_1
theorem dksX5_isSeen_0 : cX5_isSeen.data.toList.drop 0 = dktX5_isSeen_0 := by decide +kernel
theorem dksX5_isSeen_1 : cX5_isSeen.data.toList.drop 24 = dktX5_isSeen_1 := dk_seg dksX5_isSeen_0 24 rfl rfl
theorem dksX5_isSeen_2 : cX5_isSeen.data.toList.drop 46 = dktX5_isSeen_2 := dk_seg dksX5_isSeen_1 22 rfl rfl
theorem dX5_isSeen_0 : decode cX5_isSeen 0 = .ok (.aload_n 0, 1) := dk_42 (dk_at dksX5_isSeen_0 0 rfl rfl)
theorem dX5_isSeen_1 : decode cX5_isSeen 1 = .ok (.invokevirtual 232, 3) := dk_182 0 232 (dk_at dksX5_isSeen_0 1 rfl rfl)
theorem dX5_isSeen_4 : decode cX5_isSeen 4 = .ok (.iconst 1, 1) := dk_4 (dk_at dksX5_isSeen_0 4 rfl rfl)
theorem dX5_isSeen_5 : decode cX5_isSeen 5 = .ok (.istore_n 1, 1) := dk_60 (dk_at dksX5_isSeen_0 5 rfl rfl)
theorem dX5_isSeen_6 : decode cX5_isSeen 6 = .ok (.iconst 0, 1) := dk_3 (dk_at dksX5_isSeen_0 6 rfl rfl)
theorem dX5_isSeen_7 : decode cX5_isSeen 7 = .ok (.istore_n 2, 1) := dk_61 (dk_at dksX5_isSeen_0 7 rfl rfl)
theorem dX5_isSeen_8 : decode cX5_isSeen 8 = .ok (.iload_n 2, 1) := dk_28 (dk_at dksX5_isSeen_0 8 rfl rfl)
theorem dX5_isSeen_9 : decode cX5_isSeen 9 = .ok (.aload_n 0, 1) := dk_42 (dk_at dksX5_isSeen_0 9 rfl rfl)
theorem dX5_isSeen_10 : decode cX5_isSeen 10 = .ok (.getfield 293, 3) := dk_180 1 37 (dk_at dksX5_isSeen_0 10 rfl rfl)
theorem dX5_isSeen_13 : decode cX5_isSeen 13 = .ok (.if_icmp .ge 39, 3) := dk_162 0 39 (dk_at dksX5_isSeen_0 13 rfl rfl)
theorem dX5_isSeen_16 : decode cX5_isSeen 16 = .ok (.iload_n 1, 1) := dk_27 (dk_at dksX5_isSeen_0 16 rfl rfl)
theorem dX5_isSeen_17 : decode cX5_isSeen 17 = .ok (.ifCond .eq 35, 3) := dk_153 0 35 (dk_at dksX5_isSeen_0 17 rfl rfl)
theorem dX5_isSeen_20 : decode cX5_isSeen 20 = .ok (.aload_n 0, 1) := dk_42 (dk_at dksX5_isSeen_0 20 rfl rfl)
theorem dX5_isSeen_21 : decode cX5_isSeen 21 = .ok (.getfield 64, 3) := dk_180 0 64 (dk_at dksX5_isSeen_0 21 rfl rfl)
theorem dX5_isSeen_24 : decode cX5_isSeen 24 = .ok (.aload_n 0, 1) := dk_42 (dk_at dksX5_isSeen_1 0 rfl rfl)
theorem dX5_isSeen_25 : decode cX5_isSeen 25 = .ok (.getfield 82, 3) := dk_180 0 82 (dk_at dksX5_isSeen_1 1 rfl rfl)
theorem dX5_isSeen_28 : decode cX5_isSeen 28 = .ok (.iload_n 2, 1) := dk_28 (dk_at dksX5_isSeen_1 4 rfl rfl)
theorem dX5_isSeen_29 : decode cX5_isSeen 29 = .ok (.iaload, 1) := dk_46 (dk_at dksX5_isSeen_1 5 rfl rfl)
theorem dX5_isSeen_30 : decode cX5_isSeen 30 = .ok (.iaload, 1) := dk_46 (dk_at dksX5_isSeen_1 6 rfl rfl)
theorem dX5_isSeen_31 : decode cX5_isSeen 31 = .ok (.aload_n 0, 1) := dk_42 (dk_at dksX5_isSeen_1 7 rfl rfl)
theorem dX5_isSeen_32 : decode cX5_isSeen 32 = .ok (.getfield 85, 3) := dk_180 0 85 (dk_at dksX5_isSeen_1 8 rfl rfl)
theorem dX5_isSeen_35 : decode cX5_isSeen 35 = .ok (.iload_n 2, 1) := dk_28 (dk_at dksX5_isSeen_1 11 rfl rfl)
theorem dX5_isSeen_36 : decode cX5_isSeen 36 = .ok (.iaload, 1) := dk_46 (dk_at dksX5_isSeen_1 12 rfl rfl)
theorem dX5_isSeen_37 : decode cX5_isSeen 37 = .ok (.if_icmp .ne 7, 3) := dk_160 0 7 (dk_at dksX5_isSeen_1 13 rfl rfl)
theorem dX5_isSeen_40 : decode cX5_isSeen 40 = .ok (.iconst 1, 1) := dk_4 (dk_at dksX5_isSeen_1 16 rfl rfl)
theorem dX5_isSeen_41 : decode cX5_isSeen 41 = .ok (.goto 4, 3) := dk_167 0 4 (dk_at dksX5_isSeen_1 17 rfl rfl)
theorem dX5_isSeen_44 : decode cX5_isSeen 44 = .ok (.iconst 0, 1) := dk_3 (dk_at dksX5_isSeen_1 20 rfl rfl)
theorem dX5_isSeen_45 : decode cX5_isSeen 45 = .ok (.istore_n 1, 1) := dk_60 (dk_at dksX5_isSeen_1 21 rfl rfl)
theorem dX5_isSeen_46 : decode cX5_isSeen 46 = .ok (.iinc 2 1, 3) := dk_132 2 1 (dk_at dksX5_isSeen_2 0 rfl rfl)
theorem dX5_isSeen_49 : decode cX5_isSeen 49 = .ok (.goto (-41), 3) := dk_167 255 215 (dk_at dksX5_isSeen_2 3 rfl rfl)
theorem dX5_isSeen_52 : decode cX5_isSeen 52 = .ok (.iload_n 1, 1) := dk_27 (dk_at dksX5_isSeen_2 6 rfl rfl)
theorem dX5_isSeen_53 : decode cX5_isSeen 53 = .ok (.ireturn, 1) := dk_172 (dk_at dksX5_isSeen_2 7 rfl rfl)
abbrev cX5_was : ByteArray := prog_12_method_76_code
def yX5_was : MethodName := ⟨RX5, "was", "(II)I"⟩
def dkwX5_was_1 : List UInt8 := [167, 0, 13, 42, 27, 182, 1, 50, 167, 0, 5, 16, 254, 172]
abbrev dktX5_was_1 : List UInt8 := dkwX5_was_1 ++ []
def dkwX5_was_0 : List UInt8 := [42, 27, 182, 0, 144, 153, 0, 30, 28, 184, 0, 153, 153, 0, 23, 28, 154, 0, 11, 42, 27, 182, 1, 47]
abbrev dktX5_was_0 : List UInt8 := dkwX5_was_0 ++ dktX5_was_1
theorem dksX5_was_0 : cX5_was.data.toList.drop 0 = dktX5_was_0 := by decide +kernel
theorem dksX5_was_1 : cX5_was.data.toList.drop 24 = dktX5_was_1 := dk_seg dksX5_was_0 24 rfl rfl
theorem dX5_was_0 : decode cX5_was 0 = .ok (.aload_n 0, 1) := dk_42 (dk_at dksX5_was_0 0 rfl rfl)
theorem dX5_was_1 : decode cX5_was 1 = .ok (.iload_n 1, 1) := dk_27 (dk_at dksX5_was_0 1 rfl rfl)
theorem dX5_was_2 : decode cX5_was 2 = .ok (.invokevirtual 144, 3) := dk_182 0 144 (dk_at dksX5_was_0 2 rfl rfl)
theorem dX5_was_5 : decode cX5_was 5 = .ok (.ifCond .eq 30, 3) := dk_153 0 30 (dk_at dksX5_was_0 5 rfl rfl)
theorem dX5_was_8 : decode cX5_was 8 = .ok (.iload_n 2, 1) := dk_28 (dk_at dksX5_was_0 8 rfl rfl)
theorem dX5_was_9 : decode cX5_was 9 = .ok (.invokestatic 153, 3) := dk_184 0 153 (dk_at dksX5_was_0 9 rfl rfl)
theorem dX5_was_12 : decode cX5_was 12 = .ok (.ifCond .eq 23, 3) := dk_153 0 23 (dk_at dksX5_was_0 12 rfl rfl)
theorem dX5_was_15 : decode cX5_was 15 = .ok (.iload_n 2, 1) := dk_28 (dk_at dksX5_was_0 15 rfl rfl)
theorem dX5_was_16 : decode cX5_was 16 = .ok (.ifCond .ne 11, 3) := dk_154 0 11 (dk_at dksX5_was_0 16 rfl rfl)
theorem dX5_was_19 : decode cX5_was 19 = .ok (.aload_n 0, 1) := dk_42 (dk_at dksX5_was_0 19 rfl rfl)
theorem dX5_was_20 : decode cX5_was 20 = .ok (.iload_n 1, 1) := dk_27 (dk_at dksX5_was_0 20 rfl rfl)
theorem dX5_was_21 : decode cX5_was 21 = .ok (.invokevirtual 303, 3) := dk_182 1 47 (dk_at dksX5_was_0 21 rfl rfl)
theorem dX5_was_24 : decode cX5_was 24 = .ok (.goto 13, 3) := dk_167 0 13 (dk_at dksX5_was_1 0 rfl rfl)
theorem dX5_was_27 : decode cX5_was 27 = .ok (.aload_n 0, 1) := dk_42 (dk_at dksX5_was_1 3 rfl rfl)
theorem dX5_was_28 : decode cX5_was 28 = .ok (.iload_n 1, 1) := dk_27 (dk_at dksX5_was_1 4 rfl rfl)
theorem dX5_was_29 : decode cX5_was 29 = .ok (.invokevirtual 306, 3) := dk_182 1 50 (dk_at dksX5_was_1 5 rfl rfl)
theorem dX5_was_32 : decode cX5_was 32 = .ok (.goto 5, 3) := dk_167 0 5 (dk_at dksX5_was_1 8 rfl rfl)
theorem dX5_was_35 : decode cX5_was 35 = .ok (.bipush (-2), 2) := dk_16 254 (dk_at dksX5_was_1 11 rfl rfl)
theorem dX5_was_37 : decode cX5_was 37 = .ok (.ireturn, 1) := dk_172 (dk_at dksX5_was_1 13 rfl rfl)
abbrev cX5_weightsBy : ByteArray := prog_12_method_74_code
def yX5_weightsBy : MethodName := ⟨RX5, "weightsBy", "(I)I"⟩
def dkwX5_weightsBy_4 : List UInt8 := [28, 79, 29, 172]
abbrev dktX5_weightsBy_4 : List UInt8 := dkwX5_weightsBy_4 ++ []
def dkwX5_weightsBy_3 : List UInt8 := [180, 0, 64, 21, 5, 46, 79, 132, 5, 1, 167, 255, 226, 132, 4, 1, 167, 255, 184, 42, 180, 0, 22, 27]
abbrev dktX5_weightsBy_3 : List UInt8 := dkwX5_weightsBy_3 ++ dktX5_weightsBy_4
def dkwX5_weightsBy_2 : List UInt8 := [62, 3, 54, 5, 21, 5, 16, 24, 162, 0, 29, 42, 180, 0, 88, 16, 24, 21, 4, 104, 21, 5, 96, 42]
abbrev dktX5_weightsBy_2 : List UInt8 := dkwX5_weightsBy_2 ++ dktX5_weightsBy_3
def dkwX5_weightsBy_1 : List UInt8 := [180, 0, 22, 27, 21, 4, 79, 29, 42, 182, 1, 40, 153, 0, 10, 4, 21, 4, 120, 167, 0, 4, 3, 128]
abbrev dktX5_weightsBy_1 : List UInt8 := dkwX5_weightsBy_1 ++ dktX5_weightsBy_2
def dkwX5_weightsBy_0 : List UInt8 := [42, 182, 0, 229, 42, 180, 0, 22, 27, 46, 61, 3, 62, 4, 54, 4, 21, 4, 16, 10, 162, 0, 71, 42]
abbrev dktX5_weightsBy_0 : List UInt8 := dkwX5_weightsBy_0 ++ dktX5_weightsBy_1
theorem dksX5_weightsBy_0 : cX5_weightsBy.data.toList.drop 0 = dktX5_weightsBy_0 := by decide +kernel
theorem dksX5_weightsBy_1 : cX5_weightsBy.data.toList.drop 24 = dktX5_weightsBy_1 := dk_seg dksX5_weightsBy_0 24 rfl rfl
theorem dksX5_weightsBy_2 : cX5_weightsBy.data.toList.drop 48 = dktX5_weightsBy_2 := dk_seg dksX5_weightsBy_1 24 rfl rfl
theorem dksX5_weightsBy_3 : cX5_weightsBy.data.toList.drop 72 = dktX5_weightsBy_3 := dk_seg dksX5_weightsBy_2 24 rfl rfl
theorem dksX5_weightsBy_4 : cX5_weightsBy.data.toList.drop 96 = dktX5_weightsBy_4 := dk_seg dksX5_weightsBy_3 24 rfl rfl
theorem dX5_weightsBy_0 : decode cX5_weightsBy 0 = .ok (.aload_n 0, 1) := dk_42 (dk_at dksX5_weightsBy_0 0 rfl rfl)
theorem dX5_weightsBy_1 : decode cX5_weightsBy 1 = .ok (.invokevirtual 229, 3) := dk_182 0 229 (dk_at dksX5_weightsBy_0 1 rfl rfl)
theorem dX5_weightsBy_4 : decode cX5_weightsBy 4 = .ok (.aload_n 0, 1) := dk_42 (dk_at dksX5_weightsBy_0 4 rfl rfl)
theorem dX5_weightsBy_5 : decode cX5_weightsBy 5 = .ok (.getfield 22, 3) := dk_180 0 22 (dk_at dksX5_weightsBy_0 5 rfl rfl)
theorem dX5_weightsBy_8 : decode cX5_weightsBy 8 = .ok (.iload_n 1, 1) := dk_27 (dk_at dksX5_weightsBy_0 8 rfl rfl)
theorem dX5_weightsBy_9 : decode cX5_weightsBy 9 = .ok (.iaload, 1) := dk_46 (dk_at dksX5_weightsBy_0 9 rfl rfl)
theorem dX5_weightsBy_10 : decode cX5_weightsBy 10 = .ok (.istore_n 2, 1) := dk_61 (dk_at dksX5_weightsBy_0 10 rfl rfl)
theorem dX5_weightsBy_11 : decode cX5_weightsBy 11 = .ok (.iconst 0, 1) := dk_3 (dk_at dksX5_weightsBy_0 11 rfl rfl)
theorem dX5_weightsBy_12 : decode cX5_weightsBy 12 = .ok (.istore_n 3, 1) := dk_62 (dk_at dksX5_weightsBy_0 12 rfl rfl)
theorem dX5_weightsBy_13 : decode cX5_weightsBy 13 = .ok (.iconst 1, 1) := dk_4 (dk_at dksX5_weightsBy_0 13 rfl rfl)
theorem dX5_weightsBy_14 : decode cX5_weightsBy 14 = .ok (.istore 4, 2) := dk_54 4 (dk_at dksX5_weightsBy_0 14 rfl rfl)
theorem dX5_weightsBy_16 : decode cX5_weightsBy 16 = .ok (.iload 4, 2) := dk_21 4 (dk_at dksX5_weightsBy_0 16 rfl rfl)
theorem dX5_weightsBy_18 : decode cX5_weightsBy 18 = .ok (.bipush 10, 2) := dk_16 10 (dk_at dksX5_weightsBy_0 18 rfl rfl)
theorem dX5_weightsBy_20 : decode cX5_weightsBy 20 = .ok (.if_icmp .ge 71, 3) := dk_162 0 71 (dk_at dksX5_weightsBy_0 20 rfl rfl)
theorem dX5_weightsBy_23 : decode cX5_weightsBy 23 = .ok (.aload_n 0, 1) := dk_42 (dk_at dksX5_weightsBy_0 23 rfl rfl)
theorem dX5_weightsBy_24 : decode cX5_weightsBy 24 = .ok (.getfield 22, 3) := dk_180 0 22 (dk_at dksX5_weightsBy_1 0 rfl rfl)
theorem dX5_weightsBy_27 : decode cX5_weightsBy 27 = .ok (.iload_n 1, 1) := dk_27 (dk_at dksX5_weightsBy_1 3 rfl rfl)
theorem dX5_weightsBy_28 : decode cX5_weightsBy 28 = .ok (.iload 4, 2) := dk_21 4 (dk_at dksX5_weightsBy_1 4 rfl rfl)
theorem dX5_weightsBy_30 : decode cX5_weightsBy 30 = .ok (.iastore, 1) := dk_79 (dk_at dksX5_weightsBy_1 6 rfl rfl)
theorem dX5_weightsBy_31 : decode cX5_weightsBy 31 = .ok (.iload_n 3, 1) := dk_29 (dk_at dksX5_weightsBy_1 7 rfl rfl)
theorem dX5_weightsBy_32 : decode cX5_weightsBy 32 = .ok (.aload_n 0, 1) := dk_42 (dk_at dksX5_weightsBy_1 8 rfl rfl)
theorem dX5_weightsBy_33 : decode cX5_weightsBy 33 = .ok (.invokevirtual 296, 3) := dk_182 1 40 (dk_at dksX5_weightsBy_1 9 rfl rfl)
theorem dX5_weightsBy_36 : decode cX5_weightsBy 36 = .ok (.ifCond .eq 10, 3) := dk_153 0 10 (dk_at dksX5_weightsBy_1 12 rfl rfl)
theorem dX5_weightsBy_39 : decode cX5_weightsBy 39 = .ok (.iconst 1, 1) := dk_4 (dk_at dksX5_weightsBy_1 15 rfl rfl)
theorem dX5_weightsBy_40 : decode cX5_weightsBy 40 = .ok (.iload 4, 2) := dk_21 4 (dk_at dksX5_weightsBy_1 16 rfl rfl)
theorem dX5_weightsBy_42 : decode cX5_weightsBy 42 = .ok (.ishl, 1) := dk_120 (dk_at dksX5_weightsBy_1 18 rfl rfl)
theorem dX5_weightsBy_43 : decode cX5_weightsBy 43 = .ok (.goto 4, 3) := dk_167 0 4 (dk_at dksX5_weightsBy_1 19 rfl rfl)
theorem dX5_weightsBy_46 : decode cX5_weightsBy 46 = .ok (.iconst 0, 1) := dk_3 (dk_at dksX5_weightsBy_1 22 rfl rfl)
theorem dX5_weightsBy_47 : decode cX5_weightsBy 47 = .ok (.ior, 1) := dk_128 (dk_at dksX5_weightsBy_1 23 rfl rfl)
theorem dX5_weightsBy_48 : decode cX5_weightsBy 48 = .ok (.istore_n 3, 1) := dk_62 (dk_at dksX5_weightsBy_2 0 rfl rfl)
theorem dX5_weightsBy_49 : decode cX5_weightsBy 49 = .ok (.iconst 0, 1) := dk_3 (dk_at dksX5_weightsBy_2 1 rfl rfl)
theorem dX5_weightsBy_50 : decode cX5_weightsBy 50 = .ok (.istore 5, 2) := dk_54 5 (dk_at dksX5_weightsBy_2 2 rfl rfl)
theorem dX5_weightsBy_52 : decode cX5_weightsBy 52 = .ok (.iload 5, 2) := dk_21 5 (dk_at dksX5_weightsBy_2 4 rfl rfl)
theorem dX5_weightsBy_54 : decode cX5_weightsBy 54 = .ok (.bipush 24, 2) := dk_16 24 (dk_at dksX5_weightsBy_2 6 rfl rfl)
theorem dX5_weightsBy_56 : decode cX5_weightsBy 56 = .ok (.if_icmp .ge 29, 3) := dk_162 0 29 (dk_at dksX5_weightsBy_2 8 rfl rfl)
theorem dX5_weightsBy_59 : decode cX5_weightsBy 59 = .ok (.aload_n 0, 1) := dk_42 (dk_at dksX5_weightsBy_2 11 rfl rfl)
theorem dX5_weightsBy_60 : decode cX5_weightsBy 60 = .ok (.getfield 88, 3) := dk_180 0 88 (dk_at dksX5_weightsBy_2 12 rfl rfl)
theorem dX5_weightsBy_63 : decode cX5_weightsBy 63 = .ok (.bipush 24, 2) := dk_16 24 (dk_at dksX5_weightsBy_2 15 rfl rfl)
theorem dX5_weightsBy_65 : decode cX5_weightsBy 65 = .ok (.iload 4, 2) := dk_21 4 (dk_at dksX5_weightsBy_2 17 rfl rfl)
theorem dX5_weightsBy_67 : decode cX5_weightsBy 67 = .ok (.imul, 1) := dk_104 (dk_at dksX5_weightsBy_2 19 rfl rfl)
theorem dX5_weightsBy_68 : decode cX5_weightsBy 68 = .ok (.iload 5, 2) := dk_21 5 (dk_at dksX5_weightsBy_2 20 rfl rfl)
theorem dX5_weightsBy_70 : decode cX5_weightsBy 70 = .ok (.iadd, 1) := dk_96 (dk_at dksX5_weightsBy_2 22 rfl rfl)
theorem dX5_weightsBy_71 : decode cX5_weightsBy 71 = .ok (.aload_n 0, 1) := dk_42 (dk_at dksX5_weightsBy_2 23 rfl rfl)
theorem dX5_weightsBy_72 : decode cX5_weightsBy 72 = .ok (.getfield 64, 3) := dk_180 0 64 (dk_at dksX5_weightsBy_3 0 rfl rfl)
theorem dX5_weightsBy_75 : decode cX5_weightsBy 75 = .ok (.iload 5, 2) := dk_21 5 (dk_at dksX5_weightsBy_3 3 rfl rfl)
theorem dX5_weightsBy_77 : decode cX5_weightsBy 77 = .ok (.iaload, 1) := dk_46 (dk_at dksX5_weightsBy_3 5 rfl rfl)
theorem dX5_weightsBy_78 : decode cX5_weightsBy 78 = .ok (.iastore, 1) := dk_79 (dk_at dksX5_weightsBy_3 6 rfl rfl)
theorem dX5_weightsBy_79 : decode cX5_weightsBy 79 = .ok (.iinc 5 1, 3) := dk_132 5 1 (dk_at dksX5_weightsBy_3 7 rfl rfl)
theorem dX5_weightsBy_82 : decode cX5_weightsBy 82 = .ok (.goto (-30), 3) := dk_167 255 226 (dk_at dksX5_weightsBy_3 10 rfl rfl)
theorem dX5_weightsBy_85 : decode cX5_weightsBy 85 = .ok (.iinc 4 1, 3) := dk_132 4 1 (dk_at dksX5_weightsBy_3 13 rfl rfl)
theorem dX5_weightsBy_88 : decode cX5_weightsBy 88 = .ok (.goto (-72), 3) := dk_167 255 184 (dk_at dksX5_weightsBy_3 16 rfl rfl)
theorem dX5_weightsBy_91 : decode cX5_weightsBy 91 = .ok (.aload_n 0, 1) := dk_42 (dk_at dksX5_weightsBy_3 19 rfl rfl)
theorem dX5_weightsBy_92 : decode cX5_weightsBy 92 = .ok (.getfield 22, 3) := dk_180 0 22 (dk_at dksX5_weightsBy_3 20 rfl rfl)
theorem dX5_weightsBy_95 : decode cX5_weightsBy 95 = .ok (.iload_n 1, 1) := dk_27 (dk_at dksX5_weightsBy_3 23 rfl rfl)
theorem dX5_weightsBy_96 : decode cX5_weightsBy 96 = .ok (.iload_n 2, 1) := dk_28 (dk_at dksX5_weightsBy_4 0 rfl rfl)
theorem dX5_weightsBy_97 : decode cX5_weightsBy 97 = .ok (.iastore, 1) := dk_79 (dk_at dksX5_weightsBy_4 1 rfl rfl)
theorem dX5_weightsBy_98 : decode cX5_weightsBy 98 = .ok (.iload_n 3, 1) := dk_29 (dk_at dksX5_weightsBy_4 2 rfl rfl)
theorem dX5_weightsBy_99 : decode cX5_weightsBy 99 = .ok (.ireturn, 1) := dk_172 (dk_at dksX5_weightsBy_4 3 rfl rfl)
abbrev cX5_sortsBy : ByteArray := prog_12_method_75_code
def yX5_sortsBy : MethodName := ⟨RX5, "sortsBy", "(I)I"⟩
def dkwX5_sortsBy_2 : List UInt8 := [62, 132, 4, 1, 167, 255, 221, 42, 180, 0, 19, 27, 28, 79, 29, 172]
abbrev dktX5_sortsBy_2 : List UInt8 := dkwX5_sortsBy_2 ++ []
def dkwX5_sortsBy_1 : List UInt8 := [180, 0, 19, 27, 21, 4, 79, 29, 42, 182, 1, 40, 153, 0, 10, 4, 21, 4, 120, 167, 0, 4, 3, 128]
abbrev dktX5_sortsBy_1 : List UInt8 := dkwX5_sortsBy_1 ++ dktX5_sortsBy_2
def dkwX5_sortsBy_0 : List UInt8 := [42, 182, 0, 229, 42, 180, 0, 19, 27, 46, 61, 3, 62, 3, 54, 4, 21, 4, 6, 162, 0, 35, 42]
abbrev dktX5_sortsBy_0 : List UInt8 := dkwX5_sortsBy_0 ++ dktX5_sortsBy_1
theorem dksX5_sortsBy_0 : cX5_sortsBy.data.toList.drop 0 = dktX5_sortsBy_0 := by decide +kernel
theorem dksX5_sortsBy_1 : cX5_sortsBy.data.toList.drop 23 = dktX5_sortsBy_1 := dk_seg dksX5_sortsBy_0 23 rfl rfl
theorem dksX5_sortsBy_2 : cX5_sortsBy.data.toList.drop 47 = dktX5_sortsBy_2 := dk_seg dksX5_sortsBy_1 24 rfl rfl
theorem dX5_sortsBy_0 : decode cX5_sortsBy 0 = .ok (.aload_n 0, 1) := dk_42 (dk_at dksX5_sortsBy_0 0 rfl rfl)
theorem dX5_sortsBy_1 : decode cX5_sortsBy 1 = .ok (.invokevirtual 229, 3) := dk_182 0 229 (dk_at dksX5_sortsBy_0 1 rfl rfl)
theorem dX5_sortsBy_4 : decode cX5_sortsBy 4 = .ok (.aload_n 0, 1) := dk_42 (dk_at dksX5_sortsBy_0 4 rfl rfl)
theorem dX5_sortsBy_5 : decode cX5_sortsBy 5 = .ok (.getfield 19, 3) := dk_180 0 19 (dk_at dksX5_sortsBy_0 5 rfl rfl)
theorem dX5_sortsBy_8 : decode cX5_sortsBy 8 = .ok (.iload_n 1, 1) := dk_27 (dk_at dksX5_sortsBy_0 8 rfl rfl)
theorem dX5_sortsBy_9 : decode cX5_sortsBy 9 = .ok (.iaload, 1) := dk_46 (dk_at dksX5_sortsBy_0 9 rfl rfl)
theorem dX5_sortsBy_10 : decode cX5_sortsBy 10 = .ok (.istore_n 2, 1) := dk_61 (dk_at dksX5_sortsBy_0 10 rfl rfl)
theorem dX5_sortsBy_11 : decode cX5_sortsBy 11 = .ok (.iconst 0, 1) := dk_3 (dk_at dksX5_sortsBy_0 11 rfl rfl)
theorem dX5_sortsBy_12 : decode cX5_sortsBy 12 = .ok (.istore_n 3, 1) := dk_62 (dk_at dksX5_sortsBy_0 12 rfl rfl)
theorem dX5_sortsBy_13 : decode cX5_sortsBy 13 = .ok (.iconst 0, 1) := dk_3 (dk_at dksX5_sortsBy_0 13 rfl rfl)
theorem dX5_sortsBy_14 : decode cX5_sortsBy 14 = .ok (.istore 4, 2) := dk_54 4 (dk_at dksX5_sortsBy_0 14 rfl rfl)
theorem dX5_sortsBy_16 : decode cX5_sortsBy 16 = .ok (.iload 4, 2) := dk_21 4 (dk_at dksX5_sortsBy_0 16 rfl rfl)
theorem dX5_sortsBy_18 : decode cX5_sortsBy 18 = .ok (.iconst 3, 1) := dk_6 (dk_at dksX5_sortsBy_0 18 rfl rfl)
theorem dX5_sortsBy_19 : decode cX5_sortsBy 19 = .ok (.if_icmp .ge 35, 3) := dk_162 0 35 (dk_at dksX5_sortsBy_0 19 rfl rfl)
theorem dX5_sortsBy_22 : decode cX5_sortsBy 22 = .ok (.aload_n 0, 1) := dk_42 (dk_at dksX5_sortsBy_0 22 rfl rfl)
theorem dX5_sortsBy_23 : decode cX5_sortsBy 23 = .ok (.getfield 19, 3) := dk_180 0 19 (dk_at dksX5_sortsBy_1 0 rfl rfl)
theorem dX5_sortsBy_26 : decode cX5_sortsBy 26 = .ok (.iload_n 1, 1) := dk_27 (dk_at dksX5_sortsBy_1 3 rfl rfl)
theorem dX5_sortsBy_27 : decode cX5_sortsBy 27 = .ok (.iload 4, 2) := dk_21 4 (dk_at dksX5_sortsBy_1 4 rfl rfl)
theorem dX5_sortsBy_29 : decode cX5_sortsBy 29 = .ok (.iastore, 1) := dk_79 (dk_at dksX5_sortsBy_1 6 rfl rfl)
theorem dX5_sortsBy_30 : decode cX5_sortsBy 30 = .ok (.iload_n 3, 1) := dk_29 (dk_at dksX5_sortsBy_1 7 rfl rfl)
theorem dX5_sortsBy_31 : decode cX5_sortsBy 31 = .ok (.aload_n 0, 1) := dk_42 (dk_at dksX5_sortsBy_1 8 rfl rfl)
theorem dX5_sortsBy_32 : decode cX5_sortsBy 32 = .ok (.invokevirtual 296, 3) := dk_182 1 40 (dk_at dksX5_sortsBy_1 9 rfl rfl)
theorem dX5_sortsBy_35 : decode cX5_sortsBy 35 = .ok (.ifCond .eq 10, 3) := dk_153 0 10 (dk_at dksX5_sortsBy_1 12 rfl rfl)
theorem dX5_sortsBy_38 : decode cX5_sortsBy 38 = .ok (.iconst 1, 1) := dk_4 (dk_at dksX5_sortsBy_1 15 rfl rfl)
theorem dX5_sortsBy_39 : decode cX5_sortsBy 39 = .ok (.iload 4, 2) := dk_21 4 (dk_at dksX5_sortsBy_1 16 rfl rfl)
theorem dX5_sortsBy_41 : decode cX5_sortsBy 41 = .ok (.ishl, 1) := dk_120 (dk_at dksX5_sortsBy_1 18 rfl rfl)
theorem dX5_sortsBy_42 : decode cX5_sortsBy 42 = .ok (.goto 4, 3) := dk_167 0 4 (dk_at dksX5_sortsBy_1 19 rfl rfl)
theorem dX5_sortsBy_45 : decode cX5_sortsBy 45 = .ok (.iconst 0, 1) := dk_3 (dk_at dksX5_sortsBy_1 22 rfl rfl)
theorem dX5_sortsBy_46 : decode cX5_sortsBy 46 = .ok (.ior, 1) := dk_128 (dk_at dksX5_sortsBy_1 23 rfl rfl)
theorem dX5_sortsBy_47 : decode cX5_sortsBy 47 = .ok (.istore_n 3, 1) := dk_62 (dk_at dksX5_sortsBy_2 0 rfl rfl)
theorem dX5_sortsBy_48 : decode cX5_sortsBy 48 = .ok (.iinc 4 1, 3) := dk_132 4 1 (dk_at dksX5_sortsBy_2 1 rfl rfl)
theorem dX5_sortsBy_51 : decode cX5_sortsBy 51 = .ok (.goto (-35), 3) := dk_167 255 221 (dk_at dksX5_sortsBy_2 4 rfl rfl)
theorem dX5_sortsBy_54 : decode cX5_sortsBy 54 = .ok (.aload_n 0, 1) := dk_42 (dk_at dksX5_sortsBy_2 7 rfl rfl)
theorem dX5_sortsBy_55 : decode cX5_sortsBy 55 = .ok (.getfield 19, 3) := dk_180 0 19 (dk_at dksX5_sortsBy_2 8 rfl rfl)
theorem dX5_sortsBy_58 : decode cX5_sortsBy 58 = .ok (.iload_n 1, 1) := dk_27 (dk_at dksX5_sortsBy_2 11 rfl rfl)
theorem dX5_sortsBy_59 : decode cX5_sortsBy 59 = .ok (.iload_n 2, 1) := dk_28 (dk_at dksX5_sortsBy_2 12 rfl rfl)
theorem dX5_sortsBy_60 : decode cX5_sortsBy 60 = .ok (.iastore, 1) := dk_79 (dk_at dksX5_sortsBy_2 13 rfl rfl)
theorem dX5_sortsBy_61 : decode cX5_sortsBy 61 = .ok (.iload_n 3, 1) := dk_29 (dk_at dksX5_sortsBy_2 14 rfl rfl)
theorem dX5_sortsBy_62 : decode cX5_sortsBy 62 = .ok (.ireturn, 1) := dk_172 (dk_at dksX5_sortsBy_2 15 rfl rfl)
abbrev cX5_ask : ByteArray := prog_12_method_78_code
def yX5_ask : MethodName := ⟨RX5, "ask", "(I)I"⟩
def dkwX5_ask_0 : List UInt8 := [42, 27, 182, 0, 144, 153, 0, 11, 42, 27, 182, 1, 53, 167, 0, 5, 16, 254, 172]
abbrev dktX5_ask_0 : List UInt8 := dkwX5_ask_0 ++ []
theorem dksX5_ask_0 : cX5_ask.data.toList.drop 0 = dktX5_ask_0 := by decide +kernel
theorem dX5_ask_0 : decode cX5_ask 0 = .ok (.aload_n 0, 1) := dk_42 (dk_at dksX5_ask_0 0 rfl rfl)
theorem dX5_ask_1 : decode cX5_ask 1 = .ok (.iload_n 1, 1) := dk_27 (dk_at dksX5_ask_0 1 rfl rfl)
theorem dX5_ask_2 : decode cX5_ask 2 = .ok (.invokevirtual 144, 3) := dk_182 0 144 (dk_at dksX5_ask_0 2 rfl rfl)
theorem dX5_ask_5 : decode cX5_ask 5 = .ok (.ifCond .eq 11, 3) := dk_153 0 11 (dk_at dksX5_ask_0 5 rfl rfl)
theorem dX5_ask_8 : decode cX5_ask 8 = .ok (.aload_n 0, 1) := dk_42 (dk_at dksX5_ask_0 8 rfl rfl)
theorem dX5_ask_9 : decode cX5_ask 9 = .ok (.iload_n 1, 1) := dk_27 (dk_at dksX5_ask_0 9 rfl rfl)
theorem dX5_ask_10 : decode cX5_ask 10 = .ok (.invokevirtual 309, 3) := dk_182 1 53 (dk_at dksX5_ask_0 10 rfl rfl)
theorem dX5_ask_13 : decode cX5_ask 13 = .ok (.goto 5, 3) := dk_167 0 5 (dk_at dksX5_ask_0 13 rfl rfl)
theorem dX5_ask_16 : decode cX5_ask 16 = .ok (.bipush (-2), 2) := dk_16 254 (dk_at dksX5_ask_0 16 rfl rfl)
theorem dX5_ask_18 : decode cX5_ask 18 = .ok (.ireturn, 1) := dk_172 (dk_at dksX5_ask_0 18 rfl rfl)
abbrev cX5_askOf : ByteArray := prog_12_method_77_code
def yX5_askOf : MethodName := ⟨RX5, "askOf", "(I)I"⟩
def dkwX5_askOf_7 : List UInt8 := [153, 0, 8, 21, 6, 167, 0, 5, 21, 4, 54, 4, 132, 5, 1, 167, 255, 90, 29, 172]
abbrev dktX5_askOf_7 : List UInt8 := dkwX5_askOf_7 ++ []
def dkwX5_askOf_6 : List UInt8 := [162, 0, 7, 4, 167, 0, 4, 3, 54, 7, 21, 7, 153, 0, 8, 21, 5, 167, 0, 4, 29, 62, 21, 7]
abbrev dktX5_askOf_6 : List UInt8 := dkwX5_askOf_6 ++ dktX5_askOf_7
def dkwX5_askOf_5 : List UInt8 := [21, 8, 167, 0, 5, 21, 6, 54, 6, 132, 7, 1, 167, 255, 154, 29, 2, 159, 0, 10, 21, 6, 21, 4]
abbrev dktX5_askOf_5 : List UInt8 := dkwX5_askOf_5 ++ dktX5_askOf_6
def dkwX5_askOf_4 : List UInt8 := [160, 0, 7, 4, 167, 0, 4, 3, 96, 54, 8, 132, 9, 1, 167, 255, 189, 21, 8, 21, 6, 164, 0, 8]
abbrev dktX5_askOf_4 : List UInt8 := dkwX5_askOf_4 ++ dktX5_askOf_5
def dkwX5_askOf_3 : List UInt8 := [16, 24, 21, 7, 104, 21, 5, 96, 46, 42, 180, 0, 88, 16, 24, 21, 9, 104, 21, 5, 96, 46]
abbrev dktX5_askOf_3 : List UInt8 := dkwX5_askOf_3 ++ dktX5_askOf_4
def dkwX5_askOf_2 : List UInt8 := [21, 8, 28, 21, 7, 184, 0, 190, 153, 0, 45, 28, 21, 9, 184, 0, 190, 153, 0, 36, 42, 180, 0, 88]
abbrev dktX5_askOf_2 : List UInt8 := dkwX5_askOf_2 ++ dktX5_askOf_3
def dkwX5_askOf_1 : List UInt8 := [4, 54, 7, 21, 7, 16, 10, 162, 0, 101, 3, 54, 8, 4, 54, 9, 21, 9, 16, 10, 162, 0, 66]
abbrev dktX5_askOf_1 : List UInt8 := dkwX5_askOf_1 ++ dktX5_askOf_2
def dkwX5_askOf_0 : List UInt8 := [42, 27, 182, 1, 47, 61, 2, 62, 3, 54, 4, 3, 54, 5, 21, 5, 16, 24, 162, 0, 165, 3, 54, 6]
abbrev dktX5_askOf_0 : List UInt8 := dkwX5_askOf_0 ++ dktX5_askOf_1
theorem dksX5_askOf_0 : cX5_askOf.data.toList.drop 0 = dktX5_askOf_0 := by decide +kernel
theorem dksX5_askOf_1 : cX5_askOf.data.toList.drop 24 = dktX5_askOf_1 := dk_seg dksX5_askOf_0 24 rfl rfl
theorem dksX5_askOf_2 : cX5_askOf.data.toList.drop 47 = dktX5_askOf_2 := dk_seg dksX5_askOf_1 23 rfl rfl
theorem dksX5_askOf_3 : cX5_askOf.data.toList.drop 71 = dktX5_askOf_3 := dk_seg dksX5_askOf_2 24 rfl rfl
theorem dksX5_askOf_4 : cX5_askOf.data.toList.drop 93 = dktX5_askOf_4 := dk_seg dksX5_askOf_3 22 rfl rfl
theorem dksX5_askOf_5 : cX5_askOf.data.toList.drop 117 = dktX5_askOf_5 := dk_seg dksX5_askOf_4 24 rfl rfl
theorem dksX5_askOf_6 : cX5_askOf.data.toList.drop 141 = dktX5_askOf_6 := dk_seg dksX5_askOf_5 24 rfl rfl
theorem dksX5_askOf_7 : cX5_askOf.data.toList.drop 165 = dktX5_askOf_7 := dk_seg dksX5_askOf_6 24 rfl rfl
theorem dX5_askOf_0 : decode cX5_askOf 0 = .ok (.aload_n 0, 1) := dk_42 (dk_at dksX5_askOf_0 0 rfl rfl)
theorem dX5_askOf_1 : decode cX5_askOf 1 = .ok (.iload_n 1, 1) := dk_27 (dk_at dksX5_askOf_0 1 rfl rfl)
theorem dX5_askOf_2 : decode cX5_askOf 2 = .ok (.invokevirtual 303, 3) := dk_182 1 47 (dk_at dksX5_askOf_0 2 rfl rfl)
theorem dX5_askOf_5 : decode cX5_askOf 5 = .ok (.istore_n 2, 1) := dk_61 (dk_at dksX5_askOf_0 5 rfl rfl)
theorem dX5_askOf_6 : decode cX5_askOf 6 = .ok (.iconst (-1), 1) := dk_2 (dk_at dksX5_askOf_0 6 rfl rfl)
theorem dX5_askOf_7 : decode cX5_askOf 7 = .ok (.istore_n 3, 1) := dk_62 (dk_at dksX5_askOf_0 7 rfl rfl)
theorem dX5_askOf_8 : decode cX5_askOf 8 = .ok (.iconst 0, 1) := dk_3 (dk_at dksX5_askOf_0 8 rfl rfl)
theorem dX5_askOf_9 : decode cX5_askOf 9 = .ok (.istore 4, 2) := dk_54 4 (dk_at dksX5_askOf_0 9 rfl rfl)
theorem dX5_askOf_11 : decode cX5_askOf 11 = .ok (.iconst 0, 1) := dk_3 (dk_at dksX5_askOf_0 11 rfl rfl)
theorem dX5_askOf_12 : decode cX5_askOf 12 = .ok (.istore 5, 2) := dk_54 5 (dk_at dksX5_askOf_0 12 rfl rfl)
theorem dX5_askOf_14 : decode cX5_askOf 14 = .ok (.iload 5, 2) := dk_21 5 (dk_at dksX5_askOf_0 14 rfl rfl)
theorem dX5_askOf_16 : decode cX5_askOf 16 = .ok (.bipush 24, 2) := dk_16 24 (dk_at dksX5_askOf_0 16 rfl rfl)
theorem dX5_askOf_18 : decode cX5_askOf 18 = .ok (.if_icmp .ge 165, 3) := dk_162 0 165 (dk_at dksX5_askOf_0 18 rfl rfl)
theorem dX5_askOf_21 : decode cX5_askOf 21 = .ok (.iconst 0, 1) := dk_3 (dk_at dksX5_askOf_0 21 rfl rfl)
theorem dX5_askOf_22 : decode cX5_askOf 22 = .ok (.istore 6, 2) := dk_54 6 (dk_at dksX5_askOf_0 22 rfl rfl)
theorem dX5_askOf_24 : decode cX5_askOf 24 = .ok (.iconst 1, 1) := dk_4 (dk_at dksX5_askOf_1 0 rfl rfl)
theorem dX5_askOf_25 : decode cX5_askOf 25 = .ok (.istore 7, 2) := dk_54 7 (dk_at dksX5_askOf_1 1 rfl rfl)
theorem dX5_askOf_27 : decode cX5_askOf 27 = .ok (.iload 7, 2) := dk_21 7 (dk_at dksX5_askOf_1 3 rfl rfl)
theorem dX5_askOf_29 : decode cX5_askOf 29 = .ok (.bipush 10, 2) := dk_16 10 (dk_at dksX5_askOf_1 5 rfl rfl)
theorem dX5_askOf_31 : decode cX5_askOf 31 = .ok (.if_icmp .ge 101, 3) := dk_162 0 101 (dk_at dksX5_askOf_1 7 rfl rfl)
theorem dX5_askOf_34 : decode cX5_askOf 34 = .ok (.iconst 0, 1) := dk_3 (dk_at dksX5_askOf_1 10 rfl rfl)
theorem dX5_askOf_35 : decode cX5_askOf 35 = .ok (.istore 8, 2) := dk_54 8 (dk_at dksX5_askOf_1 11 rfl rfl)
theorem dX5_askOf_37 : decode cX5_askOf 37 = .ok (.iconst 1, 1) := dk_4 (dk_at dksX5_askOf_1 13 rfl rfl)
theorem dX5_askOf_38 : decode cX5_askOf 38 = .ok (.istore 9, 2) := dk_54 9 (dk_at dksX5_askOf_1 14 rfl rfl)
theorem dX5_askOf_40 : decode cX5_askOf 40 = .ok (.iload 9, 2) := dk_21 9 (dk_at dksX5_askOf_1 16 rfl rfl)
theorem dX5_askOf_42 : decode cX5_askOf 42 = .ok (.bipush 10, 2) := dk_16 10 (dk_at dksX5_askOf_1 18 rfl rfl)
theorem dX5_askOf_44 : decode cX5_askOf 44 = .ok (.if_icmp .ge 66, 3) := dk_162 0 66 (dk_at dksX5_askOf_1 20 rfl rfl)
theorem dX5_askOf_47 : decode cX5_askOf 47 = .ok (.iload 8, 2) := dk_21 8 (dk_at dksX5_askOf_2 0 rfl rfl)
theorem dX5_askOf_49 : decode cX5_askOf 49 = .ok (.iload_n 2, 1) := dk_28 (dk_at dksX5_askOf_2 2 rfl rfl)
theorem dX5_askOf_50 : decode cX5_askOf 50 = .ok (.iload 7, 2) := dk_21 7 (dk_at dksX5_askOf_2 3 rfl rfl)
theorem dX5_askOf_52 : decode cX5_askOf 52 = .ok (.invokestatic 190, 3) := dk_184 0 190 (dk_at dksX5_askOf_2 5 rfl rfl)
theorem dX5_askOf_55 : decode cX5_askOf 55 = .ok (.ifCond .eq 45, 3) := dk_153 0 45 (dk_at dksX5_askOf_2 8 rfl rfl)
theorem dX5_askOf_58 : decode cX5_askOf 58 = .ok (.iload_n 2, 1) := dk_28 (dk_at dksX5_askOf_2 11 rfl rfl)
theorem dX5_askOf_59 : decode cX5_askOf 59 = .ok (.iload 9, 2) := dk_21 9 (dk_at dksX5_askOf_2 12 rfl rfl)
theorem dX5_askOf_61 : decode cX5_askOf 61 = .ok (.invokestatic 190, 3) := dk_184 0 190 (dk_at dksX5_askOf_2 14 rfl rfl)
theorem dX5_askOf_64 : decode cX5_askOf 64 = .ok (.ifCond .eq 36, 3) := dk_153 0 36 (dk_at dksX5_askOf_2 17 rfl rfl)
theorem dX5_askOf_67 : decode cX5_askOf 67 = .ok (.aload_n 0, 1) := dk_42 (dk_at dksX5_askOf_2 20 rfl rfl)
theorem dX5_askOf_68 : decode cX5_askOf 68 = .ok (.getfield 88, 3) := dk_180 0 88 (dk_at dksX5_askOf_2 21 rfl rfl)
theorem dX5_askOf_71 : decode cX5_askOf 71 = .ok (.bipush 24, 2) := dk_16 24 (dk_at dksX5_askOf_3 0 rfl rfl)
theorem dX5_askOf_73 : decode cX5_askOf 73 = .ok (.iload 7, 2) := dk_21 7 (dk_at dksX5_askOf_3 2 rfl rfl)
theorem dX5_askOf_75 : decode cX5_askOf 75 = .ok (.imul, 1) := dk_104 (dk_at dksX5_askOf_3 4 rfl rfl)
theorem dX5_askOf_76 : decode cX5_askOf 76 = .ok (.iload 5, 2) := dk_21 5 (dk_at dksX5_askOf_3 5 rfl rfl)
theorem dX5_askOf_78 : decode cX5_askOf 78 = .ok (.iadd, 1) := dk_96 (dk_at dksX5_askOf_3 7 rfl rfl)
theorem dX5_askOf_79 : decode cX5_askOf 79 = .ok (.iaload, 1) := dk_46 (dk_at dksX5_askOf_3 8 rfl rfl)
theorem dX5_askOf_80 : decode cX5_askOf 80 = .ok (.aload_n 0, 1) := dk_42 (dk_at dksX5_askOf_3 9 rfl rfl)
theorem dX5_askOf_81 : decode cX5_askOf 81 = .ok (.getfield 88, 3) := dk_180 0 88 (dk_at dksX5_askOf_3 10 rfl rfl)
theorem dX5_askOf_84 : decode cX5_askOf 84 = .ok (.bipush 24, 2) := dk_16 24 (dk_at dksX5_askOf_3 13 rfl rfl)
theorem dX5_askOf_86 : decode cX5_askOf 86 = .ok (.iload 9, 2) := dk_21 9 (dk_at dksX5_askOf_3 15 rfl rfl)
theorem dX5_askOf_88 : decode cX5_askOf 88 = .ok (.imul, 1) := dk_104 (dk_at dksX5_askOf_3 17 rfl rfl)
theorem dX5_askOf_89 : decode cX5_askOf 89 = .ok (.iload 5, 2) := dk_21 5 (dk_at dksX5_askOf_3 18 rfl rfl)
theorem dX5_askOf_91 : decode cX5_askOf 91 = .ok (.iadd, 1) := dk_96 (dk_at dksX5_askOf_3 20 rfl rfl)
theorem dX5_askOf_92 : decode cX5_askOf 92 = .ok (.iaload, 1) := dk_46 (dk_at dksX5_askOf_3 21 rfl rfl)
theorem dX5_askOf_93 : decode cX5_askOf 93 = .ok (.if_icmp .ne 7, 3) := dk_160 0 7 (dk_at dksX5_askOf_4 0 rfl rfl)
theorem dX5_askOf_96 : decode cX5_askOf 96 = .ok (.iconst 1, 1) := dk_4 (dk_at dksX5_askOf_4 3 rfl rfl)
theorem dX5_askOf_97 : decode cX5_askOf 97 = .ok (.goto 4, 3) := dk_167 0 4 (dk_at dksX5_askOf_4 4 rfl rfl)
theorem dX5_askOf_100 : decode cX5_askOf 100 = .ok (.iconst 0, 1) := dk_3 (dk_at dksX5_askOf_4 7 rfl rfl)
theorem dX5_askOf_101 : decode cX5_askOf 101 = .ok (.iadd, 1) := dk_96 (dk_at dksX5_askOf_4 8 rfl rfl)
theorem dX5_askOf_102 : decode cX5_askOf 102 = .ok (.istore 8, 2) := dk_54 8 (dk_at dksX5_askOf_4 9 rfl rfl)
theorem dX5_askOf_104 : decode cX5_askOf 104 = .ok (.iinc 9 1, 3) := dk_132 9 1 (dk_at dksX5_askOf_4 11 rfl rfl)
theorem dX5_askOf_107 : decode cX5_askOf 107 = .ok (.goto (-67), 3) := dk_167 255 189 (dk_at dksX5_askOf_4 14 rfl rfl)
theorem dX5_askOf_110 : decode cX5_askOf 110 = .ok (.iload 8, 2) := dk_21 8 (dk_at dksX5_askOf_4 17 rfl rfl)
theorem dX5_askOf_112 : decode cX5_askOf 112 = .ok (.iload 6, 2) := dk_21 6 (dk_at dksX5_askOf_4 19 rfl rfl)
theorem dX5_askOf_114 : decode cX5_askOf 114 = .ok (.if_icmp .le 8, 3) := dk_164 0 8 (dk_at dksX5_askOf_4 21 rfl rfl)
theorem dX5_askOf_117 : decode cX5_askOf 117 = .ok (.iload 8, 2) := dk_21 8 (dk_at dksX5_askOf_5 0 rfl rfl)
theorem dX5_askOf_119 : decode cX5_askOf 119 = .ok (.goto 5, 3) := dk_167 0 5 (dk_at dksX5_askOf_5 2 rfl rfl)
theorem dX5_askOf_122 : decode cX5_askOf 122 = .ok (.iload 6, 2) := dk_21 6 (dk_at dksX5_askOf_5 5 rfl rfl)
theorem dX5_askOf_124 : decode cX5_askOf 124 = .ok (.istore 6, 2) := dk_54 6 (dk_at dksX5_askOf_5 7 rfl rfl)
theorem dX5_askOf_126 : decode cX5_askOf 126 = .ok (.iinc 7 1, 3) := dk_132 7 1 (dk_at dksX5_askOf_5 9 rfl rfl)
theorem dX5_askOf_129 : decode cX5_askOf 129 = .ok (.goto (-102), 3) := dk_167 255 154 (dk_at dksX5_askOf_5 12 rfl rfl)
theorem dX5_askOf_132 : decode cX5_askOf 132 = .ok (.iload_n 3, 1) := dk_29 (dk_at dksX5_askOf_5 15 rfl rfl)
theorem dX5_askOf_133 : decode cX5_askOf 133 = .ok (.iconst (-1), 1) := dk_2 (dk_at dksX5_askOf_5 16 rfl rfl)
theorem dX5_askOf_134 : decode cX5_askOf 134 = .ok (.if_icmp .eq 10, 3) := dk_159 0 10 (dk_at dksX5_askOf_5 17 rfl rfl)
theorem dX5_askOf_137 : decode cX5_askOf 137 = .ok (.iload 6, 2) := dk_21 6 (dk_at dksX5_askOf_5 20 rfl rfl)
theorem dX5_askOf_139 : decode cX5_askOf 139 = .ok (.iload 4, 2) := dk_21 4 (dk_at dksX5_askOf_5 22 rfl rfl)
theorem dX5_askOf_141 : decode cX5_askOf 141 = .ok (.if_icmp .ge 7, 3) := dk_162 0 7 (dk_at dksX5_askOf_6 0 rfl rfl)
theorem dX5_askOf_144 : decode cX5_askOf 144 = .ok (.iconst 1, 1) := dk_4 (dk_at dksX5_askOf_6 3 rfl rfl)
theorem dX5_askOf_145 : decode cX5_askOf 145 = .ok (.goto 4, 3) := dk_167 0 4 (dk_at dksX5_askOf_6 4 rfl rfl)
theorem dX5_askOf_148 : decode cX5_askOf 148 = .ok (.iconst 0, 1) := dk_3 (dk_at dksX5_askOf_6 7 rfl rfl)
theorem dX5_askOf_149 : decode cX5_askOf 149 = .ok (.istore 7, 2) := dk_54 7 (dk_at dksX5_askOf_6 8 rfl rfl)
theorem dX5_askOf_151 : decode cX5_askOf 151 = .ok (.iload 7, 2) := dk_21 7 (dk_at dksX5_askOf_6 10 rfl rfl)
theorem dX5_askOf_153 : decode cX5_askOf 153 = .ok (.ifCond .eq 8, 3) := dk_153 0 8 (dk_at dksX5_askOf_6 12 rfl rfl)
theorem dX5_askOf_156 : decode cX5_askOf 156 = .ok (.iload 5, 2) := dk_21 5 (dk_at dksX5_askOf_6 15 rfl rfl)
theorem dX5_askOf_158 : decode cX5_askOf 158 = .ok (.goto 4, 3) := dk_167 0 4 (dk_at dksX5_askOf_6 17 rfl rfl)
theorem dX5_askOf_161 : decode cX5_askOf 161 = .ok (.iload_n 3, 1) := dk_29 (dk_at dksX5_askOf_6 20 rfl rfl)
theorem dX5_askOf_162 : decode cX5_askOf 162 = .ok (.istore_n 3, 1) := dk_62 (dk_at dksX5_askOf_6 21 rfl rfl)
theorem dX5_askOf_163 : decode cX5_askOf 163 = .ok (.iload 7, 2) := dk_21 7 (dk_at dksX5_askOf_6 22 rfl rfl)
theorem dX5_askOf_165 : decode cX5_askOf 165 = .ok (.ifCond .eq 8, 3) := dk_153 0 8 (dk_at dksX5_askOf_7 0 rfl rfl)
theorem dX5_askOf_168 : decode cX5_askOf 168 = .ok (.iload 6, 2) := dk_21 6 (dk_at dksX5_askOf_7 3 rfl rfl)
theorem dX5_askOf_170 : decode cX5_askOf 170 = .ok (.goto 5, 3) := dk_167 0 5 (dk_at dksX5_askOf_7 5 rfl rfl)
theorem dX5_askOf_173 : decode cX5_askOf 173 = .ok (.iload 4, 2) := dk_21 4 (dk_at dksX5_askOf_7 8 rfl rfl)
theorem dX5_askOf_175 : decode cX5_askOf 175 = .ok (.istore 4, 2) := dk_54 4 (dk_at dksX5_askOf_7 10 rfl rfl)
theorem dX5_askOf_177 : decode cX5_askOf 177 = .ok (.iinc 5 1, 3) := dk_132 5 1 (dk_at dksX5_askOf_7 12 rfl rfl)
theorem dX5_askOf_180 : decode cX5_askOf 180 = .ok (.goto (-166), 3) := dk_167 255 90 (dk_at dksX5_askOf_7 15 rfl rfl)
theorem dX5_askOf_183 : decode cX5_askOf 183 = .ok (.iload_n 3, 1) := dk_29 (dk_at dksX5_askOf_7 18 rfl rfl)
theorem dX5_askOf_184 : decode cX5_askOf 184 = .ok (.ireturn, 1) := dk_172 (dk_at dksX5_askOf_7 19 rfl rfl)
abbrev cX5_chance : ByteArray := prog_12_method_80_code
def yX5_chance : MethodName := ⟨RX5, "chance", "(III)J"⟩
def dkwX5_chance_1 : List UInt8 := [42, 27, 28, 29, 182, 1, 60, 167, 0, 8, 16, 254, 184, 1, 64, 173]
abbrev dktX5_chance_1 : List UInt8 := dkwX5_chance_1 ++ []
def dkwX5_chance_0 : List UInt8 := [27, 3, 16, 16, 184, 0, 109, 153, 0, 27, 28, 184, 0, 153, 153, 0, 20, 29, 184, 0, 153, 153, 0, 13]
abbrev dktX5_chance_0 : List UInt8 := dkwX5_chance_0 ++ dktX5_chance_1
theorem dksX5_chance_0 : cX5_chance.data.toList.drop 0 = dktX5_chance_0 := by decide +kernel
theorem dksX5_chance_1 : cX5_chance.data.toList.drop 24 = dktX5_chance_1 := dk_seg dksX5_chance_0 24 rfl rfl
theorem dX5_chance_0 : decode cX5_chance 0 = .ok (.iload_n 1, 1) := dk_27 (dk_at dksX5_chance_0 0 rfl rfl)
theorem dX5_chance_1 : decode cX5_chance 1 = .ok (.iconst 0, 1) := dk_3 (dk_at dksX5_chance_0 1 rfl rfl)
theorem dX5_chance_2 : decode cX5_chance 2 = .ok (.bipush 16, 2) := dk_16 16 (dk_at dksX5_chance_0 2 rfl rfl)
theorem dX5_chance_4 : decode cX5_chance 4 = .ok (.invokestatic 109, 3) := dk_184 0 109 (dk_at dksX5_chance_0 4 rfl rfl)
theorem dX5_chance_7 : decode cX5_chance 7 = .ok (.ifCond .eq 27, 3) := dk_153 0 27 (dk_at dksX5_chance_0 7 rfl rfl)
theorem dX5_chance_10 : decode cX5_chance 10 = .ok (.iload_n 2, 1) := dk_28 (dk_at dksX5_chance_0 10 rfl rfl)
theorem dX5_chance_11 : decode cX5_chance 11 = .ok (.invokestatic 153, 3) := dk_184 0 153 (dk_at dksX5_chance_0 11 rfl rfl)
theorem dX5_chance_14 : decode cX5_chance 14 = .ok (.ifCond .eq 20, 3) := dk_153 0 20 (dk_at dksX5_chance_0 14 rfl rfl)
theorem dX5_chance_17 : decode cX5_chance 17 = .ok (.iload_n 3, 1) := dk_29 (dk_at dksX5_chance_0 17 rfl rfl)
theorem dX5_chance_18 : decode cX5_chance 18 = .ok (.invokestatic 153, 3) := dk_184 0 153 (dk_at dksX5_chance_0 18 rfl rfl)
theorem dX5_chance_21 : decode cX5_chance 21 = .ok (.ifCond .eq 13, 3) := dk_153 0 13 (dk_at dksX5_chance_0 21 rfl rfl)
theorem dX5_chance_24 : decode cX5_chance 24 = .ok (.aload_n 0, 1) := dk_42 (dk_at dksX5_chance_1 0 rfl rfl)
theorem dX5_chance_25 : decode cX5_chance 25 = .ok (.iload_n 1, 1) := dk_27 (dk_at dksX5_chance_1 1 rfl rfl)
theorem dX5_chance_26 : decode cX5_chance 26 = .ok (.iload_n 2, 1) := dk_28 (dk_at dksX5_chance_1 2 rfl rfl)
theorem dX5_chance_27 : decode cX5_chance 27 = .ok (.iload_n 3, 1) := dk_29 (dk_at dksX5_chance_1 3 rfl rfl)
theorem dX5_chance_28 : decode cX5_chance 28 = .ok (.invokevirtual 316, 3) := dk_182 1 60 (dk_at dksX5_chance_1 4 rfl rfl)
theorem dX5_chance_31 : decode cX5_chance 31 = .ok (.goto 8, 3) := dk_167 0 8 (dk_at dksX5_chance_1 7 rfl rfl)
theorem dX5_chance_34 : decode cX5_chance 34 = .ok (.bipush (-2), 2) := dk_16 254 (dk_at dksX5_chance_1 10 rfl rfl)
theorem dX5_chance_36 : decode cX5_chance 36 = .ok (.invokestatic 320, 3) := dk_184 1 64 (dk_at dksX5_chance_1 12 rfl rfl)
theorem dX5_chance_39 : decode cX5_chance 39 = .ok (.lreturn, 1) := dk_173 (dk_at dksX5_chance_1 15 rfl rfl)
abbrev cX5_chanceOf : ByteArray := prog_12_method_79_code
def yX5_chanceOf : MethodName := ⟨RX5, "chanceOf", "(III)J"⟩
def dkwX5_chanceOf_5 : List UInt8 := [121, 29, 184, 1, 56, 173]
abbrev dktX5_chanceOf_5 : List UInt8 := dkwX5_chanceOf_5 ++ []
def dkwX5_chanceOf_4 : List UInt8 := [22, 7, 167, 0, 4, 9, 97, 55, 4, 132, 6, 1, 167, 255, 160, 22, 4, 10, 7, 42, 180, 0, 166, 104]
abbrev dktX5_chanceOf_4 : List UInt8 := dkwX5_chanceOf_4 ++ dktX5_chanceOf_5
def dkwX5_chanceOf_3 : List UInt8 := [158, 0, 32, 42, 21, 6, 181, 0, 178, 42, 182, 0, 232, 22, 4, 42, 180, 0, 206, 28, 160, 0, 8]
abbrev dktX5_chanceOf_3 : List UInt8 := dkwX5_chanceOf_3 ++ dktX5_chanceOf_4
def dkwX5_chanceOf_2 : List UInt8 := [16, 16, 27, 100, 133, 167, 0, 5, 27, 133, 105, 55, 7, 132, 9, 1, 167, 255, 219, 22, 7, 9, 148]
abbrev dktX5_chanceOf_2 : List UInt8 := dkwX5_chanceOf_2 ++ dktX5_chanceOf_3
def dkwX5_chanceOf_1 : List UInt8 := [3, 54, 9, 21, 9, 42, 180, 0, 166, 162, 0, 34, 22, 7, 21, 6, 21, 9, 184, 0, 190, 153, 0, 11]
abbrev dktX5_chanceOf_1 : List UInt8 := dkwX5_chanceOf_1 ++ dktX5_chanceOf_2
def dkwX5_chanceOf_0 : List UInt8 := [42, 182, 0, 229, 9, 55, 4, 3, 54, 6, 21, 6, 4, 42, 180, 0, 166, 120, 162, 0, 91, 10, 55, 7]
abbrev dktX5_chanceOf_0 : List UInt8 := dkwX5_chanceOf_0 ++ dktX5_chanceOf_1
theorem dksX5_chanceOf_0 : cX5_chanceOf.data.toList.drop 0 = dktX5_chanceOf_0 := by decide +kernel
theorem dksX5_chanceOf_1 : cX5_chanceOf.data.toList.drop 24 = dktX5_chanceOf_1 := dk_seg dksX5_chanceOf_0 24 rfl rfl
theorem dksX5_chanceOf_2 : cX5_chanceOf.data.toList.drop 48 = dktX5_chanceOf_2 := dk_seg dksX5_chanceOf_1 24 rfl rfl
theorem dksX5_chanceOf_3 : cX5_chanceOf.data.toList.drop 71 = dktX5_chanceOf_3 := dk_seg dksX5_chanceOf_2 23 rfl rfl
theorem dksX5_chanceOf_4 : cX5_chanceOf.data.toList.drop 94 = dktX5_chanceOf_4 := dk_seg dksX5_chanceOf_3 23 rfl rfl
theorem dksX5_chanceOf_5 : cX5_chanceOf.data.toList.drop 118 = dktX5_chanceOf_5 := dk_seg dksX5_chanceOf_4 24 rfl rfl
theorem dX5_chanceOf_0 : decode cX5_chanceOf 0 = .ok (.aload_n 0, 1) := dk_42 (dk_at dksX5_chanceOf_0 0 rfl rfl)
theorem dX5_chanceOf_1 : decode cX5_chanceOf 1 = .ok (.invokevirtual 229, 3) := dk_182 0 229 (dk_at dksX5_chanceOf_0 1 rfl rfl)
theorem dX5_chanceOf_4 : decode cX5_chanceOf 4 = .ok (.lconst 0, 1) := dk_9 (dk_at dksX5_chanceOf_0 4 rfl rfl)
theorem dX5_chanceOf_5 : decode cX5_chanceOf 5 = .ok (.lstore 4, 2) := dk_55 4 (dk_at dksX5_chanceOf_0 5 rfl rfl)
theorem dX5_chanceOf_7 : decode cX5_chanceOf 7 = .ok (.iconst 0, 1) := dk_3 (dk_at dksX5_chanceOf_0 7 rfl rfl)
theorem dX5_chanceOf_8 : decode cX5_chanceOf 8 = .ok (.istore 6, 2) := dk_54 6 (dk_at dksX5_chanceOf_0 8 rfl rfl)
theorem dX5_chanceOf_10 : decode cX5_chanceOf 10 = .ok (.iload 6, 2) := dk_21 6 (dk_at dksX5_chanceOf_0 10 rfl rfl)
theorem dX5_chanceOf_12 : decode cX5_chanceOf 12 = .ok (.iconst 1, 1) := dk_4 (dk_at dksX5_chanceOf_0 12 rfl rfl)
theorem dX5_chanceOf_13 : decode cX5_chanceOf 13 = .ok (.aload_n 0, 1) := dk_42 (dk_at dksX5_chanceOf_0 13 rfl rfl)
theorem dX5_chanceOf_14 : decode cX5_chanceOf 14 = .ok (.getfield 166, 3) := dk_180 0 166 (dk_at dksX5_chanceOf_0 14 rfl rfl)
theorem dX5_chanceOf_17 : decode cX5_chanceOf 17 = .ok (.ishl, 1) := dk_120 (dk_at dksX5_chanceOf_0 17 rfl rfl)
theorem dX5_chanceOf_18 : decode cX5_chanceOf 18 = .ok (.if_icmp .ge 91, 3) := dk_162 0 91 (dk_at dksX5_chanceOf_0 18 rfl rfl)
theorem dX5_chanceOf_21 : decode cX5_chanceOf 21 = .ok (.lconst 1, 1) := dk_10 (dk_at dksX5_chanceOf_0 21 rfl rfl)
theorem dX5_chanceOf_22 : decode cX5_chanceOf 22 = .ok (.lstore 7, 2) := dk_55 7 (dk_at dksX5_chanceOf_0 22 rfl rfl)
theorem dX5_chanceOf_24 : decode cX5_chanceOf 24 = .ok (.iconst 0, 1) := dk_3 (dk_at dksX5_chanceOf_1 0 rfl rfl)
theorem dX5_chanceOf_25 : decode cX5_chanceOf 25 = .ok (.istore 9, 2) := dk_54 9 (dk_at dksX5_chanceOf_1 1 rfl rfl)
theorem dX5_chanceOf_27 : decode cX5_chanceOf 27 = .ok (.iload 9, 2) := dk_21 9 (dk_at dksX5_chanceOf_1 3 rfl rfl)
theorem dX5_chanceOf_29 : decode cX5_chanceOf 29 = .ok (.aload_n 0, 1) := dk_42 (dk_at dksX5_chanceOf_1 5 rfl rfl)
theorem dX5_chanceOf_30 : decode cX5_chanceOf 30 = .ok (.getfield 166, 3) := dk_180 0 166 (dk_at dksX5_chanceOf_1 6 rfl rfl)
theorem dX5_chanceOf_33 : decode cX5_chanceOf 33 = .ok (.if_icmp .ge 34, 3) := dk_162 0 34 (dk_at dksX5_chanceOf_1 9 rfl rfl)
theorem dX5_chanceOf_36 : decode cX5_chanceOf 36 = .ok (.lload 7, 2) := dk_22 7 (dk_at dksX5_chanceOf_1 12 rfl rfl)
theorem dX5_chanceOf_38 : decode cX5_chanceOf 38 = .ok (.iload 6, 2) := dk_21 6 (dk_at dksX5_chanceOf_1 14 rfl rfl)
theorem dX5_chanceOf_40 : decode cX5_chanceOf 40 = .ok (.iload 9, 2) := dk_21 9 (dk_at dksX5_chanceOf_1 16 rfl rfl)
theorem dX5_chanceOf_42 : decode cX5_chanceOf 42 = .ok (.invokestatic 190, 3) := dk_184 0 190 (dk_at dksX5_chanceOf_1 18 rfl rfl)
theorem dX5_chanceOf_45 : decode cX5_chanceOf 45 = .ok (.ifCond .eq 11, 3) := dk_153 0 11 (dk_at dksX5_chanceOf_1 21 rfl rfl)
theorem dX5_chanceOf_48 : decode cX5_chanceOf 48 = .ok (.bipush 16, 2) := dk_16 16 (dk_at dksX5_chanceOf_2 0 rfl rfl)
theorem dX5_chanceOf_50 : decode cX5_chanceOf 50 = .ok (.iload_n 1, 1) := dk_27 (dk_at dksX5_chanceOf_2 2 rfl rfl)
theorem dX5_chanceOf_51 : decode cX5_chanceOf 51 = .ok (.isub, 1) := dk_100 (dk_at dksX5_chanceOf_2 3 rfl rfl)
theorem dX5_chanceOf_52 : decode cX5_chanceOf 52 = .ok (.i2l, 1) := dk_133 (dk_at dksX5_chanceOf_2 4 rfl rfl)
theorem dX5_chanceOf_53 : decode cX5_chanceOf 53 = .ok (.goto 5, 3) := dk_167 0 5 (dk_at dksX5_chanceOf_2 5 rfl rfl)
theorem dX5_chanceOf_56 : decode cX5_chanceOf 56 = .ok (.iload_n 1, 1) := dk_27 (dk_at dksX5_chanceOf_2 8 rfl rfl)
theorem dX5_chanceOf_57 : decode cX5_chanceOf 57 = .ok (.i2l, 1) := dk_133 (dk_at dksX5_chanceOf_2 9 rfl rfl)
theorem dX5_chanceOf_58 : decode cX5_chanceOf 58 = .ok (.lmul, 1) := dk_105 (dk_at dksX5_chanceOf_2 10 rfl rfl)
theorem dX5_chanceOf_59 : decode cX5_chanceOf 59 = .ok (.lstore 7, 2) := dk_55 7 (dk_at dksX5_chanceOf_2 11 rfl rfl)
theorem dX5_chanceOf_61 : decode cX5_chanceOf 61 = .ok (.iinc 9 1, 3) := dk_132 9 1 (dk_at dksX5_chanceOf_2 13 rfl rfl)
theorem dX5_chanceOf_64 : decode cX5_chanceOf 64 = .ok (.goto (-37), 3) := dk_167 255 219 (dk_at dksX5_chanceOf_2 16 rfl rfl)
theorem dX5_chanceOf_67 : decode cX5_chanceOf 67 = .ok (.lload 7, 2) := dk_22 7 (dk_at dksX5_chanceOf_2 19 rfl rfl)
theorem dX5_chanceOf_69 : decode cX5_chanceOf 69 = .ok (.lconst 0, 1) := dk_9 (dk_at dksX5_chanceOf_2 21 rfl rfl)
theorem dX5_chanceOf_70 : decode cX5_chanceOf 70 = .ok (.lcmp, 1) := dk_148 (dk_at dksX5_chanceOf_2 22 rfl rfl)
theorem dX5_chanceOf_71 : decode cX5_chanceOf 71 = .ok (.ifCond .le 32, 3) := dk_158 0 32 (dk_at dksX5_chanceOf_3 0 rfl rfl)
theorem dX5_chanceOf_74 : decode cX5_chanceOf 74 = .ok (.aload_n 0, 1) := dk_42 (dk_at dksX5_chanceOf_3 3 rfl rfl)
theorem dX5_chanceOf_75 : decode cX5_chanceOf 75 = .ok (.iload 6, 2) := dk_21 6 (dk_at dksX5_chanceOf_3 4 rfl rfl)
theorem dX5_chanceOf_77 : decode cX5_chanceOf 77 = .ok (.putfield 178, 3) := dk_181 0 178 (dk_at dksX5_chanceOf_3 6 rfl rfl)
theorem dX5_chanceOf_80 : decode cX5_chanceOf 80 = .ok (.aload_n 0, 1) := dk_42 (dk_at dksX5_chanceOf_3 9 rfl rfl)
theorem dX5_chanceOf_81 : decode cX5_chanceOf 81 = .ok (.invokevirtual 232, 3) := dk_182 0 232 (dk_at dksX5_chanceOf_3 10 rfl rfl)
theorem dX5_chanceOf_84 : decode cX5_chanceOf 84 = .ok (.lload 4, 2) := dk_22 4 (dk_at dksX5_chanceOf_3 13 rfl rfl)
theorem dX5_chanceOf_86 : decode cX5_chanceOf 86 = .ok (.aload_n 0, 1) := dk_42 (dk_at dksX5_chanceOf_3 15 rfl rfl)
theorem dX5_chanceOf_87 : decode cX5_chanceOf 87 = .ok (.getfield 206, 3) := dk_180 0 206 (dk_at dksX5_chanceOf_3 16 rfl rfl)
theorem dX5_chanceOf_90 : decode cX5_chanceOf 90 = .ok (.iload_n 2, 1) := dk_28 (dk_at dksX5_chanceOf_3 19 rfl rfl)
theorem dX5_chanceOf_91 : decode cX5_chanceOf 91 = .ok (.if_icmp .ne 8, 3) := dk_160 0 8 (dk_at dksX5_chanceOf_3 20 rfl rfl)
theorem dX5_chanceOf_94 : decode cX5_chanceOf 94 = .ok (.lload 7, 2) := dk_22 7 (dk_at dksX5_chanceOf_4 0 rfl rfl)
theorem dX5_chanceOf_96 : decode cX5_chanceOf 96 = .ok (.goto 4, 3) := dk_167 0 4 (dk_at dksX5_chanceOf_4 2 rfl rfl)
theorem dX5_chanceOf_99 : decode cX5_chanceOf 99 = .ok (.lconst 0, 1) := dk_9 (dk_at dksX5_chanceOf_4 5 rfl rfl)
theorem dX5_chanceOf_100 : decode cX5_chanceOf 100 = .ok (.ladd, 1) := dk_97 (dk_at dksX5_chanceOf_4 6 rfl rfl)
theorem dX5_chanceOf_101 : decode cX5_chanceOf 101 = .ok (.lstore 4, 2) := dk_55 4 (dk_at dksX5_chanceOf_4 7 rfl rfl)
theorem dX5_chanceOf_103 : decode cX5_chanceOf 103 = .ok (.iinc 6 1, 3) := dk_132 6 1 (dk_at dksX5_chanceOf_4 9 rfl rfl)
theorem dX5_chanceOf_106 : decode cX5_chanceOf 106 = .ok (.goto (-96), 3) := dk_167 255 160 (dk_at dksX5_chanceOf_4 12 rfl rfl)
theorem dX5_chanceOf_109 : decode cX5_chanceOf 109 = .ok (.lload 4, 2) := dk_22 4 (dk_at dksX5_chanceOf_4 15 rfl rfl)
theorem dX5_chanceOf_111 : decode cX5_chanceOf 111 = .ok (.lconst 1, 1) := dk_10 (dk_at dksX5_chanceOf_4 17 rfl rfl)
theorem dX5_chanceOf_112 : decode cX5_chanceOf 112 = .ok (.iconst 4, 1) := dk_7 (dk_at dksX5_chanceOf_4 18 rfl rfl)
theorem dX5_chanceOf_113 : decode cX5_chanceOf 113 = .ok (.aload_n 0, 1) := dk_42 (dk_at dksX5_chanceOf_4 19 rfl rfl)
theorem dX5_chanceOf_114 : decode cX5_chanceOf 114 = .ok (.getfield 166, 3) := dk_180 0 166 (dk_at dksX5_chanceOf_4 20 rfl rfl)
theorem dX5_chanceOf_117 : decode cX5_chanceOf 117 = .ok (.imul, 1) := dk_104 (dk_at dksX5_chanceOf_4 23 rfl rfl)
theorem dX5_chanceOf_118 : decode cX5_chanceOf 118 = .ok (.lshl, 1) := dk_121 (dk_at dksX5_chanceOf_5 0 rfl rfl)
theorem dX5_chanceOf_119 : decode cX5_chanceOf 119 = .ok (.iload_n 3, 1) := dk_29 (dk_at dksX5_chanceOf_5 1 rfl rfl)
theorem dX5_chanceOf_120 : decode cX5_chanceOf 120 = .ok (.invokestatic 312, 3) := dk_184 1 56 (dk_at dksX5_chanceOf_5 2 rfl rfl)
theorem dX5_chanceOf_123 : decode cX5_chanceOf 123 = .ok (.lreturn, 1) := dk_173 (dk_at dksX5_chanceOf_5 5 rfl rfl)
abbrev cX5_lowest : ByteArray := prog_12_method_6_code
def yX5_lowest : MethodName := ⟨RX5, "lowest", "(JJI)J"⟩
def dkwX5_lowest_1 : List UInt8 := [22, 9, 55, 7, 167, 255, 234, 21, 4, 154, 0, 10, 30, 22, 5, 109, 167, 0, 7, 32, 22, 5, 109, 173]
abbrev dktX5_lowest_1 : List UInt8 := dkwX5_lowest_1 ++ []
def dkwX5_lowest_0 : List UInt8 := [30, 55, 5, 32, 55, 7, 22, 7, 9, 148, 153, 0, 21, 22, 5, 22, 7, 113, 55, 9, 22, 7, 55, 5]
abbrev dktX5_lowest_0 : List UInt8 := dkwX5_lowest_0 ++ dktX5_lowest_1
theorem dksX5_lowest_0 : cX5_lowest.data.toList.drop 0 = dktX5_lowest_0 := by decide +kernel
theorem dksX5_lowest_1 : cX5_lowest.data.toList.drop 24 = dktX5_lowest_1 := dk_seg dksX5_lowest_0 24 rfl rfl
theorem dX5_lowest_0 : decode cX5_lowest 0 = .ok (.lload_n 0, 1) := dk_30 (dk_at dksX5_lowest_0 0 rfl rfl)
theorem dX5_lowest_1 : decode cX5_lowest 1 = .ok (.lstore 5, 2) := dk_55 5 (dk_at dksX5_lowest_0 1 rfl rfl)
theorem dX5_lowest_3 : decode cX5_lowest 3 = .ok (.lload_n 2, 1) := dk_32 (dk_at dksX5_lowest_0 3 rfl rfl)
theorem dX5_lowest_4 : decode cX5_lowest 4 = .ok (.lstore 7, 2) := dk_55 7 (dk_at dksX5_lowest_0 4 rfl rfl)
theorem dX5_lowest_6 : decode cX5_lowest 6 = .ok (.lload 7, 2) := dk_22 7 (dk_at dksX5_lowest_0 6 rfl rfl)
theorem dX5_lowest_8 : decode cX5_lowest 8 = .ok (.lconst 0, 1) := dk_9 (dk_at dksX5_lowest_0 8 rfl rfl)
theorem dX5_lowest_9 : decode cX5_lowest 9 = .ok (.lcmp, 1) := dk_148 (dk_at dksX5_lowest_0 9 rfl rfl)
theorem dX5_lowest_10 : decode cX5_lowest 10 = .ok (.ifCond .eq 21, 3) := dk_153 0 21 (dk_at dksX5_lowest_0 10 rfl rfl)
theorem dX5_lowest_13 : decode cX5_lowest 13 = .ok (.lload 5, 2) := dk_22 5 (dk_at dksX5_lowest_0 13 rfl rfl)
theorem dX5_lowest_15 : decode cX5_lowest 15 = .ok (.lload 7, 2) := dk_22 7 (dk_at dksX5_lowest_0 15 rfl rfl)
theorem dX5_lowest_17 : decode cX5_lowest 17 = .ok (.lrem, 1) := dk_113 (dk_at dksX5_lowest_0 17 rfl rfl)
theorem dX5_lowest_18 : decode cX5_lowest 18 = .ok (.lstore 9, 2) := dk_55 9 (dk_at dksX5_lowest_0 18 rfl rfl)
theorem dX5_lowest_20 : decode cX5_lowest 20 = .ok (.lload 7, 2) := dk_22 7 (dk_at dksX5_lowest_0 20 rfl rfl)
theorem dX5_lowest_22 : decode cX5_lowest 22 = .ok (.lstore 5, 2) := dk_55 5 (dk_at dksX5_lowest_0 22 rfl rfl)
theorem dX5_lowest_24 : decode cX5_lowest 24 = .ok (.lload 9, 2) := dk_22 9 (dk_at dksX5_lowest_1 0 rfl rfl)
theorem dX5_lowest_26 : decode cX5_lowest 26 = .ok (.lstore 7, 2) := dk_55 7 (dk_at dksX5_lowest_1 2 rfl rfl)
theorem dX5_lowest_28 : decode cX5_lowest 28 = .ok (.goto (-22), 3) := dk_167 255 234 (dk_at dksX5_lowest_1 4 rfl rfl)
theorem dX5_lowest_31 : decode cX5_lowest 31 = .ok (.iload 4, 2) := dk_21 4 (dk_at dksX5_lowest_1 7 rfl rfl)
theorem dX5_lowest_33 : decode cX5_lowest 33 = .ok (.ifCond .ne 10, 3) := dk_154 0 10 (dk_at dksX5_lowest_1 9 rfl rfl)
theorem dX5_lowest_36 : decode cX5_lowest 36 = .ok (.lload_n 0, 1) := dk_30 (dk_at dksX5_lowest_1 12 rfl rfl)
theorem dX5_lowest_37 : decode cX5_lowest 37 = .ok (.lload 5, 2) := dk_22 5 (dk_at dksX5_lowest_1 13 rfl rfl)
theorem dX5_lowest_39 : decode cX5_lowest 39 = .ok (.ldiv, 1) := dk_109 (dk_at dksX5_lowest_1 15 rfl rfl)
theorem dX5_lowest_40 : decode cX5_lowest 40 = .ok (.goto 7, 3) := dk_167 0 7 (dk_at dksX5_lowest_1 16 rfl rfl)
theorem dX5_lowest_43 : decode cX5_lowest 43 = .ok (.lload_n 2, 1) := dk_32 (dk_at dksX5_lowest_1 19 rfl rfl)
theorem dX5_lowest_44 : decode cX5_lowest 44 = .ok (.lload 5, 2) := dk_22 5 (dk_at dksX5_lowest_1 20 rfl rfl)
theorem dX5_lowest_46 : decode cX5_lowest 46 = .ok (.ldiv, 1) := dk_109 (dk_at dksX5_lowest_1 22 rfl rfl)
theorem dX5_lowest_47 : decode cX5_lowest 47 = .ok (.lreturn, 1) := dk_173 (dk_at dksX5_lowest_1 23 rfl rfl)
abbrev cX5_no : ByteArray := prog_12_method_5_code
def yX5_no : MethodName := ⟨RX5, "no", "(I)J"⟩
def dkwX5_no_0 : List UInt8 := [20, 0, 107, 26, 133, 101, 173]
abbrev dktX5_no_0 : List UInt8 := dkwX5_no_0 ++ []
theorem dksX5_no_0 : cX5_no.data.toList.drop 0 = dktX5_no_0 := by decide +kernel
theorem dX5_no_0 : decode cX5_no 0 = .ok (.ldc2_w 107, 3) := dk_20 0 107 (dk_at dksX5_no_0 0 rfl rfl)
theorem dX5_no_3 : decode cX5_no 3 = .ok (.iload_n 0, 1) := dk_26 (dk_at dksX5_no_0 3 rfl rfl)
theorem dX5_no_4 : decode cX5_no 4 = .ok (.i2l, 1) := dk_133 (dk_at dksX5_no_0 4 rfl rfl)
theorem dX5_no_5 : decode cX5_no 5 = .ok (.lsub, 1) := dk_101 (dk_at dksX5_no_0 5 rfl rfl)
theorem dX5_no_6 : decode cX5_no 6 = .ok (.lreturn, 1) := dk_173 (dk_at dksX5_no_0 6 rfl rfl)
abbrev cX5_years : ByteArray := prog_12_method_82_code
def yX5_years : MethodName := ⟨RX5, "years", "(III)I"⟩
def dkwX5_years_1 : List UInt8 := [167, 0, 5, 16, 254, 172]
abbrev dktX5_years_1 : List UInt8 := dkwX5_years_1 ++ []
def dkwX5_years_0 : List UInt8 := [28, 3, 16, 24, 184, 0, 109, 153, 0, 20, 29, 184, 0, 153, 153, 0, 13, 42, 27, 28, 29, 182, 1, 69]
abbrev dktX5_years_0 : List UInt8 := dkwX5_years_0 ++ dktX5_years_1
theorem dksX5_years_0 : cX5_years.data.toList.drop 0 = dktX5_years_0 := by decide +kernel
theorem dksX5_years_1 : cX5_years.data.toList.drop 24 = dktX5_years_1 := dk_seg dksX5_years_0 24 rfl rfl
theorem dX5_years_0 : decode cX5_years 0 = .ok (.iload_n 2, 1) := dk_28 (dk_at dksX5_years_0 0 rfl rfl)
theorem dX5_years_1 : decode cX5_years 1 = .ok (.iconst 0, 1) := dk_3 (dk_at dksX5_years_0 1 rfl rfl)
theorem dX5_years_2 : decode cX5_years 2 = .ok (.bipush 24, 2) := dk_16 24 (dk_at dksX5_years_0 2 rfl rfl)
theorem dX5_years_4 : decode cX5_years 4 = .ok (.invokestatic 109, 3) := dk_184 0 109 (dk_at dksX5_years_0 4 rfl rfl)
theorem dX5_years_7 : decode cX5_years 7 = .ok (.ifCond .eq 20, 3) := dk_153 0 20 (dk_at dksX5_years_0 7 rfl rfl)
theorem dX5_years_10 : decode cX5_years 10 = .ok (.iload_n 3, 1) := dk_29 (dk_at dksX5_years_0 10 rfl rfl)
theorem dX5_years_11 : decode cX5_years 11 = .ok (.invokestatic 153, 3) := dk_184 0 153 (dk_at dksX5_years_0 11 rfl rfl)
theorem dX5_years_14 : decode cX5_years 14 = .ok (.ifCond .eq 13, 3) := dk_153 0 13 (dk_at dksX5_years_0 14 rfl rfl)
theorem dX5_years_17 : decode cX5_years 17 = .ok (.aload_n 0, 1) := dk_42 (dk_at dksX5_years_0 17 rfl rfl)
theorem dX5_years_18 : decode cX5_years 18 = .ok (.iload_n 1, 1) := dk_27 (dk_at dksX5_years_0 18 rfl rfl)
theorem dX5_years_19 : decode cX5_years 19 = .ok (.iload_n 2, 1) := dk_28 (dk_at dksX5_years_0 19 rfl rfl)
theorem dX5_years_20 : decode cX5_years 20 = .ok (.iload_n 3, 1) := dk_29 (dk_at dksX5_years_0 20 rfl rfl)
theorem dX5_years_21 : decode cX5_years 21 = .ok (.invokevirtual 325, 3) := dk_182 1 69 (dk_at dksX5_years_0 21 rfl rfl)
theorem dX5_years_24 : decode cX5_years 24 = .ok (.goto 5, 3) := dk_167 0 5 (dk_at dksX5_years_1 0 rfl rfl)
theorem dX5_years_27 : decode cX5_years 27 = .ok (.bipush (-2), 2) := dk_16 254 (dk_at dksX5_years_1 3 rfl rfl)
theorem dX5_years_29 : decode cX5_years 29 = .ok (.ireturn, 1) := dk_172 (dk_at dksX5_years_1 5 rfl rfl)
abbrev cX5_yearsOf : ByteArray := prog_12_method_81_code
def yX5_yearsOf : MethodName := ⟨RX5, "yearsOf", "(III)I"⟩
def dkwX5_yearsOf_3 : List UInt8 := [167, 255, 196, 42, 182, 0, 232, 29, 154, 0, 10, 42, 180, 0, 203, 167, 0, 7, 42, 180, 0, 206, 172]
abbrev dktX5_yearsOf_3 : List UInt8 := dkwX5_yearsOf_3 ++ []
def dkwX5_yearsOf_2 : List UInt8 := [21, 5, 96, 21, 5, 28, 162, 0, 13, 21, 4, 16, 16, 124, 6, 112, 167, 0, 4, 4, 79, 132, 5, 1]
abbrev dktX5_yearsOf_2 : List UInt8 := dkwX5_yearsOf_2 ++ dktX5_yearsOf_3
def dkwX5_yearsOf_1 : List UInt8 := [19, 1, 68, 21, 4, 104, 17, 48, 57, 96, 167, 0, 5, 21, 4, 54, 4, 42, 180, 0, 43, 16, 24]
abbrev dktX5_yearsOf_1 : List UInt8 := dkwX5_yearsOf_1 ++ dktX5_yearsOf_2
def dkwX5_yearsOf_0 : List UInt8 := [42, 182, 0, 229, 27, 54, 4, 3, 54, 5, 21, 5, 16, 24, 162, 0, 59, 21, 5, 28, 162, 0, 16]
abbrev dktX5_yearsOf_0 : List UInt8 := dkwX5_yearsOf_0 ++ dktX5_yearsOf_1
theorem dksX5_yearsOf_0 : cX5_yearsOf.data.toList.drop 0 = dktX5_yearsOf_0 := by decide +kernel
theorem dksX5_yearsOf_1 : cX5_yearsOf.data.toList.drop 23 = dktX5_yearsOf_1 := dk_seg dksX5_yearsOf_0 23 rfl rfl
theorem dksX5_yearsOf_2 : cX5_yearsOf.data.toList.drop 46 = dktX5_yearsOf_2 := dk_seg dksX5_yearsOf_1 23 rfl rfl
theorem dksX5_yearsOf_3 : cX5_yearsOf.data.toList.drop 70 = dktX5_yearsOf_3 := dk_seg dksX5_yearsOf_2 24 rfl rfl
theorem dX5_yearsOf_0 : decode cX5_yearsOf 0 = .ok (.aload_n 0, 1) := dk_42 (dk_at dksX5_yearsOf_0 0 rfl rfl)
theorem dX5_yearsOf_1 : decode cX5_yearsOf 1 = .ok (.invokevirtual 229, 3) := dk_182 0 229 (dk_at dksX5_yearsOf_0 1 rfl rfl)
theorem dX5_yearsOf_4 : decode cX5_yearsOf 4 = .ok (.iload_n 1, 1) := dk_27 (dk_at dksX5_yearsOf_0 4 rfl rfl)
theorem dX5_yearsOf_5 : decode cX5_yearsOf 5 = .ok (.istore 4, 2) := dk_54 4 (dk_at dksX5_yearsOf_0 5 rfl rfl)
theorem dX5_yearsOf_7 : decode cX5_yearsOf 7 = .ok (.iconst 0, 1) := dk_3 (dk_at dksX5_yearsOf_0 7 rfl rfl)
theorem dX5_yearsOf_8 : decode cX5_yearsOf 8 = .ok (.istore 5, 2) := dk_54 5 (dk_at dksX5_yearsOf_0 8 rfl rfl)
theorem dX5_yearsOf_10 : decode cX5_yearsOf 10 = .ok (.iload 5, 2) := dk_21 5 (dk_at dksX5_yearsOf_0 10 rfl rfl)
theorem dX5_yearsOf_12 : decode cX5_yearsOf 12 = .ok (.bipush 24, 2) := dk_16 24 (dk_at dksX5_yearsOf_0 12 rfl rfl)
theorem dX5_yearsOf_14 : decode cX5_yearsOf 14 = .ok (.if_icmp .ge 59, 3) := dk_162 0 59 (dk_at dksX5_yearsOf_0 14 rfl rfl)
theorem dX5_yearsOf_17 : decode cX5_yearsOf 17 = .ok (.iload 5, 2) := dk_21 5 (dk_at dksX5_yearsOf_0 17 rfl rfl)
theorem dX5_yearsOf_19 : decode cX5_yearsOf 19 = .ok (.iload_n 2, 1) := dk_28 (dk_at dksX5_yearsOf_0 19 rfl rfl)
theorem dX5_yearsOf_20 : decode cX5_yearsOf 20 = .ok (.if_icmp .ge 16, 3) := dk_162 0 16 (dk_at dksX5_yearsOf_0 20 rfl rfl)
theorem dX5_yearsOf_23 : decode cX5_yearsOf 23 = .ok (.ldc_w 324, 3) := dk_19 1 68 (dk_at dksX5_yearsOf_1 0 rfl rfl)
theorem dX5_yearsOf_26 : decode cX5_yearsOf 26 = .ok (.iload 4, 2) := dk_21 4 (dk_at dksX5_yearsOf_1 3 rfl rfl)
theorem dX5_yearsOf_28 : decode cX5_yearsOf 28 = .ok (.imul, 1) := dk_104 (dk_at dksX5_yearsOf_1 5 rfl rfl)
theorem dX5_yearsOf_29 : decode cX5_yearsOf 29 = .ok (.sipush 12345, 3) := dk_17 48 57 (dk_at dksX5_yearsOf_1 6 rfl rfl)
theorem dX5_yearsOf_32 : decode cX5_yearsOf 32 = .ok (.iadd, 1) := dk_96 (dk_at dksX5_yearsOf_1 9 rfl rfl)
theorem dX5_yearsOf_33 : decode cX5_yearsOf 33 = .ok (.goto 5, 3) := dk_167 0 5 (dk_at dksX5_yearsOf_1 10 rfl rfl)
theorem dX5_yearsOf_36 : decode cX5_yearsOf 36 = .ok (.iload 4, 2) := dk_21 4 (dk_at dksX5_yearsOf_1 13 rfl rfl)
theorem dX5_yearsOf_38 : decode cX5_yearsOf 38 = .ok (.istore 4, 2) := dk_54 4 (dk_at dksX5_yearsOf_1 15 rfl rfl)
theorem dX5_yearsOf_40 : decode cX5_yearsOf 40 = .ok (.aload_n 0, 1) := dk_42 (dk_at dksX5_yearsOf_1 17 rfl rfl)
theorem dX5_yearsOf_41 : decode cX5_yearsOf 41 = .ok (.getfield 43, 3) := dk_180 0 43 (dk_at dksX5_yearsOf_1 18 rfl rfl)
theorem dX5_yearsOf_44 : decode cX5_yearsOf 44 = .ok (.bipush 24, 2) := dk_16 24 (dk_at dksX5_yearsOf_1 21 rfl rfl)
theorem dX5_yearsOf_46 : decode cX5_yearsOf 46 = .ok (.iload 5, 2) := dk_21 5 (dk_at dksX5_yearsOf_2 0 rfl rfl)
theorem dX5_yearsOf_48 : decode cX5_yearsOf 48 = .ok (.iadd, 1) := dk_96 (dk_at dksX5_yearsOf_2 2 rfl rfl)
theorem dX5_yearsOf_49 : decode cX5_yearsOf 49 = .ok (.iload 5, 2) := dk_21 5 (dk_at dksX5_yearsOf_2 3 rfl rfl)
theorem dX5_yearsOf_51 : decode cX5_yearsOf 51 = .ok (.iload_n 2, 1) := dk_28 (dk_at dksX5_yearsOf_2 5 rfl rfl)
theorem dX5_yearsOf_52 : decode cX5_yearsOf 52 = .ok (.if_icmp .ge 13, 3) := dk_162 0 13 (dk_at dksX5_yearsOf_2 6 rfl rfl)
theorem dX5_yearsOf_55 : decode cX5_yearsOf 55 = .ok (.iload 4, 2) := dk_21 4 (dk_at dksX5_yearsOf_2 9 rfl rfl)
theorem dX5_yearsOf_57 : decode cX5_yearsOf 57 = .ok (.bipush 16, 2) := dk_16 16 (dk_at dksX5_yearsOf_2 11 rfl rfl)
theorem dX5_yearsOf_59 : decode cX5_yearsOf 59 = .ok (.iushr, 1) := dk_124 (dk_at dksX5_yearsOf_2 13 rfl rfl)
theorem dX5_yearsOf_60 : decode cX5_yearsOf 60 = .ok (.iconst 3, 1) := dk_6 (dk_at dksX5_yearsOf_2 14 rfl rfl)
theorem dX5_yearsOf_61 : decode cX5_yearsOf 61 = .ok (.irem, 1) := dk_112 (dk_at dksX5_yearsOf_2 15 rfl rfl)
theorem dX5_yearsOf_62 : decode cX5_yearsOf 62 = .ok (.goto 4, 3) := dk_167 0 4 (dk_at dksX5_yearsOf_2 16 rfl rfl)
theorem dX5_yearsOf_65 : decode cX5_yearsOf 65 = .ok (.iconst 1, 1) := dk_4 (dk_at dksX5_yearsOf_2 19 rfl rfl)
theorem dX5_yearsOf_66 : decode cX5_yearsOf 66 = .ok (.iastore, 1) := dk_79 (dk_at dksX5_yearsOf_2 20 rfl rfl)
theorem dX5_yearsOf_67 : decode cX5_yearsOf 67 = .ok (.iinc 5 1, 3) := dk_132 5 1 (dk_at dksX5_yearsOf_2 21 rfl rfl)
theorem dX5_yearsOf_70 : decode cX5_yearsOf 70 = .ok (.goto (-60), 3) := dk_167 255 196 (dk_at dksX5_yearsOf_3 0 rfl rfl)
theorem dX5_yearsOf_73 : decode cX5_yearsOf 73 = .ok (.aload_n 0, 1) := dk_42 (dk_at dksX5_yearsOf_3 3 rfl rfl)
theorem dX5_yearsOf_74 : decode cX5_yearsOf 74 = .ok (.invokevirtual 232, 3) := dk_182 0 232 (dk_at dksX5_yearsOf_3 4 rfl rfl)
theorem dX5_yearsOf_77 : decode cX5_yearsOf 77 = .ok (.iload_n 3, 1) := dk_29 (dk_at dksX5_yearsOf_3 7 rfl rfl)
theorem dX5_yearsOf_78 : decode cX5_yearsOf 78 = .ok (.ifCond .ne 10, 3) := dk_154 0 10 (dk_at dksX5_yearsOf_3 8 rfl rfl)
theorem dX5_yearsOf_81 : decode cX5_yearsOf 81 = .ok (.aload_n 0, 1) := dk_42 (dk_at dksX5_yearsOf_3 11 rfl rfl)
theorem dX5_yearsOf_82 : decode cX5_yearsOf 82 = .ok (.getfield 203, 3) := dk_180 0 203 (dk_at dksX5_yearsOf_3 12 rfl rfl)
theorem dX5_yearsOf_85 : decode cX5_yearsOf 85 = .ok (.goto 7, 3) := dk_167 0 7 (dk_at dksX5_yearsOf_3 15 rfl rfl)
theorem dX5_yearsOf_88 : decode cX5_yearsOf 88 = .ok (.aload_n 0, 1) := dk_42 (dk_at dksX5_yearsOf_3 18 rfl rfl)
theorem dX5_yearsOf_89 : decode cX5_yearsOf 89 = .ok (.getfield 206, 3) := dk_180 0 206 (dk_at dksX5_yearsOf_3 19 rfl rfl)
theorem dX5_yearsOf_92 : decode cX5_yearsOf 92 = .ok (.ireturn, 1) := dk_172 (dk_at dksX5_yearsOf_3 22 rfl rfl)
abbrev cX5_sheet : ByteArray := prog_12_method_85_code
def yX5_sheet : MethodName := ⟨RX5, "sheet", "(III)I"⟩
def dkwX5_sheet_3 : List UInt8 := [27, 104, 21, 4, 96, 3, 79, 132, 4, 1, 167, 255, 233, 29, 172]
abbrev dktX5_sheet_3 : List UInt8 := dkwX5_sheet_3 ++ []
def dkwX5_sheet_2 : List UInt8 := [79, 42, 180, 0, 98, 27, 29, 79, 3, 54, 4, 21, 4, 16, 60, 162, 0, 22, 42, 180, 0, 101, 16, 60]
abbrev dktX5_sheet_2 : List UInt8 := dkwX5_sheet_2 ++ dktX5_sheet_3
def dkwX5_sheet_1 : List UInt8 := [172, 29, 156, 0, 9, 42, 8, 182, 0, 172, 172, 42, 180, 0, 91, 27, 4, 84, 42, 180, 0, 95, 27, 28]
abbrev dktX5_sheet_1 : List UInt8 := dkwX5_sheet_1 ++ dktX5_sheet_2
def dkwX5_sheet_0 : List UInt8 := [27, 184, 0, 169, 153, 0, 18, 28, 3, 5, 184, 0, 109, 153, 0, 9, 29, 16, 60, 164, 0, 6, 16, 254]
abbrev dktX5_sheet_0 : List UInt8 := dkwX5_sheet_0 ++ dktX5_sheet_1
theorem dksX5_sheet_0 : cX5_sheet.data.toList.drop 0 = dktX5_sheet_0 := by decide +kernel
theorem dksX5_sheet_1 : cX5_sheet.data.toList.drop 24 = dktX5_sheet_1 := dk_seg dksX5_sheet_0 24 rfl rfl
theorem dksX5_sheet_2 : cX5_sheet.data.toList.drop 48 = dktX5_sheet_2 := dk_seg dksX5_sheet_1 24 rfl rfl
theorem dksX5_sheet_3 : cX5_sheet.data.toList.drop 72 = dktX5_sheet_3 := dk_seg dksX5_sheet_2 24 rfl rfl
theorem dX5_sheet_0 : decode cX5_sheet 0 = .ok (.iload_n 1, 1) := dk_27 (dk_at dksX5_sheet_0 0 rfl rfl)
theorem dX5_sheet_1 : decode cX5_sheet 1 = .ok (.invokestatic 169, 3) := dk_184 0 169 (dk_at dksX5_sheet_0 1 rfl rfl)
theorem dX5_sheet_4 : decode cX5_sheet 4 = .ok (.ifCond .eq 18, 3) := dk_153 0 18 (dk_at dksX5_sheet_0 4 rfl rfl)
theorem dX5_sheet_7 : decode cX5_sheet 7 = .ok (.iload_n 2, 1) := dk_28 (dk_at dksX5_sheet_0 7 rfl rfl)
theorem dX5_sheet_8 : decode cX5_sheet 8 = .ok (.iconst 0, 1) := dk_3 (dk_at dksX5_sheet_0 8 rfl rfl)
theorem dX5_sheet_9 : decode cX5_sheet 9 = .ok (.iconst 2, 1) := dk_5 (dk_at dksX5_sheet_0 9 rfl rfl)
theorem dX5_sheet_10 : decode cX5_sheet 10 = .ok (.invokestatic 109, 3) := dk_184 0 109 (dk_at dksX5_sheet_0 10 rfl rfl)
theorem dX5_sheet_13 : decode cX5_sheet 13 = .ok (.ifCond .eq 9, 3) := dk_153 0 9 (dk_at dksX5_sheet_0 13 rfl rfl)
theorem dX5_sheet_16 : decode cX5_sheet 16 = .ok (.iload_n 3, 1) := dk_29 (dk_at dksX5_sheet_0 16 rfl rfl)
theorem dX5_sheet_17 : decode cX5_sheet 17 = .ok (.bipush 60, 2) := dk_16 60 (dk_at dksX5_sheet_0 17 rfl rfl)
theorem dX5_sheet_19 : decode cX5_sheet 19 = .ok (.if_icmp .le 6, 3) := dk_164 0 6 (dk_at dksX5_sheet_0 19 rfl rfl)
theorem dX5_sheet_22 : decode cX5_sheet 22 = .ok (.bipush (-2), 2) := dk_16 254 (dk_at dksX5_sheet_0 22 rfl rfl)
theorem dX5_sheet_24 : decode cX5_sheet 24 = .ok (.ireturn, 1) := dk_172 (dk_at dksX5_sheet_1 0 rfl rfl)
theorem dX5_sheet_25 : decode cX5_sheet 25 = .ok (.iload_n 3, 1) := dk_29 (dk_at dksX5_sheet_1 1 rfl rfl)
theorem dX5_sheet_26 : decode cX5_sheet 26 = .ok (.ifCond .ge 9, 3) := dk_156 0 9 (dk_at dksX5_sheet_1 2 rfl rfl)
theorem dX5_sheet_29 : decode cX5_sheet 29 = .ok (.aload_n 0, 1) := dk_42 (dk_at dksX5_sheet_1 5 rfl rfl)
theorem dX5_sheet_30 : decode cX5_sheet 30 = .ok (.iconst 5, 1) := dk_8 (dk_at dksX5_sheet_1 6 rfl rfl)
theorem dX5_sheet_31 : decode cX5_sheet 31 = .ok (.invokevirtual 172, 3) := dk_182 0 172 (dk_at dksX5_sheet_1 7 rfl rfl)
theorem dX5_sheet_34 : decode cX5_sheet 34 = .ok (.ireturn, 1) := dk_172 (dk_at dksX5_sheet_1 10 rfl rfl)
theorem dX5_sheet_35 : decode cX5_sheet 35 = .ok (.aload_n 0, 1) := dk_42 (dk_at dksX5_sheet_1 11 rfl rfl)
theorem dX5_sheet_36 : decode cX5_sheet 36 = .ok (.getfield 91, 3) := dk_180 0 91 (dk_at dksX5_sheet_1 12 rfl rfl)
theorem dX5_sheet_39 : decode cX5_sheet 39 = .ok (.iload_n 1, 1) := dk_27 (dk_at dksX5_sheet_1 15 rfl rfl)
theorem dX5_sheet_40 : decode cX5_sheet 40 = .ok (.iconst 1, 1) := dk_4 (dk_at dksX5_sheet_1 16 rfl rfl)
theorem dX5_sheet_41 : decode cX5_sheet 41 = .ok (.bastore, 1) := dk_84 (dk_at dksX5_sheet_1 17 rfl rfl)
theorem dX5_sheet_42 : decode cX5_sheet 42 = .ok (.aload_n 0, 1) := dk_42 (dk_at dksX5_sheet_1 18 rfl rfl)
theorem dX5_sheet_43 : decode cX5_sheet 43 = .ok (.getfield 95, 3) := dk_180 0 95 (dk_at dksX5_sheet_1 19 rfl rfl)
theorem dX5_sheet_46 : decode cX5_sheet 46 = .ok (.iload_n 1, 1) := dk_27 (dk_at dksX5_sheet_1 22 rfl rfl)
theorem dX5_sheet_47 : decode cX5_sheet 47 = .ok (.iload_n 2, 1) := dk_28 (dk_at dksX5_sheet_1 23 rfl rfl)
theorem dX5_sheet_48 : decode cX5_sheet 48 = .ok (.iastore, 1) := dk_79 (dk_at dksX5_sheet_2 0 rfl rfl)
theorem dX5_sheet_49 : decode cX5_sheet 49 = .ok (.aload_n 0, 1) := dk_42 (dk_at dksX5_sheet_2 1 rfl rfl)
theorem dX5_sheet_50 : decode cX5_sheet 50 = .ok (.getfield 98, 3) := dk_180 0 98 (dk_at dksX5_sheet_2 2 rfl rfl)
theorem dX5_sheet_53 : decode cX5_sheet 53 = .ok (.iload_n 1, 1) := dk_27 (dk_at dksX5_sheet_2 5 rfl rfl)
theorem dX5_sheet_54 : decode cX5_sheet 54 = .ok (.iload_n 3, 1) := dk_29 (dk_at dksX5_sheet_2 6 rfl rfl)
theorem dX5_sheet_55 : decode cX5_sheet 55 = .ok (.iastore, 1) := dk_79 (dk_at dksX5_sheet_2 7 rfl rfl)
theorem dX5_sheet_56 : decode cX5_sheet 56 = .ok (.iconst 0, 1) := dk_3 (dk_at dksX5_sheet_2 8 rfl rfl)
theorem dX5_sheet_57 : decode cX5_sheet 57 = .ok (.istore 4, 2) := dk_54 4 (dk_at dksX5_sheet_2 9 rfl rfl)
theorem dX5_sheet_59 : decode cX5_sheet 59 = .ok (.iload 4, 2) := dk_21 4 (dk_at dksX5_sheet_2 11 rfl rfl)
theorem dX5_sheet_61 : decode cX5_sheet 61 = .ok (.bipush 60, 2) := dk_16 60 (dk_at dksX5_sheet_2 13 rfl rfl)
theorem dX5_sheet_63 : decode cX5_sheet 63 = .ok (.if_icmp .ge 22, 3) := dk_162 0 22 (dk_at dksX5_sheet_2 15 rfl rfl)
theorem dX5_sheet_66 : decode cX5_sheet 66 = .ok (.aload_n 0, 1) := dk_42 (dk_at dksX5_sheet_2 18 rfl rfl)
theorem dX5_sheet_67 : decode cX5_sheet 67 = .ok (.getfield 101, 3) := dk_180 0 101 (dk_at dksX5_sheet_2 19 rfl rfl)
theorem dX5_sheet_70 : decode cX5_sheet 70 = .ok (.bipush 60, 2) := dk_16 60 (dk_at dksX5_sheet_2 22 rfl rfl)
theorem dX5_sheet_72 : decode cX5_sheet 72 = .ok (.iload_n 1, 1) := dk_27 (dk_at dksX5_sheet_3 0 rfl rfl)
theorem dX5_sheet_73 : decode cX5_sheet 73 = .ok (.imul, 1) := dk_104 (dk_at dksX5_sheet_3 1 rfl rfl)
theorem dX5_sheet_74 : decode cX5_sheet 74 = .ok (.iload 4, 2) := dk_21 4 (dk_at dksX5_sheet_3 2 rfl rfl)
theorem dX5_sheet_76 : decode cX5_sheet 76 = .ok (.iadd, 1) := dk_96 (dk_at dksX5_sheet_3 4 rfl rfl)
theorem dX5_sheet_77 : decode cX5_sheet 77 = .ok (.iconst 0, 1) := dk_3 (dk_at dksX5_sheet_3 5 rfl rfl)
theorem dX5_sheet_78 : decode cX5_sheet 78 = .ok (.iastore, 1) := dk_79 (dk_at dksX5_sheet_3 6 rfl rfl)
theorem dX5_sheet_79 : decode cX5_sheet 79 = .ok (.iinc 4 1, 3) := dk_132 4 1 (dk_at dksX5_sheet_3 7 rfl rfl)
theorem dX5_sheet_82 : decode cX5_sheet 82 = .ok (.goto (-23), 3) := dk_167 255 233 (dk_at dksX5_sheet_3 10 rfl rfl)
theorem dX5_sheet_85 : decode cX5_sheet 85 = .ok (.iload_n 3, 1) := dk_29 (dk_at dksX5_sheet_3 13 rfl rfl)
theorem dX5_sheet_86 : decode cX5_sheet 86 = .ok (.ireturn, 1) := dk_172 (dk_at dksX5_sheet_3 14 rfl rfl)
abbrev cX5_lose : ByteArray := prog_12_method_86_code
def yX5_lose : MethodName := ⟨RX5, "lose", "(I)I"⟩
def dkwX5_lose_1 : List UInt8 := [172, 42, 180, 0, 91, 27, 3, 84, 42, 180, 0, 98, 27, 46, 172]
abbrev dktX5_lose_1 : List UInt8 := dkwX5_lose_1 ++ []
def dkwX5_lose_0 : List UInt8 := [27, 184, 0, 169, 154, 0, 6, 16, 254, 172, 42, 180, 0, 91, 27, 51, 154, 0, 9, 42, 4, 182, 0, 172]
abbrev dktX5_lose_0 : List UInt8 := dkwX5_lose_0 ++ dktX5_lose_1
theorem dksX5_lose_0 : cX5_lose.data.toList.drop 0 = dktX5_lose_0 := by decide +kernel
theorem dksX5_lose_1 : cX5_lose.data.toList.drop 24 = dktX5_lose_1 := dk_seg dksX5_lose_0 24 rfl rfl
theorem dX5_lose_0 : decode cX5_lose 0 = .ok (.iload_n 1, 1) := dk_27 (dk_at dksX5_lose_0 0 rfl rfl)
theorem dX5_lose_1 : decode cX5_lose 1 = .ok (.invokestatic 169, 3) := dk_184 0 169 (dk_at dksX5_lose_0 1 rfl rfl)
theorem dX5_lose_4 : decode cX5_lose 4 = .ok (.ifCond .ne 6, 3) := dk_154 0 6 (dk_at dksX5_lose_0 4 rfl rfl)
theorem dX5_lose_7 : decode cX5_lose 7 = .ok (.bipush (-2), 2) := dk_16 254 (dk_at dksX5_lose_0 7 rfl rfl)
theorem dX5_lose_9 : decode cX5_lose 9 = .ok (.ireturn, 1) := dk_172 (dk_at dksX5_lose_0 9 rfl rfl)
theorem dX5_lose_10 : decode cX5_lose 10 = .ok (.aload_n 0, 1) := dk_42 (dk_at dksX5_lose_0 10 rfl rfl)
theorem dX5_lose_11 : decode cX5_lose 11 = .ok (.getfield 91, 3) := dk_180 0 91 (dk_at dksX5_lose_0 11 rfl rfl)
theorem dX5_lose_14 : decode cX5_lose 14 = .ok (.iload_n 1, 1) := dk_27 (dk_at dksX5_lose_0 14 rfl rfl)
theorem dX5_lose_15 : decode cX5_lose 15 = .ok (.baload, 1) := dk_51 (dk_at dksX5_lose_0 15 rfl rfl)
theorem dX5_lose_16 : decode cX5_lose 16 = .ok (.ifCond .ne 9, 3) := dk_154 0 9 (dk_at dksX5_lose_0 16 rfl rfl)
theorem dX5_lose_19 : decode cX5_lose 19 = .ok (.aload_n 0, 1) := dk_42 (dk_at dksX5_lose_0 19 rfl rfl)
theorem dX5_lose_20 : decode cX5_lose 20 = .ok (.iconst 1, 1) := dk_4 (dk_at dksX5_lose_0 20 rfl rfl)
theorem dX5_lose_21 : decode cX5_lose 21 = .ok (.invokevirtual 172, 3) := dk_182 0 172 (dk_at dksX5_lose_0 21 rfl rfl)
theorem dX5_lose_24 : decode cX5_lose 24 = .ok (.ireturn, 1) := dk_172 (dk_at dksX5_lose_1 0 rfl rfl)
theorem dX5_lose_25 : decode cX5_lose 25 = .ok (.aload_n 0, 1) := dk_42 (dk_at dksX5_lose_1 1 rfl rfl)
theorem dX5_lose_26 : decode cX5_lose 26 = .ok (.getfield 91, 3) := dk_180 0 91 (dk_at dksX5_lose_1 2 rfl rfl)
theorem dX5_lose_29 : decode cX5_lose 29 = .ok (.iload_n 1, 1) := dk_27 (dk_at dksX5_lose_1 5 rfl rfl)
theorem dX5_lose_30 : decode cX5_lose 30 = .ok (.iconst 0, 1) := dk_3 (dk_at dksX5_lose_1 6 rfl rfl)
theorem dX5_lose_31 : decode cX5_lose 31 = .ok (.bastore, 1) := dk_84 (dk_at dksX5_lose_1 7 rfl rfl)
theorem dX5_lose_32 : decode cX5_lose 32 = .ok (.aload_n 0, 1) := dk_42 (dk_at dksX5_lose_1 8 rfl rfl)
theorem dX5_lose_33 : decode cX5_lose 33 = .ok (.getfield 98, 3) := dk_180 0 98 (dk_at dksX5_lose_1 9 rfl rfl)
theorem dX5_lose_36 : decode cX5_lose 36 = .ok (.iload_n 1, 1) := dk_27 (dk_at dksX5_lose_1 12 rfl rfl)
theorem dX5_lose_37 : decode cX5_lose 37 = .ok (.iaload, 1) := dk_46 (dk_at dksX5_lose_1 13 rfl rfl)
theorem dX5_lose_38 : decode cX5_lose 38 = .ok (.ireturn, 1) := dk_172 (dk_at dksX5_lose_1 14 rfl rfl)
abbrev cX5_put : ByteArray := prog_12_method_89_code
def yX5_put : MethodName := ⟨RX5, "put", "(IIII)I"⟩
def dkwX5_put_2 : List UInt8 := [182, 1, 78, 4, 172]
abbrev dktX5_put_2 : List UInt8 := dkwX5_put_2 ++ []
def dkwX5_put_1 : List UInt8 := [182, 1, 75, 54, 5, 21, 5, 158, 0, 10, 42, 21, 5, 182, 0, 172, 172, 42, 27, 29, 21, 4]
abbrev dktX5_put_1 : List UInt8 := dkwX5_put_1 ++ dktX5_put_2
def dkwX5_put_0 : List UInt8 := [27, 184, 0, 169, 153, 0, 12, 28, 3, 5, 184, 0, 109, 154, 0, 6, 16, 254, 172, 42, 27, 28, 29]
abbrev dktX5_put_0 : List UInt8 := dkwX5_put_0 ++ dktX5_put_1
theorem dksX5_put_0 : cX5_put.data.toList.drop 0 = dktX5_put_0 := by decide +kernel
theorem dksX5_put_1 : cX5_put.data.toList.drop 23 = dktX5_put_1 := dk_seg dksX5_put_0 23 rfl rfl
theorem dksX5_put_2 : cX5_put.data.toList.drop 45 = dktX5_put_2 := dk_seg dksX5_put_1 22 rfl rfl
theorem dX5_put_0 : decode cX5_put 0 = .ok (.iload_n 1, 1) := dk_27 (dk_at dksX5_put_0 0 rfl rfl)
theorem dX5_put_1 : decode cX5_put 1 = .ok (.invokestatic 169, 3) := dk_184 0 169 (dk_at dksX5_put_0 1 rfl rfl)
theorem dX5_put_4 : decode cX5_put 4 = .ok (.ifCond .eq 12, 3) := dk_153 0 12 (dk_at dksX5_put_0 4 rfl rfl)
theorem dX5_put_7 : decode cX5_put 7 = .ok (.iload_n 2, 1) := dk_28 (dk_at dksX5_put_0 7 rfl rfl)
theorem dX5_put_8 : decode cX5_put 8 = .ok (.iconst 0, 1) := dk_3 (dk_at dksX5_put_0 8 rfl rfl)
theorem dX5_put_9 : decode cX5_put 9 = .ok (.iconst 2, 1) := dk_5 (dk_at dksX5_put_0 9 rfl rfl)
theorem dX5_put_10 : decode cX5_put 10 = .ok (.invokestatic 109, 3) := dk_184 0 109 (dk_at dksX5_put_0 10 rfl rfl)
theorem dX5_put_13 : decode cX5_put 13 = .ok (.ifCond .ne 6, 3) := dk_154 0 6 (dk_at dksX5_put_0 13 rfl rfl)
theorem dX5_put_16 : decode cX5_put 16 = .ok (.bipush (-2), 2) := dk_16 254 (dk_at dksX5_put_0 16 rfl rfl)
theorem dX5_put_18 : decode cX5_put 18 = .ok (.ireturn, 1) := dk_172 (dk_at dksX5_put_0 18 rfl rfl)
theorem dX5_put_19 : decode cX5_put 19 = .ok (.aload_n 0, 1) := dk_42 (dk_at dksX5_put_0 19 rfl rfl)
theorem dX5_put_20 : decode cX5_put 20 = .ok (.iload_n 1, 1) := dk_27 (dk_at dksX5_put_0 20 rfl rfl)
theorem dX5_put_21 : decode cX5_put 21 = .ok (.iload_n 2, 1) := dk_28 (dk_at dksX5_put_0 21 rfl rfl)
theorem dX5_put_22 : decode cX5_put 22 = .ok (.iload_n 3, 1) := dk_29 (dk_at dksX5_put_0 22 rfl rfl)
theorem dX5_put_23 : decode cX5_put 23 = .ok (.invokevirtual 331, 3) := dk_182 1 75 (dk_at dksX5_put_1 0 rfl rfl)
theorem dX5_put_26 : decode cX5_put 26 = .ok (.istore 5, 2) := dk_54 5 (dk_at dksX5_put_1 3 rfl rfl)
theorem dX5_put_28 : decode cX5_put 28 = .ok (.iload 5, 2) := dk_21 5 (dk_at dksX5_put_1 5 rfl rfl)
theorem dX5_put_30 : decode cX5_put 30 = .ok (.ifCond .le 10, 3) := dk_158 0 10 (dk_at dksX5_put_1 7 rfl rfl)
theorem dX5_put_33 : decode cX5_put 33 = .ok (.aload_n 0, 1) := dk_42 (dk_at dksX5_put_1 10 rfl rfl)
theorem dX5_put_34 : decode cX5_put 34 = .ok (.iload 5, 2) := dk_21 5 (dk_at dksX5_put_1 11 rfl rfl)
theorem dX5_put_36 : decode cX5_put 36 = .ok (.invokevirtual 172, 3) := dk_182 0 172 (dk_at dksX5_put_1 13 rfl rfl)
theorem dX5_put_39 : decode cX5_put 39 = .ok (.ireturn, 1) := dk_172 (dk_at dksX5_put_1 16 rfl rfl)
theorem dX5_put_40 : decode cX5_put 40 = .ok (.aload_n 0, 1) := dk_42 (dk_at dksX5_put_1 17 rfl rfl)
theorem dX5_put_41 : decode cX5_put 41 = .ok (.iload_n 1, 1) := dk_27 (dk_at dksX5_put_1 18 rfl rfl)
theorem dX5_put_42 : decode cX5_put 42 = .ok (.iload_n 3, 1) := dk_29 (dk_at dksX5_put_1 19 rfl rfl)
theorem dX5_put_43 : decode cX5_put 43 = .ok (.iload 4, 2) := dk_21 4 (dk_at dksX5_put_1 20 rfl rfl)
theorem dX5_put_45 : decode cX5_put 45 = .ok (.invokevirtual 334, 3) := dk_182 1 78 (dk_at dksX5_put_2 0 rfl rfl)
theorem dX5_put_48 : decode cX5_put 48 = .ok (.iconst 1, 1) := dk_4 (dk_at dksX5_put_2 3 rfl rfl)
theorem dX5_put_49 : decode cX5_put 49 = .ok (.ireturn, 1) := dk_172 (dk_at dksX5_put_2 4 rfl rfl)
abbrev cX5_lacks : ByteArray := prog_12_method_87_code
def yX5_lacks : MethodName := ⟨RX5, "lacks", "(III)I"⟩
def dkwX5_lacks_2 : List UInt8 := [172]
abbrev dktX5_lacks_2 : List UInt8 := dkwX5_lacks_2 ++ []
def dkwX5_lacks_1 : List UInt8 := [167, 0, 24, 29, 3, 42, 180, 0, 98, 27, 46, 4, 100, 184, 0, 109, 153, 0, 7, 3, 167, 0, 4, 5]
abbrev dktX5_lacks_1 : List UInt8 := dkwX5_lacks_1 ++ dktX5_lacks_2
def dkwX5_lacks_0 : List UInt8 := [42, 180, 0, 91, 27, 51, 154, 0, 7, 4, 167, 0, 38, 42, 180, 0, 95, 27, 46, 28, 159, 0, 7, 6]
abbrev dktX5_lacks_0 : List UInt8 := dkwX5_lacks_0 ++ dktX5_lacks_1
theorem dksX5_lacks_0 : cX5_lacks.data.toList.drop 0 = dktX5_lacks_0 := by decide +kernel
theorem dksX5_lacks_1 : cX5_lacks.data.toList.drop 24 = dktX5_lacks_1 := dk_seg dksX5_lacks_0 24 rfl rfl
theorem dksX5_lacks_2 : cX5_lacks.data.toList.drop 48 = dktX5_lacks_2 := dk_seg dksX5_lacks_1 24 rfl rfl
theorem dX5_lacks_0 : decode cX5_lacks 0 = .ok (.aload_n 0, 1) := dk_42 (dk_at dksX5_lacks_0 0 rfl rfl)
theorem dX5_lacks_1 : decode cX5_lacks 1 = .ok (.getfield 91, 3) := dk_180 0 91 (dk_at dksX5_lacks_0 1 rfl rfl)
theorem dX5_lacks_4 : decode cX5_lacks 4 = .ok (.iload_n 1, 1) := dk_27 (dk_at dksX5_lacks_0 4 rfl rfl)
theorem dX5_lacks_5 : decode cX5_lacks 5 = .ok (.baload, 1) := dk_51 (dk_at dksX5_lacks_0 5 rfl rfl)
theorem dX5_lacks_6 : decode cX5_lacks 6 = .ok (.ifCond .ne 7, 3) := dk_154 0 7 (dk_at dksX5_lacks_0 6 rfl rfl)
theorem dX5_lacks_9 : decode cX5_lacks 9 = .ok (.iconst 1, 1) := dk_4 (dk_at dksX5_lacks_0 9 rfl rfl)
theorem dX5_lacks_10 : decode cX5_lacks 10 = .ok (.goto 38, 3) := dk_167 0 38 (dk_at dksX5_lacks_0 10 rfl rfl)
theorem dX5_lacks_13 : decode cX5_lacks 13 = .ok (.aload_n 0, 1) := dk_42 (dk_at dksX5_lacks_0 13 rfl rfl)
theorem dX5_lacks_14 : decode cX5_lacks 14 = .ok (.getfield 95, 3) := dk_180 0 95 (dk_at dksX5_lacks_0 14 rfl rfl)
theorem dX5_lacks_17 : decode cX5_lacks 17 = .ok (.iload_n 1, 1) := dk_27 (dk_at dksX5_lacks_0 17 rfl rfl)
theorem dX5_lacks_18 : decode cX5_lacks 18 = .ok (.iaload, 1) := dk_46 (dk_at dksX5_lacks_0 18 rfl rfl)
theorem dX5_lacks_19 : decode cX5_lacks 19 = .ok (.iload_n 2, 1) := dk_28 (dk_at dksX5_lacks_0 19 rfl rfl)
theorem dX5_lacks_20 : decode cX5_lacks 20 = .ok (.if_icmp .eq 7, 3) := dk_159 0 7 (dk_at dksX5_lacks_0 20 rfl rfl)
theorem dX5_lacks_23 : decode cX5_lacks 23 = .ok (.iconst 3, 1) := dk_6 (dk_at dksX5_lacks_0 23 rfl rfl)
theorem dX5_lacks_24 : decode cX5_lacks 24 = .ok (.goto 24, 3) := dk_167 0 24 (dk_at dksX5_lacks_1 0 rfl rfl)
theorem dX5_lacks_27 : decode cX5_lacks 27 = .ok (.iload_n 3, 1) := dk_29 (dk_at dksX5_lacks_1 3 rfl rfl)
theorem dX5_lacks_28 : decode cX5_lacks 28 = .ok (.iconst 0, 1) := dk_3 (dk_at dksX5_lacks_1 4 rfl rfl)
theorem dX5_lacks_29 : decode cX5_lacks 29 = .ok (.aload_n 0, 1) := dk_42 (dk_at dksX5_lacks_1 5 rfl rfl)
theorem dX5_lacks_30 : decode cX5_lacks 30 = .ok (.getfield 98, 3) := dk_180 0 98 (dk_at dksX5_lacks_1 6 rfl rfl)
theorem dX5_lacks_33 : decode cX5_lacks 33 = .ok (.iload_n 1, 1) := dk_27 (dk_at dksX5_lacks_1 9 rfl rfl)
theorem dX5_lacks_34 : decode cX5_lacks 34 = .ok (.iaload, 1) := dk_46 (dk_at dksX5_lacks_1 10 rfl rfl)
theorem dX5_lacks_35 : decode cX5_lacks 35 = .ok (.iconst 1, 1) := dk_4 (dk_at dksX5_lacks_1 11 rfl rfl)
theorem dX5_lacks_36 : decode cX5_lacks 36 = .ok (.isub, 1) := dk_100 (dk_at dksX5_lacks_1 12 rfl rfl)
theorem dX5_lacks_37 : decode cX5_lacks 37 = .ok (.invokestatic 109, 3) := dk_184 0 109 (dk_at dksX5_lacks_1 13 rfl rfl)
theorem dX5_lacks_40 : decode cX5_lacks 40 = .ok (.ifCond .eq 7, 3) := dk_153 0 7 (dk_at dksX5_lacks_1 16 rfl rfl)
theorem dX5_lacks_43 : decode cX5_lacks 43 = .ok (.iconst 0, 1) := dk_3 (dk_at dksX5_lacks_1 19 rfl rfl)
theorem dX5_lacks_44 : decode cX5_lacks 44 = .ok (.goto 4, 3) := dk_167 0 4 (dk_at dksX5_lacks_1 20 rfl rfl)
theorem dX5_lacks_47 : decode cX5_lacks 47 = .ok (.iconst 2, 1) := dk_5 (dk_at dksX5_lacks_1 23 rfl rfl)
theorem dX5_lacks_48 : decode cX5_lacks 48 = .ok (.ireturn, 1) := dk_172 (dk_at dksX5_lacks_2 0 rfl rfl)
abbrev cX5_keep : ByteArray := prog_12_method_88_code
def yX5_keep : MethodName := ⟨RX5, "keep", "(III)V"⟩
def dkwX5_keep_1 : List UInt8 := [42, 180, 0, 95, 27, 46, 4, 160, 0, 8, 29, 147, 167, 0, 4, 29, 79, 177]
abbrev dktX5_keep_1 : List UInt8 := dkwX5_keep_1 ++ []
def dkwX5_keep_0 : List UInt8 := [42, 180, 0, 101, 16, 60, 27, 104, 28, 96, 42, 180, 0, 95, 27, 46, 154, 0, 8, 29, 145, 167, 0, 19]
abbrev dktX5_keep_0 : List UInt8 := dkwX5_keep_0 ++ dktX5_keep_1
theorem dksX5_keep_0 : cX5_keep.data.toList.drop 0 = dktX5_keep_0 := by decide +kernel
theorem dksX5_keep_1 : cX5_keep.data.toList.drop 24 = dktX5_keep_1 := dk_seg dksX5_keep_0 24 rfl rfl
theorem dX5_keep_0 : decode cX5_keep 0 = .ok (.aload_n 0, 1) := dk_42 (dk_at dksX5_keep_0 0 rfl rfl)
theorem dX5_keep_1 : decode cX5_keep 1 = .ok (.getfield 101, 3) := dk_180 0 101 (dk_at dksX5_keep_0 1 rfl rfl)
theorem dX5_keep_4 : decode cX5_keep 4 = .ok (.bipush 60, 2) := dk_16 60 (dk_at dksX5_keep_0 4 rfl rfl)
theorem dX5_keep_6 : decode cX5_keep 6 = .ok (.iload_n 1, 1) := dk_27 (dk_at dksX5_keep_0 6 rfl rfl)
theorem dX5_keep_7 : decode cX5_keep 7 = .ok (.imul, 1) := dk_104 (dk_at dksX5_keep_0 7 rfl rfl)
theorem dX5_keep_8 : decode cX5_keep 8 = .ok (.iload_n 2, 1) := dk_28 (dk_at dksX5_keep_0 8 rfl rfl)
theorem dX5_keep_9 : decode cX5_keep 9 = .ok (.iadd, 1) := dk_96 (dk_at dksX5_keep_0 9 rfl rfl)
theorem dX5_keep_10 : decode cX5_keep 10 = .ok (.aload_n 0, 1) := dk_42 (dk_at dksX5_keep_0 10 rfl rfl)
theorem dX5_keep_11 : decode cX5_keep 11 = .ok (.getfield 95, 3) := dk_180 0 95 (dk_at dksX5_keep_0 11 rfl rfl)
theorem dX5_keep_14 : decode cX5_keep 14 = .ok (.iload_n 1, 1) := dk_27 (dk_at dksX5_keep_0 14 rfl rfl)
theorem dX5_keep_15 : decode cX5_keep 15 = .ok (.iaload, 1) := dk_46 (dk_at dksX5_keep_0 15 rfl rfl)
theorem dX5_keep_16 : decode cX5_keep 16 = .ok (.ifCond .ne 8, 3) := dk_154 0 8 (dk_at dksX5_keep_0 16 rfl rfl)
theorem dX5_keep_19 : decode cX5_keep 19 = .ok (.iload_n 3, 1) := dk_29 (dk_at dksX5_keep_0 19 rfl rfl)
theorem dX5_keep_20 : decode cX5_keep 20 = .ok (.i2b, 1) := dk_145 (dk_at dksX5_keep_0 20 rfl rfl)
theorem dX5_keep_21 : decode cX5_keep 21 = .ok (.goto 19, 3) := dk_167 0 19 (dk_at dksX5_keep_0 21 rfl rfl)
theorem dX5_keep_24 : decode cX5_keep 24 = .ok (.aload_n 0, 1) := dk_42 (dk_at dksX5_keep_1 0 rfl rfl)
theorem dX5_keep_25 : decode cX5_keep 25 = .ok (.getfield 95, 3) := dk_180 0 95 (dk_at dksX5_keep_1 1 rfl rfl)
theorem dX5_keep_28 : decode cX5_keep 28 = .ok (.iload_n 1, 1) := dk_27 (dk_at dksX5_keep_1 4 rfl rfl)
theorem dX5_keep_29 : decode cX5_keep 29 = .ok (.iaload, 1) := dk_46 (dk_at dksX5_keep_1 5 rfl rfl)
theorem dX5_keep_30 : decode cX5_keep 30 = .ok (.iconst 1, 1) := dk_4 (dk_at dksX5_keep_1 6 rfl rfl)
theorem dX5_keep_31 : decode cX5_keep 31 = .ok (.if_icmp .ne 8, 3) := dk_160 0 8 (dk_at dksX5_keep_1 7 rfl rfl)
theorem dX5_keep_34 : decode cX5_keep 34 = .ok (.iload_n 3, 1) := dk_29 (dk_at dksX5_keep_1 10 rfl rfl)
theorem dX5_keep_35 : decode cX5_keep 35 = .ok (.i2s, 1) := dk_147 (dk_at dksX5_keep_1 11 rfl rfl)
theorem dX5_keep_36 : decode cX5_keep 36 = .ok (.goto 4, 3) := dk_167 0 4 (dk_at dksX5_keep_1 12 rfl rfl)
theorem dX5_keep_39 : decode cX5_keep 39 = .ok (.iload_n 3, 1) := dk_29 (dk_at dksX5_keep_1 15 rfl rfl)
theorem dX5_keep_40 : decode cX5_keep 40 = .ok (.iastore, 1) := dk_79 (dk_at dksX5_keep_1 16 rfl rfl)
theorem dX5_keep_41 : decode cX5_keep 41 = .ok (.return_, 1) := dk_177 (dk_at dksX5_keep_1 17 rfl rfl)
abbrev cX5_get : ByteArray := prog_12_method_90_code
def yX5_get : MethodName := ⟨RX5, "get", "(III)I"⟩
def dkwX5_get_2 : List UInt8 := [16, 60, 27, 104, 29, 96, 46, 172]
abbrev dktX5_get_2 : List UInt8 := dkwX5_get_2 ++ []
def dkwX5_get_1 : List UInt8 := [182, 1, 75, 54, 4, 21, 4, 158, 0, 13, 42, 21, 4, 181, 1, 72, 19, 1, 82, 172, 42, 180, 0, 101]
abbrev dktX5_get_1 : List UInt8 := dkwX5_get_1 ++ dktX5_get_2
def dkwX5_get_0 : List UInt8 := [27, 184, 0, 169, 153, 0, 12, 28, 3, 5, 184, 0, 109, 154, 0, 7, 19, 1, 82, 172, 42, 27, 28, 29]
abbrev dktX5_get_0 : List UInt8 := dkwX5_get_0 ++ dktX5_get_1
theorem dksX5_get_0 : cX5_get.data.toList.drop 0 = dktX5_get_0 := by decide +kernel
theorem dksX5_get_1 : cX5_get.data.toList.drop 24 = dktX5_get_1 := dk_seg dksX5_get_0 24 rfl rfl
theorem dksX5_get_2 : cX5_get.data.toList.drop 48 = dktX5_get_2 := dk_seg dksX5_get_1 24 rfl rfl
theorem dX5_get_0 : decode cX5_get 0 = .ok (.iload_n 1, 1) := dk_27 (dk_at dksX5_get_0 0 rfl rfl)
theorem dX5_get_1 : decode cX5_get 1 = .ok (.invokestatic 169, 3) := dk_184 0 169 (dk_at dksX5_get_0 1 rfl rfl)
theorem dX5_get_4 : decode cX5_get 4 = .ok (.ifCond .eq 12, 3) := dk_153 0 12 (dk_at dksX5_get_0 4 rfl rfl)
theorem dX5_get_7 : decode cX5_get 7 = .ok (.iload_n 2, 1) := dk_28 (dk_at dksX5_get_0 7 rfl rfl)
theorem dX5_get_8 : decode cX5_get 8 = .ok (.iconst 0, 1) := dk_3 (dk_at dksX5_get_0 8 rfl rfl)
theorem dX5_get_9 : decode cX5_get 9 = .ok (.iconst 2, 1) := dk_5 (dk_at dksX5_get_0 9 rfl rfl)
theorem dX5_get_10 : decode cX5_get 10 = .ok (.invokestatic 109, 3) := dk_184 0 109 (dk_at dksX5_get_0 10 rfl rfl)
theorem dX5_get_13 : decode cX5_get 13 = .ok (.ifCond .ne 7, 3) := dk_154 0 7 (dk_at dksX5_get_0 13 rfl rfl)
theorem dX5_get_16 : decode cX5_get 16 = .ok (.ldc_w 338, 3) := dk_19 1 82 (dk_at dksX5_get_0 16 rfl rfl)
theorem dX5_get_19 : decode cX5_get 19 = .ok (.ireturn, 1) := dk_172 (dk_at dksX5_get_0 19 rfl rfl)
theorem dX5_get_20 : decode cX5_get 20 = .ok (.aload_n 0, 1) := dk_42 (dk_at dksX5_get_0 20 rfl rfl)
theorem dX5_get_21 : decode cX5_get 21 = .ok (.iload_n 1, 1) := dk_27 (dk_at dksX5_get_0 21 rfl rfl)
theorem dX5_get_22 : decode cX5_get 22 = .ok (.iload_n 2, 1) := dk_28 (dk_at dksX5_get_0 22 rfl rfl)
theorem dX5_get_23 : decode cX5_get 23 = .ok (.iload_n 3, 1) := dk_29 (dk_at dksX5_get_0 23 rfl rfl)
theorem dX5_get_24 : decode cX5_get 24 = .ok (.invokevirtual 331, 3) := dk_182 1 75 (dk_at dksX5_get_1 0 rfl rfl)
theorem dX5_get_27 : decode cX5_get 27 = .ok (.istore 4, 2) := dk_54 4 (dk_at dksX5_get_1 3 rfl rfl)
theorem dX5_get_29 : decode cX5_get 29 = .ok (.iload 4, 2) := dk_21 4 (dk_at dksX5_get_1 5 rfl rfl)
theorem dX5_get_31 : decode cX5_get 31 = .ok (.ifCond .le 13, 3) := dk_158 0 13 (dk_at dksX5_get_1 7 rfl rfl)
theorem dX5_get_34 : decode cX5_get 34 = .ok (.aload_n 0, 1) := dk_42 (dk_at dksX5_get_1 10 rfl rfl)
theorem dX5_get_35 : decode cX5_get 35 = .ok (.iload 4, 2) := dk_21 4 (dk_at dksX5_get_1 11 rfl rfl)
theorem dX5_get_37 : decode cX5_get 37 = .ok (.putfield 328, 3) := dk_181 1 72 (dk_at dksX5_get_1 13 rfl rfl)
theorem dX5_get_40 : decode cX5_get 40 = .ok (.ldc_w 338, 3) := dk_19 1 82 (dk_at dksX5_get_1 16 rfl rfl)
theorem dX5_get_43 : decode cX5_get 43 = .ok (.ireturn, 1) := dk_172 (dk_at dksX5_get_1 19 rfl rfl)
theorem dX5_get_44 : decode cX5_get 44 = .ok (.aload_n 0, 1) := dk_42 (dk_at dksX5_get_1 20 rfl rfl)
theorem dX5_get_45 : decode cX5_get 45 = .ok (.getfield 101, 3) := dk_180 0 101 (dk_at dksX5_get_1 21 rfl rfl)
theorem dX5_get_48 : decode cX5_get 48 = .ok (.bipush 60, 2) := dk_16 60 (dk_at dksX5_get_2 0 rfl rfl)
theorem dX5_get_50 : decode cX5_get 50 = .ok (.iload_n 1, 1) := dk_27 (dk_at dksX5_get_2 2 rfl rfl)
theorem dX5_get_51 : decode cX5_get 51 = .ok (.imul, 1) := dk_104 (dk_at dksX5_get_2 3 rfl rfl)
theorem dX5_get_52 : decode cX5_get 52 = .ok (.iload_n 3, 1) := dk_29 (dk_at dksX5_get_2 4 rfl rfl)
theorem dX5_get_53 : decode cX5_get 53 = .ok (.iadd, 1) := dk_96 (dk_at dksX5_get_2 5 rfl rfl)
theorem dX5_get_54 : decode cX5_get 54 = .ok (.iaload, 1) := dk_46 (dk_at dksX5_get_2 6 rfl rfl)
theorem dX5_get_55 : decode cX5_get 55 = .ok (.ireturn, 1) := dk_172 (dk_at dksX5_get_2 7 rfl rfl)
abbrev cX5_copy : ByteArray := prog_12_method_91_code
def yX5_copy : MethodName := ⟨RX5, "copy", "(IIIII)I"⟩
def dkwX5_copy_8 : List UInt8 := [167, 255, 224, 4, 172]
abbrev dktX5_copy_8 : List UInt8 := dkwX5_copy_8 ++ []
def dkwX5_copy_7 : List UInt8 := [180, 0, 101, 16, 60, 29, 104, 21, 4, 96, 21, 6, 96, 42, 180, 0, 104, 21, 6, 46, 79, 132, 6, 1]
abbrev dktX5_copy_7 : List UInt8 := dkwX5_copy_7 ++ dktX5_copy_8
def dkwX5_copy_6 : List UInt8 := [96, 21, 6, 96, 46, 79, 132, 6, 1, 167, 255, 225, 3, 54, 6, 21, 6, 21, 5, 162, 0, 31, 42]
abbrev dktX5_copy_6 : List UInt8 := dkwX5_copy_6 ++ dktX5_copy_7
def dkwX5_copy_5 : List UInt8 := [54, 6, 21, 6, 21, 5, 162, 0, 30, 42, 180, 0, 104, 21, 6, 42, 180, 0, 101, 16, 60, 27, 104, 28]
abbrev dktX5_copy_5 : List UInt8 := dkwX5_copy_5 ++ dktX5_copy_6
def dkwX5_copy_4 : List UInt8 := [133, 21, 5, 133, 97, 42, 180, 0, 98, 29, 46, 133, 148, 158, 0, 9, 42, 5, 182, 0, 172, 172, 3]
abbrev dktX5_copy_4 : List UInt8 := dkwX5_copy_4 ++ dktX5_copy_5
def dkwX5_copy_3 : List UInt8 := [21, 5, 155, 0, 38, 28, 133, 21, 5, 133, 97, 42, 180, 0, 98, 27, 46, 133, 148, 157, 0, 21, 21, 4]
abbrev dktX5_copy_3 : List UInt8 := dkwX5_copy_3 ++ dktX5_copy_4
def dkwX5_copy_2 : List UInt8 := [42, 180, 0, 95, 29, 46, 159, 0, 9, 42, 7, 182, 0, 172, 172, 28, 155, 0, 48, 21, 4, 155, 0, 43]
abbrev dktX5_copy_2 : List UInt8 := dkwX5_copy_2 ++ dktX5_copy_3
def dkwX5_copy_1 : List UInt8 := [153, 0, 12, 42, 180, 0, 91, 29, 51, 154, 0, 9, 42, 4, 182, 0, 172, 172, 42, 180, 0, 95, 27, 46]
abbrev dktX5_copy_1 : List UInt8 := dkwX5_copy_1 ++ dktX5_copy_2
def dkwX5_copy_0 : List UInt8 := [27, 184, 0, 169, 153, 0, 10, 29, 184, 0, 169, 154, 0, 6, 16, 254, 172, 42, 180, 0, 91, 27, 51]
abbrev dktX5_copy_0 : List UInt8 := dkwX5_copy_0 ++ dktX5_copy_1
theorem dksX5_copy_0 : cX5_copy.data.toList.drop 0 = dktX5_copy_0 := by decide +kernel
theorem dksX5_copy_1 : cX5_copy.data.toList.drop 23 = dktX5_copy_1 := dk_seg dksX5_copy_0 23 rfl rfl
theorem dksX5_copy_2 : cX5_copy.data.toList.drop 47 = dktX5_copy_2 := dk_seg dksX5_copy_1 24 rfl rfl
theorem dksX5_copy_3 : cX5_copy.data.toList.drop 71 = dktX5_copy_3 := dk_seg dksX5_copy_2 24 rfl rfl
theorem dksX5_copy_4 : cX5_copy.data.toList.drop 95 = dktX5_copy_4 := dk_seg dksX5_copy_3 24 rfl rfl
theorem dksX5_copy_5 : cX5_copy.data.toList.drop 118 = dktX5_copy_5 := dk_seg dksX5_copy_4 23 rfl rfl
theorem dksX5_copy_6 : cX5_copy.data.toList.drop 142 = dktX5_copy_6 := dk_seg dksX5_copy_5 24 rfl rfl
theorem dksX5_copy_7 : cX5_copy.data.toList.drop 165 = dktX5_copy_7 := dk_seg dksX5_copy_6 23 rfl rfl
theorem dksX5_copy_8 : cX5_copy.data.toList.drop 189 = dktX5_copy_8 := dk_seg dksX5_copy_7 24 rfl rfl
theorem dX5_copy_0 : decode cX5_copy 0 = .ok (.iload_n 1, 1) := dk_27 (dk_at dksX5_copy_0 0 rfl rfl)
theorem dX5_copy_1 : decode cX5_copy 1 = .ok (.invokestatic 169, 3) := dk_184 0 169 (dk_at dksX5_copy_0 1 rfl rfl)
theorem dX5_copy_4 : decode cX5_copy 4 = .ok (.ifCond .eq 10, 3) := dk_153 0 10 (dk_at dksX5_copy_0 4 rfl rfl)
theorem dX5_copy_7 : decode cX5_copy 7 = .ok (.iload_n 3, 1) := dk_29 (dk_at dksX5_copy_0 7 rfl rfl)
theorem dX5_copy_8 : decode cX5_copy 8 = .ok (.invokestatic 169, 3) := dk_184 0 169 (dk_at dksX5_copy_0 8 rfl rfl)
theorem dX5_copy_11 : decode cX5_copy 11 = .ok (.ifCond .ne 6, 3) := dk_154 0 6 (dk_at dksX5_copy_0 11 rfl rfl)
theorem dX5_copy_14 : decode cX5_copy 14 = .ok (.bipush (-2), 2) := dk_16 254 (dk_at dksX5_copy_0 14 rfl rfl)
theorem dX5_copy_16 : decode cX5_copy 16 = .ok (.ireturn, 1) := dk_172 (dk_at dksX5_copy_0 16 rfl rfl)
theorem dX5_copy_17 : decode cX5_copy 17 = .ok (.aload_n 0, 1) := dk_42 (dk_at dksX5_copy_0 17 rfl rfl)
theorem dX5_copy_18 : decode cX5_copy 18 = .ok (.getfield 91, 3) := dk_180 0 91 (dk_at dksX5_copy_0 18 rfl rfl)
theorem dX5_copy_21 : decode cX5_copy 21 = .ok (.iload_n 1, 1) := dk_27 (dk_at dksX5_copy_0 21 rfl rfl)
theorem dX5_copy_22 : decode cX5_copy 22 = .ok (.baload, 1) := dk_51 (dk_at dksX5_copy_0 22 rfl rfl)
theorem dX5_copy_23 : decode cX5_copy 23 = .ok (.ifCond .eq 12, 3) := dk_153 0 12 (dk_at dksX5_copy_1 0 rfl rfl)
theorem dX5_copy_26 : decode cX5_copy 26 = .ok (.aload_n 0, 1) := dk_42 (dk_at dksX5_copy_1 3 rfl rfl)
theorem dX5_copy_27 : decode cX5_copy 27 = .ok (.getfield 91, 3) := dk_180 0 91 (dk_at dksX5_copy_1 4 rfl rfl)
theorem dX5_copy_30 : decode cX5_copy 30 = .ok (.iload_n 3, 1) := dk_29 (dk_at dksX5_copy_1 7 rfl rfl)
theorem dX5_copy_31 : decode cX5_copy 31 = .ok (.baload, 1) := dk_51 (dk_at dksX5_copy_1 8 rfl rfl)
theorem dX5_copy_32 : decode cX5_copy 32 = .ok (.ifCond .ne 9, 3) := dk_154 0 9 (dk_at dksX5_copy_1 9 rfl rfl)
theorem dX5_copy_35 : decode cX5_copy 35 = .ok (.aload_n 0, 1) := dk_42 (dk_at dksX5_copy_1 12 rfl rfl)
theorem dX5_copy_36 : decode cX5_copy 36 = .ok (.iconst 1, 1) := dk_4 (dk_at dksX5_copy_1 13 rfl rfl)
theorem dX5_copy_37 : decode cX5_copy 37 = .ok (.invokevirtual 172, 3) := dk_182 0 172 (dk_at dksX5_copy_1 14 rfl rfl)
theorem dX5_copy_40 : decode cX5_copy 40 = .ok (.ireturn, 1) := dk_172 (dk_at dksX5_copy_1 17 rfl rfl)
theorem dX5_copy_41 : decode cX5_copy 41 = .ok (.aload_n 0, 1) := dk_42 (dk_at dksX5_copy_1 18 rfl rfl)
theorem dX5_copy_42 : decode cX5_copy 42 = .ok (.getfield 95, 3) := dk_180 0 95 (dk_at dksX5_copy_1 19 rfl rfl)
theorem dX5_copy_45 : decode cX5_copy 45 = .ok (.iload_n 1, 1) := dk_27 (dk_at dksX5_copy_1 22 rfl rfl)
theorem dX5_copy_46 : decode cX5_copy 46 = .ok (.iaload, 1) := dk_46 (dk_at dksX5_copy_1 23 rfl rfl)
theorem dX5_copy_47 : decode cX5_copy 47 = .ok (.aload_n 0, 1) := dk_42 (dk_at dksX5_copy_2 0 rfl rfl)
theorem dX5_copy_48 : decode cX5_copy 48 = .ok (.getfield 95, 3) := dk_180 0 95 (dk_at dksX5_copy_2 1 rfl rfl)
theorem dX5_copy_51 : decode cX5_copy 51 = .ok (.iload_n 3, 1) := dk_29 (dk_at dksX5_copy_2 4 rfl rfl)
theorem dX5_copy_52 : decode cX5_copy 52 = .ok (.iaload, 1) := dk_46 (dk_at dksX5_copy_2 5 rfl rfl)
theorem dX5_copy_53 : decode cX5_copy 53 = .ok (.if_icmp .eq 9, 3) := dk_159 0 9 (dk_at dksX5_copy_2 6 rfl rfl)
theorem dX5_copy_56 : decode cX5_copy 56 = .ok (.aload_n 0, 1) := dk_42 (dk_at dksX5_copy_2 9 rfl rfl)
theorem dX5_copy_57 : decode cX5_copy 57 = .ok (.iconst 4, 1) := dk_7 (dk_at dksX5_copy_2 10 rfl rfl)
theorem dX5_copy_58 : decode cX5_copy 58 = .ok (.invokevirtual 172, 3) := dk_182 0 172 (dk_at dksX5_copy_2 11 rfl rfl)
theorem dX5_copy_61 : decode cX5_copy 61 = .ok (.ireturn, 1) := dk_172 (dk_at dksX5_copy_2 14 rfl rfl)
theorem dX5_copy_62 : decode cX5_copy 62 = .ok (.iload_n 2, 1) := dk_28 (dk_at dksX5_copy_2 15 rfl rfl)
theorem dX5_copy_63 : decode cX5_copy 63 = .ok (.ifCond .lt 48, 3) := dk_155 0 48 (dk_at dksX5_copy_2 16 rfl rfl)
theorem dX5_copy_66 : decode cX5_copy 66 = .ok (.iload 4, 2) := dk_21 4 (dk_at dksX5_copy_2 19 rfl rfl)
theorem dX5_copy_68 : decode cX5_copy 68 = .ok (.ifCond .lt 43, 3) := dk_155 0 43 (dk_at dksX5_copy_2 21 rfl rfl)
theorem dX5_copy_71 : decode cX5_copy 71 = .ok (.iload 5, 2) := dk_21 5 (dk_at dksX5_copy_3 0 rfl rfl)
theorem dX5_copy_73 : decode cX5_copy 73 = .ok (.ifCond .lt 38, 3) := dk_155 0 38 (dk_at dksX5_copy_3 2 rfl rfl)
theorem dX5_copy_76 : decode cX5_copy 76 = .ok (.iload_n 2, 1) := dk_28 (dk_at dksX5_copy_3 5 rfl rfl)
theorem dX5_copy_77 : decode cX5_copy 77 = .ok (.i2l, 1) := dk_133 (dk_at dksX5_copy_3 6 rfl rfl)
theorem dX5_copy_78 : decode cX5_copy 78 = .ok (.iload 5, 2) := dk_21 5 (dk_at dksX5_copy_3 7 rfl rfl)
theorem dX5_copy_80 : decode cX5_copy 80 = .ok (.i2l, 1) := dk_133 (dk_at dksX5_copy_3 9 rfl rfl)
theorem dX5_copy_81 : decode cX5_copy 81 = .ok (.ladd, 1) := dk_97 (dk_at dksX5_copy_3 10 rfl rfl)
theorem dX5_copy_82 : decode cX5_copy 82 = .ok (.aload_n 0, 1) := dk_42 (dk_at dksX5_copy_3 11 rfl rfl)
theorem dX5_copy_83 : decode cX5_copy 83 = .ok (.getfield 98, 3) := dk_180 0 98 (dk_at dksX5_copy_3 12 rfl rfl)
theorem dX5_copy_86 : decode cX5_copy 86 = .ok (.iload_n 1, 1) := dk_27 (dk_at dksX5_copy_3 15 rfl rfl)
theorem dX5_copy_87 : decode cX5_copy 87 = .ok (.iaload, 1) := dk_46 (dk_at dksX5_copy_3 16 rfl rfl)
theorem dX5_copy_88 : decode cX5_copy 88 = .ok (.i2l, 1) := dk_133 (dk_at dksX5_copy_3 17 rfl rfl)
theorem dX5_copy_89 : decode cX5_copy 89 = .ok (.lcmp, 1) := dk_148 (dk_at dksX5_copy_3 18 rfl rfl)
theorem dX5_copy_90 : decode cX5_copy 90 = .ok (.ifCond .gt 21, 3) := dk_157 0 21 (dk_at dksX5_copy_3 19 rfl rfl)
theorem dX5_copy_93 : decode cX5_copy 93 = .ok (.iload 4, 2) := dk_21 4 (dk_at dksX5_copy_3 22 rfl rfl)
theorem dX5_copy_95 : decode cX5_copy 95 = .ok (.i2l, 1) := dk_133 (dk_at dksX5_copy_4 0 rfl rfl)
theorem dX5_copy_96 : decode cX5_copy 96 = .ok (.iload 5, 2) := dk_21 5 (dk_at dksX5_copy_4 1 rfl rfl)
theorem dX5_copy_98 : decode cX5_copy 98 = .ok (.i2l, 1) := dk_133 (dk_at dksX5_copy_4 3 rfl rfl)
theorem dX5_copy_99 : decode cX5_copy 99 = .ok (.ladd, 1) := dk_97 (dk_at dksX5_copy_4 4 rfl rfl)
theorem dX5_copy_100 : decode cX5_copy 100 = .ok (.aload_n 0, 1) := dk_42 (dk_at dksX5_copy_4 5 rfl rfl)
theorem dX5_copy_101 : decode cX5_copy 101 = .ok (.getfield 98, 3) := dk_180 0 98 (dk_at dksX5_copy_4 6 rfl rfl)
theorem dX5_copy_104 : decode cX5_copy 104 = .ok (.iload_n 3, 1) := dk_29 (dk_at dksX5_copy_4 9 rfl rfl)
theorem dX5_copy_105 : decode cX5_copy 105 = .ok (.iaload, 1) := dk_46 (dk_at dksX5_copy_4 10 rfl rfl)
theorem dX5_copy_106 : decode cX5_copy 106 = .ok (.i2l, 1) := dk_133 (dk_at dksX5_copy_4 11 rfl rfl)
theorem dX5_copy_107 : decode cX5_copy 107 = .ok (.lcmp, 1) := dk_148 (dk_at dksX5_copy_4 12 rfl rfl)
theorem dX5_copy_108 : decode cX5_copy 108 = .ok (.ifCond .le 9, 3) := dk_158 0 9 (dk_at dksX5_copy_4 13 rfl rfl)
theorem dX5_copy_111 : decode cX5_copy 111 = .ok (.aload_n 0, 1) := dk_42 (dk_at dksX5_copy_4 16 rfl rfl)
theorem dX5_copy_112 : decode cX5_copy 112 = .ok (.iconst 2, 1) := dk_5 (dk_at dksX5_copy_4 17 rfl rfl)
theorem dX5_copy_113 : decode cX5_copy 113 = .ok (.invokevirtual 172, 3) := dk_182 0 172 (dk_at dksX5_copy_4 18 rfl rfl)
theorem dX5_copy_116 : decode cX5_copy 116 = .ok (.ireturn, 1) := dk_172 (dk_at dksX5_copy_4 21 rfl rfl)
theorem dX5_copy_117 : decode cX5_copy 117 = .ok (.iconst 0, 1) := dk_3 (dk_at dksX5_copy_4 22 rfl rfl)
theorem dX5_copy_118 : decode cX5_copy 118 = .ok (.istore 6, 2) := dk_54 6 (dk_at dksX5_copy_5 0 rfl rfl)
theorem dX5_copy_120 : decode cX5_copy 120 = .ok (.iload 6, 2) := dk_21 6 (dk_at dksX5_copy_5 2 rfl rfl)
theorem dX5_copy_122 : decode cX5_copy 122 = .ok (.iload 5, 2) := dk_21 5 (dk_at dksX5_copy_5 4 rfl rfl)
theorem dX5_copy_124 : decode cX5_copy 124 = .ok (.if_icmp .ge 30, 3) := dk_162 0 30 (dk_at dksX5_copy_5 6 rfl rfl)
theorem dX5_copy_127 : decode cX5_copy 127 = .ok (.aload_n 0, 1) := dk_42 (dk_at dksX5_copy_5 9 rfl rfl)
theorem dX5_copy_128 : decode cX5_copy 128 = .ok (.getfield 104, 3) := dk_180 0 104 (dk_at dksX5_copy_5 10 rfl rfl)
theorem dX5_copy_131 : decode cX5_copy 131 = .ok (.iload 6, 2) := dk_21 6 (dk_at dksX5_copy_5 13 rfl rfl)
theorem dX5_copy_133 : decode cX5_copy 133 = .ok (.aload_n 0, 1) := dk_42 (dk_at dksX5_copy_5 15 rfl rfl)
theorem dX5_copy_134 : decode cX5_copy 134 = .ok (.getfield 101, 3) := dk_180 0 101 (dk_at dksX5_copy_5 16 rfl rfl)
theorem dX5_copy_137 : decode cX5_copy 137 = .ok (.bipush 60, 2) := dk_16 60 (dk_at dksX5_copy_5 19 rfl rfl)
theorem dX5_copy_139 : decode cX5_copy 139 = .ok (.iload_n 1, 1) := dk_27 (dk_at dksX5_copy_5 21 rfl rfl)
theorem dX5_copy_140 : decode cX5_copy 140 = .ok (.imul, 1) := dk_104 (dk_at dksX5_copy_5 22 rfl rfl)
theorem dX5_copy_141 : decode cX5_copy 141 = .ok (.iload_n 2, 1) := dk_28 (dk_at dksX5_copy_5 23 rfl rfl)
theorem dX5_copy_142 : decode cX5_copy 142 = .ok (.iadd, 1) := dk_96 (dk_at dksX5_copy_6 0 rfl rfl)
theorem dX5_copy_143 : decode cX5_copy 143 = .ok (.iload 6, 2) := dk_21 6 (dk_at dksX5_copy_6 1 rfl rfl)
theorem dX5_copy_145 : decode cX5_copy 145 = .ok (.iadd, 1) := dk_96 (dk_at dksX5_copy_6 3 rfl rfl)
theorem dX5_copy_146 : decode cX5_copy 146 = .ok (.iaload, 1) := dk_46 (dk_at dksX5_copy_6 4 rfl rfl)
theorem dX5_copy_147 : decode cX5_copy 147 = .ok (.iastore, 1) := dk_79 (dk_at dksX5_copy_6 5 rfl rfl)
theorem dX5_copy_148 : decode cX5_copy 148 = .ok (.iinc 6 1, 3) := dk_132 6 1 (dk_at dksX5_copy_6 6 rfl rfl)
theorem dX5_copy_151 : decode cX5_copy 151 = .ok (.goto (-31), 3) := dk_167 255 225 (dk_at dksX5_copy_6 9 rfl rfl)
theorem dX5_copy_154 : decode cX5_copy 154 = .ok (.iconst 0, 1) := dk_3 (dk_at dksX5_copy_6 12 rfl rfl)
theorem dX5_copy_155 : decode cX5_copy 155 = .ok (.istore 6, 2) := dk_54 6 (dk_at dksX5_copy_6 13 rfl rfl)
theorem dX5_copy_157 : decode cX5_copy 157 = .ok (.iload 6, 2) := dk_21 6 (dk_at dksX5_copy_6 15 rfl rfl)
theorem dX5_copy_159 : decode cX5_copy 159 = .ok (.iload 5, 2) := dk_21 5 (dk_at dksX5_copy_6 17 rfl rfl)
theorem dX5_copy_161 : decode cX5_copy 161 = .ok (.if_icmp .ge 31, 3) := dk_162 0 31 (dk_at dksX5_copy_6 19 rfl rfl)
theorem dX5_copy_164 : decode cX5_copy 164 = .ok (.aload_n 0, 1) := dk_42 (dk_at dksX5_copy_6 22 rfl rfl)
theorem dX5_copy_165 : decode cX5_copy 165 = .ok (.getfield 101, 3) := dk_180 0 101 (dk_at dksX5_copy_7 0 rfl rfl)
theorem dX5_copy_168 : decode cX5_copy 168 = .ok (.bipush 60, 2) := dk_16 60 (dk_at dksX5_copy_7 3 rfl rfl)
theorem dX5_copy_170 : decode cX5_copy 170 = .ok (.iload_n 3, 1) := dk_29 (dk_at dksX5_copy_7 5 rfl rfl)
theorem dX5_copy_171 : decode cX5_copy 171 = .ok (.imul, 1) := dk_104 (dk_at dksX5_copy_7 6 rfl rfl)
theorem dX5_copy_172 : decode cX5_copy 172 = .ok (.iload 4, 2) := dk_21 4 (dk_at dksX5_copy_7 7 rfl rfl)
theorem dX5_copy_174 : decode cX5_copy 174 = .ok (.iadd, 1) := dk_96 (dk_at dksX5_copy_7 9 rfl rfl)
theorem dX5_copy_175 : decode cX5_copy 175 = .ok (.iload 6, 2) := dk_21 6 (dk_at dksX5_copy_7 10 rfl rfl)
theorem dX5_copy_177 : decode cX5_copy 177 = .ok (.iadd, 1) := dk_96 (dk_at dksX5_copy_7 12 rfl rfl)
theorem dX5_copy_178 : decode cX5_copy 178 = .ok (.aload_n 0, 1) := dk_42 (dk_at dksX5_copy_7 13 rfl rfl)
theorem dX5_copy_179 : decode cX5_copy 179 = .ok (.getfield 104, 3) := dk_180 0 104 (dk_at dksX5_copy_7 14 rfl rfl)
theorem dX5_copy_182 : decode cX5_copy 182 = .ok (.iload 6, 2) := dk_21 6 (dk_at dksX5_copy_7 17 rfl rfl)
theorem dX5_copy_184 : decode cX5_copy 184 = .ok (.iaload, 1) := dk_46 (dk_at dksX5_copy_7 19 rfl rfl)
theorem dX5_copy_185 : decode cX5_copy 185 = .ok (.iastore, 1) := dk_79 (dk_at dksX5_copy_7 20 rfl rfl)
theorem dX5_copy_186 : decode cX5_copy 186 = .ok (.iinc 6 1, 3) := dk_132 6 1 (dk_at dksX5_copy_7 21 rfl rfl)
theorem dX5_copy_189 : decode cX5_copy 189 = .ok (.goto (-32), 3) := dk_167 255 224 (dk_at dksX5_copy_8 0 rfl rfl)
theorem dX5_copy_192 : decode cX5_copy 192 = .ok (.iconst 1, 1) := dk_4 (dk_at dksX5_copy_8 3 rfl rfl)
theorem dX5_copy_193 : decode cX5_copy 193 = .ok (.ireturn, 1) := dk_172 (dk_at dksX5_copy_8 4 rfl rfl)
abbrev cX5_write : ByteArray := prog_12_method_92_code
def yX5_write : MethodName := ⟨RX5, "write", "(I)I"⟩
def dkwX5_write_2 : List UInt8 := [27, 28, 42, 180, 0, 64, 28, 46, 182, 1, 78, 132, 2, 1, 167, 255, 225, 28, 172]
abbrev dktX5_write_2 : List UInt8 := dkwX5_write_2 ++ []
def dkwX5_write_1 : List UInt8 := [172, 42, 182, 0, 235, 3, 61, 28, 42, 180, 0, 98, 27, 46, 162, 0, 27, 28, 16, 24, 162, 0, 21, 42]
abbrev dktX5_write_1 : List UInt8 := dkwX5_write_1 ++ dktX5_write_2
def dkwX5_write_0 : List UInt8 := [27, 184, 0, 169, 154, 0, 6, 16, 254, 172, 42, 180, 0, 91, 27, 51, 154, 0, 9, 42, 4, 182, 0, 172]
abbrev dktX5_write_0 : List UInt8 := dkwX5_write_0 ++ dktX5_write_1
theorem dksX5_write_0 : cX5_write.data.toList.drop 0 = dktX5_write_0 := by decide +kernel
theorem dksX5_write_1 : cX5_write.data.toList.drop 24 = dktX5_write_1 := dk_seg dksX5_write_0 24 rfl rfl
theorem dksX5_write_2 : cX5_write.data.toList.drop 48 = dktX5_write_2 := dk_seg dksX5_write_1 24 rfl rfl
theorem dX5_write_0 : decode cX5_write 0 = .ok (.iload_n 1, 1) := dk_27 (dk_at dksX5_write_0 0 rfl rfl)
theorem dX5_write_1 : decode cX5_write 1 = .ok (.invokestatic 169, 3) := dk_184 0 169 (dk_at dksX5_write_0 1 rfl rfl)
theorem dX5_write_4 : decode cX5_write 4 = .ok (.ifCond .ne 6, 3) := dk_154 0 6 (dk_at dksX5_write_0 4 rfl rfl)
theorem dX5_write_7 : decode cX5_write 7 = .ok (.bipush (-2), 2) := dk_16 254 (dk_at dksX5_write_0 7 rfl rfl)
theorem dX5_write_9 : decode cX5_write 9 = .ok (.ireturn, 1) := dk_172 (dk_at dksX5_write_0 9 rfl rfl)
theorem dX5_write_10 : decode cX5_write 10 = .ok (.aload_n 0, 1) := dk_42 (dk_at dksX5_write_0 10 rfl rfl)
theorem dX5_write_11 : decode cX5_write 11 = .ok (.getfield 91, 3) := dk_180 0 91 (dk_at dksX5_write_0 11 rfl rfl)
theorem dX5_write_14 : decode cX5_write 14 = .ok (.iload_n 1, 1) := dk_27 (dk_at dksX5_write_0 14 rfl rfl)
theorem dX5_write_15 : decode cX5_write 15 = .ok (.baload, 1) := dk_51 (dk_at dksX5_write_0 15 rfl rfl)
theorem dX5_write_16 : decode cX5_write 16 = .ok (.ifCond .ne 9, 3) := dk_154 0 9 (dk_at dksX5_write_0 16 rfl rfl)
theorem dX5_write_19 : decode cX5_write 19 = .ok (.aload_n 0, 1) := dk_42 (dk_at dksX5_write_0 19 rfl rfl)
theorem dX5_write_20 : decode cX5_write 20 = .ok (.iconst 1, 1) := dk_4 (dk_at dksX5_write_0 20 rfl rfl)
theorem dX5_write_21 : decode cX5_write 21 = .ok (.invokevirtual 172, 3) := dk_182 0 172 (dk_at dksX5_write_0 21 rfl rfl)
theorem dX5_write_24 : decode cX5_write 24 = .ok (.ireturn, 1) := dk_172 (dk_at dksX5_write_1 0 rfl rfl)
theorem dX5_write_25 : decode cX5_write 25 = .ok (.aload_n 0, 1) := dk_42 (dk_at dksX5_write_1 1 rfl rfl)
theorem dX5_write_26 : decode cX5_write 26 = .ok (.invokevirtual 235, 3) := dk_182 0 235 (dk_at dksX5_write_1 2 rfl rfl)
theorem dX5_write_29 : decode cX5_write 29 = .ok (.iconst 0, 1) := dk_3 (dk_at dksX5_write_1 5 rfl rfl)
theorem dX5_write_30 : decode cX5_write 30 = .ok (.istore_n 2, 1) := dk_61 (dk_at dksX5_write_1 6 rfl rfl)
theorem dX5_write_31 : decode cX5_write 31 = .ok (.iload_n 2, 1) := dk_28 (dk_at dksX5_write_1 7 rfl rfl)
theorem dX5_write_32 : decode cX5_write 32 = .ok (.aload_n 0, 1) := dk_42 (dk_at dksX5_write_1 8 rfl rfl)
theorem dX5_write_33 : decode cX5_write 33 = .ok (.getfield 98, 3) := dk_180 0 98 (dk_at dksX5_write_1 9 rfl rfl)
theorem dX5_write_36 : decode cX5_write 36 = .ok (.iload_n 1, 1) := dk_27 (dk_at dksX5_write_1 12 rfl rfl)
theorem dX5_write_37 : decode cX5_write 37 = .ok (.iaload, 1) := dk_46 (dk_at dksX5_write_1 13 rfl rfl)
theorem dX5_write_38 : decode cX5_write 38 = .ok (.if_icmp .ge 27, 3) := dk_162 0 27 (dk_at dksX5_write_1 14 rfl rfl)
theorem dX5_write_41 : decode cX5_write 41 = .ok (.iload_n 2, 1) := dk_28 (dk_at dksX5_write_1 17 rfl rfl)
theorem dX5_write_42 : decode cX5_write 42 = .ok (.bipush 24, 2) := dk_16 24 (dk_at dksX5_write_1 18 rfl rfl)
theorem dX5_write_44 : decode cX5_write 44 = .ok (.if_icmp .ge 21, 3) := dk_162 0 21 (dk_at dksX5_write_1 20 rfl rfl)
theorem dX5_write_47 : decode cX5_write 47 = .ok (.aload_n 0, 1) := dk_42 (dk_at dksX5_write_1 23 rfl rfl)
theorem dX5_write_48 : decode cX5_write 48 = .ok (.iload_n 1, 1) := dk_27 (dk_at dksX5_write_2 0 rfl rfl)
theorem dX5_write_49 : decode cX5_write 49 = .ok (.iload_n 2, 1) := dk_28 (dk_at dksX5_write_2 1 rfl rfl)
theorem dX5_write_50 : decode cX5_write 50 = .ok (.aload_n 0, 1) := dk_42 (dk_at dksX5_write_2 2 rfl rfl)
theorem dX5_write_51 : decode cX5_write 51 = .ok (.getfield 64, 3) := dk_180 0 64 (dk_at dksX5_write_2 3 rfl rfl)
theorem dX5_write_54 : decode cX5_write 54 = .ok (.iload_n 2, 1) := dk_28 (dk_at dksX5_write_2 6 rfl rfl)
theorem dX5_write_55 : decode cX5_write 55 = .ok (.iaload, 1) := dk_46 (dk_at dksX5_write_2 7 rfl rfl)
theorem dX5_write_56 : decode cX5_write 56 = .ok (.invokevirtual 334, 3) := dk_182 1 78 (dk_at dksX5_write_2 8 rfl rfl)
theorem dX5_write_59 : decode cX5_write 59 = .ok (.iinc 2 1, 3) := dk_132 2 1 (dk_at dksX5_write_2 11 rfl rfl)
theorem dX5_write_62 : decode cX5_write 62 = .ok (.goto (-31), 3) := dk_167 255 225 (dk_at dksX5_write_2 14 rfl rfl)
theorem dX5_write_65 : decode cX5_write 65 = .ok (.iload_n 2, 1) := dk_28 (dk_at dksX5_write_2 17 rfl rfl)
theorem dX5_write_66 : decode cX5_write 66 = .ok (.ireturn, 1) := dk_172 (dk_at dksX5_write_2 18 rfl rfl)
abbrev cX5_count : ByteArray := prog_12_method_94_code
def yX5_count : MethodName := ⟨RX5, "count", "(I)I"⟩
def dkwX5_count_4 : List UInt8 := [172, 16, 254, 172]
abbrev dktX5_count_4 : List UInt8 := dkwX5_count_4 ++ []
def dkwX5_count_3 : List UInt8 := [46, 96, 42, 180, 0, 7, 6, 46, 96, 172, 42, 180, 0, 166, 172, 42, 180, 1, 37, 172, 42, 180, 1, 72]
abbrev dktX5_count_3 : List UInt8 := dkwX5_count_3 ++ dktX5_count_4
def dkwX5_count_2 : List UInt8 := [42, 27, 182, 1, 83, 172, 42, 180, 0, 7, 3, 46, 42, 180, 0, 7, 4, 46, 96, 42, 180, 0, 7, 5]
abbrev dktX5_count_2 : List UInt8 := dkwX5_count_2 ++ dktX5_count_3
def dkwX5_count_1 : List UInt8 := [170, 0, 0, 0, 0, 0, 100, 0, 0, 0, 0, 0, 0, 0, 8, 0, 0, 0, 51, 0, 0, 0, 51, 0, 0, 0, 51, 0, 0, 0, 51, 0, 0, 0, 57, 0, 0, 0, 85, 0, 0, 0, 51, 0, 0, 0, 90, 0, 0, 0, 95]
abbrev dktX5_count_1 : List UInt8 := dkwX5_count_1 ++ dktX5_count_2
def dkwX5_count_0 : List UInt8 := [27]
abbrev dktX5_count_0 : List UInt8 := dkwX5_count_0 ++ dktX5_count_1
theorem dksX5_count_0 : cX5_count.data.toList.drop 0 = dktX5_count_0 := by decide +kernel
theorem dksX5_count_1 : cX5_count.data.toList.drop 1 = dktX5_count_1 := dk_seg dksX5_count_0 1 rfl rfl
theorem dksX5_count_2 : cX5_count.data.toList.drop 52 = dktX5_count_2 := dk_seg dksX5_count_1 51 rfl rfl
theorem dksX5_count_3 : cX5_count.data.toList.drop 76 = dktX5_count_3 := dk_seg dksX5_count_2 24 rfl rfl
theorem dksX5_count_4 : cX5_count.data.toList.drop 100 = dktX5_count_4 := dk_seg dksX5_count_3 24 rfl rfl
theorem dX5_count_0 : decode cX5_count 0 = .ok (.iload_n 1, 1) := dk_27 (dk_at dksX5_count_0 0 rfl rfl)
theorem dX5_count_1 : decode cX5_count 1 = .ok (.tableswitch 100 0 8 #[51, 51, 51, 51, 57, 85, 51, 90, 95], 51) := by decide +kernel
theorem dX5_count_52 : decode cX5_count 52 = .ok (.aload_n 0, 1) := dk_42 (dk_at dksX5_count_2 0 rfl rfl)
theorem dX5_count_53 : decode cX5_count 53 = .ok (.iload_n 1, 1) := dk_27 (dk_at dksX5_count_2 1 rfl rfl)
theorem dX5_count_54 : decode cX5_count 54 = .ok (.invokevirtual 339, 3) := dk_182 1 83 (dk_at dksX5_count_2 2 rfl rfl)
theorem dX5_count_57 : decode cX5_count 57 = .ok (.ireturn, 1) := dk_172 (dk_at dksX5_count_2 5 rfl rfl)
theorem dX5_count_58 : decode cX5_count 58 = .ok (.aload_n 0, 1) := dk_42 (dk_at dksX5_count_2 6 rfl rfl)
theorem dX5_count_59 : decode cX5_count 59 = .ok (.getfield 7, 3) := dk_180 0 7 (dk_at dksX5_count_2 7 rfl rfl)
theorem dX5_count_62 : decode cX5_count 62 = .ok (.iconst 0, 1) := dk_3 (dk_at dksX5_count_2 10 rfl rfl)
theorem dX5_count_63 : decode cX5_count 63 = .ok (.iaload, 1) := dk_46 (dk_at dksX5_count_2 11 rfl rfl)
theorem dX5_count_64 : decode cX5_count 64 = .ok (.aload_n 0, 1) := dk_42 (dk_at dksX5_count_2 12 rfl rfl)
theorem dX5_count_65 : decode cX5_count 65 = .ok (.getfield 7, 3) := dk_180 0 7 (dk_at dksX5_count_2 13 rfl rfl)
theorem dX5_count_68 : decode cX5_count 68 = .ok (.iconst 1, 1) := dk_4 (dk_at dksX5_count_2 16 rfl rfl)
theorem dX5_count_69 : decode cX5_count 69 = .ok (.iaload, 1) := dk_46 (dk_at dksX5_count_2 17 rfl rfl)
theorem dX5_count_70 : decode cX5_count 70 = .ok (.iadd, 1) := dk_96 (dk_at dksX5_count_2 18 rfl rfl)
theorem dX5_count_71 : decode cX5_count 71 = .ok (.aload_n 0, 1) := dk_42 (dk_at dksX5_count_2 19 rfl rfl)
theorem dX5_count_72 : decode cX5_count 72 = .ok (.getfield 7, 3) := dk_180 0 7 (dk_at dksX5_count_2 20 rfl rfl)
theorem dX5_count_75 : decode cX5_count 75 = .ok (.iconst 2, 1) := dk_5 (dk_at dksX5_count_2 23 rfl rfl)
theorem dX5_count_76 : decode cX5_count 76 = .ok (.iaload, 1) := dk_46 (dk_at dksX5_count_3 0 rfl rfl)
theorem dX5_count_77 : decode cX5_count 77 = .ok (.iadd, 1) := dk_96 (dk_at dksX5_count_3 1 rfl rfl)
theorem dX5_count_78 : decode cX5_count 78 = .ok (.aload_n 0, 1) := dk_42 (dk_at dksX5_count_3 2 rfl rfl)
theorem dX5_count_79 : decode cX5_count 79 = .ok (.getfield 7, 3) := dk_180 0 7 (dk_at dksX5_count_3 3 rfl rfl)
theorem dX5_count_82 : decode cX5_count 82 = .ok (.iconst 3, 1) := dk_6 (dk_at dksX5_count_3 6 rfl rfl)
theorem dX5_count_83 : decode cX5_count 83 = .ok (.iaload, 1) := dk_46 (dk_at dksX5_count_3 7 rfl rfl)
theorem dX5_count_84 : decode cX5_count 84 = .ok (.iadd, 1) := dk_96 (dk_at dksX5_count_3 8 rfl rfl)
theorem dX5_count_85 : decode cX5_count 85 = .ok (.ireturn, 1) := dk_172 (dk_at dksX5_count_3 9 rfl rfl)
theorem dX5_count_86 : decode cX5_count 86 = .ok (.aload_n 0, 1) := dk_42 (dk_at dksX5_count_3 10 rfl rfl)
theorem dX5_count_87 : decode cX5_count 87 = .ok (.getfield 166, 3) := dk_180 0 166 (dk_at dksX5_count_3 11 rfl rfl)
theorem dX5_count_90 : decode cX5_count 90 = .ok (.ireturn, 1) := dk_172 (dk_at dksX5_count_3 14 rfl rfl)
theorem dX5_count_91 : decode cX5_count 91 = .ok (.aload_n 0, 1) := dk_42 (dk_at dksX5_count_3 15 rfl rfl)
theorem dX5_count_92 : decode cX5_count 92 = .ok (.getfield 293, 3) := dk_180 1 37 (dk_at dksX5_count_3 16 rfl rfl)
theorem dX5_count_95 : decode cX5_count 95 = .ok (.ireturn, 1) := dk_172 (dk_at dksX5_count_3 19 rfl rfl)
theorem dX5_count_96 : decode cX5_count 96 = .ok (.aload_n 0, 1) := dk_42 (dk_at dksX5_count_3 20 rfl rfl)
theorem dX5_count_97 : decode cX5_count 97 = .ok (.getfield 328, 3) := dk_180 1 72 (dk_at dksX5_count_3 21 rfl rfl)
theorem dX5_count_100 : decode cX5_count 100 = .ok (.ireturn, 1) := dk_172 (dk_at dksX5_count_4 0 rfl rfl)
theorem dX5_count_101 : decode cX5_count 101 = .ok (.bipush (-2), 2) := dk_16 254 (dk_at dksX5_count_4 1 rfl rfl)
theorem dX5_count_103 : decode cX5_count 103 = .ok (.ireturn, 1) := dk_172 (dk_at dksX5_count_4 3 rfl rfl)
abbrev cX5_tellOf : ByteArray := prog_12_method_93_code
def yX5_tellOf : MethodName := ⟨RX5, "tellOf", "(I)I"⟩
def dkwX5_tellOf_1 : List UInt8 := [180, 0, 28, 27, 5, 100, 46, 167, 0, 7, 42, 180, 0, 203, 172]
abbrev dktX5_tellOf_1 : List UInt8 := dkwX5_tellOf_1 ++ []
def dkwX5_tellOf_0 : List UInt8 := [42, 182, 0, 235, 27, 5, 162, 0, 12, 42, 180, 0, 16, 27, 46, 167, 0, 23, 27, 7, 162, 0, 14, 42]
abbrev dktX5_tellOf_0 : List UInt8 := dkwX5_tellOf_0 ++ dktX5_tellOf_1
theorem dksX5_tellOf_0 : cX5_tellOf.data.toList.drop 0 = dktX5_tellOf_0 := by decide +kernel
theorem dksX5_tellOf_1 : cX5_tellOf.data.toList.drop 24 = dktX5_tellOf_1 := dk_seg dksX5_tellOf_0 24 rfl rfl
theorem dX5_tellOf_0 : decode cX5_tellOf 0 = .ok (.aload_n 0, 1) := dk_42 (dk_at dksX5_tellOf_0 0 rfl rfl)
theorem dX5_tellOf_1 : decode cX5_tellOf 1 = .ok (.invokevirtual 235, 3) := dk_182 0 235 (dk_at dksX5_tellOf_0 1 rfl rfl)
theorem dX5_tellOf_4 : decode cX5_tellOf 4 = .ok (.iload_n 1, 1) := dk_27 (dk_at dksX5_tellOf_0 4 rfl rfl)
theorem dX5_tellOf_5 : decode cX5_tellOf 5 = .ok (.iconst 2, 1) := dk_5 (dk_at dksX5_tellOf_0 5 rfl rfl)
theorem dX5_tellOf_6 : decode cX5_tellOf 6 = .ok (.if_icmp .ge 12, 3) := dk_162 0 12 (dk_at dksX5_tellOf_0 6 rfl rfl)
theorem dX5_tellOf_9 : decode cX5_tellOf 9 = .ok (.aload_n 0, 1) := dk_42 (dk_at dksX5_tellOf_0 9 rfl rfl)
theorem dX5_tellOf_10 : decode cX5_tellOf 10 = .ok (.getfield 16, 3) := dk_180 0 16 (dk_at dksX5_tellOf_0 10 rfl rfl)
theorem dX5_tellOf_13 : decode cX5_tellOf 13 = .ok (.iload_n 1, 1) := dk_27 (dk_at dksX5_tellOf_0 13 rfl rfl)
theorem dX5_tellOf_14 : decode cX5_tellOf 14 = .ok (.iaload, 1) := dk_46 (dk_at dksX5_tellOf_0 14 rfl rfl)
theorem dX5_tellOf_15 : decode cX5_tellOf 15 = .ok (.goto 23, 3) := dk_167 0 23 (dk_at dksX5_tellOf_0 15 rfl rfl)
theorem dX5_tellOf_18 : decode cX5_tellOf 18 = .ok (.iload_n 1, 1) := dk_27 (dk_at dksX5_tellOf_0 18 rfl rfl)
theorem dX5_tellOf_19 : decode cX5_tellOf 19 = .ok (.iconst 4, 1) := dk_7 (dk_at dksX5_tellOf_0 19 rfl rfl)
theorem dX5_tellOf_20 : decode cX5_tellOf 20 = .ok (.if_icmp .ge 14, 3) := dk_162 0 14 (dk_at dksX5_tellOf_0 20 rfl rfl)
theorem dX5_tellOf_23 : decode cX5_tellOf 23 = .ok (.aload_n 0, 1) := dk_42 (dk_at dksX5_tellOf_0 23 rfl rfl)
theorem dX5_tellOf_24 : decode cX5_tellOf 24 = .ok (.getfield 28, 3) := dk_180 0 28 (dk_at dksX5_tellOf_1 0 rfl rfl)
theorem dX5_tellOf_27 : decode cX5_tellOf 27 = .ok (.iload_n 1, 1) := dk_27 (dk_at dksX5_tellOf_1 3 rfl rfl)
theorem dX5_tellOf_28 : decode cX5_tellOf 28 = .ok (.iconst 2, 1) := dk_5 (dk_at dksX5_tellOf_1 4 rfl rfl)
theorem dX5_tellOf_29 : decode cX5_tellOf 29 = .ok (.isub, 1) := dk_100 (dk_at dksX5_tellOf_1 5 rfl rfl)
theorem dX5_tellOf_30 : decode cX5_tellOf 30 = .ok (.iaload, 1) := dk_46 (dk_at dksX5_tellOf_1 6 rfl rfl)
theorem dX5_tellOf_31 : decode cX5_tellOf 31 = .ok (.goto 7, 3) := dk_167 0 7 (dk_at dksX5_tellOf_1 7 rfl rfl)
theorem dX5_tellOf_34 : decode cX5_tellOf 34 = .ok (.aload_n 0, 1) := dk_42 (dk_at dksX5_tellOf_1 10 rfl rfl)
theorem dX5_tellOf_35 : decode cX5_tellOf 35 = .ok (.getfield 203, 3) := dk_180 0 203 (dk_at dksX5_tellOf_1 11 rfl rfl)
theorem dX5_tellOf_38 : decode cX5_tellOf 38 = .ok (.ireturn, 1) := dk_172 (dk_at dksX5_tellOf_1 14 rfl rfl)
abbrev cX5_digest : ByteArray := prog_12_method_98_code
def yX5_digest : MethodName := ⟨RX5, "digest", "()J"⟩
def dkwX5_digest_14 : List UInt8 := [182, 1, 69, 133, 97, 173]
abbrev dktX5_digest_14 : List UInt8 := dkwX5_digest_14 ++ []
def dkwX5_digest_13 : List UInt8 := [16, 7, 16, 18, 3, 182, 1, 69, 133, 97, 64, 20, 1, 86, 31, 105, 42, 16, 7, 16, 18, 4]
abbrev dktX5_digest_13 : List UInt8 := dkwX5_digest_13 ++ dktX5_digest_14
def dkwX5_digest_12 : List UInt8 := [182, 1, 34, 133, 97, 64, 20, 1, 86, 31, 105, 42, 182, 1, 44, 133, 97, 64, 20, 1, 86, 31, 105, 42]
abbrev dktX5_digest_12 : List UInt8 := dkwX5_digest_12 ++ dktX5_digest_13
def dkwX5_digest_11 : List UInt8 := [42, 182, 1, 31, 62, 20, 1, 86, 31, 105, 29, 133, 97, 64, 20, 1, 86, 31, 105, 42, 29, 3]
abbrev dktX5_digest_11 : List UInt8 := dkwX5_digest_11 ++ dktX5_digest_12
def dkwX5_digest_10 : List UInt8 := [20, 1, 86, 31, 105, 42, 182, 1, 1, 133, 97, 64, 20, 1, 86, 31, 105, 42, 182, 1, 4, 133, 97, 64]
abbrev dktX5_digest_10 : List UInt8 := dkwX5_digest_10 ++ dktX5_digest_11
def dkwX5_digest_9 : List UInt8 := [31, 105, 42, 4, 182, 0, 247, 133, 97, 64, 20, 1, 86, 31, 105, 42, 182, 0, 253, 133, 97, 64]
abbrev dktX5_digest_9 : List UInt8 := dkwX5_digest_9 ++ dktX5_digest_10
def dkwX5_digest_8 : List UInt8 := [42, 4, 182, 0, 244, 133, 97, 64, 20, 1, 86, 31, 105, 42, 3, 182, 0, 247, 133, 97, 64, 20, 1, 86]
abbrev dktX5_digest_8 : List UInt8 := dkwX5_digest_8 ++ dktX5_digest_9
def dkwX5_digest_7 : List UInt8 := [31, 4, 182, 1, 101, 64, 20, 1, 86, 31, 105, 42, 3, 182, 0, 244, 133, 97, 64, 20, 1, 86, 31, 105]
abbrev dktX5_digest_7 : List UInt8 := dkwX5_digest_7 ++ dktX5_digest_8
def dkwX5_digest_6 : List UInt8 := [153, 0, 10, 42, 31, 29, 182, 1, 97, 64, 132, 3, 1, 167, 255, 232, 42, 31, 3, 182, 1, 101, 64, 42]
abbrev dktX5_digest_6 : List UInt8 := dkwX5_digest_6 ++ dktX5_digest_7
def dkwX5_digest_5 : List UInt8 := [167, 255, 232, 132, 3, 1, 167, 255, 189, 3, 62, 29, 16, 16, 162, 0, 24, 42, 29, 182, 0, 141]
abbrev dktX5_digest_5 : List UInt8 := dkwX5_digest_5 ++ dktX5_digest_6
def dkwX5_digest_4 : List UInt8 := [21, 4, 7, 162, 0, 24, 20, 1, 86, 31, 105, 42, 29, 21, 4, 182, 0, 238, 133, 97, 64, 132, 4, 1]
abbrev dktX5_digest_4 : List UInt8 := dkwX5_digest_4 ++ dktX5_digest_5
def dkwX5_digest_3 : List UInt8 := [29, 182, 0, 159, 133, 97, 64, 20, 1, 86, 31, 105, 42, 4, 29, 182, 0, 159, 133, 97, 64, 3, 54, 4]
abbrev dktX5_digest_3 : List UInt8 := dkwX5_digest_3 ++ dktX5_digest_4
def dkwX5_digest_2 : List UInt8 := [133, 97, 64, 132, 3, 1, 167, 255, 235, 3, 62, 29, 16, 24, 162, 0, 67, 20, 1, 86, 31, 105, 42, 3]
abbrev dktX5_digest_2 : List UInt8 := dkwX5_digest_2 ++ dktX5_digest_3
def dkwX5_digest_1 : List UInt8 := [64, 132, 3, 1, 167, 255, 234, 3, 62, 29, 7, 162, 0, 22, 20, 1, 86, 31, 105, 42, 29, 182, 0, 135]
abbrev dktX5_digest_1 : List UInt8 := dkwX5_digest_1 ++ dktX5_digest_2
def dkwX5_digest_0 : List UInt8 := [20, 1, 92, 64, 3, 62, 29, 16, 8, 162, 0, 22, 20, 1, 86, 31, 105, 42, 29, 182, 1, 94, 133, 97]
abbrev dktX5_digest_0 : List UInt8 := dkwX5_digest_0 ++ dktX5_digest_1
theorem dksX5_digest_0 : cX5_digest.data.toList.drop 0 = dktX5_digest_0 := by decide +kernel
theorem dksX5_digest_1 : cX5_digest.data.toList.drop 24 = dktX5_digest_1 := dk_seg dksX5_digest_0 24 rfl rfl
theorem dksX5_digest_2 : cX5_digest.data.toList.drop 48 = dktX5_digest_2 := dk_seg dksX5_digest_1 24 rfl rfl
theorem dksX5_digest_3 : cX5_digest.data.toList.drop 72 = dktX5_digest_3 := dk_seg dksX5_digest_2 24 rfl rfl
theorem dksX5_digest_4 : cX5_digest.data.toList.drop 96 = dktX5_digest_4 := dk_seg dksX5_digest_3 24 rfl rfl
theorem dksX5_digest_5 : cX5_digest.data.toList.drop 120 = dktX5_digest_5 := dk_seg dksX5_digest_4 24 rfl rfl
theorem dksX5_digest_6 : cX5_digest.data.toList.drop 142 = dktX5_digest_6 := dk_seg dksX5_digest_5 22 rfl rfl
theorem dksX5_digest_7 : cX5_digest.data.toList.drop 166 = dktX5_digest_7 := dk_seg dksX5_digest_6 24 rfl rfl
theorem dksX5_digest_8 : cX5_digest.data.toList.drop 190 = dktX5_digest_8 := dk_seg dksX5_digest_7 24 rfl rfl
theorem dksX5_digest_9 : cX5_digest.data.toList.drop 214 = dktX5_digest_9 := dk_seg dksX5_digest_8 24 rfl rfl
theorem dksX5_digest_10 : cX5_digest.data.toList.drop 236 = dktX5_digest_10 := dk_seg dksX5_digest_9 22 rfl rfl
theorem dksX5_digest_11 : cX5_digest.data.toList.drop 260 = dktX5_digest_11 := dk_seg dksX5_digest_10 24 rfl rfl
theorem dksX5_digest_12 : cX5_digest.data.toList.drop 282 = dktX5_digest_12 := dk_seg dksX5_digest_11 22 rfl rfl
theorem dksX5_digest_13 : cX5_digest.data.toList.drop 306 = dktX5_digest_13 := dk_seg dksX5_digest_12 24 rfl rfl
theorem dksX5_digest_14 : cX5_digest.data.toList.drop 328 = dktX5_digest_14 := dk_seg dksX5_digest_13 22 rfl rfl
theorem dX5_digest_0 : decode cX5_digest 0 = .ok (.ldc2_w 348, 3) := dk_20 1 92 (dk_at dksX5_digest_0 0 rfl rfl)
theorem dX5_digest_3 : decode cX5_digest 3 = .ok (.lstore_n 1, 1) := dk_64 (dk_at dksX5_digest_0 3 rfl rfl)
theorem dX5_digest_4 : decode cX5_digest 4 = .ok (.iconst 0, 1) := dk_3 (dk_at dksX5_digest_0 4 rfl rfl)
theorem dX5_digest_5 : decode cX5_digest 5 = .ok (.istore_n 3, 1) := dk_62 (dk_at dksX5_digest_0 5 rfl rfl)
theorem dX5_digest_6 : decode cX5_digest 6 = .ok (.iload_n 3, 1) := dk_29 (dk_at dksX5_digest_0 6 rfl rfl)
theorem dX5_digest_7 : decode cX5_digest 7 = .ok (.bipush 8, 2) := dk_16 8 (dk_at dksX5_digest_0 7 rfl rfl)
theorem dX5_digest_9 : decode cX5_digest 9 = .ok (.if_icmp .ge 22, 3) := dk_162 0 22 (dk_at dksX5_digest_0 9 rfl rfl)
theorem dX5_digest_12 : decode cX5_digest 12 = .ok (.ldc2_w 342, 3) := dk_20 1 86 (dk_at dksX5_digest_0 12 rfl rfl)
theorem dX5_digest_15 : decode cX5_digest 15 = .ok (.lload_n 1, 1) := dk_31 (dk_at dksX5_digest_0 15 rfl rfl)
theorem dX5_digest_16 : decode cX5_digest 16 = .ok (.lmul, 1) := dk_105 (dk_at dksX5_digest_0 16 rfl rfl)
theorem dX5_digest_17 : decode cX5_digest 17 = .ok (.aload_n 0, 1) := dk_42 (dk_at dksX5_digest_0 17 rfl rfl)
theorem dX5_digest_18 : decode cX5_digest 18 = .ok (.iload_n 3, 1) := dk_29 (dk_at dksX5_digest_0 18 rfl rfl)
theorem dX5_digest_19 : decode cX5_digest 19 = .ok (.invokevirtual 350, 3) := dk_182 1 94 (dk_at dksX5_digest_0 19 rfl rfl)
theorem dX5_digest_22 : decode cX5_digest 22 = .ok (.i2l, 1) := dk_133 (dk_at dksX5_digest_0 22 rfl rfl)
theorem dX5_digest_23 : decode cX5_digest 23 = .ok (.ladd, 1) := dk_97 (dk_at dksX5_digest_0 23 rfl rfl)
theorem dX5_digest_24 : decode cX5_digest 24 = .ok (.lstore_n 1, 1) := dk_64 (dk_at dksX5_digest_1 0 rfl rfl)
theorem dX5_digest_25 : decode cX5_digest 25 = .ok (.iinc 3 1, 3) := dk_132 3 1 (dk_at dksX5_digest_1 1 rfl rfl)
theorem dX5_digest_28 : decode cX5_digest 28 = .ok (.goto (-22), 3) := dk_167 255 234 (dk_at dksX5_digest_1 4 rfl rfl)
theorem dX5_digest_31 : decode cX5_digest 31 = .ok (.iconst 0, 1) := dk_3 (dk_at dksX5_digest_1 7 rfl rfl)
theorem dX5_digest_32 : decode cX5_digest 32 = .ok (.istore_n 3, 1) := dk_62 (dk_at dksX5_digest_1 8 rfl rfl)
theorem dX5_digest_33 : decode cX5_digest 33 = .ok (.iload_n 3, 1) := dk_29 (dk_at dksX5_digest_1 9 rfl rfl)
theorem dX5_digest_34 : decode cX5_digest 34 = .ok (.iconst 4, 1) := dk_7 (dk_at dksX5_digest_1 10 rfl rfl)
theorem dX5_digest_35 : decode cX5_digest 35 = .ok (.if_icmp .ge 22, 3) := dk_162 0 22 (dk_at dksX5_digest_1 11 rfl rfl)
theorem dX5_digest_38 : decode cX5_digest 38 = .ok (.ldc2_w 342, 3) := dk_20 1 86 (dk_at dksX5_digest_1 14 rfl rfl)
theorem dX5_digest_41 : decode cX5_digest 41 = .ok (.lload_n 1, 1) := dk_31 (dk_at dksX5_digest_1 17 rfl rfl)
theorem dX5_digest_42 : decode cX5_digest 42 = .ok (.lmul, 1) := dk_105 (dk_at dksX5_digest_1 18 rfl rfl)
theorem dX5_digest_43 : decode cX5_digest 43 = .ok (.aload_n 0, 1) := dk_42 (dk_at dksX5_digest_1 19 rfl rfl)
theorem dX5_digest_44 : decode cX5_digest 44 = .ok (.iload_n 3, 1) := dk_29 (dk_at dksX5_digest_1 20 rfl rfl)
theorem dX5_digest_45 : decode cX5_digest 45 = .ok (.invokevirtual 135, 3) := dk_182 0 135 (dk_at dksX5_digest_1 21 rfl rfl)
theorem dX5_digest_48 : decode cX5_digest 48 = .ok (.i2l, 1) := dk_133 (dk_at dksX5_digest_2 0 rfl rfl)
theorem dX5_digest_49 : decode cX5_digest 49 = .ok (.ladd, 1) := dk_97 (dk_at dksX5_digest_2 1 rfl rfl)
theorem dX5_digest_50 : decode cX5_digest 50 = .ok (.lstore_n 1, 1) := dk_64 (dk_at dksX5_digest_2 2 rfl rfl)
theorem dX5_digest_51 : decode cX5_digest 51 = .ok (.iinc 3 1, 3) := dk_132 3 1 (dk_at dksX5_digest_2 3 rfl rfl)
theorem dX5_digest_54 : decode cX5_digest 54 = .ok (.goto (-21), 3) := dk_167 255 235 (dk_at dksX5_digest_2 6 rfl rfl)
theorem dX5_digest_57 : decode cX5_digest 57 = .ok (.iconst 0, 1) := dk_3 (dk_at dksX5_digest_2 9 rfl rfl)
theorem dX5_digest_58 : decode cX5_digest 58 = .ok (.istore_n 3, 1) := dk_62 (dk_at dksX5_digest_2 10 rfl rfl)
theorem dX5_digest_59 : decode cX5_digest 59 = .ok (.iload_n 3, 1) := dk_29 (dk_at dksX5_digest_2 11 rfl rfl)
theorem dX5_digest_60 : decode cX5_digest 60 = .ok (.bipush 24, 2) := dk_16 24 (dk_at dksX5_digest_2 12 rfl rfl)
theorem dX5_digest_62 : decode cX5_digest 62 = .ok (.if_icmp .ge 67, 3) := dk_162 0 67 (dk_at dksX5_digest_2 14 rfl rfl)
theorem dX5_digest_65 : decode cX5_digest 65 = .ok (.ldc2_w 342, 3) := dk_20 1 86 (dk_at dksX5_digest_2 17 rfl rfl)
theorem dX5_digest_68 : decode cX5_digest 68 = .ok (.lload_n 1, 1) := dk_31 (dk_at dksX5_digest_2 20 rfl rfl)
theorem dX5_digest_69 : decode cX5_digest 69 = .ok (.lmul, 1) := dk_105 (dk_at dksX5_digest_2 21 rfl rfl)
theorem dX5_digest_70 : decode cX5_digest 70 = .ok (.aload_n 0, 1) := dk_42 (dk_at dksX5_digest_2 22 rfl rfl)
theorem dX5_digest_71 : decode cX5_digest 71 = .ok (.iconst 0, 1) := dk_3 (dk_at dksX5_digest_2 23 rfl rfl)
theorem dX5_digest_72 : decode cX5_digest 72 = .ok (.iload_n 3, 1) := dk_29 (dk_at dksX5_digest_3 0 rfl rfl)
theorem dX5_digest_73 : decode cX5_digest 73 = .ok (.invokevirtual 159, 3) := dk_182 0 159 (dk_at dksX5_digest_3 1 rfl rfl)
theorem dX5_digest_76 : decode cX5_digest 76 = .ok (.i2l, 1) := dk_133 (dk_at dksX5_digest_3 4 rfl rfl)
theorem dX5_digest_77 : decode cX5_digest 77 = .ok (.ladd, 1) := dk_97 (dk_at dksX5_digest_3 5 rfl rfl)
theorem dX5_digest_78 : decode cX5_digest 78 = .ok (.lstore_n 1, 1) := dk_64 (dk_at dksX5_digest_3 6 rfl rfl)
theorem dX5_digest_79 : decode cX5_digest 79 = .ok (.ldc2_w 342, 3) := dk_20 1 86 (dk_at dksX5_digest_3 7 rfl rfl)
theorem dX5_digest_82 : decode cX5_digest 82 = .ok (.lload_n 1, 1) := dk_31 (dk_at dksX5_digest_3 10 rfl rfl)
theorem dX5_digest_83 : decode cX5_digest 83 = .ok (.lmul, 1) := dk_105 (dk_at dksX5_digest_3 11 rfl rfl)
theorem dX5_digest_84 : decode cX5_digest 84 = .ok (.aload_n 0, 1) := dk_42 (dk_at dksX5_digest_3 12 rfl rfl)
theorem dX5_digest_85 : decode cX5_digest 85 = .ok (.iconst 1, 1) := dk_4 (dk_at dksX5_digest_3 13 rfl rfl)
theorem dX5_digest_86 : decode cX5_digest 86 = .ok (.iload_n 3, 1) := dk_29 (dk_at dksX5_digest_3 14 rfl rfl)
theorem dX5_digest_87 : decode cX5_digest 87 = .ok (.invokevirtual 159, 3) := dk_182 0 159 (dk_at dksX5_digest_3 15 rfl rfl)
theorem dX5_digest_90 : decode cX5_digest 90 = .ok (.i2l, 1) := dk_133 (dk_at dksX5_digest_3 18 rfl rfl)
theorem dX5_digest_91 : decode cX5_digest 91 = .ok (.ladd, 1) := dk_97 (dk_at dksX5_digest_3 19 rfl rfl)
theorem dX5_digest_92 : decode cX5_digest 92 = .ok (.lstore_n 1, 1) := dk_64 (dk_at dksX5_digest_3 20 rfl rfl)
theorem dX5_digest_93 : decode cX5_digest 93 = .ok (.iconst 0, 1) := dk_3 (dk_at dksX5_digest_3 21 rfl rfl)
theorem dX5_digest_94 : decode cX5_digest 94 = .ok (.istore 4, 2) := dk_54 4 (dk_at dksX5_digest_3 22 rfl rfl)
theorem dX5_digest_96 : decode cX5_digest 96 = .ok (.iload 4, 2) := dk_21 4 (dk_at dksX5_digest_4 0 rfl rfl)
theorem dX5_digest_98 : decode cX5_digest 98 = .ok (.iconst 4, 1) := dk_7 (dk_at dksX5_digest_4 2 rfl rfl)
theorem dX5_digest_99 : decode cX5_digest 99 = .ok (.if_icmp .ge 24, 3) := dk_162 0 24 (dk_at dksX5_digest_4 3 rfl rfl)
theorem dX5_digest_102 : decode cX5_digest 102 = .ok (.ldc2_w 342, 3) := dk_20 1 86 (dk_at dksX5_digest_4 6 rfl rfl)
theorem dX5_digest_105 : decode cX5_digest 105 = .ok (.lload_n 1, 1) := dk_31 (dk_at dksX5_digest_4 9 rfl rfl)
theorem dX5_digest_106 : decode cX5_digest 106 = .ok (.lmul, 1) := dk_105 (dk_at dksX5_digest_4 10 rfl rfl)
theorem dX5_digest_107 : decode cX5_digest 107 = .ok (.aload_n 0, 1) := dk_42 (dk_at dksX5_digest_4 11 rfl rfl)
theorem dX5_digest_108 : decode cX5_digest 108 = .ok (.iload_n 3, 1) := dk_29 (dk_at dksX5_digest_4 12 rfl rfl)
theorem dX5_digest_109 : decode cX5_digest 109 = .ok (.iload 4, 2) := dk_21 4 (dk_at dksX5_digest_4 13 rfl rfl)
theorem dX5_digest_111 : decode cX5_digest 111 = .ok (.invokevirtual 238, 3) := dk_182 0 238 (dk_at dksX5_digest_4 15 rfl rfl)
theorem dX5_digest_114 : decode cX5_digest 114 = .ok (.i2l, 1) := dk_133 (dk_at dksX5_digest_4 18 rfl rfl)
theorem dX5_digest_115 : decode cX5_digest 115 = .ok (.ladd, 1) := dk_97 (dk_at dksX5_digest_4 19 rfl rfl)
theorem dX5_digest_116 : decode cX5_digest 116 = .ok (.lstore_n 1, 1) := dk_64 (dk_at dksX5_digest_4 20 rfl rfl)
theorem dX5_digest_117 : decode cX5_digest 117 = .ok (.iinc 4 1, 3) := dk_132 4 1 (dk_at dksX5_digest_4 21 rfl rfl)
theorem dX5_digest_120 : decode cX5_digest 120 = .ok (.goto (-24), 3) := dk_167 255 232 (dk_at dksX5_digest_5 0 rfl rfl)
theorem dX5_digest_123 : decode cX5_digest 123 = .ok (.iinc 3 1, 3) := dk_132 3 1 (dk_at dksX5_digest_5 3 rfl rfl)
theorem dX5_digest_126 : decode cX5_digest 126 = .ok (.goto (-67), 3) := dk_167 255 189 (dk_at dksX5_digest_5 6 rfl rfl)
theorem dX5_digest_129 : decode cX5_digest 129 = .ok (.iconst 0, 1) := dk_3 (dk_at dksX5_digest_5 9 rfl rfl)
theorem dX5_digest_130 : decode cX5_digest 130 = .ok (.istore_n 3, 1) := dk_62 (dk_at dksX5_digest_5 10 rfl rfl)
theorem dX5_digest_131 : decode cX5_digest 131 = .ok (.iload_n 3, 1) := dk_29 (dk_at dksX5_digest_5 11 rfl rfl)
theorem dX5_digest_132 : decode cX5_digest 132 = .ok (.bipush 16, 2) := dk_16 16 (dk_at dksX5_digest_5 12 rfl rfl)
theorem dX5_digest_134 : decode cX5_digest 134 = .ok (.if_icmp .ge 24, 3) := dk_162 0 24 (dk_at dksX5_digest_5 14 rfl rfl)
theorem dX5_digest_137 : decode cX5_digest 137 = .ok (.aload_n 0, 1) := dk_42 (dk_at dksX5_digest_5 17 rfl rfl)
theorem dX5_digest_138 : decode cX5_digest 138 = .ok (.iload_n 3, 1) := dk_29 (dk_at dksX5_digest_5 18 rfl rfl)
theorem dX5_digest_139 : decode cX5_digest 139 = .ok (.invokevirtual 141, 3) := dk_182 0 141 (dk_at dksX5_digest_5 19 rfl rfl)
theorem dX5_digest_142 : decode cX5_digest 142 = .ok (.ifCond .eq 10, 3) := dk_153 0 10 (dk_at dksX5_digest_6 0 rfl rfl)
theorem dX5_digest_145 : decode cX5_digest 145 = .ok (.aload_n 0, 1) := dk_42 (dk_at dksX5_digest_6 3 rfl rfl)
theorem dX5_digest_146 : decode cX5_digest 146 = .ok (.lload_n 1, 1) := dk_31 (dk_at dksX5_digest_6 4 rfl rfl)
theorem dX5_digest_147 : decode cX5_digest 147 = .ok (.iload_n 3, 1) := dk_29 (dk_at dksX5_digest_6 5 rfl rfl)
theorem dX5_digest_148 : decode cX5_digest 148 = .ok (.invokevirtual 353, 3) := dk_182 1 97 (dk_at dksX5_digest_6 6 rfl rfl)
theorem dX5_digest_151 : decode cX5_digest 151 = .ok (.lstore_n 1, 1) := dk_64 (dk_at dksX5_digest_6 9 rfl rfl)
theorem dX5_digest_152 : decode cX5_digest 152 = .ok (.iinc 3 1, 3) := dk_132 3 1 (dk_at dksX5_digest_6 10 rfl rfl)
theorem dX5_digest_155 : decode cX5_digest 155 = .ok (.goto (-24), 3) := dk_167 255 232 (dk_at dksX5_digest_6 13 rfl rfl)
theorem dX5_digest_158 : decode cX5_digest 158 = .ok (.aload_n 0, 1) := dk_42 (dk_at dksX5_digest_6 16 rfl rfl)
theorem dX5_digest_159 : decode cX5_digest 159 = .ok (.lload_n 1, 1) := dk_31 (dk_at dksX5_digest_6 17 rfl rfl)
theorem dX5_digest_160 : decode cX5_digest 160 = .ok (.iconst 0, 1) := dk_3 (dk_at dksX5_digest_6 18 rfl rfl)
theorem dX5_digest_161 : decode cX5_digest 161 = .ok (.invokevirtual 357, 3) := dk_182 1 101 (dk_at dksX5_digest_6 19 rfl rfl)
theorem dX5_digest_164 : decode cX5_digest 164 = .ok (.lstore_n 1, 1) := dk_64 (dk_at dksX5_digest_6 22 rfl rfl)
theorem dX5_digest_165 : decode cX5_digest 165 = .ok (.aload_n 0, 1) := dk_42 (dk_at dksX5_digest_6 23 rfl rfl)
theorem dX5_digest_166 : decode cX5_digest 166 = .ok (.lload_n 1, 1) := dk_31 (dk_at dksX5_digest_7 0 rfl rfl)
theorem dX5_digest_167 : decode cX5_digest 167 = .ok (.iconst 1, 1) := dk_4 (dk_at dksX5_digest_7 1 rfl rfl)
theorem dX5_digest_168 : decode cX5_digest 168 = .ok (.invokevirtual 357, 3) := dk_182 1 101 (dk_at dksX5_digest_7 2 rfl rfl)
theorem dX5_digest_171 : decode cX5_digest 171 = .ok (.lstore_n 1, 1) := dk_64 (dk_at dksX5_digest_7 5 rfl rfl)
theorem dX5_digest_172 : decode cX5_digest 172 = .ok (.ldc2_w 342, 3) := dk_20 1 86 (dk_at dksX5_digest_7 6 rfl rfl)
theorem dX5_digest_175 : decode cX5_digest 175 = .ok (.lload_n 1, 1) := dk_31 (dk_at dksX5_digest_7 9 rfl rfl)
theorem dX5_digest_176 : decode cX5_digest 176 = .ok (.lmul, 1) := dk_105 (dk_at dksX5_digest_7 10 rfl rfl)
theorem dX5_digest_177 : decode cX5_digest 177 = .ok (.aload_n 0, 1) := dk_42 (dk_at dksX5_digest_7 11 rfl rfl)
theorem dX5_digest_178 : decode cX5_digest 178 = .ok (.iconst 0, 1) := dk_3 (dk_at dksX5_digest_7 12 rfl rfl)
theorem dX5_digest_179 : decode cX5_digest 179 = .ok (.invokevirtual 244, 3) := dk_182 0 244 (dk_at dksX5_digest_7 13 rfl rfl)
theorem dX5_digest_182 : decode cX5_digest 182 = .ok (.i2l, 1) := dk_133 (dk_at dksX5_digest_7 16 rfl rfl)
theorem dX5_digest_183 : decode cX5_digest 183 = .ok (.ladd, 1) := dk_97 (dk_at dksX5_digest_7 17 rfl rfl)
theorem dX5_digest_184 : decode cX5_digest 184 = .ok (.lstore_n 1, 1) := dk_64 (dk_at dksX5_digest_7 18 rfl rfl)
theorem dX5_digest_185 : decode cX5_digest 185 = .ok (.ldc2_w 342, 3) := dk_20 1 86 (dk_at dksX5_digest_7 19 rfl rfl)
theorem dX5_digest_188 : decode cX5_digest 188 = .ok (.lload_n 1, 1) := dk_31 (dk_at dksX5_digest_7 22 rfl rfl)
theorem dX5_digest_189 : decode cX5_digest 189 = .ok (.lmul, 1) := dk_105 (dk_at dksX5_digest_7 23 rfl rfl)
theorem dX5_digest_190 : decode cX5_digest 190 = .ok (.aload_n 0, 1) := dk_42 (dk_at dksX5_digest_8 0 rfl rfl)
theorem dX5_digest_191 : decode cX5_digest 191 = .ok (.iconst 1, 1) := dk_4 (dk_at dksX5_digest_8 1 rfl rfl)
theorem dX5_digest_192 : decode cX5_digest 192 = .ok (.invokevirtual 244, 3) := dk_182 0 244 (dk_at dksX5_digest_8 2 rfl rfl)
theorem dX5_digest_195 : decode cX5_digest 195 = .ok (.i2l, 1) := dk_133 (dk_at dksX5_digest_8 5 rfl rfl)
theorem dX5_digest_196 : decode cX5_digest 196 = .ok (.ladd, 1) := dk_97 (dk_at dksX5_digest_8 6 rfl rfl)
theorem dX5_digest_197 : decode cX5_digest 197 = .ok (.lstore_n 1, 1) := dk_64 (dk_at dksX5_digest_8 7 rfl rfl)
theorem dX5_digest_198 : decode cX5_digest 198 = .ok (.ldc2_w 342, 3) := dk_20 1 86 (dk_at dksX5_digest_8 8 rfl rfl)
theorem dX5_digest_201 : decode cX5_digest 201 = .ok (.lload_n 1, 1) := dk_31 (dk_at dksX5_digest_8 11 rfl rfl)
theorem dX5_digest_202 : decode cX5_digest 202 = .ok (.lmul, 1) := dk_105 (dk_at dksX5_digest_8 12 rfl rfl)
theorem dX5_digest_203 : decode cX5_digest 203 = .ok (.aload_n 0, 1) := dk_42 (dk_at dksX5_digest_8 13 rfl rfl)
theorem dX5_digest_204 : decode cX5_digest 204 = .ok (.iconst 0, 1) := dk_3 (dk_at dksX5_digest_8 14 rfl rfl)
theorem dX5_digest_205 : decode cX5_digest 205 = .ok (.invokevirtual 247, 3) := dk_182 0 247 (dk_at dksX5_digest_8 15 rfl rfl)
theorem dX5_digest_208 : decode cX5_digest 208 = .ok (.i2l, 1) := dk_133 (dk_at dksX5_digest_8 18 rfl rfl)
theorem dX5_digest_209 : decode cX5_digest 209 = .ok (.ladd, 1) := dk_97 (dk_at dksX5_digest_8 19 rfl rfl)
theorem dX5_digest_210 : decode cX5_digest 210 = .ok (.lstore_n 1, 1) := dk_64 (dk_at dksX5_digest_8 20 rfl rfl)
theorem dX5_digest_211 : decode cX5_digest 211 = .ok (.ldc2_w 342, 3) := dk_20 1 86 (dk_at dksX5_digest_8 21 rfl rfl)
theorem dX5_digest_214 : decode cX5_digest 214 = .ok (.lload_n 1, 1) := dk_31 (dk_at dksX5_digest_9 0 rfl rfl)
theorem dX5_digest_215 : decode cX5_digest 215 = .ok (.lmul, 1) := dk_105 (dk_at dksX5_digest_9 1 rfl rfl)
theorem dX5_digest_216 : decode cX5_digest 216 = .ok (.aload_n 0, 1) := dk_42 (dk_at dksX5_digest_9 2 rfl rfl)
theorem dX5_digest_217 : decode cX5_digest 217 = .ok (.iconst 1, 1) := dk_4 (dk_at dksX5_digest_9 3 rfl rfl)
theorem dX5_digest_218 : decode cX5_digest 218 = .ok (.invokevirtual 247, 3) := dk_182 0 247 (dk_at dksX5_digest_9 4 rfl rfl)
theorem dX5_digest_221 : decode cX5_digest 221 = .ok (.i2l, 1) := dk_133 (dk_at dksX5_digest_9 7 rfl rfl)
theorem dX5_digest_222 : decode cX5_digest 222 = .ok (.ladd, 1) := dk_97 (dk_at dksX5_digest_9 8 rfl rfl)
theorem dX5_digest_223 : decode cX5_digest 223 = .ok (.lstore_n 1, 1) := dk_64 (dk_at dksX5_digest_9 9 rfl rfl)
theorem dX5_digest_224 : decode cX5_digest 224 = .ok (.ldc2_w 342, 3) := dk_20 1 86 (dk_at dksX5_digest_9 10 rfl rfl)
theorem dX5_digest_227 : decode cX5_digest 227 = .ok (.lload_n 1, 1) := dk_31 (dk_at dksX5_digest_9 13 rfl rfl)
theorem dX5_digest_228 : decode cX5_digest 228 = .ok (.lmul, 1) := dk_105 (dk_at dksX5_digest_9 14 rfl rfl)
theorem dX5_digest_229 : decode cX5_digest 229 = .ok (.aload_n 0, 1) := dk_42 (dk_at dksX5_digest_9 15 rfl rfl)
theorem dX5_digest_230 : decode cX5_digest 230 = .ok (.invokevirtual 253, 3) := dk_182 0 253 (dk_at dksX5_digest_9 16 rfl rfl)
theorem dX5_digest_233 : decode cX5_digest 233 = .ok (.i2l, 1) := dk_133 (dk_at dksX5_digest_9 19 rfl rfl)
theorem dX5_digest_234 : decode cX5_digest 234 = .ok (.ladd, 1) := dk_97 (dk_at dksX5_digest_9 20 rfl rfl)
theorem dX5_digest_235 : decode cX5_digest 235 = .ok (.lstore_n 1, 1) := dk_64 (dk_at dksX5_digest_9 21 rfl rfl)
theorem dX5_digest_236 : decode cX5_digest 236 = .ok (.ldc2_w 342, 3) := dk_20 1 86 (dk_at dksX5_digest_10 0 rfl rfl)
theorem dX5_digest_239 : decode cX5_digest 239 = .ok (.lload_n 1, 1) := dk_31 (dk_at dksX5_digest_10 3 rfl rfl)
theorem dX5_digest_240 : decode cX5_digest 240 = .ok (.lmul, 1) := dk_105 (dk_at dksX5_digest_10 4 rfl rfl)
theorem dX5_digest_241 : decode cX5_digest 241 = .ok (.aload_n 0, 1) := dk_42 (dk_at dksX5_digest_10 5 rfl rfl)
theorem dX5_digest_242 : decode cX5_digest 242 = .ok (.invokevirtual 257, 3) := dk_182 1 1 (dk_at dksX5_digest_10 6 rfl rfl)
theorem dX5_digest_245 : decode cX5_digest 245 = .ok (.i2l, 1) := dk_133 (dk_at dksX5_digest_10 9 rfl rfl)
theorem dX5_digest_246 : decode cX5_digest 246 = .ok (.ladd, 1) := dk_97 (dk_at dksX5_digest_10 10 rfl rfl)
theorem dX5_digest_247 : decode cX5_digest 247 = .ok (.lstore_n 1, 1) := dk_64 (dk_at dksX5_digest_10 11 rfl rfl)
theorem dX5_digest_248 : decode cX5_digest 248 = .ok (.ldc2_w 342, 3) := dk_20 1 86 (dk_at dksX5_digest_10 12 rfl rfl)
theorem dX5_digest_251 : decode cX5_digest 251 = .ok (.lload_n 1, 1) := dk_31 (dk_at dksX5_digest_10 15 rfl rfl)
theorem dX5_digest_252 : decode cX5_digest 252 = .ok (.lmul, 1) := dk_105 (dk_at dksX5_digest_10 16 rfl rfl)
theorem dX5_digest_253 : decode cX5_digest 253 = .ok (.aload_n 0, 1) := dk_42 (dk_at dksX5_digest_10 17 rfl rfl)
theorem dX5_digest_254 : decode cX5_digest 254 = .ok (.invokevirtual 260, 3) := dk_182 1 4 (dk_at dksX5_digest_10 18 rfl rfl)
theorem dX5_digest_257 : decode cX5_digest 257 = .ok (.i2l, 1) := dk_133 (dk_at dksX5_digest_10 21 rfl rfl)
theorem dX5_digest_258 : decode cX5_digest 258 = .ok (.ladd, 1) := dk_97 (dk_at dksX5_digest_10 22 rfl rfl)
theorem dX5_digest_259 : decode cX5_digest 259 = .ok (.lstore_n 1, 1) := dk_64 (dk_at dksX5_digest_10 23 rfl rfl)
theorem dX5_digest_260 : decode cX5_digest 260 = .ok (.aload_n 0, 1) := dk_42 (dk_at dksX5_digest_11 0 rfl rfl)
theorem dX5_digest_261 : decode cX5_digest 261 = .ok (.invokevirtual 287, 3) := dk_182 1 31 (dk_at dksX5_digest_11 1 rfl rfl)
theorem dX5_digest_264 : decode cX5_digest 264 = .ok (.istore_n 3, 1) := dk_62 (dk_at dksX5_digest_11 4 rfl rfl)
theorem dX5_digest_265 : decode cX5_digest 265 = .ok (.ldc2_w 342, 3) := dk_20 1 86 (dk_at dksX5_digest_11 5 rfl rfl)
theorem dX5_digest_268 : decode cX5_digest 268 = .ok (.lload_n 1, 1) := dk_31 (dk_at dksX5_digest_11 8 rfl rfl)
theorem dX5_digest_269 : decode cX5_digest 269 = .ok (.lmul, 1) := dk_105 (dk_at dksX5_digest_11 9 rfl rfl)
theorem dX5_digest_270 : decode cX5_digest 270 = .ok (.iload_n 3, 1) := dk_29 (dk_at dksX5_digest_11 10 rfl rfl)
theorem dX5_digest_271 : decode cX5_digest 271 = .ok (.i2l, 1) := dk_133 (dk_at dksX5_digest_11 11 rfl rfl)
theorem dX5_digest_272 : decode cX5_digest 272 = .ok (.ladd, 1) := dk_97 (dk_at dksX5_digest_11 12 rfl rfl)
theorem dX5_digest_273 : decode cX5_digest 273 = .ok (.lstore_n 1, 1) := dk_64 (dk_at dksX5_digest_11 13 rfl rfl)
theorem dX5_digest_274 : decode cX5_digest 274 = .ok (.ldc2_w 342, 3) := dk_20 1 86 (dk_at dksX5_digest_11 14 rfl rfl)
theorem dX5_digest_277 : decode cX5_digest 277 = .ok (.lload_n 1, 1) := dk_31 (dk_at dksX5_digest_11 17 rfl rfl)
theorem dX5_digest_278 : decode cX5_digest 278 = .ok (.lmul, 1) := dk_105 (dk_at dksX5_digest_11 18 rfl rfl)
theorem dX5_digest_279 : decode cX5_digest 279 = .ok (.aload_n 0, 1) := dk_42 (dk_at dksX5_digest_11 19 rfl rfl)
theorem dX5_digest_280 : decode cX5_digest 280 = .ok (.iload_n 3, 1) := dk_29 (dk_at dksX5_digest_11 20 rfl rfl)
theorem dX5_digest_281 : decode cX5_digest 281 = .ok (.iconst 0, 1) := dk_3 (dk_at dksX5_digest_11 21 rfl rfl)
theorem dX5_digest_282 : decode cX5_digest 282 = .ok (.invokevirtual 290, 3) := dk_182 1 34 (dk_at dksX5_digest_12 0 rfl rfl)
theorem dX5_digest_285 : decode cX5_digest 285 = .ok (.i2l, 1) := dk_133 (dk_at dksX5_digest_12 3 rfl rfl)
theorem dX5_digest_286 : decode cX5_digest 286 = .ok (.ladd, 1) := dk_97 (dk_at dksX5_digest_12 4 rfl rfl)
theorem dX5_digest_287 : decode cX5_digest 287 = .ok (.lstore_n 1, 1) := dk_64 (dk_at dksX5_digest_12 5 rfl rfl)
theorem dX5_digest_288 : decode cX5_digest 288 = .ok (.ldc2_w 342, 3) := dk_20 1 86 (dk_at dksX5_digest_12 6 rfl rfl)
theorem dX5_digest_291 : decode cX5_digest 291 = .ok (.lload_n 1, 1) := dk_31 (dk_at dksX5_digest_12 9 rfl rfl)
theorem dX5_digest_292 : decode cX5_digest 292 = .ok (.lmul, 1) := dk_105 (dk_at dksX5_digest_12 10 rfl rfl)
theorem dX5_digest_293 : decode cX5_digest 293 = .ok (.aload_n 0, 1) := dk_42 (dk_at dksX5_digest_12 11 rfl rfl)
theorem dX5_digest_294 : decode cX5_digest 294 = .ok (.invokevirtual 300, 3) := dk_182 1 44 (dk_at dksX5_digest_12 12 rfl rfl)
theorem dX5_digest_297 : decode cX5_digest 297 = .ok (.i2l, 1) := dk_133 (dk_at dksX5_digest_12 15 rfl rfl)
theorem dX5_digest_298 : decode cX5_digest 298 = .ok (.ladd, 1) := dk_97 (dk_at dksX5_digest_12 16 rfl rfl)
theorem dX5_digest_299 : decode cX5_digest 299 = .ok (.lstore_n 1, 1) := dk_64 (dk_at dksX5_digest_12 17 rfl rfl)
theorem dX5_digest_300 : decode cX5_digest 300 = .ok (.ldc2_w 342, 3) := dk_20 1 86 (dk_at dksX5_digest_12 18 rfl rfl)
theorem dX5_digest_303 : decode cX5_digest 303 = .ok (.lload_n 1, 1) := dk_31 (dk_at dksX5_digest_12 21 rfl rfl)
theorem dX5_digest_304 : decode cX5_digest 304 = .ok (.lmul, 1) := dk_105 (dk_at dksX5_digest_12 22 rfl rfl)
theorem dX5_digest_305 : decode cX5_digest 305 = .ok (.aload_n 0, 1) := dk_42 (dk_at dksX5_digest_12 23 rfl rfl)
theorem dX5_digest_306 : decode cX5_digest 306 = .ok (.bipush 7, 2) := dk_16 7 (dk_at dksX5_digest_13 0 rfl rfl)
theorem dX5_digest_308 : decode cX5_digest 308 = .ok (.bipush 18, 2) := dk_16 18 (dk_at dksX5_digest_13 2 rfl rfl)
theorem dX5_digest_310 : decode cX5_digest 310 = .ok (.iconst 0, 1) := dk_3 (dk_at dksX5_digest_13 4 rfl rfl)
theorem dX5_digest_311 : decode cX5_digest 311 = .ok (.invokevirtual 325, 3) := dk_182 1 69 (dk_at dksX5_digest_13 5 rfl rfl)
theorem dX5_digest_314 : decode cX5_digest 314 = .ok (.i2l, 1) := dk_133 (dk_at dksX5_digest_13 8 rfl rfl)
theorem dX5_digest_315 : decode cX5_digest 315 = .ok (.ladd, 1) := dk_97 (dk_at dksX5_digest_13 9 rfl rfl)
theorem dX5_digest_316 : decode cX5_digest 316 = .ok (.lstore_n 1, 1) := dk_64 (dk_at dksX5_digest_13 10 rfl rfl)
theorem dX5_digest_317 : decode cX5_digest 317 = .ok (.ldc2_w 342, 3) := dk_20 1 86 (dk_at dksX5_digest_13 11 rfl rfl)
theorem dX5_digest_320 : decode cX5_digest 320 = .ok (.lload_n 1, 1) := dk_31 (dk_at dksX5_digest_13 14 rfl rfl)
theorem dX5_digest_321 : decode cX5_digest 321 = .ok (.lmul, 1) := dk_105 (dk_at dksX5_digest_13 15 rfl rfl)
theorem dX5_digest_322 : decode cX5_digest 322 = .ok (.aload_n 0, 1) := dk_42 (dk_at dksX5_digest_13 16 rfl rfl)
theorem dX5_digest_323 : decode cX5_digest 323 = .ok (.bipush 7, 2) := dk_16 7 (dk_at dksX5_digest_13 17 rfl rfl)
theorem dX5_digest_325 : decode cX5_digest 325 = .ok (.bipush 18, 2) := dk_16 18 (dk_at dksX5_digest_13 19 rfl rfl)
theorem dX5_digest_327 : decode cX5_digest 327 = .ok (.iconst 1, 1) := dk_4 (dk_at dksX5_digest_13 21 rfl rfl)
theorem dX5_digest_328 : decode cX5_digest 328 = .ok (.invokevirtual 325, 3) := dk_182 1 69 (dk_at dksX5_digest_14 0 rfl rfl)
theorem dX5_digest_331 : decode cX5_digest 331 = .ok (.i2l, 1) := dk_133 (dk_at dksX5_digest_14 3 rfl rfl)
theorem dX5_digest_332 : decode cX5_digest 332 = .ok (.ladd, 1) := dk_97 (dk_at dksX5_digest_14 4 rfl rfl)
theorem dX5_digest_333 : decode cX5_digest 333 = .ok (.lreturn, 1) := dk_173 (dk_at dksX5_digest_14 5 rfl rfl)
abbrev cX5_pullerDigest : ByteArray := prog_12_method_96_code
def yX5_pullerDigest : MethodName := ⟨RX5, "pullerDigest", "(JI)J"⟩
def dkwX5_pullerDigest_5 : List UInt8 := [182, 1, 50, 133, 97, 55, 4, 20, 1, 86, 22, 4, 105, 42, 29, 182, 1, 53, 133, 97, 173]
abbrev dktX5_pullerDigest_5 : List UInt8 := dkwX5_pullerDigest_5 ++ []
def dkwX5_pullerDigest_4 : List UInt8 := [20, 1, 86, 22, 4, 105, 42, 29, 182, 1, 47, 133, 97, 55, 4, 20, 1, 86, 22, 4, 105, 42, 29]
abbrev dktX5_pullerDigest_4 : List UInt8 := dkwX5_pullerDigest_4 ++ dktX5_pullerDigest_5
def dkwX5_pullerDigest_3 : List UInt8 := [16, 23, 29, 182, 1, 88, 55, 4, 20, 1, 86, 22, 4, 105, 42, 29, 182, 0, 250, 133, 97, 55, 4]
abbrev dktX5_pullerDigest_3 : List UInt8 := dkwX5_pullerDigest_3 ++ dktX5_pullerDigest_4
def dkwX5_pullerDigest_2 : List UInt8 := [22, 4, 8, 29, 182, 1, 88, 55, 4, 42, 22, 4, 16, 12, 29, 182, 1, 88, 55, 4, 42, 22, 4]
abbrev dktX5_pullerDigest_2 : List UInt8 := dkwX5_pullerDigest_2 ++ dktX5_pullerDigest_3
def dkwX5_pullerDigest_1 : List UInt8 := [182, 0, 150, 133, 97, 55, 4, 132, 6, 1, 167, 255, 230, 42, 22, 4, 3, 29, 182, 1, 88, 55, 4, 42]
abbrev dktX5_pullerDigest_1 : List UInt8 := dkwX5_pullerDigest_1 ++ dktX5_pullerDigest_2
def dkwX5_pullerDigest_0 : List UInt8 := [31, 55, 4, 3, 54, 6, 21, 6, 6, 162, 0, 26, 20, 1, 86, 22, 4, 105, 42, 29, 21, 6]
abbrev dktX5_pullerDigest_0 : List UInt8 := dkwX5_pullerDigest_0 ++ dktX5_pullerDigest_1
theorem dksX5_pullerDigest_0 : cX5_pullerDigest.data.toList.drop 0 = dktX5_pullerDigest_0 := by decide +kernel
theorem dksX5_pullerDigest_1 : cX5_pullerDigest.data.toList.drop 22 = dktX5_pullerDigest_1 := dk_seg dksX5_pullerDigest_0 22 rfl rfl
theorem dksX5_pullerDigest_2 : cX5_pullerDigest.data.toList.drop 46 = dktX5_pullerDigest_2 := dk_seg dksX5_pullerDigest_1 24 rfl rfl
theorem dksX5_pullerDigest_3 : cX5_pullerDigest.data.toList.drop 69 = dktX5_pullerDigest_3 := dk_seg dksX5_pullerDigest_2 23 rfl rfl
theorem dksX5_pullerDigest_4 : cX5_pullerDigest.data.toList.drop 92 = dktX5_pullerDigest_4 := dk_seg dksX5_pullerDigest_3 23 rfl rfl
theorem dksX5_pullerDigest_5 : cX5_pullerDigest.data.toList.drop 115 = dktX5_pullerDigest_5 := dk_seg dksX5_pullerDigest_4 23 rfl rfl
theorem dX5_pullerDigest_0 : decode cX5_pullerDigest 0 = .ok (.lload_n 1, 1) := dk_31 (dk_at dksX5_pullerDigest_0 0 rfl rfl)
theorem dX5_pullerDigest_1 : decode cX5_pullerDigest 1 = .ok (.lstore 4, 2) := dk_55 4 (dk_at dksX5_pullerDigest_0 1 rfl rfl)
theorem dX5_pullerDigest_3 : decode cX5_pullerDigest 3 = .ok (.iconst 0, 1) := dk_3 (dk_at dksX5_pullerDigest_0 3 rfl rfl)
theorem dX5_pullerDigest_4 : decode cX5_pullerDigest 4 = .ok (.istore 6, 2) := dk_54 6 (dk_at dksX5_pullerDigest_0 4 rfl rfl)
theorem dX5_pullerDigest_6 : decode cX5_pullerDigest 6 = .ok (.iload 6, 2) := dk_21 6 (dk_at dksX5_pullerDigest_0 6 rfl rfl)
theorem dX5_pullerDigest_8 : decode cX5_pullerDigest 8 = .ok (.iconst 3, 1) := dk_6 (dk_at dksX5_pullerDigest_0 8 rfl rfl)
theorem dX5_pullerDigest_9 : decode cX5_pullerDigest 9 = .ok (.if_icmp .ge 26, 3) := dk_162 0 26 (dk_at dksX5_pullerDigest_0 9 rfl rfl)
theorem dX5_pullerDigest_12 : decode cX5_pullerDigest 12 = .ok (.ldc2_w 342, 3) := dk_20 1 86 (dk_at dksX5_pullerDigest_0 12 rfl rfl)
theorem dX5_pullerDigest_15 : decode cX5_pullerDigest 15 = .ok (.lload 4, 2) := dk_22 4 (dk_at dksX5_pullerDigest_0 15 rfl rfl)
theorem dX5_pullerDigest_17 : decode cX5_pullerDigest 17 = .ok (.lmul, 1) := dk_105 (dk_at dksX5_pullerDigest_0 17 rfl rfl)
theorem dX5_pullerDigest_18 : decode cX5_pullerDigest 18 = .ok (.aload_n 0, 1) := dk_42 (dk_at dksX5_pullerDigest_0 18 rfl rfl)
theorem dX5_pullerDigest_19 : decode cX5_pullerDigest 19 = .ok (.iload_n 3, 1) := dk_29 (dk_at dksX5_pullerDigest_0 19 rfl rfl)
theorem dX5_pullerDigest_20 : decode cX5_pullerDigest 20 = .ok (.iload 6, 2) := dk_21 6 (dk_at dksX5_pullerDigest_0 20 rfl rfl)
theorem dX5_pullerDigest_22 : decode cX5_pullerDigest 22 = .ok (.invokevirtual 150, 3) := dk_182 0 150 (dk_at dksX5_pullerDigest_1 0 rfl rfl)
theorem dX5_pullerDigest_25 : decode cX5_pullerDigest 25 = .ok (.i2l, 1) := dk_133 (dk_at dksX5_pullerDigest_1 3 rfl rfl)
theorem dX5_pullerDigest_26 : decode cX5_pullerDigest 26 = .ok (.ladd, 1) := dk_97 (dk_at dksX5_pullerDigest_1 4 rfl rfl)
theorem dX5_pullerDigest_27 : decode cX5_pullerDigest 27 = .ok (.lstore 4, 2) := dk_55 4 (dk_at dksX5_pullerDigest_1 5 rfl rfl)
theorem dX5_pullerDigest_29 : decode cX5_pullerDigest 29 = .ok (.iinc 6 1, 3) := dk_132 6 1 (dk_at dksX5_pullerDigest_1 7 rfl rfl)
theorem dX5_pullerDigest_32 : decode cX5_pullerDigest 32 = .ok (.goto (-26), 3) := dk_167 255 230 (dk_at dksX5_pullerDigest_1 10 rfl rfl)
theorem dX5_pullerDigest_35 : decode cX5_pullerDigest 35 = .ok (.aload_n 0, 1) := dk_42 (dk_at dksX5_pullerDigest_1 13 rfl rfl)
theorem dX5_pullerDigest_36 : decode cX5_pullerDigest 36 = .ok (.lload 4, 2) := dk_22 4 (dk_at dksX5_pullerDigest_1 14 rfl rfl)
theorem dX5_pullerDigest_38 : decode cX5_pullerDigest 38 = .ok (.iconst 0, 1) := dk_3 (dk_at dksX5_pullerDigest_1 16 rfl rfl)
theorem dX5_pullerDigest_39 : decode cX5_pullerDigest 39 = .ok (.iload_n 3, 1) := dk_29 (dk_at dksX5_pullerDigest_1 17 rfl rfl)
theorem dX5_pullerDigest_40 : decode cX5_pullerDigest 40 = .ok (.invokevirtual 344, 3) := dk_182 1 88 (dk_at dksX5_pullerDigest_1 18 rfl rfl)
theorem dX5_pullerDigest_43 : decode cX5_pullerDigest 43 = .ok (.lstore 4, 2) := dk_55 4 (dk_at dksX5_pullerDigest_1 21 rfl rfl)
theorem dX5_pullerDigest_45 : decode cX5_pullerDigest 45 = .ok (.aload_n 0, 1) := dk_42 (dk_at dksX5_pullerDigest_1 23 rfl rfl)
theorem dX5_pullerDigest_46 : decode cX5_pullerDigest 46 = .ok (.lload 4, 2) := dk_22 4 (dk_at dksX5_pullerDigest_2 0 rfl rfl)
theorem dX5_pullerDigest_48 : decode cX5_pullerDigest 48 = .ok (.iconst 5, 1) := dk_8 (dk_at dksX5_pullerDigest_2 2 rfl rfl)
theorem dX5_pullerDigest_49 : decode cX5_pullerDigest 49 = .ok (.iload_n 3, 1) := dk_29 (dk_at dksX5_pullerDigest_2 3 rfl rfl)
theorem dX5_pullerDigest_50 : decode cX5_pullerDigest 50 = .ok (.invokevirtual 344, 3) := dk_182 1 88 (dk_at dksX5_pullerDigest_2 4 rfl rfl)
theorem dX5_pullerDigest_53 : decode cX5_pullerDigest 53 = .ok (.lstore 4, 2) := dk_55 4 (dk_at dksX5_pullerDigest_2 7 rfl rfl)
theorem dX5_pullerDigest_55 : decode cX5_pullerDigest 55 = .ok (.aload_n 0, 1) := dk_42 (dk_at dksX5_pullerDigest_2 9 rfl rfl)
theorem dX5_pullerDigest_56 : decode cX5_pullerDigest 56 = .ok (.lload 4, 2) := dk_22 4 (dk_at dksX5_pullerDigest_2 10 rfl rfl)
theorem dX5_pullerDigest_58 : decode cX5_pullerDigest 58 = .ok (.bipush 12, 2) := dk_16 12 (dk_at dksX5_pullerDigest_2 12 rfl rfl)
theorem dX5_pullerDigest_60 : decode cX5_pullerDigest 60 = .ok (.iload_n 3, 1) := dk_29 (dk_at dksX5_pullerDigest_2 14 rfl rfl)
theorem dX5_pullerDigest_61 : decode cX5_pullerDigest 61 = .ok (.invokevirtual 344, 3) := dk_182 1 88 (dk_at dksX5_pullerDigest_2 15 rfl rfl)
theorem dX5_pullerDigest_64 : decode cX5_pullerDigest 64 = .ok (.lstore 4, 2) := dk_55 4 (dk_at dksX5_pullerDigest_2 18 rfl rfl)
theorem dX5_pullerDigest_66 : decode cX5_pullerDigest 66 = .ok (.aload_n 0, 1) := dk_42 (dk_at dksX5_pullerDigest_2 20 rfl rfl)
theorem dX5_pullerDigest_67 : decode cX5_pullerDigest 67 = .ok (.lload 4, 2) := dk_22 4 (dk_at dksX5_pullerDigest_2 21 rfl rfl)
theorem dX5_pullerDigest_69 : decode cX5_pullerDigest 69 = .ok (.bipush 23, 2) := dk_16 23 (dk_at dksX5_pullerDigest_3 0 rfl rfl)
theorem dX5_pullerDigest_71 : decode cX5_pullerDigest 71 = .ok (.iload_n 3, 1) := dk_29 (dk_at dksX5_pullerDigest_3 2 rfl rfl)
theorem dX5_pullerDigest_72 : decode cX5_pullerDigest 72 = .ok (.invokevirtual 344, 3) := dk_182 1 88 (dk_at dksX5_pullerDigest_3 3 rfl rfl)
theorem dX5_pullerDigest_75 : decode cX5_pullerDigest 75 = .ok (.lstore 4, 2) := dk_55 4 (dk_at dksX5_pullerDigest_3 6 rfl rfl)
theorem dX5_pullerDigest_77 : decode cX5_pullerDigest 77 = .ok (.ldc2_w 342, 3) := dk_20 1 86 (dk_at dksX5_pullerDigest_3 8 rfl rfl)
theorem dX5_pullerDigest_80 : decode cX5_pullerDigest 80 = .ok (.lload 4, 2) := dk_22 4 (dk_at dksX5_pullerDigest_3 11 rfl rfl)
theorem dX5_pullerDigest_82 : decode cX5_pullerDigest 82 = .ok (.lmul, 1) := dk_105 (dk_at dksX5_pullerDigest_3 13 rfl rfl)
theorem dX5_pullerDigest_83 : decode cX5_pullerDigest 83 = .ok (.aload_n 0, 1) := dk_42 (dk_at dksX5_pullerDigest_3 14 rfl rfl)
theorem dX5_pullerDigest_84 : decode cX5_pullerDigest 84 = .ok (.iload_n 3, 1) := dk_29 (dk_at dksX5_pullerDigest_3 15 rfl rfl)
theorem dX5_pullerDigest_85 : decode cX5_pullerDigest 85 = .ok (.invokevirtual 250, 3) := dk_182 0 250 (dk_at dksX5_pullerDigest_3 16 rfl rfl)
theorem dX5_pullerDigest_88 : decode cX5_pullerDigest 88 = .ok (.i2l, 1) := dk_133 (dk_at dksX5_pullerDigest_3 19 rfl rfl)
theorem dX5_pullerDigest_89 : decode cX5_pullerDigest 89 = .ok (.ladd, 1) := dk_97 (dk_at dksX5_pullerDigest_3 20 rfl rfl)
theorem dX5_pullerDigest_90 : decode cX5_pullerDigest 90 = .ok (.lstore 4, 2) := dk_55 4 (dk_at dksX5_pullerDigest_3 21 rfl rfl)
theorem dX5_pullerDigest_92 : decode cX5_pullerDigest 92 = .ok (.ldc2_w 342, 3) := dk_20 1 86 (dk_at dksX5_pullerDigest_4 0 rfl rfl)
theorem dX5_pullerDigest_95 : decode cX5_pullerDigest 95 = .ok (.lload 4, 2) := dk_22 4 (dk_at dksX5_pullerDigest_4 3 rfl rfl)
theorem dX5_pullerDigest_97 : decode cX5_pullerDigest 97 = .ok (.lmul, 1) := dk_105 (dk_at dksX5_pullerDigest_4 5 rfl rfl)
theorem dX5_pullerDigest_98 : decode cX5_pullerDigest 98 = .ok (.aload_n 0, 1) := dk_42 (dk_at dksX5_pullerDigest_4 6 rfl rfl)
theorem dX5_pullerDigest_99 : decode cX5_pullerDigest 99 = .ok (.iload_n 3, 1) := dk_29 (dk_at dksX5_pullerDigest_4 7 rfl rfl)
theorem dX5_pullerDigest_100 : decode cX5_pullerDigest 100 = .ok (.invokevirtual 303, 3) := dk_182 1 47 (dk_at dksX5_pullerDigest_4 8 rfl rfl)
theorem dX5_pullerDigest_103 : decode cX5_pullerDigest 103 = .ok (.i2l, 1) := dk_133 (dk_at dksX5_pullerDigest_4 11 rfl rfl)
theorem dX5_pullerDigest_104 : decode cX5_pullerDigest 104 = .ok (.ladd, 1) := dk_97 (dk_at dksX5_pullerDigest_4 12 rfl rfl)
theorem dX5_pullerDigest_105 : decode cX5_pullerDigest 105 = .ok (.lstore 4, 2) := dk_55 4 (dk_at dksX5_pullerDigest_4 13 rfl rfl)
theorem dX5_pullerDigest_107 : decode cX5_pullerDigest 107 = .ok (.ldc2_w 342, 3) := dk_20 1 86 (dk_at dksX5_pullerDigest_4 15 rfl rfl)
theorem dX5_pullerDigest_110 : decode cX5_pullerDigest 110 = .ok (.lload 4, 2) := dk_22 4 (dk_at dksX5_pullerDigest_4 18 rfl rfl)
theorem dX5_pullerDigest_112 : decode cX5_pullerDigest 112 = .ok (.lmul, 1) := dk_105 (dk_at dksX5_pullerDigest_4 20 rfl rfl)
theorem dX5_pullerDigest_113 : decode cX5_pullerDigest 113 = .ok (.aload_n 0, 1) := dk_42 (dk_at dksX5_pullerDigest_4 21 rfl rfl)
theorem dX5_pullerDigest_114 : decode cX5_pullerDigest 114 = .ok (.iload_n 3, 1) := dk_29 (dk_at dksX5_pullerDigest_4 22 rfl rfl)
theorem dX5_pullerDigest_115 : decode cX5_pullerDigest 115 = .ok (.invokevirtual 306, 3) := dk_182 1 50 (dk_at dksX5_pullerDigest_5 0 rfl rfl)
theorem dX5_pullerDigest_118 : decode cX5_pullerDigest 118 = .ok (.i2l, 1) := dk_133 (dk_at dksX5_pullerDigest_5 3 rfl rfl)
theorem dX5_pullerDigest_119 : decode cX5_pullerDigest 119 = .ok (.ladd, 1) := dk_97 (dk_at dksX5_pullerDigest_5 4 rfl rfl)
theorem dX5_pullerDigest_120 : decode cX5_pullerDigest 120 = .ok (.lstore 4, 2) := dk_55 4 (dk_at dksX5_pullerDigest_5 5 rfl rfl)
theorem dX5_pullerDigest_122 : decode cX5_pullerDigest 122 = .ok (.ldc2_w 342, 3) := dk_20 1 86 (dk_at dksX5_pullerDigest_5 7 rfl rfl)
theorem dX5_pullerDigest_125 : decode cX5_pullerDigest 125 = .ok (.lload 4, 2) := dk_22 4 (dk_at dksX5_pullerDigest_5 10 rfl rfl)
theorem dX5_pullerDigest_127 : decode cX5_pullerDigest 127 = .ok (.lmul, 1) := dk_105 (dk_at dksX5_pullerDigest_5 12 rfl rfl)
theorem dX5_pullerDigest_128 : decode cX5_pullerDigest 128 = .ok (.aload_n 0, 1) := dk_42 (dk_at dksX5_pullerDigest_5 13 rfl rfl)
theorem dX5_pullerDigest_129 : decode cX5_pullerDigest 129 = .ok (.iload_n 3, 1) := dk_29 (dk_at dksX5_pullerDigest_5 14 rfl rfl)
theorem dX5_pullerDigest_130 : decode cX5_pullerDigest 130 = .ok (.invokevirtual 309, 3) := dk_182 1 53 (dk_at dksX5_pullerDigest_5 15 rfl rfl)
theorem dX5_pullerDigest_133 : decode cX5_pullerDigest 133 = .ok (.i2l, 1) := dk_133 (dk_at dksX5_pullerDigest_5 18 rfl rfl)
theorem dX5_pullerDigest_134 : decode cX5_pullerDigest 134 = .ok (.ladd, 1) := dk_97 (dk_at dksX5_pullerDigest_5 19 rfl rfl)
theorem dX5_pullerDigest_135 : decode cX5_pullerDigest 135 = .ok (.lreturn, 1) := dk_173 (dk_at dksX5_pullerDigest_5 20 rfl rfl)
abbrev cX5_beatDigest : ByteArray := prog_12_method_95_code
def yX5_beatDigest : MethodName := ⟨RX5, "beatDigest", "(JII)J"⟩
def dkwX5_beatDigest_1 : List UInt8 := [29, 21, 4, 4, 182, 0, 241, 133, 97, 173]
abbrev dktX5_beatDigest_1 : List UInt8 := dkwX5_beatDigest_1 ++ []
def dkwX5_beatDigest_0 : List UInt8 := [20, 1, 86, 31, 105, 42, 29, 21, 4, 3, 182, 0, 241, 133, 97, 55, 5, 20, 1, 86, 22, 5, 105, 42]
abbrev dktX5_beatDigest_0 : List UInt8 := dkwX5_beatDigest_0 ++ dktX5_beatDigest_1
theorem dksX5_beatDigest_0 : cX5_beatDigest.data.toList.drop 0 = dktX5_beatDigest_0 := by decide +kernel
theorem dksX5_beatDigest_1 : cX5_beatDigest.data.toList.drop 24 = dktX5_beatDigest_1 := dk_seg dksX5_beatDigest_0 24 rfl rfl
theorem dX5_beatDigest_0 : decode cX5_beatDigest 0 = .ok (.ldc2_w 342, 3) := dk_20 1 86 (dk_at dksX5_beatDigest_0 0 rfl rfl)
theorem dX5_beatDigest_3 : decode cX5_beatDigest 3 = .ok (.lload_n 1, 1) := dk_31 (dk_at dksX5_beatDigest_0 3 rfl rfl)
theorem dX5_beatDigest_4 : decode cX5_beatDigest 4 = .ok (.lmul, 1) := dk_105 (dk_at dksX5_beatDigest_0 4 rfl rfl)
theorem dX5_beatDigest_5 : decode cX5_beatDigest 5 = .ok (.aload_n 0, 1) := dk_42 (dk_at dksX5_beatDigest_0 5 rfl rfl)
theorem dX5_beatDigest_6 : decode cX5_beatDigest 6 = .ok (.iload_n 3, 1) := dk_29 (dk_at dksX5_beatDigest_0 6 rfl rfl)
theorem dX5_beatDigest_7 : decode cX5_beatDigest 7 = .ok (.iload 4, 2) := dk_21 4 (dk_at dksX5_beatDigest_0 7 rfl rfl)
theorem dX5_beatDigest_9 : decode cX5_beatDigest 9 = .ok (.iconst 0, 1) := dk_3 (dk_at dksX5_beatDigest_0 9 rfl rfl)
theorem dX5_beatDigest_10 : decode cX5_beatDigest 10 = .ok (.invokevirtual 241, 3) := dk_182 0 241 (dk_at dksX5_beatDigest_0 10 rfl rfl)
theorem dX5_beatDigest_13 : decode cX5_beatDigest 13 = .ok (.i2l, 1) := dk_133 (dk_at dksX5_beatDigest_0 13 rfl rfl)
theorem dX5_beatDigest_14 : decode cX5_beatDigest 14 = .ok (.ladd, 1) := dk_97 (dk_at dksX5_beatDigest_0 14 rfl rfl)
theorem dX5_beatDigest_15 : decode cX5_beatDigest 15 = .ok (.lstore 5, 2) := dk_55 5 (dk_at dksX5_beatDigest_0 15 rfl rfl)
theorem dX5_beatDigest_17 : decode cX5_beatDigest 17 = .ok (.ldc2_w 342, 3) := dk_20 1 86 (dk_at dksX5_beatDigest_0 17 rfl rfl)
theorem dX5_beatDigest_20 : decode cX5_beatDigest 20 = .ok (.lload 5, 2) := dk_22 5 (dk_at dksX5_beatDigest_0 20 rfl rfl)
theorem dX5_beatDigest_22 : decode cX5_beatDigest 22 = .ok (.lmul, 1) := dk_105 (dk_at dksX5_beatDigest_0 22 rfl rfl)
theorem dX5_beatDigest_23 : decode cX5_beatDigest 23 = .ok (.aload_n 0, 1) := dk_42 (dk_at dksX5_beatDigest_0 23 rfl rfl)
theorem dX5_beatDigest_24 : decode cX5_beatDigest 24 = .ok (.iload_n 3, 1) := dk_29 (dk_at dksX5_beatDigest_1 0 rfl rfl)
theorem dX5_beatDigest_25 : decode cX5_beatDigest 25 = .ok (.iload 4, 2) := dk_21 4 (dk_at dksX5_beatDigest_1 1 rfl rfl)
theorem dX5_beatDigest_27 : decode cX5_beatDigest 27 = .ok (.iconst 1, 1) := dk_4 (dk_at dksX5_beatDigest_1 3 rfl rfl)
theorem dX5_beatDigest_28 : decode cX5_beatDigest 28 = .ok (.invokevirtual 241, 3) := dk_182 0 241 (dk_at dksX5_beatDigest_1 4 rfl rfl)
theorem dX5_beatDigest_31 : decode cX5_beatDigest 31 = .ok (.i2l, 1) := dk_133 (dk_at dksX5_beatDigest_1 7 rfl rfl)
theorem dX5_beatDigest_32 : decode cX5_beatDigest 32 = .ok (.ladd, 1) := dk_97 (dk_at dksX5_beatDigest_1 8 rfl rfl)
theorem dX5_beatDigest_33 : decode cX5_beatDigest 33 = .ok (.lreturn, 1) := dk_173 (dk_at dksX5_beatDigest_1 9 rfl rfl)
abbrev cX5_teamDigest : ByteArray := prog_12_method_97_code
def yX5_teamDigest : MethodName := ⟨RX5, "teamDigest", "(JI)J"⟩
def dkwX5_teamDigest_5 : List UInt8 := [42, 8, 29, 4, 182, 1, 60, 97, 173]
abbrev dktX5_teamDigest_5 : List UInt8 := dkwX5_teamDigest_5 ++ []
def dkwX5_teamDigest_4 : List UInt8 := [55, 4, 20, 1, 86, 22, 4, 105, 42, 8, 29, 3, 182, 1, 60, 97, 55, 4, 20, 1, 86, 22, 4, 105]
abbrev dktX5_teamDigest_4 : List UInt8 := dkwX5_teamDigest_4 ++ dktX5_teamDigest_5
def dkwX5_teamDigest_3 : List UInt8 := [29, 3, 182, 1, 25, 133, 97, 55, 4, 20, 1, 86, 22, 4, 105, 42, 29, 4, 182, 1, 25, 133, 97]
abbrev dktX5_teamDigest_3 : List UInt8 := dkwX5_teamDigest_3 ++ dktX5_teamDigest_4
def dkwX5_teamDigest_2 : List UInt8 := [42, 29, 21, 6, 182, 1, 22, 133, 97, 55, 4, 132, 6, 1, 167, 255, 230, 20, 1, 86, 22, 4, 105, 42]
abbrev dktX5_teamDigest_2 : List UInt8 := dkwX5_teamDigest_2 ++ dktX5_teamDigest_3
def dkwX5_teamDigest_1 : List UInt8 := [7, 4, 182, 1, 19, 133, 97, 55, 4, 3, 54, 6, 21, 6, 6, 162, 0, 26, 20, 1, 86, 22, 4, 105]
abbrev dktX5_teamDigest_1 : List UInt8 := dkwX5_teamDigest_1 ++ dktX5_teamDigest_2
def dkwX5_teamDigest_0 : List UInt8 := [20, 1, 86, 31, 105, 42, 29, 7, 3, 182, 1, 19, 133, 97, 55, 4, 20, 1, 86, 22, 4, 105, 42, 29]
abbrev dktX5_teamDigest_0 : List UInt8 := dkwX5_teamDigest_0 ++ dktX5_teamDigest_1
theorem dksX5_teamDigest_0 : cX5_teamDigest.data.toList.drop 0 = dktX5_teamDigest_0 := by decide +kernel
theorem dksX5_teamDigest_1 : cX5_teamDigest.data.toList.drop 24 = dktX5_teamDigest_1 := dk_seg dksX5_teamDigest_0 24 rfl rfl
theorem dksX5_teamDigest_2 : cX5_teamDigest.data.toList.drop 48 = dktX5_teamDigest_2 := dk_seg dksX5_teamDigest_1 24 rfl rfl
theorem dksX5_teamDigest_3 : cX5_teamDigest.data.toList.drop 72 = dktX5_teamDigest_3 := dk_seg dksX5_teamDigest_2 24 rfl rfl
theorem dksX5_teamDigest_4 : cX5_teamDigest.data.toList.drop 95 = dktX5_teamDigest_4 := dk_seg dksX5_teamDigest_3 23 rfl rfl
theorem dksX5_teamDigest_5 : cX5_teamDigest.data.toList.drop 119 = dktX5_teamDigest_5 := dk_seg dksX5_teamDigest_4 24 rfl rfl
theorem dX5_teamDigest_0 : decode cX5_teamDigest 0 = .ok (.ldc2_w 342, 3) := dk_20 1 86 (dk_at dksX5_teamDigest_0 0 rfl rfl)
theorem dX5_teamDigest_3 : decode cX5_teamDigest 3 = .ok (.lload_n 1, 1) := dk_31 (dk_at dksX5_teamDigest_0 3 rfl rfl)
theorem dX5_teamDigest_4 : decode cX5_teamDigest 4 = .ok (.lmul, 1) := dk_105 (dk_at dksX5_teamDigest_0 4 rfl rfl)
theorem dX5_teamDigest_5 : decode cX5_teamDigest 5 = .ok (.aload_n 0, 1) := dk_42 (dk_at dksX5_teamDigest_0 5 rfl rfl)
theorem dX5_teamDigest_6 : decode cX5_teamDigest 6 = .ok (.iload_n 3, 1) := dk_29 (dk_at dksX5_teamDigest_0 6 rfl rfl)
theorem dX5_teamDigest_7 : decode cX5_teamDigest 7 = .ok (.iconst 4, 1) := dk_7 (dk_at dksX5_teamDigest_0 7 rfl rfl)
theorem dX5_teamDigest_8 : decode cX5_teamDigest 8 = .ok (.iconst 0, 1) := dk_3 (dk_at dksX5_teamDigest_0 8 rfl rfl)
theorem dX5_teamDigest_9 : decode cX5_teamDigest 9 = .ok (.invokevirtual 275, 3) := dk_182 1 19 (dk_at dksX5_teamDigest_0 9 rfl rfl)
theorem dX5_teamDigest_12 : decode cX5_teamDigest 12 = .ok (.i2l, 1) := dk_133 (dk_at dksX5_teamDigest_0 12 rfl rfl)
theorem dX5_teamDigest_13 : decode cX5_teamDigest 13 = .ok (.ladd, 1) := dk_97 (dk_at dksX5_teamDigest_0 13 rfl rfl)
theorem dX5_teamDigest_14 : decode cX5_teamDigest 14 = .ok (.lstore 4, 2) := dk_55 4 (dk_at dksX5_teamDigest_0 14 rfl rfl)
theorem dX5_teamDigest_16 : decode cX5_teamDigest 16 = .ok (.ldc2_w 342, 3) := dk_20 1 86 (dk_at dksX5_teamDigest_0 16 rfl rfl)
theorem dX5_teamDigest_19 : decode cX5_teamDigest 19 = .ok (.lload 4, 2) := dk_22 4 (dk_at dksX5_teamDigest_0 19 rfl rfl)
theorem dX5_teamDigest_21 : decode cX5_teamDigest 21 = .ok (.lmul, 1) := dk_105 (dk_at dksX5_teamDigest_0 21 rfl rfl)
theorem dX5_teamDigest_22 : decode cX5_teamDigest 22 = .ok (.aload_n 0, 1) := dk_42 (dk_at dksX5_teamDigest_0 22 rfl rfl)
theorem dX5_teamDigest_23 : decode cX5_teamDigest 23 = .ok (.iload_n 3, 1) := dk_29 (dk_at dksX5_teamDigest_0 23 rfl rfl)
theorem dX5_teamDigest_24 : decode cX5_teamDigest 24 = .ok (.iconst 4, 1) := dk_7 (dk_at dksX5_teamDigest_1 0 rfl rfl)
theorem dX5_teamDigest_25 : decode cX5_teamDigest 25 = .ok (.iconst 1, 1) := dk_4 (dk_at dksX5_teamDigest_1 1 rfl rfl)
theorem dX5_teamDigest_26 : decode cX5_teamDigest 26 = .ok (.invokevirtual 275, 3) := dk_182 1 19 (dk_at dksX5_teamDigest_1 2 rfl rfl)
theorem dX5_teamDigest_29 : decode cX5_teamDigest 29 = .ok (.i2l, 1) := dk_133 (dk_at dksX5_teamDigest_1 5 rfl rfl)
theorem dX5_teamDigest_30 : decode cX5_teamDigest 30 = .ok (.ladd, 1) := dk_97 (dk_at dksX5_teamDigest_1 6 rfl rfl)
theorem dX5_teamDigest_31 : decode cX5_teamDigest 31 = .ok (.lstore 4, 2) := dk_55 4 (dk_at dksX5_teamDigest_1 7 rfl rfl)
theorem dX5_teamDigest_33 : decode cX5_teamDigest 33 = .ok (.iconst 0, 1) := dk_3 (dk_at dksX5_teamDigest_1 9 rfl rfl)
theorem dX5_teamDigest_34 : decode cX5_teamDigest 34 = .ok (.istore 6, 2) := dk_54 6 (dk_at dksX5_teamDigest_1 10 rfl rfl)
theorem dX5_teamDigest_36 : decode cX5_teamDigest 36 = .ok (.iload 6, 2) := dk_21 6 (dk_at dksX5_teamDigest_1 12 rfl rfl)
theorem dX5_teamDigest_38 : decode cX5_teamDigest 38 = .ok (.iconst 3, 1) := dk_6 (dk_at dksX5_teamDigest_1 14 rfl rfl)
theorem dX5_teamDigest_39 : decode cX5_teamDigest 39 = .ok (.if_icmp .ge 26, 3) := dk_162 0 26 (dk_at dksX5_teamDigest_1 15 rfl rfl)
theorem dX5_teamDigest_42 : decode cX5_teamDigest 42 = .ok (.ldc2_w 342, 3) := dk_20 1 86 (dk_at dksX5_teamDigest_1 18 rfl rfl)
theorem dX5_teamDigest_45 : decode cX5_teamDigest 45 = .ok (.lload 4, 2) := dk_22 4 (dk_at dksX5_teamDigest_1 21 rfl rfl)
theorem dX5_teamDigest_47 : decode cX5_teamDigest 47 = .ok (.lmul, 1) := dk_105 (dk_at dksX5_teamDigest_1 23 rfl rfl)
theorem dX5_teamDigest_48 : decode cX5_teamDigest 48 = .ok (.aload_n 0, 1) := dk_42 (dk_at dksX5_teamDigest_2 0 rfl rfl)
theorem dX5_teamDigest_49 : decode cX5_teamDigest 49 = .ok (.iload_n 3, 1) := dk_29 (dk_at dksX5_teamDigest_2 1 rfl rfl)
theorem dX5_teamDigest_50 : decode cX5_teamDigest 50 = .ok (.iload 6, 2) := dk_21 6 (dk_at dksX5_teamDigest_2 2 rfl rfl)
theorem dX5_teamDigest_52 : decode cX5_teamDigest 52 = .ok (.invokevirtual 278, 3) := dk_182 1 22 (dk_at dksX5_teamDigest_2 4 rfl rfl)
theorem dX5_teamDigest_55 : decode cX5_teamDigest 55 = .ok (.i2l, 1) := dk_133 (dk_at dksX5_teamDigest_2 7 rfl rfl)
theorem dX5_teamDigest_56 : decode cX5_teamDigest 56 = .ok (.ladd, 1) := dk_97 (dk_at dksX5_teamDigest_2 8 rfl rfl)
theorem dX5_teamDigest_57 : decode cX5_teamDigest 57 = .ok (.lstore 4, 2) := dk_55 4 (dk_at dksX5_teamDigest_2 9 rfl rfl)
theorem dX5_teamDigest_59 : decode cX5_teamDigest 59 = .ok (.iinc 6 1, 3) := dk_132 6 1 (dk_at dksX5_teamDigest_2 11 rfl rfl)
theorem dX5_teamDigest_62 : decode cX5_teamDigest 62 = .ok (.goto (-26), 3) := dk_167 255 230 (dk_at dksX5_teamDigest_2 14 rfl rfl)
theorem dX5_teamDigest_65 : decode cX5_teamDigest 65 = .ok (.ldc2_w 342, 3) := dk_20 1 86 (dk_at dksX5_teamDigest_2 17 rfl rfl)
theorem dX5_teamDigest_68 : decode cX5_teamDigest 68 = .ok (.lload 4, 2) := dk_22 4 (dk_at dksX5_teamDigest_2 20 rfl rfl)
theorem dX5_teamDigest_70 : decode cX5_teamDigest 70 = .ok (.lmul, 1) := dk_105 (dk_at dksX5_teamDigest_2 22 rfl rfl)
theorem dX5_teamDigest_71 : decode cX5_teamDigest 71 = .ok (.aload_n 0, 1) := dk_42 (dk_at dksX5_teamDigest_2 23 rfl rfl)
theorem dX5_teamDigest_72 : decode cX5_teamDigest 72 = .ok (.iload_n 3, 1) := dk_29 (dk_at dksX5_teamDigest_3 0 rfl rfl)
theorem dX5_teamDigest_73 : decode cX5_teamDigest 73 = .ok (.iconst 0, 1) := dk_3 (dk_at dksX5_teamDigest_3 1 rfl rfl)
theorem dX5_teamDigest_74 : decode cX5_teamDigest 74 = .ok (.invokevirtual 281, 3) := dk_182 1 25 (dk_at dksX5_teamDigest_3 2 rfl rfl)
theorem dX5_teamDigest_77 : decode cX5_teamDigest 77 = .ok (.i2l, 1) := dk_133 (dk_at dksX5_teamDigest_3 5 rfl rfl)
theorem dX5_teamDigest_78 : decode cX5_teamDigest 78 = .ok (.ladd, 1) := dk_97 (dk_at dksX5_teamDigest_3 6 rfl rfl)
theorem dX5_teamDigest_79 : decode cX5_teamDigest 79 = .ok (.lstore 4, 2) := dk_55 4 (dk_at dksX5_teamDigest_3 7 rfl rfl)
theorem dX5_teamDigest_81 : decode cX5_teamDigest 81 = .ok (.ldc2_w 342, 3) := dk_20 1 86 (dk_at dksX5_teamDigest_3 9 rfl rfl)
theorem dX5_teamDigest_84 : decode cX5_teamDigest 84 = .ok (.lload 4, 2) := dk_22 4 (dk_at dksX5_teamDigest_3 12 rfl rfl)
theorem dX5_teamDigest_86 : decode cX5_teamDigest 86 = .ok (.lmul, 1) := dk_105 (dk_at dksX5_teamDigest_3 14 rfl rfl)
theorem dX5_teamDigest_87 : decode cX5_teamDigest 87 = .ok (.aload_n 0, 1) := dk_42 (dk_at dksX5_teamDigest_3 15 rfl rfl)
theorem dX5_teamDigest_88 : decode cX5_teamDigest 88 = .ok (.iload_n 3, 1) := dk_29 (dk_at dksX5_teamDigest_3 16 rfl rfl)
theorem dX5_teamDigest_89 : decode cX5_teamDigest 89 = .ok (.iconst 1, 1) := dk_4 (dk_at dksX5_teamDigest_3 17 rfl rfl)
theorem dX5_teamDigest_90 : decode cX5_teamDigest 90 = .ok (.invokevirtual 281, 3) := dk_182 1 25 (dk_at dksX5_teamDigest_3 18 rfl rfl)
theorem dX5_teamDigest_93 : decode cX5_teamDigest 93 = .ok (.i2l, 1) := dk_133 (dk_at dksX5_teamDigest_3 21 rfl rfl)
theorem dX5_teamDigest_94 : decode cX5_teamDigest 94 = .ok (.ladd, 1) := dk_97 (dk_at dksX5_teamDigest_3 22 rfl rfl)
theorem dX5_teamDigest_95 : decode cX5_teamDigest 95 = .ok (.lstore 4, 2) := dk_55 4 (dk_at dksX5_teamDigest_4 0 rfl rfl)
theorem dX5_teamDigest_97 : decode cX5_teamDigest 97 = .ok (.ldc2_w 342, 3) := dk_20 1 86 (dk_at dksX5_teamDigest_4 2 rfl rfl)
theorem dX5_teamDigest_100 : decode cX5_teamDigest 100 = .ok (.lload 4, 2) := dk_22 4 (dk_at dksX5_teamDigest_4 5 rfl rfl)
theorem dX5_teamDigest_102 : decode cX5_teamDigest 102 = .ok (.lmul, 1) := dk_105 (dk_at dksX5_teamDigest_4 7 rfl rfl)
theorem dX5_teamDigest_103 : decode cX5_teamDigest 103 = .ok (.aload_n 0, 1) := dk_42 (dk_at dksX5_teamDigest_4 8 rfl rfl)
theorem dX5_teamDigest_104 : decode cX5_teamDigest 104 = .ok (.iconst 5, 1) := dk_8 (dk_at dksX5_teamDigest_4 9 rfl rfl)
theorem dX5_teamDigest_105 : decode cX5_teamDigest 105 = .ok (.iload_n 3, 1) := dk_29 (dk_at dksX5_teamDigest_4 10 rfl rfl)
theorem dX5_teamDigest_106 : decode cX5_teamDigest 106 = .ok (.iconst 0, 1) := dk_3 (dk_at dksX5_teamDigest_4 11 rfl rfl)
theorem dX5_teamDigest_107 : decode cX5_teamDigest 107 = .ok (.invokevirtual 316, 3) := dk_182 1 60 (dk_at dksX5_teamDigest_4 12 rfl rfl)
theorem dX5_teamDigest_110 : decode cX5_teamDigest 110 = .ok (.ladd, 1) := dk_97 (dk_at dksX5_teamDigest_4 15 rfl rfl)
theorem dX5_teamDigest_111 : decode cX5_teamDigest 111 = .ok (.lstore 4, 2) := dk_55 4 (dk_at dksX5_teamDigest_4 16 rfl rfl)
theorem dX5_teamDigest_113 : decode cX5_teamDigest 113 = .ok (.ldc2_w 342, 3) := dk_20 1 86 (dk_at dksX5_teamDigest_4 18 rfl rfl)
theorem dX5_teamDigest_116 : decode cX5_teamDigest 116 = .ok (.lload 4, 2) := dk_22 4 (dk_at dksX5_teamDigest_4 21 rfl rfl)
theorem dX5_teamDigest_118 : decode cX5_teamDigest 118 = .ok (.lmul, 1) := dk_105 (dk_at dksX5_teamDigest_4 23 rfl rfl)
theorem dX5_teamDigest_119 : decode cX5_teamDigest 119 = .ok (.aload_n 0, 1) := dk_42 (dk_at dksX5_teamDigest_5 0 rfl rfl)
theorem dX5_teamDigest_120 : decode cX5_teamDigest 120 = .ok (.iconst 5, 1) := dk_8 (dk_at dksX5_teamDigest_5 1 rfl rfl)
theorem dX5_teamDigest_121 : decode cX5_teamDigest 121 = .ok (.iload_n 3, 1) := dk_29 (dk_at dksX5_teamDigest_5 2 rfl rfl)
theorem dX5_teamDigest_122 : decode cX5_teamDigest 122 = .ok (.iconst 1, 1) := dk_4 (dk_at dksX5_teamDigest_5 3 rfl rfl)
theorem dX5_teamDigest_123 : decode cX5_teamDigest 123 = .ok (.invokevirtual 316, 3) := dk_182 1 60 (dk_at dksX5_teamDigest_5 4 rfl rfl)
theorem dX5_teamDigest_126 : decode cX5_teamDigest 126 = .ok (.ladd, 1) := dk_97 (dk_at dksX5_teamDigest_5 7 rfl rfl)
theorem dX5_teamDigest_127 : decode cX5_teamDigest 127 = .ok (.lreturn, 1) := dk_173 (dk_at dksX5_teamDigest_5 8 rfl rfl)
theorem q102 : (Jvm.Cond.initialized "TugOfWarModel") ∈ lw_all := lw_g (lw_at lw_m1 9 rfl) rfl
theorem q620 : (Jvm.Cond.selects "TugOfWarModel" ({ cls := "java/lang/Object", name := "getClass", desc := "()Ljava/lang/Class;" } : Jvm.MethodName) ({ cls := "java/lang/Object", name := "getClass", desc := "()Ljava/lang/Class;" } : Jvm.MethodName)) ∈ lw_all := lw_g (lw_at lw_m3 47 rfl) rfl
theorem q1188 : (Jvm.Cond.instantiable "TugOfWarModel" (47 : Nat)) ∈ lw_all := lw_g (lw_at lw_m5 135 rfl) rfl
theorem q1190 : (Jvm.Cond.instanceMethod ({ cls := "TugOfWarModel", name := "<init>", desc := "()V" } : Jvm.MethodName)) ∈ lw_all := lw_g (lw_at lw_m5 137 rfl) rfl
theorem q1191 : (Jvm.Cond.code ({ cls := "TugOfWarModel", name := "<init>", desc := "()V" } : Jvm.MethodName) prog_12_method_1_code (1 : Nat) (Option.none : Option Jvm.ClassFile.FieldType)) ∈ lw_all := lw_g (lw_at lw_m5 138 rfl) rfl
theorem q1192 : (Jvm.Cond.methodLink "TugOfWarModel" (1 : Nat) ({ cls := "java/lang/Object", name := "<init>", desc := "()V" } : Jvm.MethodName)) ∈ lw_all := lw_g (lw_at lw_m5 139 rfl) rfl
theorem q1193 : (Jvm.Cond.fieldLink "TugOfWarModel" (7 : Nat) "TugOfWarModel" "typed" "[I") ∈ lw_all := lw_g (lw_at lw_m5 140 rfl) rfl
theorem q1194 : (Jvm.Cond.fieldLink "TugOfWarModel" (13 : Nat) "TugOfWarModel" "texts" "[I") ∈ lw_all := lw_g (lw_at lw_m5 141 rfl) rfl
theorem q1195 : (Jvm.Cond.fieldLink "TugOfWarModel" (16 : Nat) "TugOfWarModel" "many" "[I") ∈ lw_all := lw_g (lw_at lw_m5 142 rfl) rfl
theorem q1196 : (Jvm.Cond.fieldLink "TugOfWarModel" (19 : Nat) "TugOfWarModel" "sorts" "[I") ∈ lw_all := lw_g (lw_at lw_m5 143 rfl) rfl
theorem q1197 : (Jvm.Cond.fieldLink "TugOfWarModel" (22 : Nat) "TugOfWarModel" "weights" "[I") ∈ lw_all := lw_g (lw_at lw_m5 144 rfl) rfl
theorem q1198 : (Jvm.Cond.fieldLink "TugOfWarModel" (25 : Nat) "TugOfWarModel" "winds" "[I") ∈ lw_all := lw_g (lw_at lw_m5 145 rfl) rfl
theorem q1199 : (Jvm.Cond.fieldLink "TugOfWarModel" (28 : Nat) "TugOfWarModel" "callsTold" "[I") ∈ lw_all := lw_g (lw_at lw_m5 146 rfl) rfl
theorem q1200 : (Jvm.Cond.fieldLink "TugOfWarModel" (31 : Nat) "TugOfWarModel" "callTold" "[I") ∈ lw_all := lw_g (lw_at lw_m5 147 rfl) rfl
theorem q1201 : (Jvm.Cond.fieldLink "TugOfWarModel" (162 : Nat) "TugOfWarModel" "mudTold" "I") ∈ lw_all := lw_g (lw_at lw_m5 148 rfl) rfl
theorem q1202 : (Jvm.Cond.fieldLink "TugOfWarModel" (166 : Nat) "TugOfWarModel" "events" "I") ∈ lw_all := lw_g (lw_at lw_m5 149 rfl) rfl
theorem q1203 : (Jvm.Cond.fieldLink "TugOfWarModel" (34 : Nat) "TugOfWarModel" "eventKind" "[I") ∈ lw_all := lw_g (lw_at lw_m5 150 rfl) rfl
theorem q1204 : (Jvm.Cond.fieldLink "TugOfWarModel" (37 : Nat) "TugOfWarModel" "eventBeat" "[I") ∈ lw_all := lw_g (lw_at lw_m5 151 rfl) rfl
theorem q1205 : (Jvm.Cond.fieldLink "TugOfWarModel" (40 : Nat) "TugOfWarModel" "eventNumber" "[I") ∈ lw_all := lw_g (lw_at lw_m5 152 rfl) rfl
theorem q1206 : (Jvm.Cond.fieldLink "TugOfWarModel" (43 : Nat) "TugOfWarModel" "callNow" "[I") ∈ lw_all := lw_g (lw_at lw_m5 153 rfl) rfl
theorem q1207 : (Jvm.Cond.fieldLink "TugOfWarModel" (178 : Nat) "TugOfWarModel" "notEvents" "I") ∈ lw_all := lw_g (lw_at lw_m5 154 rfl) rfl
theorem q1208 : (Jvm.Cond.fieldLink "TugOfWarModel" (46 : Nat) "TugOfWarModel" "places" "[I") ∈ lw_all := lw_g (lw_at lw_m5 155 rfl) rfl
theorem q1209 : (Jvm.Cond.fieldLink "TugOfWarModel" (181 : Nat) "TugOfWarModel" "outNow" "I") ∈ lw_all := lw_g (lw_at lw_m5 156 rfl) rfl
theorem q1210 : (Jvm.Cond.fieldLink "TugOfWarModel" (49 : Nat) "TugOfWarModel" "lastOf" "[I") ∈ lw_all := lw_g (lw_at lw_m5 157 rfl) rfl
theorem q1211 : (Jvm.Cond.fieldLink "TugOfWarModel" (194 : Nat) "TugOfWarModel" "mudNow" "I") ∈ lw_all := lw_g (lw_at lw_m5 158 rfl) rfl
theorem q1212 : (Jvm.Cond.fieldLink "TugOfWarModel" (184 : Nat) "TugOfWarModel" "dogNow" "I") ∈ lw_all := lw_g (lw_at lw_m5 159 rfl) rfl
theorem q1213 : (Jvm.Cond.fieldLink "TugOfWarModel" (187 : Nat) "TugOfWarModel" "slipBits" "I") ∈ lw_all := lw_g (lw_at lw_m5 160 rfl) rfl
theorem q1214 : (Jvm.Cond.fieldLink "TugOfWarModel" (203 : Nat) "TugOfWarModel" "ropeNow" "I") ∈ lw_all := lw_g (lw_at lw_m5 161 rfl) rfl
theorem q1215 : (Jvm.Cond.fieldLink "TugOfWarModel" (206 : Nat) "TugOfWarModel" "wonTeam" "I") ∈ lw_all := lw_g (lw_at lw_m5 162 rfl) rfl
theorem q1216 : (Jvm.Cond.fieldLink "TugOfWarModel" (209 : Nat) "TugOfWarModel" "wonBeat" "I") ∈ lw_all := lw_g (lw_at lw_m5 163 rfl) rfl
theorem q1217 : (Jvm.Cond.fieldLink "TugOfWarModel" (200 : Nat) "TugOfWarModel" "levels" "I") ∈ lw_all := lw_g (lw_at lw_m5 164 rfl) rfl
theorem q1218 : (Jvm.Cond.fieldLink "TugOfWarModel" (52 : Nat) "TugOfWarModel" "breaths" "[I") ∈ lw_all := lw_g (lw_at lw_m5 165 rfl) rfl
theorem q1219 : (Jvm.Cond.fieldLink "TugOfWarModel" (55 : Nat) "TugOfWarModel" "dones" "[I") ∈ lw_all := lw_g (lw_at lw_m5 166 rfl) rfl
theorem q1220 : (Jvm.Cond.fieldLink "TugOfWarModel" (58 : Nat) "TugOfWarModel" "pulls" "[I") ∈ lw_all := lw_g (lw_at lw_m5 167 rfl) rfl
theorem q1221 : (Jvm.Cond.fieldLink "TugOfWarModel" (61 : Nat) "TugOfWarModel" "sums" "[I") ∈ lw_all := lw_g (lw_at lw_m5 168 rfl) rfl
theorem q1222 : (Jvm.Cond.fieldLink "TugOfWarModel" (64 : Nat) "TugOfWarModel" "ropeAt" "[I") ∈ lw_all := lw_g (lw_at lw_m5 169 rfl) rfl
theorem q1223 : (Jvm.Cond.fieldLink "TugOfWarModel" (67 : Nat) "TugOfWarModel" "mudAt" "[I") ∈ lw_all := lw_g (lw_at lw_m5 170 rfl) rfl
theorem q1224 : (Jvm.Cond.fieldLink "TugOfWarModel" (70 : Nat) "TugOfWarModel" "sumAt" "[I") ∈ lw_all := lw_g (lw_at lw_m5 171 rfl) rfl
theorem q1225 : (Jvm.Cond.fieldLink "TugOfWarModel" (73 : Nat) "TugOfWarModel" "pullAt" "[I") ∈ lw_all := lw_g (lw_at lw_m5 172 rfl) rfl
theorem q1226 : (Jvm.Cond.fieldLink "TugOfWarModel" (76 : Nat) "TugOfWarModel" "breathAt" "[I") ∈ lw_all := lw_g (lw_at lw_m5 173 rfl) rfl
theorem q1227 : (Jvm.Cond.fieldLink "TugOfWarModel" (263 : Nat) "TugOfWarModel" "bestPlan" "I") ∈ lw_all := lw_g (lw_at lw_m5 174 rfl) rfl
theorem q1228 : (Jvm.Cond.fieldLink "TugOfWarModel" (266 : Nat) "TugOfWarModel" "bestRope" "I") ∈ lw_all := lw_g (lw_at lw_m5 175 rfl) rfl
theorem q1229 : (Jvm.Cond.fieldLink "TugOfWarModel" (79 : Nat) "TugOfWarModel" "planRow" "[I") ∈ lw_all := lw_g (lw_at lw_m5 176 rfl) rfl
theorem q1230 : (Jvm.Cond.fieldLink "TugOfWarModel" (293 : Nat) "TugOfWarModel" "seens" "I") ∈ lw_all := lw_g (lw_at lw_m5 177 rfl) rfl
theorem q1231 : (Jvm.Cond.fieldLink "TugOfWarModel" (82 : Nat) "TugOfWarModel" "seenBeat" "[I") ∈ lw_all := lw_g (lw_at lw_m5 178 rfl) rfl
theorem q1232 : (Jvm.Cond.fieldLink "TugOfWarModel" (85 : Nat) "TugOfWarModel" "seenPlace" "[I") ∈ lw_all := lw_g (lw_at lw_m5 179 rfl) rfl
theorem q1233 : (Jvm.Cond.fieldLink "TugOfWarModel" (88 : Nat) "TugOfWarModel" "ropeBy" "[I") ∈ lw_all := lw_g (lw_at lw_m5 180 rfl) rfl
theorem q1234 : (Jvm.Cond.fieldLink "TugOfWarModel" (91 : Nat) "TugOfWarModel" "isThere" "[Z") ∈ lw_all := lw_g (lw_at lw_m5 181 rfl) rfl
theorem q1235 : (Jvm.Cond.fieldLink "TugOfWarModel" (95 : Nat) "TugOfWarModel" "forms" "[I") ∈ lw_all := lw_g (lw_at lw_m5 182 rfl) rfl
theorem q1236 : (Jvm.Cond.fieldLink "TugOfWarModel" (98 : Nat) "TugOfWarModel" "sizes" "[I") ∈ lw_all := lw_g (lw_at lw_m5 183 rfl) rfl
theorem q1237 : (Jvm.Cond.fieldLink "TugOfWarModel" (101 : Nat) "TugOfWarModel" "items" "[I") ∈ lw_all := lw_g (lw_at lw_m5 184 rfl) rfl
theorem q1238 : (Jvm.Cond.fieldLink "TugOfWarModel" (104 : Nat) "TugOfWarModel" "moved" "[I") ∈ lw_all := lw_g (lw_at lw_m5 185 rfl) rfl
theorem q1239 : (Jvm.Cond.fieldLink "TugOfWarModel" (328 : Nat) "TugOfWarModel" "finding" "I") ∈ lw_all := lw_g (lw_at lw_m5 186 rfl) rfl
theorem q1240 : (Jvm.Cond.laysFinal "TugOfWarModel" "TugOfWarModel" "typed" "[I") ∈ lw_all := lw_g (lw_at lw_m5 187 rfl) rfl
theorem q1241 : (Jvm.Cond.soleField "TugOfWarModel" "typed") ∈ lw_all := lw_g (lw_at lw_m5 188 rfl) rfl
theorem q1242 : (Jvm.Cond.laysFinal "TugOfWarModel" "TugOfWarModel" "texts" "[I") ∈ lw_all := lw_g (lw_at lw_m5 189 rfl) rfl
theorem q1243 : (Jvm.Cond.soleField "TugOfWarModel" "texts") ∈ lw_all := lw_g (lw_at lw_m5 190 rfl) rfl
theorem q1244 : (Jvm.Cond.laysFinal "TugOfWarModel" "TugOfWarModel" "many" "[I") ∈ lw_all := lw_g (lw_at lw_m5 191 rfl) rfl
theorem q1245 : (Jvm.Cond.soleField "TugOfWarModel" "many") ∈ lw_all := lw_g (lw_at lw_m5 192 rfl) rfl
theorem q1246 : (Jvm.Cond.laysFinal "TugOfWarModel" "TugOfWarModel" "sorts" "[I") ∈ lw_all := lw_g (lw_at lw_m5 193 rfl) rfl
theorem q1247 : (Jvm.Cond.soleField "TugOfWarModel" "sorts") ∈ lw_all := lw_g (lw_at lw_m5 194 rfl) rfl
theorem q1248 : (Jvm.Cond.laysFinal "TugOfWarModel" "TugOfWarModel" "weights" "[I") ∈ lw_all := lw_g (lw_at lw_m5 195 rfl) rfl
theorem q1249 : (Jvm.Cond.soleField "TugOfWarModel" "weights") ∈ lw_all := lw_g (lw_at lw_m5 196 rfl) rfl
theorem q1250 : (Jvm.Cond.laysFinal "TugOfWarModel" "TugOfWarModel" "winds" "[I") ∈ lw_all := lw_g (lw_at lw_m5 197 rfl) rfl
theorem q1251 : (Jvm.Cond.soleField "TugOfWarModel" "winds") ∈ lw_all := lw_g (lw_at lw_m5 198 rfl) rfl
theorem q1252 : (Jvm.Cond.laysFinal "TugOfWarModel" "TugOfWarModel" "callsTold" "[I") ∈ lw_all := lw_g (lw_at lw_m5 199 rfl) rfl
theorem q1253 : (Jvm.Cond.soleField "TugOfWarModel" "callsTold") ∈ lw_all := lw_g (lw_at lw_m5 200 rfl) rfl
theorem q1254 : (Jvm.Cond.laysFinal "TugOfWarModel" "TugOfWarModel" "callTold" "[I") ∈ lw_all := lw_g (lw_at lw_m5 201 rfl) rfl
theorem q1255 : (Jvm.Cond.soleField "TugOfWarModel" "callTold") ∈ lw_all := lw_g (lw_at lw_m5 202 rfl) rfl
theorem q1256 : (Jvm.Cond.lays "TugOfWarModel" "TugOfWarModel" "mudTold" "I") ∈ lw_all := lw_g (lw_at lw_m5 203 rfl) rfl
theorem q1257 : (Jvm.Cond.soleField "TugOfWarModel" "mudTold") ∈ lw_all := lw_g (lw_at lw_m5 204 rfl) rfl
theorem q1258 : (Jvm.Cond.lays "TugOfWarModel" "TugOfWarModel" "events" "I") ∈ lw_all := lw_g (lw_at lw_m5 205 rfl) rfl
theorem q1259 : (Jvm.Cond.soleField "TugOfWarModel" "events") ∈ lw_all := lw_g (lw_at lw_m5 206 rfl) rfl
theorem q1260 : (Jvm.Cond.laysFinal "TugOfWarModel" "TugOfWarModel" "eventKind" "[I") ∈ lw_all := lw_g (lw_at lw_m5 207 rfl) rfl
theorem q1261 : (Jvm.Cond.soleField "TugOfWarModel" "eventKind") ∈ lw_all := lw_g (lw_at lw_m5 208 rfl) rfl
theorem q1262 : (Jvm.Cond.laysFinal "TugOfWarModel" "TugOfWarModel" "eventBeat" "[I") ∈ lw_all := lw_g (lw_at lw_m5 209 rfl) rfl
theorem q1263 : (Jvm.Cond.soleField "TugOfWarModel" "eventBeat") ∈ lw_all := lw_g (lw_at lw_m5 210 rfl) rfl
theorem q1264 : (Jvm.Cond.laysFinal "TugOfWarModel" "TugOfWarModel" "eventNumber" "[I") ∈ lw_all := lw_g (lw_at lw_m5 211 rfl) rfl
theorem q1265 : (Jvm.Cond.soleField "TugOfWarModel" "eventNumber") ∈ lw_all := lw_g (lw_at lw_m5 212 rfl) rfl
theorem q1266 : (Jvm.Cond.laysFinal "TugOfWarModel" "TugOfWarModel" "callNow" "[I") ∈ lw_all := lw_g (lw_at lw_m5 213 rfl) rfl
theorem q1267 : (Jvm.Cond.soleField "TugOfWarModel" "callNow") ∈ lw_all := lw_g (lw_at lw_m5 214 rfl) rfl
theorem q1268 : (Jvm.Cond.lays "TugOfWarModel" "TugOfWarModel" "notEvents" "I") ∈ lw_all := lw_g (lw_at lw_m5 215 rfl) rfl
theorem q1269 : (Jvm.Cond.soleField "TugOfWarModel" "notEvents") ∈ lw_all := lw_g (lw_at lw_m5 216 rfl) rfl
theorem q1270 : (Jvm.Cond.laysFinal "TugOfWarModel" "TugOfWarModel" "places" "[I") ∈ lw_all := lw_g (lw_at lw_m5 217 rfl) rfl
theorem q1271 : (Jvm.Cond.soleField "TugOfWarModel" "places") ∈ lw_all := lw_g (lw_at lw_m5 218 rfl) rfl
theorem q1272 : (Jvm.Cond.lays "TugOfWarModel" "TugOfWarModel" "outNow" "I") ∈ lw_all := lw_g (lw_at lw_m5 219 rfl) rfl
theorem q1273 : (Jvm.Cond.soleField "TugOfWarModel" "outNow") ∈ lw_all := lw_g (lw_at lw_m5 220 rfl) rfl
theorem q1274 : (Jvm.Cond.laysFinal "TugOfWarModel" "TugOfWarModel" "lastOf" "[I") ∈ lw_all := lw_g (lw_at lw_m5 221 rfl) rfl
theorem q1275 : (Jvm.Cond.soleField "TugOfWarModel" "lastOf") ∈ lw_all := lw_g (lw_at lw_m5 222 rfl) rfl
theorem q1276 : (Jvm.Cond.lays "TugOfWarModel" "TugOfWarModel" "mudNow" "I") ∈ lw_all := lw_g (lw_at lw_m5 223 rfl) rfl
theorem q1277 : (Jvm.Cond.soleField "TugOfWarModel" "mudNow") ∈ lw_all := lw_g (lw_at lw_m5 224 rfl) rfl
theorem q1278 : (Jvm.Cond.lays "TugOfWarModel" "TugOfWarModel" "dogNow" "I") ∈ lw_all := lw_g (lw_at lw_m5 225 rfl) rfl
theorem q1279 : (Jvm.Cond.soleField "TugOfWarModel" "dogNow") ∈ lw_all := lw_g (lw_at lw_m5 226 rfl) rfl
theorem q1280 : (Jvm.Cond.lays "TugOfWarModel" "TugOfWarModel" "slipBits" "I") ∈ lw_all := lw_g (lw_at lw_m5 227 rfl) rfl
theorem q1281 : (Jvm.Cond.soleField "TugOfWarModel" "slipBits") ∈ lw_all := lw_g (lw_at lw_m5 228 rfl) rfl
theorem q1282 : (Jvm.Cond.lays "TugOfWarModel" "TugOfWarModel" "ropeNow" "I") ∈ lw_all := lw_g (lw_at lw_m5 229 rfl) rfl
theorem q1283 : (Jvm.Cond.soleField "TugOfWarModel" "ropeNow") ∈ lw_all := lw_g (lw_at lw_m5 230 rfl) rfl
theorem q1284 : (Jvm.Cond.lays "TugOfWarModel" "TugOfWarModel" "wonTeam" "I") ∈ lw_all := lw_g (lw_at lw_m5 231 rfl) rfl
theorem q1285 : (Jvm.Cond.soleField "TugOfWarModel" "wonTeam") ∈ lw_all := lw_g (lw_at lw_m5 232 rfl) rfl
theorem q1286 : (Jvm.Cond.lays "TugOfWarModel" "TugOfWarModel" "wonBeat" "I") ∈ lw_all := lw_g (lw_at lw_m5 233 rfl) rfl
theorem q1287 : (Jvm.Cond.soleField "TugOfWarModel" "wonBeat") ∈ lw_all := lw_g (lw_at lw_m5 234 rfl) rfl
theorem q1288 : (Jvm.Cond.lays "TugOfWarModel" "TugOfWarModel" "levels" "I") ∈ lw_all := lw_g (lw_at lw_m5 235 rfl) rfl
theorem q1289 : (Jvm.Cond.soleField "TugOfWarModel" "levels") ∈ lw_all := lw_g (lw_at lw_m5 236 rfl) rfl
theorem q1290 : (Jvm.Cond.laysFinal "TugOfWarModel" "TugOfWarModel" "breaths" "[I") ∈ lw_all := lw_g (lw_at lw_m5 237 rfl) rfl
theorem q1291 : (Jvm.Cond.soleField "TugOfWarModel" "breaths") ∈ lw_all := lw_g (lw_at lw_m5 238 rfl) rfl
theorem q1292 : (Jvm.Cond.laysFinal "TugOfWarModel" "TugOfWarModel" "dones" "[I") ∈ lw_all := lw_g (lw_at lw_m5 239 rfl) rfl
theorem q1293 : (Jvm.Cond.soleField "TugOfWarModel" "dones") ∈ lw_all := lw_g (lw_at lw_m6 0 rfl) rfl
theorem q1294 : (Jvm.Cond.laysFinal "TugOfWarModel" "TugOfWarModel" "pulls" "[I") ∈ lw_all := lw_g (lw_at lw_m6 1 rfl) rfl
theorem q1295 : (Jvm.Cond.soleField "TugOfWarModel" "pulls") ∈ lw_all := lw_g (lw_at lw_m6 2 rfl) rfl
theorem q1296 : (Jvm.Cond.laysFinal "TugOfWarModel" "TugOfWarModel" "sums" "[I") ∈ lw_all := lw_g (lw_at lw_m6 3 rfl) rfl
theorem q1297 : (Jvm.Cond.soleField "TugOfWarModel" "sums") ∈ lw_all := lw_g (lw_at lw_m6 4 rfl) rfl
theorem q1298 : (Jvm.Cond.laysFinal "TugOfWarModel" "TugOfWarModel" "ropeAt" "[I") ∈ lw_all := lw_g (lw_at lw_m6 5 rfl) rfl
theorem q1299 : (Jvm.Cond.soleField "TugOfWarModel" "ropeAt") ∈ lw_all := lw_g (lw_at lw_m6 6 rfl) rfl
theorem q1300 : (Jvm.Cond.laysFinal "TugOfWarModel" "TugOfWarModel" "mudAt" "[I") ∈ lw_all := lw_g (lw_at lw_m6 7 rfl) rfl
theorem q1301 : (Jvm.Cond.soleField "TugOfWarModel" "mudAt") ∈ lw_all := lw_g (lw_at lw_m6 8 rfl) rfl
theorem q1302 : (Jvm.Cond.laysFinal "TugOfWarModel" "TugOfWarModel" "sumAt" "[I") ∈ lw_all := lw_g (lw_at lw_m6 9 rfl) rfl
theorem q1303 : (Jvm.Cond.soleField "TugOfWarModel" "sumAt") ∈ lw_all := lw_g (lw_at lw_m6 10 rfl) rfl
theorem q1304 : (Jvm.Cond.laysFinal "TugOfWarModel" "TugOfWarModel" "pullAt" "[I") ∈ lw_all := lw_g (lw_at lw_m6 11 rfl) rfl
theorem q1305 : (Jvm.Cond.soleField "TugOfWarModel" "pullAt") ∈ lw_all := lw_g (lw_at lw_m6 12 rfl) rfl
theorem q1306 : (Jvm.Cond.laysFinal "TugOfWarModel" "TugOfWarModel" "breathAt" "[I") ∈ lw_all := lw_g (lw_at lw_m6 13 rfl) rfl
theorem q1307 : (Jvm.Cond.soleField "TugOfWarModel" "breathAt") ∈ lw_all := lw_g (lw_at lw_m6 14 rfl) rfl
theorem q1308 : (Jvm.Cond.lays "TugOfWarModel" "TugOfWarModel" "bestPlan" "I") ∈ lw_all := lw_g (lw_at lw_m6 15 rfl) rfl
theorem q1309 : (Jvm.Cond.soleField "TugOfWarModel" "bestPlan") ∈ lw_all := lw_g (lw_at lw_m6 16 rfl) rfl
theorem q1310 : (Jvm.Cond.lays "TugOfWarModel" "TugOfWarModel" "bestRope" "I") ∈ lw_all := lw_g (lw_at lw_m6 17 rfl) rfl
theorem q1311 : (Jvm.Cond.soleField "TugOfWarModel" "bestRope") ∈ lw_all := lw_g (lw_at lw_m6 18 rfl) rfl
theorem q1312 : (Jvm.Cond.laysFinal "TugOfWarModel" "TugOfWarModel" "planRow" "[I") ∈ lw_all := lw_g (lw_at lw_m6 19 rfl) rfl
theorem q1313 : (Jvm.Cond.soleField "TugOfWarModel" "planRow") ∈ lw_all := lw_g (lw_at lw_m6 20 rfl) rfl
theorem q1314 : (Jvm.Cond.lays "TugOfWarModel" "TugOfWarModel" "seens" "I") ∈ lw_all := lw_g (lw_at lw_m6 21 rfl) rfl
theorem q1315 : (Jvm.Cond.soleField "TugOfWarModel" "seens") ∈ lw_all := lw_g (lw_at lw_m6 22 rfl) rfl
theorem q1316 : (Jvm.Cond.laysFinal "TugOfWarModel" "TugOfWarModel" "seenBeat" "[I") ∈ lw_all := lw_g (lw_at lw_m6 23 rfl) rfl
theorem q1317 : (Jvm.Cond.soleField "TugOfWarModel" "seenBeat") ∈ lw_all := lw_g (lw_at lw_m6 24 rfl) rfl
theorem q1318 : (Jvm.Cond.laysFinal "TugOfWarModel" "TugOfWarModel" "seenPlace" "[I") ∈ lw_all := lw_g (lw_at lw_m6 25 rfl) rfl
theorem q1319 : (Jvm.Cond.soleField "TugOfWarModel" "seenPlace") ∈ lw_all := lw_g (lw_at lw_m6 26 rfl) rfl
theorem q1320 : (Jvm.Cond.laysFinal "TugOfWarModel" "TugOfWarModel" "ropeBy" "[I") ∈ lw_all := lw_g (lw_at lw_m6 27 rfl) rfl
theorem q1321 : (Jvm.Cond.soleField "TugOfWarModel" "ropeBy") ∈ lw_all := lw_g (lw_at lw_m6 28 rfl) rfl
theorem q1322 : (Jvm.Cond.laysFinal "TugOfWarModel" "TugOfWarModel" "isThere" "[Z") ∈ lw_all := lw_g (lw_at lw_m6 29 rfl) rfl
theorem q1323 : (Jvm.Cond.soleField "TugOfWarModel" "isThere") ∈ lw_all := lw_g (lw_at lw_m6 30 rfl) rfl
theorem q1324 : (Jvm.Cond.laysFinal "TugOfWarModel" "TugOfWarModel" "forms" "[I") ∈ lw_all := lw_g (lw_at lw_m6 31 rfl) rfl
theorem q1325 : (Jvm.Cond.soleField "TugOfWarModel" "forms") ∈ lw_all := lw_g (lw_at lw_m6 32 rfl) rfl
theorem q1326 : (Jvm.Cond.laysFinal "TugOfWarModel" "TugOfWarModel" "sizes" "[I") ∈ lw_all := lw_g (lw_at lw_m6 33 rfl) rfl
theorem q1327 : (Jvm.Cond.soleField "TugOfWarModel" "sizes") ∈ lw_all := lw_g (lw_at lw_m6 34 rfl) rfl
theorem q1328 : (Jvm.Cond.laysFinal "TugOfWarModel" "TugOfWarModel" "items" "[I") ∈ lw_all := lw_g (lw_at lw_m6 35 rfl) rfl
theorem q1329 : (Jvm.Cond.soleField "TugOfWarModel" "items") ∈ lw_all := lw_g (lw_at lw_m6 36 rfl) rfl
theorem q1330 : (Jvm.Cond.laysFinal "TugOfWarModel" "TugOfWarModel" "moved" "[I") ∈ lw_all := lw_g (lw_at lw_m6 37 rfl) rfl
theorem q1331 : (Jvm.Cond.soleField "TugOfWarModel" "moved") ∈ lw_all := lw_g (lw_at lw_m6 38 rfl) rfl
theorem q1332 : (Jvm.Cond.lays "TugOfWarModel" "TugOfWarModel" "finding" "I") ∈ lw_all := lw_g (lw_at lw_m6 39 rfl) rfl
theorem q1333 : (Jvm.Cond.soleField "TugOfWarModel" "finding") ∈ lw_all := lw_g (lw_at lw_m6 40 rfl) rfl
theorem q1334 : (Jvm.Cond.superclass "TugOfWarModel" "java/lang/Object") ∈ lw_all := lw_g (lw_at lw_m6 41 rfl) rfl
theorem q1337 : (Jvm.Cond.instanceMethod ({ cls := "TugOfWarModel", name := "type", desc := "(II)I" } : Jvm.MethodName)) ∈ lw_all := lw_g (lw_at lw_m6 44 rfl) rfl
theorem q1338 : (Jvm.Cond.selects "TugOfWarModel" ({ cls := "TugOfWarModel", name := "type", desc := "(II)I" } : Jvm.MethodName) ({ cls := "TugOfWarModel", name := "type", desc := "(II)I" } : Jvm.MethodName)) ∈ lw_all := lw_g (lw_at lw_m6 45 rfl) rfl
theorem q1339 : (Jvm.Cond.code ({ cls := "TugOfWarModel", name := "type", desc := "(II)I" } : Jvm.MethodName) prog_12_method_11_code (3 : Nat) (Option.some Jvm.ClassFile.FieldType.int)) ∈ lw_all := lw_g (lw_at lw_m6 46 rfl) rfl
theorem q1340 : (Jvm.Cond.methodLink "TugOfWarModel" (113 : Nat) ({ cls := "TugOfWarModel", name := "isText", desc := "(I)Z" } : Jvm.MethodName)) ∈ lw_all := lw_g (lw_at lw_m6 47 rfl) rfl
theorem q1341 : (Jvm.Cond.static ({ cls := "TugOfWarModel", name := "isText", desc := "(I)Z" } : Jvm.MethodName)) ∈ lw_all := lw_g (lw_at lw_m6 48 rfl) rfl
theorem q1342 : (Jvm.Cond.code ({ cls := "TugOfWarModel", name := "isText", desc := "(I)Z" } : Jvm.MethodName) prog_12_method_7_code (1 : Nat) (Option.some Jvm.ClassFile.FieldType.boolean)) ∈ lw_all := lw_g (lw_at lw_m6 49 rfl) rfl
theorem q1343 : (Jvm.Cond.methodLink "TugOfWarModel" (109 : Nat) ({ cls := "TugOfWarModel", name := "in", desc := "(III)Z" } : Jvm.MethodName)) ∈ lw_all := lw_g (lw_at lw_m6 50 rfl) rfl
theorem q1344 : (Jvm.Cond.static ({ cls := "TugOfWarModel", name := "in", desc := "(III)Z" } : Jvm.MethodName)) ∈ lw_all := lw_g (lw_at lw_m6 51 rfl) rfl
theorem q1345 : (Jvm.Cond.code ({ cls := "TugOfWarModel", name := "in", desc := "(III)Z" } : Jvm.MethodName) prog_12_method_3_code (3 : Nat) (Option.some Jvm.ClassFile.FieldType.boolean)) ∈ lw_all := lw_g (lw_at lw_m6 52 rfl) rfl
theorem q1347 : (Jvm.Cond.instanceMethod ({ cls := "TugOfWarModel", name := "wipe", desc := "(I)I" } : Jvm.MethodName)) ∈ lw_all := lw_g (lw_at lw_m6 54 rfl) rfl
theorem q1348 : (Jvm.Cond.selects "TugOfWarModel" ({ cls := "TugOfWarModel", name := "wipe", desc := "(I)I" } : Jvm.MethodName) ({ cls := "TugOfWarModel", name := "wipe", desc := "(I)I" } : Jvm.MethodName)) ∈ lw_all := lw_g (lw_at lw_m6 55 rfl) rfl
theorem q1349 : (Jvm.Cond.code ({ cls := "TugOfWarModel", name := "wipe", desc := "(I)I" } : Jvm.MethodName) prog_12_method_12_code (3 : Nat) (Option.some Jvm.ClassFile.FieldType.int)) ∈ lw_all := lw_g (lw_at lw_m6 56 rfl) rfl
theorem q1351 : (Jvm.Cond.instanceMethod ({ cls := "TugOfWarModel", name := "undo", desc := "(I)I" } : Jvm.MethodName)) ∈ lw_all := lw_g (lw_at lw_m6 58 rfl) rfl
theorem q1352 : (Jvm.Cond.selects "TugOfWarModel" ({ cls := "TugOfWarModel", name := "undo", desc := "(I)I" } : Jvm.MethodName) ({ cls := "TugOfWarModel", name := "undo", desc := "(I)I" } : Jvm.MethodName)) ∈ lw_all := lw_g (lw_at lw_m6 59 rfl) rfl
theorem q1353 : (Jvm.Cond.code ({ cls := "TugOfWarModel", name := "undo", desc := "(I)I" } : Jvm.MethodName) prog_12_method_13_code (2 : Nat) (Option.some Jvm.ClassFile.FieldType.int)) ∈ lw_all := lw_g (lw_at lw_m6 60 rfl) rfl
theorem q1355 : (Jvm.Cond.instanceMethod ({ cls := "TugOfWarModel", name := "fault", desc := "(I)I" } : Jvm.MethodName)) ∈ lw_all := lw_g (lw_at lw_m6 62 rfl) rfl
theorem q1356 : (Jvm.Cond.selects "TugOfWarModel" ({ cls := "TugOfWarModel", name := "fault", desc := "(I)I" } : Jvm.MethodName) ({ cls := "TugOfWarModel", name := "fault", desc := "(I)I" } : Jvm.MethodName)) ∈ lw_all := lw_g (lw_at lw_m6 63 rfl) rfl
theorem q1357 : (Jvm.Cond.code ({ cls := "TugOfWarModel", name := "fault", desc := "(I)I" } : Jvm.MethodName) prog_12_method_21_code (2 : Nat) (Option.some Jvm.ClassFile.FieldType.int)) ∈ lw_all := lw_g (lw_at lw_m6 64 rfl) rfl
theorem q1358 : (Jvm.Cond.methodLink "TugOfWarModel" (135 : Nat) ({ cls := "TugOfWarModel", name := "faultOf", desc := "(I)I" } : Jvm.MethodName)) ∈ lw_all := lw_g (lw_at lw_m6 65 rfl) rfl
theorem q1359 : (Jvm.Cond.privateMethod ({ cls := "TugOfWarModel", name := "faultOf", desc := "(I)I" } : Jvm.MethodName)) ∈ lw_tbl := lw_at lw_m6 66 rfl
theorem q1360 : (Jvm.Cond.instanceMethod ({ cls := "TugOfWarModel", name := "faultOf", desc := "(I)I" } : Jvm.MethodName)) ∈ lw_all := lw_g (lw_at lw_m6 67 rfl) rfl
theorem q1361 : (Jvm.Cond.code ({ cls := "TugOfWarModel", name := "faultOf", desc := "(I)I" } : Jvm.MethodName) prog_12_method_19_code (6 : Nat) (Option.some Jvm.ClassFile.FieldType.int)) ∈ lw_all := lw_g (lw_at lw_m6 68 rfl) rfl
theorem q1362 : (Jvm.Cond.methodLink "TugOfWarModel" (129 : Nat) ({ cls := "TugOfWarModel", name := "readsTeam", desc := "(I)I" } : Jvm.MethodName)) ∈ lw_all := lw_g (lw_at lw_m6 69 rfl) rfl
theorem q1363 : (Jvm.Cond.privateMethod ({ cls := "TugOfWarModel", name := "readsTeam", desc := "(I)I" } : Jvm.MethodName)) ∈ lw_tbl := lw_at lw_m6 70 rfl
theorem q1364 : (Jvm.Cond.instanceMethod ({ cls := "TugOfWarModel", name := "readsTeam", desc := "(I)I" } : Jvm.MethodName)) ∈ lw_all := lw_g (lw_at lw_m6 71 rfl) rfl
theorem q1365 : (Jvm.Cond.code ({ cls := "TugOfWarModel", name := "readsTeam", desc := "(I)I" } : Jvm.MethodName) prog_12_method_16_code (5 : Nat) (Option.some Jvm.ClassFile.FieldType.int)) ∈ lw_all := lw_g (lw_at lw_m6 72 rfl) rfl
theorem q1366 : (Jvm.Cond.methodLink "TugOfWarModel" (121 : Nat) ({ cls := "TugOfWarModel", name := "readsPuller", desc := "(III)I" } : Jvm.MethodName)) ∈ lw_all := lw_g (lw_at lw_m6 73 rfl) rfl
theorem q1367 : (Jvm.Cond.privateMethod ({ cls := "TugOfWarModel", name := "readsPuller", desc := "(III)I" } : Jvm.MethodName)) ∈ lw_tbl := lw_at lw_m6 74 rfl
theorem q1368 : (Jvm.Cond.instanceMethod ({ cls := "TugOfWarModel", name := "readsPuller", desc := "(III)I" } : Jvm.MethodName)) ∈ lw_all := lw_g (lw_at lw_m6 75 rfl) rfl
theorem q1369 : (Jvm.Cond.code ({ cls := "TugOfWarModel", name := "readsPuller", desc := "(III)I" } : Jvm.MethodName) prog_12_method_15_code (8 : Nat) (Option.some Jvm.ClassFile.FieldType.int)) ∈ lw_all := lw_g (lw_at lw_m6 76 rfl) rfl
theorem q1370 : (Jvm.Cond.methodLink "TugOfWarModel" (117 : Nat) ({ cls := "TugOfWarModel", name := "byteAt", desc := "(II)I" } : Jvm.MethodName)) ∈ lw_all := lw_g (lw_at lw_m6 77 rfl) rfl
theorem q1371 : (Jvm.Cond.privateMethod ({ cls := "TugOfWarModel", name := "byteAt", desc := "(II)I" } : Jvm.MethodName)) ∈ lw_tbl := lw_at lw_m6 78 rfl
theorem q1372 : (Jvm.Cond.instanceMethod ({ cls := "TugOfWarModel", name := "byteAt", desc := "(II)I" } : Jvm.MethodName)) ∈ lw_all := lw_g (lw_at lw_m6 79 rfl) rfl
theorem q1373 : (Jvm.Cond.code ({ cls := "TugOfWarModel", name := "byteAt", desc := "(II)I" } : Jvm.MethodName) prog_12_method_14_code (3 : Nat) (Option.some Jvm.ClassFile.FieldType.int)) ∈ lw_all := lw_g (lw_at lw_m6 80 rfl) rfl
theorem q1374 : (Jvm.Cond.methodLink "TugOfWarModel" (132 : Nat) ({ cls := "TugOfWarModel", name := "readsCalls", desc := "(I)I" } : Jvm.MethodName)) ∈ lw_all := lw_g (lw_at lw_m6 81 rfl) rfl
theorem q1375 : (Jvm.Cond.privateMethod ({ cls := "TugOfWarModel", name := "readsCalls", desc := "(I)I" } : Jvm.MethodName)) ∈ lw_tbl := lw_at lw_m6 82 rfl
theorem q1376 : (Jvm.Cond.instanceMethod ({ cls := "TugOfWarModel", name := "readsCalls", desc := "(I)I" } : Jvm.MethodName)) ∈ lw_all := lw_g (lw_at lw_m6 83 rfl) rfl
theorem q1377 : (Jvm.Cond.code ({ cls := "TugOfWarModel", name := "readsCalls", desc := "(I)I" } : Jvm.MethodName) prog_12_method_18_code (4 : Nat) (Option.some Jvm.ClassFile.FieldType.int)) ∈ lw_all := lw_g (lw_at lw_m6 84 rfl) rfl
theorem q1378 : (Jvm.Cond.methodLink "TugOfWarModel" (125 : Nat) ({ cls := "TugOfWarModel", name := "callBy", desc := "(I)I" } : Jvm.MethodName)) ∈ lw_all := lw_g (lw_at lw_m6 85 rfl) rfl
theorem q1379 : (Jvm.Cond.static ({ cls := "TugOfWarModel", name := "callBy", desc := "(I)I" } : Jvm.MethodName)) ∈ lw_all := lw_g (lw_at lw_m6 86 rfl) rfl
theorem q1380 : (Jvm.Cond.code ({ cls := "TugOfWarModel", name := "callBy", desc := "(I)I" } : Jvm.MethodName) prog_12_method_17_code (1 : Nat) (Option.some Jvm.ClassFile.FieldType.int)) ∈ lw_all := lw_g (lw_at lw_m6 87 rfl) rfl
theorem q1382 : (Jvm.Cond.instanceMethod ({ cls := "TugOfWarModel", name := "puller", desc := "(II)I" } : Jvm.MethodName)) ∈ lw_all := lw_g (lw_at lw_m6 89 rfl) rfl
theorem q1383 : (Jvm.Cond.selects "TugOfWarModel" ({ cls := "TugOfWarModel", name := "puller", desc := "(II)I" } : Jvm.MethodName) ({ cls := "TugOfWarModel", name := "puller", desc := "(II)I" } : Jvm.MethodName)) ∈ lw_all := lw_g (lw_at lw_m6 90 rfl) rfl
theorem q1384 : (Jvm.Cond.code ({ cls := "TugOfWarModel", name := "puller", desc := "(II)I" } : Jvm.MethodName) prog_12_method_25_code (3 : Nat) (Option.some Jvm.ClassFile.FieldType.int)) ∈ lw_all := lw_g (lw_at lw_m6 91 rfl) rfl
theorem q1385 : (Jvm.Cond.methodLink "TugOfWarModel" (144 : Nat) ({ cls := "TugOfWarModel", name := "isPuller", desc := "(I)Z" } : Jvm.MethodName)) ∈ lw_all := lw_g (lw_at lw_m6 92 rfl) rfl
theorem q1386 : (Jvm.Cond.privateMethod ({ cls := "TugOfWarModel", name := "isPuller", desc := "(I)Z" } : Jvm.MethodName)) ∈ lw_tbl := lw_at lw_m6 93 rfl
theorem q1387 : (Jvm.Cond.instanceMethod ({ cls := "TugOfWarModel", name := "isPuller", desc := "(I)Z" } : Jvm.MethodName)) ∈ lw_all := lw_g (lw_at lw_m6 94 rfl) rfl
theorem q1388 : (Jvm.Cond.code ({ cls := "TugOfWarModel", name := "isPuller", desc := "(I)Z" } : Jvm.MethodName) prog_12_method_23_code (2 : Nat) (Option.some Jvm.ClassFile.FieldType.boolean)) ∈ lw_all := lw_g (lw_at lw_m6 95 rfl) rfl
theorem q1389 : (Jvm.Cond.methodLink "TugOfWarModel" (138 : Nat) ({ cls := "TugOfWarModel", name := "reads", desc := "()V" } : Jvm.MethodName)) ∈ lw_all := lw_g (lw_at lw_m6 96 rfl) rfl
theorem q1390 : (Jvm.Cond.privateMethod ({ cls := "TugOfWarModel", name := "reads", desc := "()V" } : Jvm.MethodName)) ∈ lw_tbl := lw_at lw_m6 97 rfl
theorem q1391 : (Jvm.Cond.instanceMethod ({ cls := "TugOfWarModel", name := "reads", desc := "()V" } : Jvm.MethodName)) ∈ lw_all := lw_g (lw_at lw_m6 98 rfl) rfl
theorem q1392 : (Jvm.Cond.code ({ cls := "TugOfWarModel", name := "reads", desc := "()V" } : Jvm.MethodName) prog_12_method_20_code (2 : Nat) (Option.none : Option Jvm.ClassFile.FieldType)) ∈ lw_all := lw_g (lw_at lw_m6 99 rfl) rfl
theorem q1393 : (Jvm.Cond.methodLink "TugOfWarModel" (141 : Nat) ({ cls := "TugOfWarModel", name := "isThereOne", desc := "(I)Z" } : Jvm.MethodName)) ∈ lw_all := lw_g (lw_at lw_m6 100 rfl) rfl
theorem q1394 : (Jvm.Cond.privateMethod ({ cls := "TugOfWarModel", name := "isThereOne", desc := "(I)Z" } : Jvm.MethodName)) ∈ lw_tbl := lw_at lw_m6 101 rfl
theorem q1395 : (Jvm.Cond.instanceMethod ({ cls := "TugOfWarModel", name := "isThereOne", desc := "(I)Z" } : Jvm.MethodName)) ∈ lw_all := lw_g (lw_at lw_m6 102 rfl) rfl
theorem q1396 : (Jvm.Cond.code ({ cls := "TugOfWarModel", name := "isThereOne", desc := "(I)Z" } : Jvm.MethodName) prog_12_method_22_code (2 : Nat) (Option.some Jvm.ClassFile.FieldType.boolean)) ∈ lw_all := lw_g (lw_at lw_m6 103 rfl) rfl
theorem q1397 : (Jvm.Cond.methodLink "TugOfWarModel" (147 : Nat) ({ cls := "TugOfWarModel", name := "isThree", desc := "(I)Z" } : Jvm.MethodName)) ∈ lw_all := lw_g (lw_at lw_m6 104 rfl) rfl
theorem q1398 : (Jvm.Cond.static ({ cls := "TugOfWarModel", name := "isThree", desc := "(I)Z" } : Jvm.MethodName)) ∈ lw_all := lw_g (lw_at lw_m6 105 rfl) rfl
theorem q1399 : (Jvm.Cond.code ({ cls := "TugOfWarModel", name := "isThree", desc := "(I)Z" } : Jvm.MethodName) prog_12_method_10_code (1 : Nat) (Option.some Jvm.ClassFile.FieldType.boolean)) ∈ lw_all := lw_g (lw_at lw_m6 106 rfl) rfl
theorem q1400 : (Jvm.Cond.methodLink "TugOfWarModel" (150 : Nat) ({ cls := "TugOfWarModel", name := "pullerOf", desc := "(II)I" } : Jvm.MethodName)) ∈ lw_all := lw_g (lw_at lw_m6 107 rfl) rfl
theorem q1401 : (Jvm.Cond.privateMethod ({ cls := "TugOfWarModel", name := "pullerOf", desc := "(II)I" } : Jvm.MethodName)) ∈ lw_tbl := lw_at lw_m6 108 rfl
theorem q1402 : (Jvm.Cond.instanceMethod ({ cls := "TugOfWarModel", name := "pullerOf", desc := "(II)I" } : Jvm.MethodName)) ∈ lw_all := lw_g (lw_at lw_m6 109 rfl) rfl
theorem q1403 : (Jvm.Cond.code ({ cls := "TugOfWarModel", name := "pullerOf", desc := "(II)I" } : Jvm.MethodName) prog_12_method_24_code (3 : Nat) (Option.some Jvm.ClassFile.FieldType.int)) ∈ lw_all := lw_g (lw_at lw_m6 110 rfl) rfl
theorem q1405 : (Jvm.Cond.instanceMethod ({ cls := "TugOfWarModel", name := "call", desc := "(II)I" } : Jvm.MethodName)) ∈ lw_all := lw_g (lw_at lw_m6 112 rfl) rfl
theorem q1406 : (Jvm.Cond.selects "TugOfWarModel" ({ cls := "TugOfWarModel", name := "call", desc := "(II)I" } : Jvm.MethodName) ({ cls := "TugOfWarModel", name := "call", desc := "(II)I" } : Jvm.MethodName)) ∈ lw_all := lw_g (lw_at lw_m6 113 rfl) rfl
theorem q1407 : (Jvm.Cond.code ({ cls := "TugOfWarModel", name := "call", desc := "(II)I" } : Jvm.MethodName) prog_12_method_27_code (3 : Nat) (Option.some Jvm.ClassFile.FieldType.int)) ∈ lw_all := lw_g (lw_at lw_m6 114 rfl) rfl
theorem q1408 : (Jvm.Cond.methodLink "TugOfWarModel" (153 : Nat) ({ cls := "TugOfWarModel", name := "isTwo", desc := "(I)Z" } : Jvm.MethodName)) ∈ lw_all := lw_g (lw_at lw_m6 115 rfl) rfl
theorem q1409 : (Jvm.Cond.static ({ cls := "TugOfWarModel", name := "isTwo", desc := "(I)Z" } : Jvm.MethodName)) ∈ lw_all := lw_g (lw_at lw_m6 116 rfl) rfl
theorem q1410 : (Jvm.Cond.code ({ cls := "TugOfWarModel", name := "isTwo", desc := "(I)Z" } : Jvm.MethodName) prog_12_method_9_code (1 : Nat) (Option.some Jvm.ClassFile.FieldType.boolean)) ∈ lw_all := lw_g (lw_at lw_m6 117 rfl) rfl
theorem q1411 : (Jvm.Cond.methodLink "TugOfWarModel" (156 : Nat) ({ cls := "TugOfWarModel", name := "isBeat", desc := "(I)Z" } : Jvm.MethodName)) ∈ lw_all := lw_g (lw_at lw_m6 118 rfl) rfl
theorem q1412 : (Jvm.Cond.static ({ cls := "TugOfWarModel", name := "isBeat", desc := "(I)Z" } : Jvm.MethodName)) ∈ lw_all := lw_g (lw_at lw_m6 119 rfl) rfl
theorem q1413 : (Jvm.Cond.code ({ cls := "TugOfWarModel", name := "isBeat", desc := "(I)Z" } : Jvm.MethodName) prog_12_method_8_code (1 : Nat) (Option.some Jvm.ClassFile.FieldType.boolean)) ∈ lw_all := lw_g (lw_at lw_m6 120 rfl) rfl
theorem q1414 : (Jvm.Cond.methodLink "TugOfWarModel" (159 : Nat) ({ cls := "TugOfWarModel", name := "callOf", desc := "(II)I" } : Jvm.MethodName)) ∈ lw_all := lw_g (lw_at lw_m6 121 rfl) rfl
theorem q1415 : (Jvm.Cond.privateMethod ({ cls := "TugOfWarModel", name := "callOf", desc := "(II)I" } : Jvm.MethodName)) ∈ lw_tbl := lw_at lw_m6 122 rfl
theorem q1416 : (Jvm.Cond.instanceMethod ({ cls := "TugOfWarModel", name := "callOf", desc := "(II)I" } : Jvm.MethodName)) ∈ lw_all := lw_g (lw_at lw_m6 123 rfl) rfl
theorem q1417 : (Jvm.Cond.code ({ cls := "TugOfWarModel", name := "callOf", desc := "(II)I" } : Jvm.MethodName) prog_12_method_26_code (3 : Nat) (Option.some Jvm.ClassFile.FieldType.int)) ∈ lw_all := lw_g (lw_at lw_m6 124 rfl) rfl
theorem q1419 : (Jvm.Cond.instanceMethod ({ cls := "TugOfWarModel", name := "mud", desc := "(I)I" } : Jvm.MethodName)) ∈ lw_all := lw_g (lw_at lw_m6 126 rfl) rfl
theorem q1420 : (Jvm.Cond.selects "TugOfWarModel" ({ cls := "TugOfWarModel", name := "mud", desc := "(I)I" } : Jvm.MethodName) ({ cls := "TugOfWarModel", name := "mud", desc := "(I)I" } : Jvm.MethodName)) ∈ lw_all := lw_g (lw_at lw_m6 127 rfl) rfl
theorem q1421 : (Jvm.Cond.code ({ cls := "TugOfWarModel", name := "mud", desc := "(I)I" } : Jvm.MethodName) prog_12_method_28_code (3 : Nat) (Option.some Jvm.ClassFile.FieldType.int)) ∈ lw_all := lw_g (lw_at lw_m6 128 rfl) rfl
theorem q1423 : (Jvm.Cond.instanceMethod ({ cls := "TugOfWarModel", name := "event", desc := "(III)I" } : Jvm.MethodName)) ∈ lw_all := lw_g (lw_at lw_m6 130 rfl) rfl
theorem q1424 : (Jvm.Cond.selects "TugOfWarModel" ({ cls := "TugOfWarModel", name := "event", desc := "(III)I" } : Jvm.MethodName) ({ cls := "TugOfWarModel", name := "event", desc := "(III)I" } : Jvm.MethodName)) ∈ lw_all := lw_g (lw_at lw_m6 131 rfl) rfl
theorem q1425 : (Jvm.Cond.code ({ cls := "TugOfWarModel", name := "event", desc := "(III)I" } : Jvm.MethodName) prog_12_method_29_code (4 : Nat) (Option.some Jvm.ClassFile.FieldType.int)) ∈ lw_all := lw_g (lw_at lw_m6 132 rfl) rfl
theorem q1427 : (Jvm.Cond.instanceMethod ({ cls := "TugOfWarModel", name := "back", desc := "()I" } : Jvm.MethodName)) ∈ lw_all := lw_g (lw_at lw_m6 134 rfl) rfl
theorem q1428 : (Jvm.Cond.selects "TugOfWarModel" ({ cls := "TugOfWarModel", name := "back", desc := "()I" } : Jvm.MethodName) ({ cls := "TugOfWarModel", name := "back", desc := "()I" } : Jvm.MethodName)) ∈ lw_all := lw_g (lw_at lw_m6 135 rfl) rfl
theorem q1429 : (Jvm.Cond.code ({ cls := "TugOfWarModel", name := "back", desc := "()I" } : Jvm.MethodName) prog_12_method_30_code (1 : Nat) (Option.some Jvm.ClassFile.FieldType.int)) ∈ lw_all := lw_g (lw_at lw_m6 136 rfl) rfl
theorem q1431 : (Jvm.Cond.instanceMethod ({ cls := "TugOfWarModel", name := "read", desc := "(I)I" } : Jvm.MethodName)) ∈ lw_all := lw_g (lw_at lw_m6 138 rfl) rfl
theorem q1432 : (Jvm.Cond.selects "TugOfWarModel" ({ cls := "TugOfWarModel", name := "read", desc := "(I)I" } : Jvm.MethodName) ({ cls := "TugOfWarModel", name := "read", desc := "(I)I" } : Jvm.MethodName)) ∈ lw_all := lw_g (lw_at lw_m6 139 rfl) rfl
theorem q1433 : (Jvm.Cond.code ({ cls := "TugOfWarModel", name := "read", desc := "(I)I" } : Jvm.MethodName) prog_12_method_31_code (4 : Nat) (Option.some Jvm.ClassFile.FieldType.int)) ∈ lw_all := lw_g (lw_at lw_m6 140 rfl) rfl
theorem q1434 : (Jvm.Cond.methodLink "TugOfWarModel" (169 : Nat) ({ cls := "TugOfWarModel", name := "isSheet", desc := "(I)Z" } : Jvm.MethodName)) ∈ lw_all := lw_g (lw_at lw_m6 141 rfl) rfl
theorem q1435 : (Jvm.Cond.static ({ cls := "TugOfWarModel", name := "isSheet", desc := "(I)Z" } : Jvm.MethodName)) ∈ lw_all := lw_g (lw_at lw_m6 142 rfl) rfl
theorem q1436 : (Jvm.Cond.code ({ cls := "TugOfWarModel", name := "isSheet", desc := "(I)Z" } : Jvm.MethodName) prog_12_method_84_code (1 : Nat) (Option.some Jvm.ClassFile.FieldType.boolean)) ∈ lw_all := lw_g (lw_at lw_m6 143 rfl) rfl
theorem q1437 : (Jvm.Cond.methodLink "TugOfWarModel" (172 : Nat) ({ cls := "TugOfWarModel", name := "meets", desc := "(I)I" } : Jvm.MethodName)) ∈ lw_all := lw_g (lw_at lw_m6 144 rfl) rfl
theorem q1438 : (Jvm.Cond.privateMethod ({ cls := "TugOfWarModel", name := "meets", desc := "(I)I" } : Jvm.MethodName)) ∈ lw_tbl := lw_at lw_m6 145 rfl
theorem q1439 : (Jvm.Cond.instanceMethod ({ cls := "TugOfWarModel", name := "meets", desc := "(I)I" } : Jvm.MethodName)) ∈ lw_all := lw_g (lw_at lw_m6 146 rfl) rfl
theorem q1440 : (Jvm.Cond.code ({ cls := "TugOfWarModel", name := "meets", desc := "(I)I" } : Jvm.MethodName) prog_12_method_83_code (2 : Nat) (Option.some Jvm.ClassFile.FieldType.int)) ∈ lw_all := lw_g (lw_at lw_m6 147 rfl) rfl
theorem q1441 : (Jvm.Cond.methodLink "TugOfWarModel" (175 : Nat) ({ cls := "TugOfWarModel", name := "event", desc := "(III)I" } : Jvm.MethodName)) ∈ lw_all := lw_g (lw_at lw_m6 148 rfl) rfl
theorem q1443 : (Jvm.Cond.instanceMethod ({ cls := "TugOfWarModel", name := "rope", desc := "(II)I" } : Jvm.MethodName)) ∈ lw_all := lw_g (lw_at lw_m6 150 rfl) rfl
theorem q1444 : (Jvm.Cond.selects "TugOfWarModel" ({ cls := "TugOfWarModel", name := "rope", desc := "(II)I" } : Jvm.MethodName) ({ cls := "TugOfWarModel", name := "rope", desc := "(II)I" } : Jvm.MethodName)) ∈ lw_all := lw_g (lw_at lw_m6 151 rfl) rfl
theorem q1445 : (Jvm.Cond.code ({ cls := "TugOfWarModel", name := "rope", desc := "(II)I" } : Jvm.MethodName) prog_12_method_42_code (3 : Nat) (Option.some Jvm.ClassFile.FieldType.int)) ∈ lw_all := lw_g (lw_at lw_m6 152 rfl) rfl
theorem q1446 : (Jvm.Cond.methodLink "TugOfWarModel" (238 : Nat) ({ cls := "TugOfWarModel", name := "ropeOf", desc := "(II)I" } : Jvm.MethodName)) ∈ lw_all := lw_g (lw_at lw_m6 153 rfl) rfl
theorem q1447 : (Jvm.Cond.privateMethod ({ cls := "TugOfWarModel", name := "ropeOf", desc := "(II)I" } : Jvm.MethodName)) ∈ lw_tbl := lw_at lw_m6 154 rfl
theorem q1448 : (Jvm.Cond.instanceMethod ({ cls := "TugOfWarModel", name := "ropeOf", desc := "(II)I" } : Jvm.MethodName)) ∈ lw_all := lw_g (lw_at lw_m6 155 rfl) rfl
theorem q1449 : (Jvm.Cond.code ({ cls := "TugOfWarModel", name := "ropeOf", desc := "(II)I" } : Jvm.MethodName) prog_12_method_41_code (3 : Nat) (Option.some Jvm.ClassFile.FieldType.int)) ∈ lw_all := lw_g (lw_at lw_m6 156 rfl) rfl
theorem q1450 : (Jvm.Cond.methodLink "TugOfWarModel" (235 : Nat) ({ cls := "TugOfWarModel", name := "runsTold", desc := "()V" } : Jvm.MethodName)) ∈ lw_all := lw_g (lw_at lw_m6 157 rfl) rfl
theorem q1451 : (Jvm.Cond.privateMethod ({ cls := "TugOfWarModel", name := "runsTold", desc := "()V" } : Jvm.MethodName)) ∈ lw_tbl := lw_at lw_m6 158 rfl
theorem q1452 : (Jvm.Cond.instanceMethod ({ cls := "TugOfWarModel", name := "runsTold", desc := "()V" } : Jvm.MethodName)) ∈ lw_all := lw_g (lw_at lw_m6 159 rfl) rfl
theorem q1453 : (Jvm.Cond.code ({ cls := "TugOfWarModel", name := "runsTold", desc := "()V" } : Jvm.MethodName) prog_12_method_40_code (1 : Nat) (Option.none : Option Jvm.ClassFile.FieldType)) ∈ lw_all := lw_g (lw_at lw_m6 160 rfl) rfl
theorem q1454 : (Jvm.Cond.methodLink "TugOfWarModel" (229 : Nat) ({ cls := "TugOfWarModel", name := "asTold", desc := "()V" } : Jvm.MethodName)) ∈ lw_all := lw_g (lw_at lw_m6 161 rfl) rfl
theorem q1455 : (Jvm.Cond.privateMethod ({ cls := "TugOfWarModel", name := "asTold", desc := "()V" } : Jvm.MethodName)) ∈ lw_tbl := lw_at lw_m6 162 rfl
theorem q1456 : (Jvm.Cond.instanceMethod ({ cls := "TugOfWarModel", name := "asTold", desc := "()V" } : Jvm.MethodName)) ∈ lw_all := lw_g (lw_at lw_m6 163 rfl) rfl
theorem q1457 : (Jvm.Cond.code ({ cls := "TugOfWarModel", name := "asTold", desc := "()V" } : Jvm.MethodName) prog_12_method_32_code (2 : Nat) (Option.none : Option Jvm.ClassFile.FieldType)) ∈ lw_all := lw_g (lw_at lw_m6 164 rfl) rfl
theorem q1458 : (Jvm.Cond.methodLink "TugOfWarModel" (232 : Nat) ({ cls := "TugOfWarModel", name := "runs", desc := "()V" } : Jvm.MethodName)) ∈ lw_all := lw_g (lw_at lw_m6 165 rfl) rfl
theorem q1459 : (Jvm.Cond.privateMethod ({ cls := "TugOfWarModel", name := "runs", desc := "()V" } : Jvm.MethodName)) ∈ lw_tbl := lw_at lw_m6 166 rfl
theorem q1460 : (Jvm.Cond.instanceMethod ({ cls := "TugOfWarModel", name := "runs", desc := "()V" } : Jvm.MethodName)) ∈ lw_all := lw_g (lw_at lw_m6 167 rfl) rfl
theorem q1461 : (Jvm.Cond.code ({ cls := "TugOfWarModel", name := "runs", desc := "()V" } : Jvm.MethodName) prog_12_method_39_code (4 : Nat) (Option.none : Option Jvm.ClassFile.FieldType)) ∈ lw_all := lw_g (lw_at lw_m6 168 rfl) rfl
theorem q1462 : (Jvm.Cond.methodLink "TugOfWarModel" (216 : Nat) ({ cls := "TugOfWarModel", name := "isHere", desc := "(I)Z" } : Jvm.MethodName)) ∈ lw_all := lw_g (lw_at lw_m6 169 rfl) rfl
theorem q1463 : (Jvm.Cond.privateMethod ({ cls := "TugOfWarModel", name := "isHere", desc := "(I)Z" } : Jvm.MethodName)) ∈ lw_tbl := lw_at lw_m6 170 rfl
theorem q1464 : (Jvm.Cond.instanceMethod ({ cls := "TugOfWarModel", name := "isHere", desc := "(I)Z" } : Jvm.MethodName)) ∈ lw_all := lw_g (lw_at lw_m6 171 rfl) rfl
theorem q1465 : (Jvm.Cond.code ({ cls := "TugOfWarModel", name := "isHere", desc := "(I)Z" } : Jvm.MethodName) prog_12_method_33_code (2 : Nat) (Option.some Jvm.ClassFile.FieldType.boolean)) ∈ lw_all := lw_g (lw_at lw_m6 172 rfl) rfl
theorem q1466 : (Jvm.Cond.methodLink "TugOfWarModel" (226 : Nat) ({ cls := "TugOfWarModel", name := "goesBy", desc := "(I)V" } : Jvm.MethodName)) ∈ lw_all := lw_g (lw_at lw_m6 173 rfl) rfl
theorem q1467 : (Jvm.Cond.privateMethod ({ cls := "TugOfWarModel", name := "goesBy", desc := "(I)V" } : Jvm.MethodName)) ∈ lw_tbl := lw_at lw_m6 174 rfl
theorem q1468 : (Jvm.Cond.instanceMethod ({ cls := "TugOfWarModel", name := "goesBy", desc := "(I)V" } : Jvm.MethodName)) ∈ lw_all := lw_g (lw_at lw_m6 175 rfl) rfl
theorem q1469 : (Jvm.Cond.code ({ cls := "TugOfWarModel", name := "goesBy", desc := "(I)V" } : Jvm.MethodName) prog_12_method_38_code (3 : Nat) (Option.none : Option Jvm.ClassFile.FieldType)) ∈ lw_all := lw_g (lw_at lw_m6 176 rfl) rfl
theorem q1470 : (Jvm.Cond.methodLink "TugOfWarModel" (212 : Nat) ({ cls := "TugOfWarModel", name := "befalls", desc := "(I)V" } : Jvm.MethodName)) ∈ lw_all := lw_g (lw_at lw_m6 177 rfl) rfl
theorem q1471 : (Jvm.Cond.privateMethod ({ cls := "TugOfWarModel", name := "befalls", desc := "(I)V" } : Jvm.MethodName)) ∈ lw_tbl := lw_at lw_m6 178 rfl
theorem q1472 : (Jvm.Cond.instanceMethod ({ cls := "TugOfWarModel", name := "befalls", desc := "(I)V" } : Jvm.MethodName)) ∈ lw_all := lw_g (lw_at lw_m6 179 rfl) rfl
theorem q1473 : (Jvm.Cond.code ({ cls := "TugOfWarModel", name := "befalls", desc := "(I)V" } : Jvm.MethodName) prog_12_method_34_code (3 : Nat) (Option.none : Option Jvm.ClassFile.FieldType)) ∈ lw_all := lw_g (lw_at lw_m6 180 rfl) rfl
theorem q1474 : (Jvm.Cond.methodLink "TugOfWarModel" (190 : Nat) ({ cls := "TugOfWarModel", name := "isIn", desc := "(II)Z" } : Jvm.MethodName)) ∈ lw_all := lw_g (lw_at lw_m6 181 rfl) rfl
theorem q1475 : (Jvm.Cond.static ({ cls := "TugOfWarModel", name := "isIn", desc := "(II)Z" } : Jvm.MethodName)) ∈ lw_all := lw_g (lw_at lw_m6 182 rfl) rfl
theorem q1476 : (Jvm.Cond.code ({ cls := "TugOfWarModel", name := "isIn", desc := "(II)Z" } : Jvm.MethodName) prog_12_method_4_code (2 : Nat) (Option.some Jvm.ClassFile.FieldType.boolean)) ∈ lw_all := lw_g (lw_at lw_m6 183 rfl) rfl
theorem q1477 : (Jvm.Cond.methodLink "TugOfWarModel" (219 : Nat) ({ cls := "TugOfWarModel", name := "pullsOne", desc := "(II)V" } : Jvm.MethodName)) ∈ lw_all := lw_g (lw_at lw_m6 184 rfl) rfl
theorem q1478 : (Jvm.Cond.privateMethod ({ cls := "TugOfWarModel", name := "pullsOne", desc := "(II)V" } : Jvm.MethodName)) ∈ lw_tbl := lw_at lw_m6 185 rfl
theorem q1479 : (Jvm.Cond.instanceMethod ({ cls := "TugOfWarModel", name := "pullsOne", desc := "(II)V" } : Jvm.MethodName)) ∈ lw_all := lw_g (lw_at lw_m6 186 rfl) rfl
theorem q1480 : (Jvm.Cond.code ({ cls := "TugOfWarModel", name := "pullsOne", desc := "(II)V" } : Jvm.MethodName) prog_12_method_36_code (6 : Nat) (Option.none : Option Jvm.ClassFile.FieldType)) ∈ lw_all := lw_g (lw_at lw_m6 187 rfl) rfl
theorem q1481 : (Jvm.Cond.methodLink "TugOfWarModel" (197 : Nat) ({ cls := "TugOfWarModel", name := "strength", desc := "(II)I" } : Jvm.MethodName)) ∈ lw_all := lw_g (lw_at lw_m6 188 rfl) rfl
theorem q1482 : (Jvm.Cond.privateMethod ({ cls := "TugOfWarModel", name := "strength", desc := "(II)I" } : Jvm.MethodName)) ∈ lw_tbl := lw_at lw_m6 189 rfl
theorem q1483 : (Jvm.Cond.instanceMethod ({ cls := "TugOfWarModel", name := "strength", desc := "(II)I" } : Jvm.MethodName)) ∈ lw_all := lw_g (lw_at lw_m6 190 rfl) rfl
theorem q1484 : (Jvm.Cond.code ({ cls := "TugOfWarModel", name := "strength", desc := "(II)I" } : Jvm.MethodName) prog_12_method_35_code (5 : Nat) (Option.some Jvm.ClassFile.FieldType.int)) ∈ lw_all := lw_g (lw_at lw_m6 191 rfl) rfl
theorem q1485 : (Jvm.Cond.methodLink "TugOfWarModel" (223 : Nat) ({ cls := "TugOfWarModel", name := "goes", desc := "(I)V" } : Jvm.MethodName)) ∈ lw_all := lw_g (lw_at lw_m6 192 rfl) rfl
theorem q1486 : (Jvm.Cond.privateMethod ({ cls := "TugOfWarModel", name := "goes", desc := "(I)V" } : Jvm.MethodName)) ∈ lw_tbl := lw_at lw_m6 193 rfl
theorem q1487 : (Jvm.Cond.instanceMethod ({ cls := "TugOfWarModel", name := "goes", desc := "(I)V" } : Jvm.MethodName)) ∈ lw_all := lw_g (lw_at lw_m6 194 rfl) rfl
theorem q1488 : (Jvm.Cond.code ({ cls := "TugOfWarModel", name := "goes", desc := "(I)V" } : Jvm.MethodName) prog_12_method_37_code (4 : Nat) (Option.none : Option Jvm.ClassFile.FieldType)) ∈ lw_all := lw_g (lw_at lw_m6 195 rfl) rfl
theorem q1490 : (Jvm.Cond.instanceMethod ({ cls := "TugOfWarModel", name := "at", desc := "(III)I" } : Jvm.MethodName)) ∈ lw_all := lw_g (lw_at lw_m6 197 rfl) rfl
theorem q1491 : (Jvm.Cond.selects "TugOfWarModel" ({ cls := "TugOfWarModel", name := "at", desc := "(III)I" } : Jvm.MethodName) ({ cls := "TugOfWarModel", name := "at", desc := "(III)I" } : Jvm.MethodName)) ∈ lw_all := lw_g (lw_at lw_m6 198 rfl) rfl
theorem q1492 : (Jvm.Cond.code ({ cls := "TugOfWarModel", name := "at", desc := "(III)I" } : Jvm.MethodName) prog_12_method_44_code (4 : Nat) (Option.some Jvm.ClassFile.FieldType.int)) ∈ lw_all := lw_g (lw_at lw_m6 199 rfl) rfl
theorem q1493 : (Jvm.Cond.methodLink "TugOfWarModel" (241 : Nat) ({ cls := "TugOfWarModel", name := "atOf", desc := "(III)I" } : Jvm.MethodName)) ∈ lw_all := lw_g (lw_at lw_m6 200 rfl) rfl
theorem q1494 : (Jvm.Cond.privateMethod ({ cls := "TugOfWarModel", name := "atOf", desc := "(III)I" } : Jvm.MethodName)) ∈ lw_tbl := lw_at lw_m6 201 rfl
theorem q1495 : (Jvm.Cond.instanceMethod ({ cls := "TugOfWarModel", name := "atOf", desc := "(III)I" } : Jvm.MethodName)) ∈ lw_all := lw_g (lw_at lw_m6 202 rfl) rfl
theorem q1496 : (Jvm.Cond.code ({ cls := "TugOfWarModel", name := "atOf", desc := "(III)I" } : Jvm.MethodName) prog_12_method_43_code (4 : Nat) (Option.some Jvm.ClassFile.FieldType.int)) ∈ lw_all := lw_g (lw_at lw_m6 203 rfl) rfl
theorem q1498 : (Jvm.Cond.instanceMethod ({ cls := "TugOfWarModel", name := "won", desc := "(I)I" } : Jvm.MethodName)) ∈ lw_all := lw_g (lw_at lw_m6 205 rfl) rfl
theorem q1499 : (Jvm.Cond.selects "TugOfWarModel" ({ cls := "TugOfWarModel", name := "won", desc := "(I)I" } : Jvm.MethodName) ({ cls := "TugOfWarModel", name := "won", desc := "(I)I" } : Jvm.MethodName)) ∈ lw_all := lw_g (lw_at lw_m6 206 rfl) rfl
theorem q1500 : (Jvm.Cond.code ({ cls := "TugOfWarModel", name := "won", desc := "(I)I" } : Jvm.MethodName) prog_12_method_46_code (2 : Nat) (Option.some Jvm.ClassFile.FieldType.int)) ∈ lw_all := lw_g (lw_at lw_m6 207 rfl) rfl
theorem q1501 : (Jvm.Cond.methodLink "TugOfWarModel" (244 : Nat) ({ cls := "TugOfWarModel", name := "wonOf", desc := "(I)I" } : Jvm.MethodName)) ∈ lw_all := lw_g (lw_at lw_m6 208 rfl) rfl
theorem q1502 : (Jvm.Cond.privateMethod ({ cls := "TugOfWarModel", name := "wonOf", desc := "(I)I" } : Jvm.MethodName)) ∈ lw_tbl := lw_at lw_m6 209 rfl
theorem q1503 : (Jvm.Cond.instanceMethod ({ cls := "TugOfWarModel", name := "wonOf", desc := "(I)I" } : Jvm.MethodName)) ∈ lw_all := lw_g (lw_at lw_m6 210 rfl) rfl
theorem q1504 : (Jvm.Cond.code ({ cls := "TugOfWarModel", name := "wonOf", desc := "(I)I" } : Jvm.MethodName) prog_12_method_45_code (2 : Nat) (Option.some Jvm.ClassFile.FieldType.int)) ∈ lw_all := lw_g (lw_at lw_m6 211 rfl) rfl
theorem q1506 : (Jvm.Cond.instanceMethod ({ cls := "TugOfWarModel", name := "furthest", desc := "(I)I" } : Jvm.MethodName)) ∈ lw_all := lw_g (lw_at lw_m6 213 rfl) rfl
theorem q1507 : (Jvm.Cond.selects "TugOfWarModel" ({ cls := "TugOfWarModel", name := "furthest", desc := "(I)I" } : Jvm.MethodName) ({ cls := "TugOfWarModel", name := "furthest", desc := "(I)I" } : Jvm.MethodName)) ∈ lw_all := lw_g (lw_at lw_m6 214 rfl) rfl
theorem q1508 : (Jvm.Cond.code ({ cls := "TugOfWarModel", name := "furthest", desc := "(I)I" } : Jvm.MethodName) prog_12_method_48_code (2 : Nat) (Option.some Jvm.ClassFile.FieldType.int)) ∈ lw_all := lw_g (lw_at lw_m6 215 rfl) rfl
theorem q1509 : (Jvm.Cond.methodLink "TugOfWarModel" (247 : Nat) ({ cls := "TugOfWarModel", name := "furthestOf", desc := "(I)I" } : Jvm.MethodName)) ∈ lw_all := lw_g (lw_at lw_m6 216 rfl) rfl
theorem q1510 : (Jvm.Cond.privateMethod ({ cls := "TugOfWarModel", name := "furthestOf", desc := "(I)I" } : Jvm.MethodName)) ∈ lw_tbl := lw_at lw_m6 217 rfl
theorem q1511 : (Jvm.Cond.instanceMethod ({ cls := "TugOfWarModel", name := "furthestOf", desc := "(I)I" } : Jvm.MethodName)) ∈ lw_all := lw_g (lw_at lw_m6 218 rfl) rfl
theorem q1512 : (Jvm.Cond.code ({ cls := "TugOfWarModel", name := "furthestOf", desc := "(I)I" } : Jvm.MethodName) prog_12_method_47_code (5 : Nat) (Option.some Jvm.ClassFile.FieldType.int)) ∈ lw_all := lw_g (lw_at lw_m6 219 rfl) rfl
theorem q1514 : (Jvm.Cond.instanceMethod ({ cls := "TugOfWarModel", name := "done", desc := "(I)I" } : Jvm.MethodName)) ∈ lw_all := lw_g (lw_at lw_m6 221 rfl) rfl
theorem q1515 : (Jvm.Cond.selects "TugOfWarModel" ({ cls := "TugOfWarModel", name := "done", desc := "(I)I" } : Jvm.MethodName) ({ cls := "TugOfWarModel", name := "done", desc := "(I)I" } : Jvm.MethodName)) ∈ lw_all := lw_g (lw_at lw_m6 222 rfl) rfl
theorem q1516 : (Jvm.Cond.code ({ cls := "TugOfWarModel", name := "done", desc := "(I)I" } : Jvm.MethodName) prog_12_method_50_code (2 : Nat) (Option.some Jvm.ClassFile.FieldType.int)) ∈ lw_all := lw_g (lw_at lw_m6 223 rfl) rfl
theorem q1517 : (Jvm.Cond.methodLink "TugOfWarModel" (250 : Nat) ({ cls := "TugOfWarModel", name := "doneOf", desc := "(I)I" } : Jvm.MethodName)) ∈ lw_all := lw_g (lw_at lw_m6 224 rfl) rfl
theorem q1518 : (Jvm.Cond.privateMethod ({ cls := "TugOfWarModel", name := "doneOf", desc := "(I)I" } : Jvm.MethodName)) ∈ lw_tbl := lw_at lw_m6 225 rfl
theorem q1519 : (Jvm.Cond.instanceMethod ({ cls := "TugOfWarModel", name := "doneOf", desc := "(I)I" } : Jvm.MethodName)) ∈ lw_all := lw_g (lw_at lw_m6 226 rfl) rfl
theorem q1520 : (Jvm.Cond.code ({ cls := "TugOfWarModel", name := "doneOf", desc := "(I)I" } : Jvm.MethodName) prog_12_method_49_code (2 : Nat) (Option.some Jvm.ClassFile.FieldType.int)) ∈ lw_all := lw_g (lw_at lw_m6 227 rfl) rfl
theorem q1522 : (Jvm.Cond.instanceMethod ({ cls := "TugOfWarModel", name := "spent", desc := "()I" } : Jvm.MethodName)) ∈ lw_all := lw_g (lw_at lw_m6 229 rfl) rfl
theorem q1523 : (Jvm.Cond.selects "TugOfWarModel" ({ cls := "TugOfWarModel", name := "spent", desc := "()I" } : Jvm.MethodName) ({ cls := "TugOfWarModel", name := "spent", desc := "()I" } : Jvm.MethodName)) ∈ lw_all := lw_g (lw_at lw_m6 230 rfl) rfl
theorem q1524 : (Jvm.Cond.code ({ cls := "TugOfWarModel", name := "spent", desc := "()I" } : Jvm.MethodName) prog_12_method_52_code (1 : Nat) (Option.some Jvm.ClassFile.FieldType.int)) ∈ lw_all := lw_g (lw_at lw_m6 231 rfl) rfl
theorem q1525 : (Jvm.Cond.methodLink "TugOfWarModel" (253 : Nat) ({ cls := "TugOfWarModel", name := "spentOf", desc := "()I" } : Jvm.MethodName)) ∈ lw_all := lw_g (lw_at lw_m6 232 rfl) rfl
theorem q1526 : (Jvm.Cond.privateMethod ({ cls := "TugOfWarModel", name := "spentOf", desc := "()I" } : Jvm.MethodName)) ∈ lw_tbl := lw_at lw_m6 233 rfl
theorem q1527 : (Jvm.Cond.instanceMethod ({ cls := "TugOfWarModel", name := "spentOf", desc := "()I" } : Jvm.MethodName)) ∈ lw_all := lw_g (lw_at lw_m6 234 rfl) rfl
theorem q1528 : (Jvm.Cond.code ({ cls := "TugOfWarModel", name := "spentOf", desc := "()I" } : Jvm.MethodName) prog_12_method_51_code (3 : Nat) (Option.some Jvm.ClassFile.FieldType.int)) ∈ lw_all := lw_g (lw_at lw_m6 235 rfl) rfl
theorem q1530 : (Jvm.Cond.instanceMethod ({ cls := "TugOfWarModel", name := "best", desc := "()I" } : Jvm.MethodName)) ∈ lw_all := lw_g (lw_at lw_m6 237 rfl) rfl
theorem q1531 : (Jvm.Cond.selects "TugOfWarModel" ({ cls := "TugOfWarModel", name := "best", desc := "()I" } : Jvm.MethodName) ({ cls := "TugOfWarModel", name := "best", desc := "()I" } : Jvm.MethodName)) ∈ lw_all := lw_g (lw_at lw_m6 238 rfl) rfl
theorem q1532 : (Jvm.Cond.code ({ cls := "TugOfWarModel", name := "best", desc := "()I" } : Jvm.MethodName) prog_12_method_54_code (1 : Nat) (Option.some Jvm.ClassFile.FieldType.int)) ∈ lw_all := lw_g (lw_at lw_m6 239 rfl) rfl
theorem q1533 : (Jvm.Cond.methodLink "TugOfWarModel" (257 : Nat) ({ cls := "TugOfWarModel", name := "bestOf", desc := "()I" } : Jvm.MethodName)) ∈ lw_all := lw_g (lw_at lw_m7 0 rfl) rfl
theorem q1534 : (Jvm.Cond.privateMethod ({ cls := "TugOfWarModel", name := "bestOf", desc := "()I" } : Jvm.MethodName)) ∈ lw_tbl := lw_at lw_m7 1 rfl
theorem q1535 : (Jvm.Cond.instanceMethod ({ cls := "TugOfWarModel", name := "bestOf", desc := "()I" } : Jvm.MethodName)) ∈ lw_all := lw_g (lw_at lw_m7 2 rfl) rfl
theorem q1536 : (Jvm.Cond.code ({ cls := "TugOfWarModel", name := "bestOf", desc := "()I" } : Jvm.MethodName) prog_12_method_53_code (4 : Nat) (Option.some Jvm.ClassFile.FieldType.int)) ∈ lw_all := lw_g (lw_at lw_m7 3 rfl) rfl
theorem q1538 : (Jvm.Cond.instanceMethod ({ cls := "TugOfWarModel", name := "level", desc := "()I" } : Jvm.MethodName)) ∈ lw_all := lw_g (lw_at lw_m7 5 rfl) rfl
theorem q1539 : (Jvm.Cond.selects "TugOfWarModel" ({ cls := "TugOfWarModel", name := "level", desc := "()I" } : Jvm.MethodName) ({ cls := "TugOfWarModel", name := "level", desc := "()I" } : Jvm.MethodName)) ∈ lw_all := lw_g (lw_at lw_m7 6 rfl) rfl
theorem q1540 : (Jvm.Cond.code ({ cls := "TugOfWarModel", name := "level", desc := "()I" } : Jvm.MethodName) prog_12_method_56_code (1 : Nat) (Option.some Jvm.ClassFile.FieldType.int)) ∈ lw_all := lw_g (lw_at lw_m7 7 rfl) rfl
theorem q1541 : (Jvm.Cond.methodLink "TugOfWarModel" (260 : Nat) ({ cls := "TugOfWarModel", name := "levelOf", desc := "()I" } : Jvm.MethodName)) ∈ lw_all := lw_g (lw_at lw_m7 8 rfl) rfl
theorem q1542 : (Jvm.Cond.privateMethod ({ cls := "TugOfWarModel", name := "levelOf", desc := "()I" } : Jvm.MethodName)) ∈ lw_tbl := lw_at lw_m7 9 rfl
theorem q1543 : (Jvm.Cond.instanceMethod ({ cls := "TugOfWarModel", name := "levelOf", desc := "()I" } : Jvm.MethodName)) ∈ lw_all := lw_g (lw_at lw_m7 10 rfl) rfl
theorem q1544 : (Jvm.Cond.code ({ cls := "TugOfWarModel", name := "levelOf", desc := "()I" } : Jvm.MethodName) prog_12_method_55_code (1 : Nat) (Option.some Jvm.ClassFile.FieldType.int)) ∈ lw_all := lw_g (lw_at lw_m7 11 rfl) rfl
theorem q1546 : (Jvm.Cond.instanceMethod ({ cls := "TugOfWarModel", name := "better", desc := "(III)I" } : Jvm.MethodName)) ∈ lw_all := lw_g (lw_at lw_m7 13 rfl) rfl
theorem q1547 : (Jvm.Cond.selects "TugOfWarModel" ({ cls := "TugOfWarModel", name := "better", desc := "(III)I" } : Jvm.MethodName) ({ cls := "TugOfWarModel", name := "better", desc := "(III)I" } : Jvm.MethodName)) ∈ lw_all := lw_g (lw_at lw_m7 14 rfl) rfl
theorem q1548 : (Jvm.Cond.code ({ cls := "TugOfWarModel", name := "better", desc := "(III)I" } : Jvm.MethodName) prog_12_method_60_code (4 : Nat) (Option.some Jvm.ClassFile.FieldType.int)) ∈ lw_all := lw_g (lw_at lw_m7 15 rfl) rfl
theorem q1549 : (Jvm.Cond.methodLink "TugOfWarModel" (275 : Nat) ({ cls := "TugOfWarModel", name := "betterOf", desc := "(III)I" } : Jvm.MethodName)) ∈ lw_all := lw_g (lw_at lw_m7 16 rfl) rfl
theorem q1550 : (Jvm.Cond.privateMethod ({ cls := "TugOfWarModel", name := "betterOf", desc := "(III)I" } : Jvm.MethodName)) ∈ lw_tbl := lw_at lw_m7 17 rfl
theorem q1551 : (Jvm.Cond.instanceMethod ({ cls := "TugOfWarModel", name := "betterOf", desc := "(III)I" } : Jvm.MethodName)) ∈ lw_all := lw_g (lw_at lw_m7 18 rfl) rfl
theorem q1552 : (Jvm.Cond.code ({ cls := "TugOfWarModel", name := "betterOf", desc := "(III)I" } : Jvm.MethodName) prog_12_method_59_code (5 : Nat) (Option.some Jvm.ClassFile.FieldType.int)) ∈ lw_all := lw_g (lw_at lw_m7 19 rfl) rfl
theorem q1553 : (Jvm.Cond.methodLink "TugOfWarModel" (269 : Nat) ({ cls := "TugOfWarModel", name := "starts", desc := "()V" } : Jvm.MethodName)) ∈ lw_all := lw_g (lw_at lw_m7 20 rfl) rfl
theorem q1554 : (Jvm.Cond.privateMethod ({ cls := "TugOfWarModel", name := "starts", desc := "()V" } : Jvm.MethodName)) ∈ lw_tbl := lw_at lw_m7 21 rfl
theorem q1555 : (Jvm.Cond.instanceMethod ({ cls := "TugOfWarModel", name := "starts", desc := "()V" } : Jvm.MethodName)) ∈ lw_all := lw_g (lw_at lw_m7 22 rfl) rfl
theorem q1556 : (Jvm.Cond.code ({ cls := "TugOfWarModel", name := "starts", desc := "()V" } : Jvm.MethodName) prog_12_method_57_code (1 : Nat) (Option.none : Option Jvm.ClassFile.FieldType)) ∈ lw_all := lw_g (lw_at lw_m7 23 rfl) rfl
theorem q1557 : (Jvm.Cond.methodLink "TugOfWarModel" (272 : Nat) ({ cls := "TugOfWarModel", name := "tries", desc := "(II)V" } : Jvm.MethodName)) ∈ lw_all := lw_g (lw_at lw_m7 24 rfl) rfl
theorem q1558 : (Jvm.Cond.privateMethod ({ cls := "TugOfWarModel", name := "tries", desc := "(II)V" } : Jvm.MethodName)) ∈ lw_tbl := lw_at lw_m7 25 rfl
theorem q1559 : (Jvm.Cond.instanceMethod ({ cls := "TugOfWarModel", name := "tries", desc := "(II)V" } : Jvm.MethodName)) ∈ lw_all := lw_g (lw_at lw_m7 26 rfl) rfl
theorem q1560 : (Jvm.Cond.code ({ cls := "TugOfWarModel", name := "tries", desc := "(II)V" } : Jvm.MethodName) prog_12_method_58_code (4 : Nat) (Option.none : Option Jvm.ClassFile.FieldType)) ∈ lw_all := lw_g (lw_at lw_m7 27 rfl) rfl
theorem q1562 : (Jvm.Cond.instanceMethod ({ cls := "TugOfWarModel", name := "swap", desc := "(II)I" } : Jvm.MethodName)) ∈ lw_all := lw_g (lw_at lw_m7 29 rfl) rfl
theorem q1563 : (Jvm.Cond.selects "TugOfWarModel" ({ cls := "TugOfWarModel", name := "swap", desc := "(II)I" } : Jvm.MethodName) ({ cls := "TugOfWarModel", name := "swap", desc := "(II)I" } : Jvm.MethodName)) ∈ lw_all := lw_g (lw_at lw_m7 30 rfl) rfl
theorem q1564 : (Jvm.Cond.code ({ cls := "TugOfWarModel", name := "swap", desc := "(II)I" } : Jvm.MethodName) prog_12_method_62_code (3 : Nat) (Option.some Jvm.ClassFile.FieldType.int)) ∈ lw_all := lw_g (lw_at lw_m7 31 rfl) rfl
theorem q1565 : (Jvm.Cond.methodLink "TugOfWarModel" (278 : Nat) ({ cls := "TugOfWarModel", name := "swapOf", desc := "(II)I" } : Jvm.MethodName)) ∈ lw_all := lw_g (lw_at lw_m7 32 rfl) rfl
theorem q1566 : (Jvm.Cond.privateMethod ({ cls := "TugOfWarModel", name := "swapOf", desc := "(II)I" } : Jvm.MethodName)) ∈ lw_tbl := lw_at lw_m7 33 rfl
theorem q1567 : (Jvm.Cond.instanceMethod ({ cls := "TugOfWarModel", name := "swapOf", desc := "(II)I" } : Jvm.MethodName)) ∈ lw_all := lw_g (lw_at lw_m7 34 rfl) rfl
theorem q1568 : (Jvm.Cond.code ({ cls := "TugOfWarModel", name := "swapOf", desc := "(II)I" } : Jvm.MethodName) prog_12_method_61_code (6 : Nat) (Option.some Jvm.ClassFile.FieldType.int)) ∈ lw_all := lw_g (lw_at lw_m7 35 rfl) rfl
theorem q1570 : (Jvm.Cond.instanceMethod ({ cls := "TugOfWarModel", name := "out", desc := "(II)I" } : Jvm.MethodName)) ∈ lw_all := lw_g (lw_at lw_m7 37 rfl) rfl
theorem q1571 : (Jvm.Cond.selects "TugOfWarModel" ({ cls := "TugOfWarModel", name := "out", desc := "(II)I" } : Jvm.MethodName) ({ cls := "TugOfWarModel", name := "out", desc := "(II)I" } : Jvm.MethodName)) ∈ lw_all := lw_g (lw_at lw_m7 38 rfl) rfl
theorem q1572 : (Jvm.Cond.code ({ cls := "TugOfWarModel", name := "out", desc := "(II)I" } : Jvm.MethodName) prog_12_method_64_code (3 : Nat) (Option.some Jvm.ClassFile.FieldType.int)) ∈ lw_all := lw_g (lw_at lw_m7 39 rfl) rfl
theorem q1573 : (Jvm.Cond.methodLink "TugOfWarModel" (281 : Nat) ({ cls := "TugOfWarModel", name := "outOf", desc := "(II)I" } : Jvm.MethodName)) ∈ lw_all := lw_g (lw_at lw_m7 40 rfl) rfl
theorem q1574 : (Jvm.Cond.privateMethod ({ cls := "TugOfWarModel", name := "outOf", desc := "(II)I" } : Jvm.MethodName)) ∈ lw_tbl := lw_at lw_m7 41 rfl
theorem q1575 : (Jvm.Cond.instanceMethod ({ cls := "TugOfWarModel", name := "outOf", desc := "(II)I" } : Jvm.MethodName)) ∈ lw_all := lw_g (lw_at lw_m7 42 rfl) rfl
theorem q1576 : (Jvm.Cond.code ({ cls := "TugOfWarModel", name := "outOf", desc := "(II)I" } : Jvm.MethodName) prog_12_method_63_code (4 : Nat) (Option.some Jvm.ClassFile.FieldType.int)) ∈ lw_all := lw_g (lw_at lw_m7 43 rfl) rfl
theorem q1578 : (Jvm.Cond.instanceMethod ({ cls := "TugOfWarModel", name := "spare", desc := "(I)I" } : Jvm.MethodName)) ∈ lw_all := lw_g (lw_at lw_m7 45 rfl) rfl
theorem q1579 : (Jvm.Cond.selects "TugOfWarModel" ({ cls := "TugOfWarModel", name := "spare", desc := "(I)I" } : Jvm.MethodName) ({ cls := "TugOfWarModel", name := "spare", desc := "(I)I" } : Jvm.MethodName)) ∈ lw_all := lw_g (lw_at lw_m7 46 rfl) rfl
theorem q1580 : (Jvm.Cond.code ({ cls := "TugOfWarModel", name := "spare", desc := "(I)I" } : Jvm.MethodName) prog_12_method_68_code (2 : Nat) (Option.some Jvm.ClassFile.FieldType.int)) ∈ lw_all := lw_g (lw_at lw_m7 47 rfl) rfl
theorem q1581 : (Jvm.Cond.methodLink "TugOfWarModel" (287 : Nat) ({ cls := "TugOfWarModel", name := "spareBy", desc := "()I" } : Jvm.MethodName)) ∈ lw_all := lw_g (lw_at lw_m7 48 rfl) rfl
theorem q1582 : (Jvm.Cond.privateMethod ({ cls := "TugOfWarModel", name := "spareBy", desc := "()I" } : Jvm.MethodName)) ∈ lw_tbl := lw_at lw_m7 49 rfl
theorem q1583 : (Jvm.Cond.instanceMethod ({ cls := "TugOfWarModel", name := "spareBy", desc := "()I" } : Jvm.MethodName)) ∈ lw_all := lw_g (lw_at lw_m7 50 rfl) rfl
theorem q1584 : (Jvm.Cond.code ({ cls := "TugOfWarModel", name := "spareBy", desc := "()I" } : Jvm.MethodName) prog_12_method_66_code (3 : Nat) (Option.some Jvm.ClassFile.FieldType.int)) ∈ lw_all := lw_g (lw_at lw_m7 51 rfl) rfl
theorem q1585 : (Jvm.Cond.methodLink "TugOfWarModel" (284 : Nat) ({ cls := "TugOfWarModel", name := "isSpared", desc := "(I)Z" } : Jvm.MethodName)) ∈ lw_all := lw_g (lw_at lw_m7 52 rfl) rfl
theorem q1586 : (Jvm.Cond.privateMethod ({ cls := "TugOfWarModel", name := "isSpared", desc := "(I)Z" } : Jvm.MethodName)) ∈ lw_tbl := lw_at lw_m7 53 rfl
theorem q1587 : (Jvm.Cond.instanceMethod ({ cls := "TugOfWarModel", name := "isSpared", desc := "(I)Z" } : Jvm.MethodName)) ∈ lw_all := lw_g (lw_at lw_m7 54 rfl) rfl
theorem q1588 : (Jvm.Cond.code ({ cls := "TugOfWarModel", name := "isSpared", desc := "(I)Z" } : Jvm.MethodName) prog_12_method_65_code (2 : Nat) (Option.some Jvm.ClassFile.FieldType.boolean)) ∈ lw_all := lw_g (lw_at lw_m7 55 rfl) rfl
theorem q1589 : (Jvm.Cond.methodLink "TugOfWarModel" (290 : Nat) ({ cls := "TugOfWarModel", name := "ofRow", desc := "(II)I" } : Jvm.MethodName)) ∈ lw_all := lw_g (lw_at lw_m7 56 rfl) rfl
theorem q1590 : (Jvm.Cond.privateMethod ({ cls := "TugOfWarModel", name := "ofRow", desc := "(II)I" } : Jvm.MethodName)) ∈ lw_tbl := lw_at lw_m7 57 rfl
theorem q1591 : (Jvm.Cond.instanceMethod ({ cls := "TugOfWarModel", name := "ofRow", desc := "(II)I" } : Jvm.MethodName)) ∈ lw_all := lw_g (lw_at lw_m7 58 rfl) rfl
theorem q1592 : (Jvm.Cond.code ({ cls := "TugOfWarModel", name := "ofRow", desc := "(II)I" } : Jvm.MethodName) prog_12_method_67_code (3 : Nat) (Option.some Jvm.ClassFile.FieldType.int)) ∈ lw_all := lw_g (lw_at lw_m7 59 rfl) rfl
theorem q1594 : (Jvm.Cond.instanceMethod ({ cls := "TugOfWarModel", name := "seen", desc := "(II)I" } : Jvm.MethodName)) ∈ lw_all := lw_g (lw_at lw_m7 61 rfl) rfl
theorem q1595 : (Jvm.Cond.selects "TugOfWarModel" ({ cls := "TugOfWarModel", name := "seen", desc := "(II)I" } : Jvm.MethodName) ({ cls := "TugOfWarModel", name := "seen", desc := "(II)I" } : Jvm.MethodName)) ∈ lw_all := lw_g (lw_at lw_m7 62 rfl) rfl
theorem q1596 : (Jvm.Cond.code ({ cls := "TugOfWarModel", name := "seen", desc := "(II)I" } : Jvm.MethodName) prog_12_method_69_code (3 : Nat) (Option.some Jvm.ClassFile.FieldType.int)) ∈ lw_all := lw_g (lw_at lw_m7 63 rfl) rfl
theorem q1598 : (Jvm.Cond.instanceMethod ({ cls := "TugOfWarModel", name := "forget", desc := "()I" } : Jvm.MethodName)) ∈ lw_all := lw_g (lw_at lw_m7 65 rfl) rfl
theorem q1599 : (Jvm.Cond.selects "TugOfWarModel" ({ cls := "TugOfWarModel", name := "forget", desc := "()I" } : Jvm.MethodName) ({ cls := "TugOfWarModel", name := "forget", desc := "()I" } : Jvm.MethodName)) ∈ lw_all := lw_g (lw_at lw_m7 66 rfl) rfl
theorem q1600 : (Jvm.Cond.code ({ cls := "TugOfWarModel", name := "forget", desc := "()I" } : Jvm.MethodName) prog_12_method_70_code (2 : Nat) (Option.some Jvm.ClassFile.FieldType.int)) ∈ lw_all := lw_g (lw_at lw_m7 67 rfl) rfl
theorem q1602 : (Jvm.Cond.instanceMethod ({ cls := "TugOfWarModel", name := "never", desc := "()I" } : Jvm.MethodName)) ∈ lw_all := lw_g (lw_at lw_m7 69 rfl) rfl
theorem q1603 : (Jvm.Cond.selects "TugOfWarModel" ({ cls := "TugOfWarModel", name := "never", desc := "()I" } : Jvm.MethodName) ({ cls := "TugOfWarModel", name := "never", desc := "()I" } : Jvm.MethodName)) ∈ lw_all := lw_g (lw_at lw_m7 70 rfl) rfl
theorem q1604 : (Jvm.Cond.code ({ cls := "TugOfWarModel", name := "never", desc := "()I" } : Jvm.MethodName) prog_12_method_73_code (1 : Nat) (Option.some Jvm.ClassFile.FieldType.int)) ∈ lw_all := lw_g (lw_at lw_m7 71 rfl) rfl
theorem q1605 : (Jvm.Cond.methodLink "TugOfWarModel" (300 : Nat) ({ cls := "TugOfWarModel", name := "neverNow", desc := "()I" } : Jvm.MethodName)) ∈ lw_all := lw_g (lw_at lw_m7 72 rfl) rfl
theorem q1606 : (Jvm.Cond.privateMethod ({ cls := "TugOfWarModel", name := "neverNow", desc := "()I" } : Jvm.MethodName)) ∈ lw_tbl := lw_at lw_m7 73 rfl
theorem q1607 : (Jvm.Cond.instanceMethod ({ cls := "TugOfWarModel", name := "neverNow", desc := "()I" } : Jvm.MethodName)) ∈ lw_all := lw_g (lw_at lw_m7 74 rfl) rfl
theorem q1608 : (Jvm.Cond.code ({ cls := "TugOfWarModel", name := "neverNow", desc := "()I" } : Jvm.MethodName) prog_12_method_72_code (3 : Nat) (Option.some Jvm.ClassFile.FieldType.int)) ∈ lw_all := lw_g (lw_at lw_m7 75 rfl) rfl
theorem q1609 : (Jvm.Cond.methodLink "TugOfWarModel" (296 : Nat) ({ cls := "TugOfWarModel", name := "isSeen", desc := "()Z" } : Jvm.MethodName)) ∈ lw_all := lw_g (lw_at lw_m7 76 rfl) rfl
theorem q1610 : (Jvm.Cond.privateMethod ({ cls := "TugOfWarModel", name := "isSeen", desc := "()Z" } : Jvm.MethodName)) ∈ lw_tbl := lw_at lw_m7 77 rfl
theorem q1611 : (Jvm.Cond.instanceMethod ({ cls := "TugOfWarModel", name := "isSeen", desc := "()Z" } : Jvm.MethodName)) ∈ lw_all := lw_g (lw_at lw_m7 78 rfl) rfl
theorem q1612 : (Jvm.Cond.code ({ cls := "TugOfWarModel", name := "isSeen", desc := "()Z" } : Jvm.MethodName) prog_12_method_71_code (3 : Nat) (Option.some Jvm.ClassFile.FieldType.boolean)) ∈ lw_all := lw_g (lw_at lw_m7 79 rfl) rfl
theorem q1614 : (Jvm.Cond.instanceMethod ({ cls := "TugOfWarModel", name := "was", desc := "(II)I" } : Jvm.MethodName)) ∈ lw_all := lw_g (lw_at lw_m7 81 rfl) rfl
theorem q1615 : (Jvm.Cond.selects "TugOfWarModel" ({ cls := "TugOfWarModel", name := "was", desc := "(II)I" } : Jvm.MethodName) ({ cls := "TugOfWarModel", name := "was", desc := "(II)I" } : Jvm.MethodName)) ∈ lw_all := lw_g (lw_at lw_m7 82 rfl) rfl
theorem q1616 : (Jvm.Cond.code ({ cls := "TugOfWarModel", name := "was", desc := "(II)I" } : Jvm.MethodName) prog_12_method_76_code (3 : Nat) (Option.some Jvm.ClassFile.FieldType.int)) ∈ lw_all := lw_g (lw_at lw_m7 83 rfl) rfl
theorem q1617 : (Jvm.Cond.methodLink "TugOfWarModel" (303 : Nat) ({ cls := "TugOfWarModel", name := "weightsBy", desc := "(I)I" } : Jvm.MethodName)) ∈ lw_all := lw_g (lw_at lw_m7 84 rfl) rfl
theorem q1618 : (Jvm.Cond.privateMethod ({ cls := "TugOfWarModel", name := "weightsBy", desc := "(I)I" } : Jvm.MethodName)) ∈ lw_tbl := lw_at lw_m7 85 rfl
theorem q1619 : (Jvm.Cond.instanceMethod ({ cls := "TugOfWarModel", name := "weightsBy", desc := "(I)I" } : Jvm.MethodName)) ∈ lw_all := lw_g (lw_at lw_m7 86 rfl) rfl
theorem q1620 : (Jvm.Cond.code ({ cls := "TugOfWarModel", name := "weightsBy", desc := "(I)I" } : Jvm.MethodName) prog_12_method_74_code (6 : Nat) (Option.some Jvm.ClassFile.FieldType.int)) ∈ lw_all := lw_g (lw_at lw_m7 87 rfl) rfl
theorem q1621 : (Jvm.Cond.methodLink "TugOfWarModel" (306 : Nat) ({ cls := "TugOfWarModel", name := "sortsBy", desc := "(I)I" } : Jvm.MethodName)) ∈ lw_all := lw_g (lw_at lw_m7 88 rfl) rfl
theorem q1622 : (Jvm.Cond.privateMethod ({ cls := "TugOfWarModel", name := "sortsBy", desc := "(I)I" } : Jvm.MethodName)) ∈ lw_tbl := lw_at lw_m7 89 rfl
theorem q1623 : (Jvm.Cond.instanceMethod ({ cls := "TugOfWarModel", name := "sortsBy", desc := "(I)I" } : Jvm.MethodName)) ∈ lw_all := lw_g (lw_at lw_m7 90 rfl) rfl
theorem q1624 : (Jvm.Cond.code ({ cls := "TugOfWarModel", name := "sortsBy", desc := "(I)I" } : Jvm.MethodName) prog_12_method_75_code (5 : Nat) (Option.some Jvm.ClassFile.FieldType.int)) ∈ lw_all := lw_g (lw_at lw_m7 91 rfl) rfl
theorem q1626 : (Jvm.Cond.instanceMethod ({ cls := "TugOfWarModel", name := "ask", desc := "(I)I" } : Jvm.MethodName)) ∈ lw_all := lw_g (lw_at lw_m7 93 rfl) rfl
theorem q1627 : (Jvm.Cond.selects "TugOfWarModel" ({ cls := "TugOfWarModel", name := "ask", desc := "(I)I" } : Jvm.MethodName) ({ cls := "TugOfWarModel", name := "ask", desc := "(I)I" } : Jvm.MethodName)) ∈ lw_all := lw_g (lw_at lw_m7 94 rfl) rfl
theorem q1628 : (Jvm.Cond.code ({ cls := "TugOfWarModel", name := "ask", desc := "(I)I" } : Jvm.MethodName) prog_12_method_78_code (2 : Nat) (Option.some Jvm.ClassFile.FieldType.int)) ∈ lw_all := lw_g (lw_at lw_m7 95 rfl) rfl
theorem q1629 : (Jvm.Cond.methodLink "TugOfWarModel" (309 : Nat) ({ cls := "TugOfWarModel", name := "askOf", desc := "(I)I" } : Jvm.MethodName)) ∈ lw_all := lw_g (lw_at lw_m7 96 rfl) rfl
theorem q1630 : (Jvm.Cond.privateMethod ({ cls := "TugOfWarModel", name := "askOf", desc := "(I)I" } : Jvm.MethodName)) ∈ lw_tbl := lw_at lw_m7 97 rfl
theorem q1631 : (Jvm.Cond.instanceMethod ({ cls := "TugOfWarModel", name := "askOf", desc := "(I)I" } : Jvm.MethodName)) ∈ lw_all := lw_g (lw_at lw_m7 98 rfl) rfl
theorem q1632 : (Jvm.Cond.code ({ cls := "TugOfWarModel", name := "askOf", desc := "(I)I" } : Jvm.MethodName) prog_12_method_77_code (10 : Nat) (Option.some Jvm.ClassFile.FieldType.int)) ∈ lw_all := lw_g (lw_at lw_m7 99 rfl) rfl
theorem q1634 : (Jvm.Cond.instanceMethod ({ cls := "TugOfWarModel", name := "chance", desc := "(III)J" } : Jvm.MethodName)) ∈ lw_all := lw_g (lw_at lw_m7 101 rfl) rfl
theorem q1635 : (Jvm.Cond.selects "TugOfWarModel" ({ cls := "TugOfWarModel", name := "chance", desc := "(III)J" } : Jvm.MethodName) ({ cls := "TugOfWarModel", name := "chance", desc := "(III)J" } : Jvm.MethodName)) ∈ lw_all := lw_g (lw_at lw_m7 102 rfl) rfl
theorem q1636 : (Jvm.Cond.code ({ cls := "TugOfWarModel", name := "chance", desc := "(III)J" } : Jvm.MethodName) prog_12_method_80_code (4 : Nat) (Option.some Jvm.ClassFile.FieldType.long)) ∈ lw_all := lw_g (lw_at lw_m7 103 rfl) rfl
theorem q1637 : (Jvm.Cond.methodLink "TugOfWarModel" (316 : Nat) ({ cls := "TugOfWarModel", name := "chanceOf", desc := "(III)J" } : Jvm.MethodName)) ∈ lw_all := lw_g (lw_at lw_m7 104 rfl) rfl
theorem q1638 : (Jvm.Cond.privateMethod ({ cls := "TugOfWarModel", name := "chanceOf", desc := "(III)J" } : Jvm.MethodName)) ∈ lw_tbl := lw_at lw_m7 105 rfl
theorem q1639 : (Jvm.Cond.instanceMethod ({ cls := "TugOfWarModel", name := "chanceOf", desc := "(III)J" } : Jvm.MethodName)) ∈ lw_all := lw_g (lw_at lw_m7 106 rfl) rfl
theorem q1640 : (Jvm.Cond.code ({ cls := "TugOfWarModel", name := "chanceOf", desc := "(III)J" } : Jvm.MethodName) prog_12_method_79_code (10 : Nat) (Option.some Jvm.ClassFile.FieldType.long)) ∈ lw_all := lw_g (lw_at lw_m7 107 rfl) rfl
theorem q1641 : (Jvm.Cond.methodLink "TugOfWarModel" (312 : Nat) ({ cls := "TugOfWarModel", name := "lowest", desc := "(JJI)J" } : Jvm.MethodName)) ∈ lw_all := lw_g (lw_at lw_m7 108 rfl) rfl
theorem q1642 : (Jvm.Cond.static ({ cls := "TugOfWarModel", name := "lowest", desc := "(JJI)J" } : Jvm.MethodName)) ∈ lw_all := lw_g (lw_at lw_m7 109 rfl) rfl
theorem q1643 : (Jvm.Cond.code ({ cls := "TugOfWarModel", name := "lowest", desc := "(JJI)J" } : Jvm.MethodName) prog_12_method_6_code (11 : Nat) (Option.some Jvm.ClassFile.FieldType.long)) ∈ lw_all := lw_g (lw_at lw_m7 110 rfl) rfl
theorem q1644 : (Jvm.Cond.methodLink "TugOfWarModel" (320 : Nat) ({ cls := "TugOfWarModel", name := "no", desc := "(I)J" } : Jvm.MethodName)) ∈ lw_all := lw_g (lw_at lw_m7 111 rfl) rfl
theorem q1645 : (Jvm.Cond.static ({ cls := "TugOfWarModel", name := "no", desc := "(I)J" } : Jvm.MethodName)) ∈ lw_all := lw_g (lw_at lw_m7 112 rfl) rfl
theorem q1646 : (Jvm.Cond.code ({ cls := "TugOfWarModel", name := "no", desc := "(I)J" } : Jvm.MethodName) prog_12_method_5_code (1 : Nat) (Option.some Jvm.ClassFile.FieldType.long)) ∈ lw_all := lw_g (lw_at lw_m7 113 rfl) rfl
theorem q1647 : (Jvm.Cond.constantLong "TugOfWarModel" (107 : Nat) (-9223372036854775808 : Int64)) ∈ lw_all := lw_g (lw_at lw_m7 114 rfl) rfl
theorem q1649 : (Jvm.Cond.instanceMethod ({ cls := "TugOfWarModel", name := "years", desc := "(III)I" } : Jvm.MethodName)) ∈ lw_all := lw_g (lw_at lw_m7 116 rfl) rfl
theorem q1650 : (Jvm.Cond.selects "TugOfWarModel" ({ cls := "TugOfWarModel", name := "years", desc := "(III)I" } : Jvm.MethodName) ({ cls := "TugOfWarModel", name := "years", desc := "(III)I" } : Jvm.MethodName)) ∈ lw_all := lw_g (lw_at lw_m7 117 rfl) rfl
theorem q1651 : (Jvm.Cond.code ({ cls := "TugOfWarModel", name := "years", desc := "(III)I" } : Jvm.MethodName) prog_12_method_82_code (4 : Nat) (Option.some Jvm.ClassFile.FieldType.int)) ∈ lw_all := lw_g (lw_at lw_m7 118 rfl) rfl
theorem q1652 : (Jvm.Cond.methodLink "TugOfWarModel" (325 : Nat) ({ cls := "TugOfWarModel", name := "yearsOf", desc := "(III)I" } : Jvm.MethodName)) ∈ lw_all := lw_g (lw_at lw_m7 119 rfl) rfl
theorem q1653 : (Jvm.Cond.privateMethod ({ cls := "TugOfWarModel", name := "yearsOf", desc := "(III)I" } : Jvm.MethodName)) ∈ lw_tbl := lw_at lw_m7 120 rfl
theorem q1654 : (Jvm.Cond.instanceMethod ({ cls := "TugOfWarModel", name := "yearsOf", desc := "(III)I" } : Jvm.MethodName)) ∈ lw_all := lw_g (lw_at lw_m7 121 rfl) rfl
theorem q1655 : (Jvm.Cond.code ({ cls := "TugOfWarModel", name := "yearsOf", desc := "(III)I" } : Jvm.MethodName) prog_12_method_81_code (6 : Nat) (Option.some Jvm.ClassFile.FieldType.int)) ∈ lw_all := lw_g (lw_at lw_m7 122 rfl) rfl
theorem q1656 : (Jvm.Cond.constant "TugOfWarModel" (324 : Nat) (1103515245 : Int32)) ∈ lw_all := lw_g (lw_at lw_m7 123 rfl) rfl
theorem q1658 : (Jvm.Cond.instanceMethod ({ cls := "TugOfWarModel", name := "sheet", desc := "(III)I" } : Jvm.MethodName)) ∈ lw_all := lw_g (lw_at lw_m7 125 rfl) rfl
theorem q1659 : (Jvm.Cond.selects "TugOfWarModel" ({ cls := "TugOfWarModel", name := "sheet", desc := "(III)I" } : Jvm.MethodName) ({ cls := "TugOfWarModel", name := "sheet", desc := "(III)I" } : Jvm.MethodName)) ∈ lw_all := lw_g (lw_at lw_m7 126 rfl) rfl
theorem q1660 : (Jvm.Cond.code ({ cls := "TugOfWarModel", name := "sheet", desc := "(III)I" } : Jvm.MethodName) prog_12_method_85_code (5 : Nat) (Option.some Jvm.ClassFile.FieldType.int)) ∈ lw_all := lw_g (lw_at lw_m7 127 rfl) rfl
theorem q1662 : (Jvm.Cond.instanceMethod ({ cls := "TugOfWarModel", name := "lose", desc := "(I)I" } : Jvm.MethodName)) ∈ lw_all := lw_g (lw_at lw_m7 129 rfl) rfl
theorem q1663 : (Jvm.Cond.selects "TugOfWarModel" ({ cls := "TugOfWarModel", name := "lose", desc := "(I)I" } : Jvm.MethodName) ({ cls := "TugOfWarModel", name := "lose", desc := "(I)I" } : Jvm.MethodName)) ∈ lw_all := lw_g (lw_at lw_m7 130 rfl) rfl
theorem q1664 : (Jvm.Cond.code ({ cls := "TugOfWarModel", name := "lose", desc := "(I)I" } : Jvm.MethodName) prog_12_method_86_code (2 : Nat) (Option.some Jvm.ClassFile.FieldType.int)) ∈ lw_all := lw_g (lw_at lw_m7 131 rfl) rfl
theorem q1666 : (Jvm.Cond.instanceMethod ({ cls := "TugOfWarModel", name := "put", desc := "(IIII)I" } : Jvm.MethodName)) ∈ lw_all := lw_g (lw_at lw_m7 133 rfl) rfl
theorem q1667 : (Jvm.Cond.selects "TugOfWarModel" ({ cls := "TugOfWarModel", name := "put", desc := "(IIII)I" } : Jvm.MethodName) ({ cls := "TugOfWarModel", name := "put", desc := "(IIII)I" } : Jvm.MethodName)) ∈ lw_all := lw_g (lw_at lw_m7 134 rfl) rfl
theorem q1668 : (Jvm.Cond.code ({ cls := "TugOfWarModel", name := "put", desc := "(IIII)I" } : Jvm.MethodName) prog_12_method_89_code (6 : Nat) (Option.some Jvm.ClassFile.FieldType.int)) ∈ lw_all := lw_g (lw_at lw_m7 135 rfl) rfl
theorem q1669 : (Jvm.Cond.methodLink "TugOfWarModel" (331 : Nat) ({ cls := "TugOfWarModel", name := "lacks", desc := "(III)I" } : Jvm.MethodName)) ∈ lw_all := lw_g (lw_at lw_m7 136 rfl) rfl
theorem q1670 : (Jvm.Cond.privateMethod ({ cls := "TugOfWarModel", name := "lacks", desc := "(III)I" } : Jvm.MethodName)) ∈ lw_tbl := lw_at lw_m7 137 rfl
theorem q1671 : (Jvm.Cond.instanceMethod ({ cls := "TugOfWarModel", name := "lacks", desc := "(III)I" } : Jvm.MethodName)) ∈ lw_all := lw_g (lw_at lw_m7 138 rfl) rfl
theorem q1672 : (Jvm.Cond.code ({ cls := "TugOfWarModel", name := "lacks", desc := "(III)I" } : Jvm.MethodName) prog_12_method_87_code (4 : Nat) (Option.some Jvm.ClassFile.FieldType.int)) ∈ lw_all := lw_g (lw_at lw_m7 139 rfl) rfl
theorem q1673 : (Jvm.Cond.methodLink "TugOfWarModel" (334 : Nat) ({ cls := "TugOfWarModel", name := "keep", desc := "(III)V" } : Jvm.MethodName)) ∈ lw_all := lw_g (lw_at lw_m7 140 rfl) rfl
theorem q1674 : (Jvm.Cond.privateMethod ({ cls := "TugOfWarModel", name := "keep", desc := "(III)V" } : Jvm.MethodName)) ∈ lw_tbl := lw_at lw_m7 141 rfl
theorem q1675 : (Jvm.Cond.instanceMethod ({ cls := "TugOfWarModel", name := "keep", desc := "(III)V" } : Jvm.MethodName)) ∈ lw_all := lw_g (lw_at lw_m7 142 rfl) rfl
theorem q1676 : (Jvm.Cond.code ({ cls := "TugOfWarModel", name := "keep", desc := "(III)V" } : Jvm.MethodName) prog_12_method_88_code (4 : Nat) (Option.none : Option Jvm.ClassFile.FieldType)) ∈ lw_all := lw_g (lw_at lw_m7 143 rfl) rfl
theorem q1678 : (Jvm.Cond.instanceMethod ({ cls := "TugOfWarModel", name := "get", desc := "(III)I" } : Jvm.MethodName)) ∈ lw_all := lw_g (lw_at lw_m7 145 rfl) rfl
theorem q1679 : (Jvm.Cond.selects "TugOfWarModel" ({ cls := "TugOfWarModel", name := "get", desc := "(III)I" } : Jvm.MethodName) ({ cls := "TugOfWarModel", name := "get", desc := "(III)I" } : Jvm.MethodName)) ∈ lw_all := lw_g (lw_at lw_m7 146 rfl) rfl
theorem q1680 : (Jvm.Cond.code ({ cls := "TugOfWarModel", name := "get", desc := "(III)I" } : Jvm.MethodName) prog_12_method_90_code (5 : Nat) (Option.some Jvm.ClassFile.FieldType.int)) ∈ lw_all := lw_g (lw_at lw_m7 147 rfl) rfl
theorem q1681 : (Jvm.Cond.constant "TugOfWarModel" (338 : Nat) (-2147483648 : Int32)) ∈ lw_all := lw_g (lw_at lw_m7 148 rfl) rfl
theorem q1683 : (Jvm.Cond.instanceMethod ({ cls := "TugOfWarModel", name := "copy", desc := "(IIIII)I" } : Jvm.MethodName)) ∈ lw_all := lw_g (lw_at lw_m7 150 rfl) rfl
theorem q1684 : (Jvm.Cond.selects "TugOfWarModel" ({ cls := "TugOfWarModel", name := "copy", desc := "(IIIII)I" } : Jvm.MethodName) ({ cls := "TugOfWarModel", name := "copy", desc := "(IIIII)I" } : Jvm.MethodName)) ∈ lw_all := lw_g (lw_at lw_m7 151 rfl) rfl
theorem q1685 : (Jvm.Cond.code ({ cls := "TugOfWarModel", name := "copy", desc := "(IIIII)I" } : Jvm.MethodName) prog_12_method_91_code (7 : Nat) (Option.some Jvm.ClassFile.FieldType.int)) ∈ lw_all := lw_g (lw_at lw_m7 152 rfl) rfl
theorem q1687 : (Jvm.Cond.instanceMethod ({ cls := "TugOfWarModel", name := "write", desc := "(I)I" } : Jvm.MethodName)) ∈ lw_all := lw_g (lw_at lw_m7 154 rfl) rfl
theorem q1688 : (Jvm.Cond.selects "TugOfWarModel" ({ cls := "TugOfWarModel", name := "write", desc := "(I)I" } : Jvm.MethodName) ({ cls := "TugOfWarModel", name := "write", desc := "(I)I" } : Jvm.MethodName)) ∈ lw_all := lw_g (lw_at lw_m7 155 rfl) rfl
theorem q1689 : (Jvm.Cond.code ({ cls := "TugOfWarModel", name := "write", desc := "(I)I" } : Jvm.MethodName) prog_12_method_92_code (3 : Nat) (Option.some Jvm.ClassFile.FieldType.int)) ∈ lw_all := lw_g (lw_at lw_m7 156 rfl) rfl
theorem q1691 : (Jvm.Cond.instanceMethod ({ cls := "TugOfWarModel", name := "count", desc := "(I)I" } : Jvm.MethodName)) ∈ lw_all := lw_g (lw_at lw_m7 158 rfl) rfl
theorem q1692 : (Jvm.Cond.selects "TugOfWarModel" ({ cls := "TugOfWarModel", name := "count", desc := "(I)I" } : Jvm.MethodName) ({ cls := "TugOfWarModel", name := "count", desc := "(I)I" } : Jvm.MethodName)) ∈ lw_all := lw_g (lw_at lw_m7 159 rfl) rfl
theorem q1693 : (Jvm.Cond.code ({ cls := "TugOfWarModel", name := "count", desc := "(I)I" } : Jvm.MethodName) prog_12_method_94_code (2 : Nat) (Option.some Jvm.ClassFile.FieldType.int)) ∈ lw_all := lw_g (lw_at lw_m7 160 rfl) rfl
theorem q1694 : (Jvm.Cond.methodLink "TugOfWarModel" (339 : Nat) ({ cls := "TugOfWarModel", name := "tellOf", desc := "(I)I" } : Jvm.MethodName)) ∈ lw_all := lw_g (lw_at lw_m7 161 rfl) rfl
theorem q1695 : (Jvm.Cond.privateMethod ({ cls := "TugOfWarModel", name := "tellOf", desc := "(I)I" } : Jvm.MethodName)) ∈ lw_tbl := lw_at lw_m7 162 rfl
theorem q1696 : (Jvm.Cond.instanceMethod ({ cls := "TugOfWarModel", name := "tellOf", desc := "(I)I" } : Jvm.MethodName)) ∈ lw_all := lw_g (lw_at lw_m7 163 rfl) rfl
theorem q1697 : (Jvm.Cond.code ({ cls := "TugOfWarModel", name := "tellOf", desc := "(I)I" } : Jvm.MethodName) prog_12_method_93_code (2 : Nat) (Option.some Jvm.ClassFile.FieldType.int)) ∈ lw_all := lw_g (lw_at lw_m7 164 rfl) rfl
theorem q1699 : (Jvm.Cond.instanceMethod ({ cls := "TugOfWarModel", name := "digest", desc := "()J" } : Jvm.MethodName)) ∈ lw_all := lw_g (lw_at lw_m7 166 rfl) rfl
theorem q1700 : (Jvm.Cond.selects "TugOfWarModel" ({ cls := "TugOfWarModel", name := "digest", desc := "()J" } : Jvm.MethodName) ({ cls := "TugOfWarModel", name := "digest", desc := "()J" } : Jvm.MethodName)) ∈ lw_all := lw_g (lw_at lw_m7 167 rfl) rfl
theorem q1701 : (Jvm.Cond.code ({ cls := "TugOfWarModel", name := "digest", desc := "()J" } : Jvm.MethodName) prog_12_method_98_code (5 : Nat) (Option.some Jvm.ClassFile.FieldType.long)) ∈ lw_all := lw_g (lw_at lw_m7 168 rfl) rfl
theorem q1702 : (Jvm.Cond.constantLong "TugOfWarModel" (348 : Nat) (17 : Int64)) ∈ lw_all := lw_g (lw_at lw_m7 169 rfl) rfl
theorem q1703 : (Jvm.Cond.constantLong "TugOfWarModel" (342 : Nat) (31 : Int64)) ∈ lw_all := lw_g (lw_at lw_m7 170 rfl) rfl
theorem q1704 : (Jvm.Cond.methodLink "TugOfWarModel" (350 : Nat) ({ cls := "TugOfWarModel", name := "count", desc := "(I)I" } : Jvm.MethodName)) ∈ lw_all := lw_g (lw_at lw_m7 171 rfl) rfl
theorem q1705 : (Jvm.Cond.methodLink "TugOfWarModel" (353 : Nat) ({ cls := "TugOfWarModel", name := "pullerDigest", desc := "(JI)J" } : Jvm.MethodName)) ∈ lw_all := lw_g (lw_at lw_m7 172 rfl) rfl
theorem q1706 : (Jvm.Cond.privateMethod ({ cls := "TugOfWarModel", name := "pullerDigest", desc := "(JI)J" } : Jvm.MethodName)) ∈ lw_tbl := lw_at lw_m7 173 rfl
theorem q1707 : (Jvm.Cond.instanceMethod ({ cls := "TugOfWarModel", name := "pullerDigest", desc := "(JI)J" } : Jvm.MethodName)) ∈ lw_all := lw_g (lw_at lw_m7 174 rfl) rfl
theorem q1708 : (Jvm.Cond.code ({ cls := "TugOfWarModel", name := "pullerDigest", desc := "(JI)J" } : Jvm.MethodName) prog_12_method_96_code (7 : Nat) (Option.some Jvm.ClassFile.FieldType.long)) ∈ lw_all := lw_g (lw_at lw_m7 175 rfl) rfl
theorem q1709 : (Jvm.Cond.methodLink "TugOfWarModel" (344 : Nat) ({ cls := "TugOfWarModel", name := "beatDigest", desc := "(JII)J" } : Jvm.MethodName)) ∈ lw_all := lw_g (lw_at lw_m7 176 rfl) rfl
theorem q1710 : (Jvm.Cond.privateMethod ({ cls := "TugOfWarModel", name := "beatDigest", desc := "(JII)J" } : Jvm.MethodName)) ∈ lw_tbl := lw_at lw_m7 177 rfl
theorem q1711 : (Jvm.Cond.instanceMethod ({ cls := "TugOfWarModel", name := "beatDigest", desc := "(JII)J" } : Jvm.MethodName)) ∈ lw_all := lw_g (lw_at lw_m7 178 rfl) rfl
theorem q1712 : (Jvm.Cond.code ({ cls := "TugOfWarModel", name := "beatDigest", desc := "(JII)J" } : Jvm.MethodName) prog_12_method_95_code (7 : Nat) (Option.some Jvm.ClassFile.FieldType.long)) ∈ lw_all := lw_g (lw_at lw_m7 179 rfl) rfl
theorem q1713 : (Jvm.Cond.methodLink "TugOfWarModel" (357 : Nat) ({ cls := "TugOfWarModel", name := "teamDigest", desc := "(JI)J" } : Jvm.MethodName)) ∈ lw_all := lw_g (lw_at lw_m7 180 rfl) rfl
theorem q1714 : (Jvm.Cond.privateMethod ({ cls := "TugOfWarModel", name := "teamDigest", desc := "(JI)J" } : Jvm.MethodName)) ∈ lw_tbl := lw_at lw_m7 181 rfl
theorem q1715 : (Jvm.Cond.instanceMethod ({ cls := "TugOfWarModel", name := "teamDigest", desc := "(JI)J" } : Jvm.MethodName)) ∈ lw_all := lw_g (lw_at lw_m7 182 rfl) rfl
theorem q1716 : (Jvm.Cond.code ({ cls := "TugOfWarModel", name := "teamDigest", desc := "(JI)J" } : Jvm.MethodName) prog_12_method_97_code (7 : Nat) (Option.some Jvm.ClassFile.FieldType.long)) ∈ lw_all := lw_g (lw_at lw_m7 183 rfl) rfl
theorem q1732 : (Jvm.Cond.castable "TugOfWarModel" "java/lang/Object") ∈ lw_tbl := lw_at lw_m7 199 rfl
theorem in_X5 : ∀ w ∈ wsX50, w ∈ lw_all := lw_in wsX50 [1240, 1242, 1244, 1246, 1248, 1250, 1252, 1254, 1256, 1258, 1260, 1262, 1264, 1266, 1268, 1270, 1272, 1274, 1276, 1278, 1280, 1282, 1284, 1286, 1288, 1290, 1292, 1294, 1296, 1298, 1300, 1302, 1304, 1306, 1308, 1310, 1312, 1314, 1316, 1318, 1320, 1322, 1324, 1326, 1328, 1330, 1332] (by decide +kernel) (by decide +kernel)
