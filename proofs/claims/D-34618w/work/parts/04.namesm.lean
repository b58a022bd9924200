/-! SearchKeeperModel -/
set_option maxRecDepth 100000
def RX3 : String := "SearchKeeperModel"
def TX3 : u_T := fun k => match k with
  | 0 => ("SearchKeeperModel", "thrown", "I", false)
  | 1 => ("SearchKeeperModel", "minute", "I", false)
  | 2 => ("SearchKeeperModel", "made", "I", false)
  | 3 => ("SearchKeeperModel", "isThere", "[Z", true)
  | 4 => ("SearchKeeperModel", "isFolder", "[Z", true)
  | 5 => ("SearchKeeperModel", "parents", "[I", true)
  | 6 => ("SearchKeeperModel", "names", "[C", true)
  | 7 => ("SearchKeeperModel", "editions", "[I", true)
  | 8 => ("SearchKeeperModel", "markMany", "[I", true)
  | 9 => ("SearchKeeperModel", "marks", "[I", true)
  | 10 => ("SearchKeeperModel", "isLocked", "[Z", true)
  | 11 => ("SearchKeeperModel", "allowed", "[I", true)
  | 12 => ("SearchKeeperModel", "rootMany", "I", false)
  | 13 => ("SearchKeeperModel", "roots", "[I", true)
  | 14 => ("SearchKeeperModel", "noticeMany", "[I", true)
  | 15 => ("SearchKeeperModel", "noticeKinds", "[I", true)
  | 16 => ("SearchKeeperModel", "noticeNodes", "[I", true)
  | 17 => ("SearchKeeperModel", "isFlooded", "[Z", true)
  | 18 => ("SearchKeeperModel", "crawls", "[Z", true)
  | 19 => ("SearchKeeperModel", "waitMany", "[I", true)
  | 20 => ("SearchKeeperModel", "waits", "[I", true)
  | 21 => ("SearchKeeperModel", "met", "[Z", true)
  | 22 => ("SearchKeeperModel", "hasEntry", "[Z", true)
  | 23 => ("SearchKeeperModel", "knownParents", "[I", true)
  | 24 => ("SearchKeeperModel", "knownNames", "[C", true)
  | 25 => ("SearchKeeperModel", "knownEditions", "[I", true)
  | 26 => ("SearchKeeperModel", "wordMany", "[I", true)
  | 27 => ("SearchKeeperModel", "words", "[I", true)
  | 28 => ("SearchKeeperModel", "depthLimit", "I", false)
  | 29 => ("SearchKeeperModel", "wordLimit", "I", false)
  | 30 => ("SearchKeeperModel", "actMany", "I", false)
  | 31 => ("SearchKeeperModel", "actNodes", "[I", true)
  | 32 => ("SearchKeeperModel", "actKinds", "[I", true)
  | 33 => ("SearchKeeperModel", "isPutOff", "[Z", true)
  | 34 => ("SearchKeeperModel", "isOnBattery", "Z", false)
  | 35 => ("SearchKeeperModel", "hour", "I", false)
  | 36 => ("SearchKeeperModel", "hourly", "I", false)
  | 37 => ("SearchKeeperModel", "placeMany", "I", false)
  | 38 => ("SearchKeeperModel", "placeSegments", "[I", true)
  | 39 => ("SearchKeeperModel", "placeNodes", "[I", true)
  | 40 => ("SearchKeeperModel", "placeDead", "[Z", true)
  | 41 => ("SearchKeeperModel", "segmentMany", "I", false)
  | 42 => ("SearchKeeperModel", "isRead", "[Z", true)
  | 43 => ("SearchKeeperModel", "leaving", "[Z", true)
  | 44 => ("SearchKeeperModel", "takenMany", "I", false)
  | _ => ("SearchKeeperModel", "taken", "[I", true)
def tyX3 : Nat → FieldType := fun k => match k with
  | 0 => .int
  | 1 => .int
  | 2 => .int
  | 3 => .array .boolean
  | 4 => .array .boolean
  | 5 => .array .int
  | 6 => .array .char
  | 7 => .array .int
  | 8 => .array .int
  | 9 => .array .int
  | 10 => .array .boolean
  | 11 => .array .int
  | 12 => .int
  | 13 => .array .int
  | 14 => .array .int
  | 15 => .array .int
  | 16 => .array .int
  | 17 => .array .boolean
  | 18 => .array .boolean
  | 19 => .array .int
  | 20 => .array .int
  | 21 => .array .boolean
  | 22 => .array .boolean
  | 23 => .array .int
  | 24 => .array .char
  | 25 => .array .int
  | 26 => .array .int
  | 27 => .array .int
  | 28 => .int
  | 29 => .int
  | 30 => .int
  | 31 => .array .int
  | 32 => .array .int
  | 33 => .array .boolean
  | 34 => .boolean
  | 35 => .int
  | 36 => .int
  | 37 => .int
  | 38 => .array .int
  | 39 => .array .int
  | 40 => .array .boolean
  | 41 => .int
  | 42 => .array .boolean
  | 43 => .array .boolean
  | 44 => .int
  | _ => .array .int
abbrev wsX30 : List Cond := u_ws RX3 TX3 46
set_option maxRecDepth 100000 in
theorem nmX3 : ∀ a, a < 46 → ∀ b, b < 46 → a ≠ b → (TX3 a).2.1 ≠ (TX3 b).2.1 := by decide +kernel
set_option maxRecDepth 100000 in
theorem tyX3_ok : ∀ k, k < 46 → parseFieldDescriptor (TX3 k).2.2.1 = some (tyX3 k) := by decide +kernel
abbrev cX3_init : ByteArray := prog_11_method_1_code
def yX3_init : MethodName := ⟨RX3, "<init>", "()V"⟩
def dkwX3_init_13 : List UInt8 := [79, 42, 180, 0, 36, 3, 16, 15, 79, 177]
abbrev dktX3_init_13 : List UInt8 := dkwX3_init_13 ++ []
def dkwX3_init_12 : List UInt8 := [4, 181, 0, 118, 42, 180, 0, 7, 3, 4, 84, 42, 180, 0, 13, 3, 4, 84, 42, 180, 0, 16, 3, 2]
abbrev dktX3_init_12 : List UInt8 := dkwX3_init_12 ++ dktX3_init_13
def dkwX3_init_11 : List UInt8 := [16, 60, 188, 4, 181, 0, 109, 42, 16, 60, 188, 4, 181, 0, 112, 42, 16, 20, 188, 10, 181, 0, 115, 42]
abbrev dktX3_init_11 : List UInt8 := dkwX3_init_11 ++ dktX3_init_12
def dkwX3_init_10 : List UInt8 := [188, 10, 181, 0, 100, 42, 17, 2, 88, 188, 10, 181, 0, 103, 42, 17, 2, 88, 188, 4, 181, 0, 106, 42]
abbrev dktX3_init_10 : List UInt8 := dkwX3_init_10 ++ dktX3_init_11
def dkwX3_init_9 : List UInt8 := [181, 0, 91, 42, 16, 60, 188, 10, 181, 0, 94, 42, 16, 60, 188, 4, 181, 0, 97, 42, 17, 2, 88]
abbrev dktX3_init_9 : List UInt8 := dkwX3_init_9 ++ dktX3_init_10
def dkwX3_init_8 : List UInt8 := [17, 4, 176, 188, 10, 181, 0, 81, 42, 5, 181, 0, 84, 42, 16, 12, 181, 0, 88, 42, 16, 60, 188, 10]
abbrev dktX3_init_8 : List UInt8 := dkwX3_init_8 ++ dktX3_init_9
def dkwX3_init_7 : List UInt8 := [188, 5, 181, 0, 72, 42, 16, 60, 188, 10, 181, 0, 75, 42, 16, 60, 188, 10, 181, 0, 78, 42]
abbrev dktX3_init_7 : List UInt8 := dkwX3_init_7 ++ dktX3_init_8
def dkwX3_init_6 : List UInt8 := [188, 4, 181, 0, 63, 42, 16, 60, 188, 4, 181, 0, 66, 42, 16, 60, 188, 10, 181, 0, 69, 42, 16, 60]
abbrev dktX3_init_6 : List UInt8 := dkwX3_init_6 ++ dktX3_init_7
def dkwX3_init_5 : List UInt8 := [181, 0, 54, 42, 7, 188, 10, 181, 0, 57, 42, 17, 0, 240, 188, 10, 181, 0, 60, 42, 17, 0, 240]
abbrev dktX3_init_5 : List UInt8 := dkwX3_init_5 ++ dktX3_init_6
def dkwX3_init_4 : List UInt8 := [188, 10, 181, 0, 45, 42, 16, 32, 188, 10, 181, 0, 48, 42, 7, 188, 4, 181, 0, 51, 42, 7, 188, 4]
abbrev dktX3_init_4 : List UInt8 := dkwX3_init_4 ++ dktX3_init_5
def dkwX3_init_3 : List UInt8 := [16, 60, 188, 10, 181, 0, 36, 42, 7, 188, 10, 181, 0, 39, 42, 7, 188, 10, 181, 0, 42, 42, 16, 32]
abbrev dktX3_init_3 : List UInt8 := dkwX3_init_3 ++ dktX3_init_4
def dkwX3_init_2 : List UInt8 := [188, 10, 181, 0, 27, 42, 17, 4, 176, 188, 10, 181, 0, 30, 42, 16, 60, 188, 4, 181, 0, 33, 42]
abbrev dktX3_init_2 : List UInt8 := dkwX3_init_2 ++ dktX3_init_3
def dkwX3_init_1 : List UInt8 := [188, 10, 181, 0, 16, 42, 16, 60, 188, 5, 181, 0, 20, 42, 16, 60, 188, 10, 181, 0, 24, 42, 16, 60]
abbrev dktX3_init_1 : List UInt8 := dkwX3_init_1 ++ dktX3_init_2
def dkwX3_init_0 : List UInt8 := [42, 183, 0, 1, 42, 16, 60, 188, 4, 181, 0, 7, 42, 16, 60, 188, 4, 181, 0, 13, 42, 16, 60]
abbrev dktX3_init_0 : List UInt8 := dkwX3_init_0 ++ dktX3_init_1
theorem dksX3_init_0 : cX3_init.data.toList.drop 0 = dktX3_init_0 := by decide +kernel
theorem dksX3_init_1 : cX3_init.data.toList.drop 23 = dktX3_init_1 := dk_seg dksX3_init_0 23 rfl rfl
theorem dksX3_init_2 : cX3_init.data.toList.drop 47 = dktX3_init_2 := dk_seg dksX3_init_1 24 rfl rfl
theorem dksX3_init_3 : cX3_init.data.toList.drop 70 = dktX3_init_3 := dk_seg dksX3_init_2 23 rfl rfl
theorem dksX3_init_4 : cX3_init.data.toList.drop 94 = dktX3_init_4 := dk_seg dksX3_init_3 24 rfl rfl
theorem dksX3_init_5 : cX3_init.data.toList.drop 118 = dktX3_init_5 := dk_seg dksX3_init_4 24 rfl rfl
theorem dksX3_init_6 : cX3_init.data.toList.drop 141 = dktX3_init_6 := dk_seg dksX3_init_5 23 rfl rfl
theorem dksX3_init_7 : cX3_init.data.toList.drop 165 = dktX3_init_7 := dk_seg dksX3_init_6 24 rfl rfl
theorem dksX3_init_8 : cX3_init.data.toList.drop 187 = dktX3_init_8 := dk_seg dksX3_init_7 22 rfl rfl
theorem dksX3_init_9 : cX3_init.data.toList.drop 211 = dktX3_init_9 := dk_seg dksX3_init_8 24 rfl rfl
theorem dksX3_init_10 : cX3_init.data.toList.drop 234 = dktX3_init_10 := dk_seg dksX3_init_9 23 rfl rfl
theorem dksX3_init_11 : cX3_init.data.toList.drop 258 = dktX3_init_11 := dk_seg dksX3_init_10 24 rfl rfl
theorem dksX3_init_12 : cX3_init.data.toList.drop 282 = dktX3_init_12 := dk_seg dksX3_init_11 24 rfl rfl
theorem dksX3_init_13 : cX3_init.data.toList.drop 306 = dktX3_init_13 := dk_seg dksX3_init_12 24 rfl rfl
theorem dX3_init_0 : decode cX3_init 0 = .ok (.aload_n 0, 1) := dk_42 (dk_at dksX3_init_0 0 rfl rfl)
theorem dX3_init_1 : decode cX3_init 1 = .ok (.invokespecial 1, 3) := dk_183 0 1 (dk_at dksX3_init_0 1 rfl rfl)
theorem dX3_init_4 : decode cX3_init 4 = .ok (.aload_n 0, 1) := dk_42 (dk_at dksX3_init_0 4 rfl rfl)
theorem dX3_init_5 : decode cX3_init 5 = .ok (.bipush 60, 2) := dk_16 60 (dk_at dksX3_init_0 5 rfl rfl)
theorem dX3_init_7 : decode cX3_init 7 = .ok (.newarray .boolean, 2) := dk_188_4 (dk_at dksX3_init_0 7 rfl rfl)
theorem dX3_init_9 : decode cX3_init 9 = .ok (.putfield 7, 3) := dk_181 0 7 (dk_at dksX3_init_0 9 rfl rfl)
theorem dX3_init_12 : decode cX3_init 12 = .ok (.aload_n 0, 1) := dk_42 (dk_at dksX3_init_0 12 rfl rfl)
theorem dX3_init_13 : decode cX3_init 13 = .ok (.bipush 60, 2) := dk_16 60 (dk_at dksX3_init_0 13 rfl rfl)
theorem dX3_init_15 : decode cX3_init 15 = .ok (.newarray .boolean, 2) := dk_188_4 (dk_at dksX3_init_0 15 rfl rfl)
theorem dX3_init_17 : decode cX3_init 17 = .ok (.putfield 13, 3) := dk_181 0 13 (dk_at dksX3_init_0 17 rfl rfl)
theorem dX3_init_20 : decode cX3_init 20 = .ok (.aload_n 0, 1) := dk_42 (dk_at dksX3_init_0 20 rfl rfl)
theorem dX3_init_21 : decode cX3_init 21 = .ok (.bipush 60, 2) := dk_16 60 (dk_at dksX3_init_0 21 rfl rfl)
theorem dX3_init_23 : decode cX3_init 23 = .ok (.newarray .int, 2) := dk_188_10 (dk_at dksX3_init_1 0 rfl rfl)
theorem dX3_init_25 : decode cX3_init 25 = .ok (.putfield 16, 3) := dk_181 0 16 (dk_at dksX3_init_1 2 rfl rfl)
theorem dX3_init_28 : decode cX3_init 28 = .ok (.aload_n 0, 1) := dk_42 (dk_at dksX3_init_1 5 rfl rfl)
theorem dX3_init_29 : decode cX3_init 29 = .ok (.bipush 60, 2) := dk_16 60 (dk_at dksX3_init_1 6 rfl rfl)
theorem dX3_init_31 : decode cX3_init 31 = .ok (.newarray .char, 2) := dk_188_5 (dk_at dksX3_init_1 8 rfl rfl)
theorem dX3_init_33 : decode cX3_init 33 = .ok (.putfield 20, 3) := dk_181 0 20 (dk_at dksX3_init_1 10 rfl rfl)
theorem dX3_init_36 : decode cX3_init 36 = .ok (.aload_n 0, 1) := dk_42 (dk_at dksX3_init_1 13 rfl rfl)
theorem dX3_init_37 : decode cX3_init 37 = .ok (.bipush 60, 2) := dk_16 60 (dk_at dksX3_init_1 14 rfl rfl)
theorem dX3_init_39 : decode cX3_init 39 = .ok (.newarray .int, 2) := dk_188_10 (dk_at dksX3_init_1 16 rfl rfl)
theorem dX3_init_41 : decode cX3_init 41 = .ok (.putfield 24, 3) := dk_181 0 24 (dk_at dksX3_init_1 18 rfl rfl)
theorem dX3_init_44 : decode cX3_init 44 = .ok (.aload_n 0, 1) := dk_42 (dk_at dksX3_init_1 21 rfl rfl)
theorem dX3_init_45 : decode cX3_init 45 = .ok (.bipush 60, 2) := dk_16 60 (dk_at dksX3_init_1 22 rfl rfl)
theorem dX3_init_47 : decode cX3_init 47 = .ok (.newarray .int, 2) := dk_188_10 (dk_at dksX3_init_2 0 rfl rfl)
theorem dX3_init_49 : decode cX3_init 49 = .ok (.putfield 27, 3) := dk_181 0 27 (dk_at dksX3_init_2 2 rfl rfl)
theorem dX3_init_52 : decode cX3_init 52 = .ok (.aload_n 0, 1) := dk_42 (dk_at dksX3_init_2 5 rfl rfl)
theorem dX3_init_53 : decode cX3_init 53 = .ok (.sipush 1200, 3) := dk_17 4 176 (dk_at dksX3_init_2 6 rfl rfl)
theorem dX3_init_56 : decode cX3_init 56 = .ok (.newarray .int, 2) := dk_188_10 (dk_at dksX3_init_2 9 rfl rfl)
theorem dX3_init_58 : decode cX3_init 58 = .ok (.putfield 30, 3) := dk_181 0 30 (dk_at dksX3_init_2 11 rfl rfl)
theorem dX3_init_61 : decode cX3_init 61 = .ok (.aload_n 0, 1) := dk_42 (dk_at dksX3_init_2 14 rfl rfl)
theorem dX3_init_62 : decode cX3_init 62 = .ok (.bipush 60, 2) := dk_16 60 (dk_at dksX3_init_2 15 rfl rfl)
theorem dX3_init_64 : decode cX3_init 64 = .ok (.newarray .boolean, 2) := dk_188_4 (dk_at dksX3_init_2 17 rfl rfl)
theorem dX3_init_66 : decode cX3_init 66 = .ok (.putfield 33, 3) := dk_181 0 33 (dk_at dksX3_init_2 19 rfl rfl)
theorem dX3_init_69 : decode cX3_init 69 = .ok (.aload_n 0, 1) := dk_42 (dk_at dksX3_init_2 22 rfl rfl)
theorem dX3_init_70 : decode cX3_init 70 = .ok (.bipush 60, 2) := dk_16 60 (dk_at dksX3_init_3 0 rfl rfl)
theorem dX3_init_72 : decode cX3_init 72 = .ok (.newarray .int, 2) := dk_188_10 (dk_at dksX3_init_3 2 rfl rfl)
theorem dX3_init_74 : decode cX3_init 74 = .ok (.putfield 36, 3) := dk_181 0 36 (dk_at dksX3_init_3 4 rfl rfl)
theorem dX3_init_77 : decode cX3_init 77 = .ok (.aload_n 0, 1) := dk_42 (dk_at dksX3_init_3 7 rfl rfl)
theorem dX3_init_78 : decode cX3_init 78 = .ok (.iconst 4, 1) := dk_7 (dk_at dksX3_init_3 8 rfl rfl)
theorem dX3_init_79 : decode cX3_init 79 = .ok (.newarray .int, 2) := dk_188_10 (dk_at dksX3_init_3 9 rfl rfl)
theorem dX3_init_81 : decode cX3_init 81 = .ok (.putfield 39, 3) := dk_181 0 39 (dk_at dksX3_init_3 11 rfl rfl)
theorem dX3_init_84 : decode cX3_init 84 = .ok (.aload_n 0, 1) := dk_42 (dk_at dksX3_init_3 14 rfl rfl)
theorem dX3_init_85 : decode cX3_init 85 = .ok (.iconst 4, 1) := dk_7 (dk_at dksX3_init_3 15 rfl rfl)
theorem dX3_init_86 : decode cX3_init 86 = .ok (.newarray .int, 2) := dk_188_10 (dk_at dksX3_init_3 16 rfl rfl)
theorem dX3_init_88 : decode cX3_init 88 = .ok (.putfield 42, 3) := dk_181 0 42 (dk_at dksX3_init_3 18 rfl rfl)
theorem dX3_init_91 : decode cX3_init 91 = .ok (.aload_n 0, 1) := dk_42 (dk_at dksX3_init_3 21 rfl rfl)
theorem dX3_init_92 : decode cX3_init 92 = .ok (.bipush 32, 2) := dk_16 32 (dk_at dksX3_init_3 22 rfl rfl)
theorem dX3_init_94 : decode cX3_init 94 = .ok (.newarray .int, 2) := dk_188_10 (dk_at dksX3_init_4 0 rfl rfl)
theorem dX3_init_96 : decode cX3_init 96 = .ok (.putfield 45, 3) := dk_181 0 45 (dk_at dksX3_init_4 2 rfl rfl)
theorem dX3_init_99 : decode cX3_init 99 = .ok (.aload_n 0, 1) := dk_42 (dk_at dksX3_init_4 5 rfl rfl)
theorem dX3_init_100 : decode cX3_init 100 = .ok (.bipush 32, 2) := dk_16 32 (dk_at dksX3_init_4 6 rfl rfl)
theorem dX3_init_102 : decode cX3_init 102 = .ok (.newarray .int, 2) := dk_188_10 (dk_at dksX3_init_4 8 rfl rfl)
theorem dX3_init_104 : decode cX3_init 104 = .ok (.putfield 48, 3) := dk_181 0 48 (dk_at dksX3_init_4 10 rfl rfl)
theorem dX3_init_107 : decode cX3_init 107 = .ok (.aload_n 0, 1) := dk_42 (dk_at dksX3_init_4 13 rfl rfl)
theorem dX3_init_108 : decode cX3_init 108 = .ok (.iconst 4, 1) := dk_7 (dk_at dksX3_init_4 14 rfl rfl)
theorem dX3_init_109 : decode cX3_init 109 = .ok (.newarray .boolean, 2) := dk_188_4 (dk_at dksX3_init_4 15 rfl rfl)
theorem dX3_init_111 : decode cX3_init 111 = .ok (.putfield 51, 3) := dk_181 0 51 (dk_at dksX3_init_4 17 rfl rfl)
theorem dX3_init_114 : decode cX3_init 114 = .ok (.aload_n 0, 1) := dk_42 (dk_at dksX3_init_4 20 rfl rfl)
theorem dX3_init_115 : decode cX3_init 115 = .ok (.iconst 4, 1) := dk_7 (dk_at dksX3_init_4 21 rfl rfl)
theorem dX3_init_116 : decode cX3_init 116 = .ok (.newarray .boolean, 2) := dk_188_4 (dk_at dksX3_init_4 22 rfl rfl)
theorem dX3_init_118 : decode cX3_init 118 = .ok (.putfield 54, 3) := dk_181 0 54 (dk_at dksX3_init_5 0 rfl rfl)
theorem dX3_init_121 : decode cX3_init 121 = .ok (.aload_n 0, 1) := dk_42 (dk_at dksX3_init_5 3 rfl rfl)
theorem dX3_init_122 : decode cX3_init 122 = .ok (.iconst 4, 1) := dk_7 (dk_at dksX3_init_5 4 rfl rfl)
theorem dX3_init_123 : decode cX3_init 123 = .ok (.newarray .int, 2) := dk_188_10 (dk_at dksX3_init_5 5 rfl rfl)
theorem dX3_init_125 : decode cX3_init 125 = .ok (.putfield 57, 3) := dk_181 0 57 (dk_at dksX3_init_5 7 rfl rfl)
theorem dX3_init_128 : decode cX3_init 128 = .ok (.aload_n 0, 1) := dk_42 (dk_at dksX3_init_5 10 rfl rfl)
theorem dX3_init_129 : decode cX3_init 129 = .ok (.sipush 240, 3) := dk_17 0 240 (dk_at dksX3_init_5 11 rfl rfl)
theorem dX3_init_132 : decode cX3_init 132 = .ok (.newarray .int, 2) := dk_188_10 (dk_at dksX3_init_5 14 rfl rfl)
theorem dX3_init_134 : decode cX3_init 134 = .ok (.putfield 60, 3) := dk_181 0 60 (dk_at dksX3_init_5 16 rfl rfl)
theorem dX3_init_137 : decode cX3_init 137 = .ok (.aload_n 0, 1) := dk_42 (dk_at dksX3_init_5 19 rfl rfl)
theorem dX3_init_138 : decode cX3_init 138 = .ok (.sipush 240, 3) := dk_17 0 240 (dk_at dksX3_init_5 20 rfl rfl)
theorem dX3_init_141 : decode cX3_init 141 = .ok (.newarray .boolean, 2) := dk_188_4 (dk_at dksX3_init_6 0 rfl rfl)
theorem dX3_init_143 : decode cX3_init 143 = .ok (.putfield 63, 3) := dk_181 0 63 (dk_at dksX3_init_6 2 rfl rfl)
theorem dX3_init_146 : decode cX3_init 146 = .ok (.aload_n 0, 1) := dk_42 (dk_at dksX3_init_6 5 rfl rfl)
theorem dX3_init_147 : decode cX3_init 147 = .ok (.bipush 60, 2) := dk_16 60 (dk_at dksX3_init_6 6 rfl rfl)
theorem dX3_init_149 : decode cX3_init 149 = .ok (.newarray .boolean, 2) := dk_188_4 (dk_at dksX3_init_6 8 rfl rfl)
theorem dX3_init_151 : decode cX3_init 151 = .ok (.putfield 66, 3) := dk_181 0 66 (dk_at dksX3_init_6 10 rfl rfl)
theorem dX3_init_154 : decode cX3_init 154 = .ok (.aload_n 0, 1) := dk_42 (dk_at dksX3_init_6 13 rfl rfl)
theorem dX3_init_155 : decode cX3_init 155 = .ok (.bipush 60, 2) := dk_16 60 (dk_at dksX3_init_6 14 rfl rfl)
theorem dX3_init_157 : decode cX3_init 157 = .ok (.newarray .int, 2) := dk_188_10 (dk_at dksX3_init_6 16 rfl rfl)
theorem dX3_init_159 : decode cX3_init 159 = .ok (.putfield 69, 3) := dk_181 0 69 (dk_at dksX3_init_6 18 rfl rfl)
theorem dX3_init_162 : decode cX3_init 162 = .ok (.aload_n 0, 1) := dk_42 (dk_at dksX3_init_6 21 rfl rfl)
theorem dX3_init_163 : decode cX3_init 163 = .ok (.bipush 60, 2) := dk_16 60 (dk_at dksX3_init_6 22 rfl rfl)
theorem dX3_init_165 : decode cX3_init 165 = .ok (.newarray .char, 2) := dk_188_5 (dk_at dksX3_init_7 0 rfl rfl)
theorem dX3_init_167 : decode cX3_init 167 = .ok (.putfield 72, 3) := dk_181 0 72 (dk_at dksX3_init_7 2 rfl rfl)
theorem dX3_init_170 : decode cX3_init 170 = .ok (.aload_n 0, 1) := dk_42 (dk_at dksX3_init_7 5 rfl rfl)
theorem dX3_init_171 : decode cX3_init 171 = .ok (.bipush 60, 2) := dk_16 60 (dk_at dksX3_init_7 6 rfl rfl)
theorem dX3_init_173 : decode cX3_init 173 = .ok (.newarray .int, 2) := dk_188_10 (dk_at dksX3_init_7 8 rfl rfl)
theorem dX3_init_175 : decode cX3_init 175 = .ok (.putfield 75, 3) := dk_181 0 75 (dk_at dksX3_init_7 10 rfl rfl)
theorem dX3_init_178 : decode cX3_init 178 = .ok (.aload_n 0, 1) := dk_42 (dk_at dksX3_init_7 13 rfl rfl)
theorem dX3_init_179 : decode cX3_init 179 = .ok (.bipush 60, 2) := dk_16 60 (dk_at dksX3_init_7 14 rfl rfl)
theorem dX3_init_181 : decode cX3_init 181 = .ok (.newarray .int, 2) := dk_188_10 (dk_at dksX3_init_7 16 rfl rfl)
theorem dX3_init_183 : decode cX3_init 183 = .ok (.putfield 78, 3) := dk_181 0 78 (dk_at dksX3_init_7 18 rfl rfl)
theorem dX3_init_186 : decode cX3_init 186 = .ok (.aload_n 0, 1) := dk_42 (dk_at dksX3_init_7 21 rfl rfl)
theorem dX3_init_187 : decode cX3_init 187 = .ok (.sipush 1200, 3) := dk_17 4 176 (dk_at dksX3_init_8 0 rfl rfl)
theorem dX3_init_190 : decode cX3_init 190 = .ok (.newarray .int, 2) := dk_188_10 (dk_at dksX3_init_8 3 rfl rfl)
theorem dX3_init_192 : decode cX3_init 192 = .ok (.putfield 81, 3) := dk_181 0 81 (dk_at dksX3_init_8 5 rfl rfl)
theorem dX3_init_195 : decode cX3_init 195 = .ok (.aload_n 0, 1) := dk_42 (dk_at dksX3_init_8 8 rfl rfl)
theorem dX3_init_196 : decode cX3_init 196 = .ok (.iconst 2, 1) := dk_5 (dk_at dksX3_init_8 9 rfl rfl)
theorem dX3_init_197 : decode cX3_init 197 = .ok (.putfield 84, 3) := dk_181 0 84 (dk_at dksX3_init_8 10 rfl rfl)
theorem dX3_init_200 : decode cX3_init 200 = .ok (.aload_n 0, 1) := dk_42 (dk_at dksX3_init_8 13 rfl rfl)
theorem dX3_init_201 : decode cX3_init 201 = .ok (.bipush 12, 2) := dk_16 12 (dk_at dksX3_init_8 14 rfl rfl)
theorem dX3_init_203 : decode cX3_init 203 = .ok (.putfield 88, 3) := dk_181 0 88 (dk_at dksX3_init_8 16 rfl rfl)
theorem dX3_init_206 : decode cX3_init 206 = .ok (.aload_n 0, 1) := dk_42 (dk_at dksX3_init_8 19 rfl rfl)
theorem dX3_init_207 : decode cX3_init 207 = .ok (.bipush 60, 2) := dk_16 60 (dk_at dksX3_init_8 20 rfl rfl)
theorem dX3_init_209 : decode cX3_init 209 = .ok (.newarray .int, 2) := dk_188_10 (dk_at dksX3_init_8 22 rfl rfl)
theorem dX3_init_211 : decode cX3_init 211 = .ok (.putfield 91, 3) := dk_181 0 91 (dk_at dksX3_init_9 0 rfl rfl)
theorem dX3_init_214 : decode cX3_init 214 = .ok (.aload_n 0, 1) := dk_42 (dk_at dksX3_init_9 3 rfl rfl)
theorem dX3_init_215 : decode cX3_init 215 = .ok (.bipush 60, 2) := dk_16 60 (dk_at dksX3_init_9 4 rfl rfl)
theorem dX3_init_217 : decode cX3_init 217 = .ok (.newarray .int, 2) := dk_188_10 (dk_at dksX3_init_9 6 rfl rfl)
theorem dX3_init_219 : decode cX3_init 219 = .ok (.putfield 94, 3) := dk_181 0 94 (dk_at dksX3_init_9 8 rfl rfl)
theorem dX3_init_222 : decode cX3_init 222 = .ok (.aload_n 0, 1) := dk_42 (dk_at dksX3_init_9 11 rfl rfl)
theorem dX3_init_223 : decode cX3_init 223 = .ok (.bipush 60, 2) := dk_16 60 (dk_at dksX3_init_9 12 rfl rfl)
theorem dX3_init_225 : decode cX3_init 225 = .ok (.newarray .boolean, 2) := dk_188_4 (dk_at dksX3_init_9 14 rfl rfl)
theorem dX3_init_227 : decode cX3_init 227 = .ok (.putfield 97, 3) := dk_181 0 97 (dk_at dksX3_init_9 16 rfl rfl)
theorem dX3_init_230 : decode cX3_init 230 = .ok (.aload_n 0, 1) := dk_42 (dk_at dksX3_init_9 19 rfl rfl)
theorem dX3_init_231 : decode cX3_init 231 = .ok (.sipush 600, 3) := dk_17 2 88 (dk_at dksX3_init_9 20 rfl rfl)
theorem dX3_init_234 : decode cX3_init 234 = .ok (.newarray .int, 2) := dk_188_10 (dk_at dksX3_init_10 0 rfl rfl)
theorem dX3_init_236 : decode cX3_init 236 = .ok (.putfield 100, 3) := dk_181 0 100 (dk_at dksX3_init_10 2 rfl rfl)
theorem dX3_init_239 : decode cX3_init 239 = .ok (.aload_n 0, 1) := dk_42 (dk_at dksX3_init_10 5 rfl rfl)
theorem dX3_init_240 : decode cX3_init 240 = .ok (.sipush 600, 3) := dk_17 2 88 (dk_at dksX3_init_10 6 rfl rfl)
theorem dX3_init_243 : decode cX3_init 243 = .ok (.newarray .int, 2) := dk_188_10 (dk_at dksX3_init_10 9 rfl rfl)
theorem dX3_init_245 : decode cX3_init 245 = .ok (.putfield 103, 3) := dk_181 0 103 (dk_at dksX3_init_10 11 rfl rfl)
theorem dX3_init_248 : decode cX3_init 248 = .ok (.aload_n 0, 1) := dk_42 (dk_at dksX3_init_10 14 rfl rfl)
theorem dX3_init_249 : decode cX3_init 249 = .ok (.sipush 600, 3) := dk_17 2 88 (dk_at dksX3_init_10 15 rfl rfl)
theorem dX3_init_252 : decode cX3_init 252 = .ok (.newarray .boolean, 2) := dk_188_4 (dk_at dksX3_init_10 18 rfl rfl)
theorem dX3_init_254 : decode cX3_init 254 = .ok (.putfield 106, 3) := dk_181 0 106 (dk_at dksX3_init_10 20 rfl rfl)
theorem dX3_init_257 : decode cX3_init 257 = .ok (.aload_n 0, 1) := dk_42 (dk_at dksX3_init_10 23 rfl rfl)
theorem dX3_init_258 : decode cX3_init 258 = .ok (.bipush 60, 2) := dk_16 60 (dk_at dksX3_init_11 0 rfl rfl)
theorem dX3_init_260 : decode cX3_init 260 = .ok (.newarray .boolean, 2) := dk_188_4 (dk_at dksX3_init_11 2 rfl rfl)
theorem dX3_init_262 : decode cX3_init 262 = .ok (.putfield 109, 3) := dk_181 0 109 (dk_at dksX3_init_11 4 rfl rfl)
theorem dX3_init_265 : decode cX3_init 265 = .ok (.aload_n 0, 1) := dk_42 (dk_at dksX3_init_11 7 rfl rfl)
theorem dX3_init_266 : decode cX3_init 266 = .ok (.bipush 60, 2) := dk_16 60 (dk_at dksX3_init_11 8 rfl rfl)
theorem dX3_init_268 : decode cX3_init 268 = .ok (.newarray .boolean, 2) := dk_188_4 (dk_at dksX3_init_11 10 rfl rfl)
theorem dX3_init_270 : decode cX3_init 270 = .ok (.putfield 112, 3) := dk_181 0 112 (dk_at dksX3_init_11 12 rfl rfl)
theorem dX3_init_273 : decode cX3_init 273 = .ok (.aload_n 0, 1) := dk_42 (dk_at dksX3_init_11 15 rfl rfl)
theorem dX3_init_274 : decode cX3_init 274 = .ok (.bipush 20, 2) := dk_16 20 (dk_at dksX3_init_11 16 rfl rfl)
theorem dX3_init_276 : decode cX3_init 276 = .ok (.newarray .int, 2) := dk_188_10 (dk_at dksX3_init_11 18 rfl rfl)
theorem dX3_init_278 : decode cX3_init 278 = .ok (.putfield 115, 3) := dk_181 0 115 (dk_at dksX3_init_11 20 rfl rfl)
theorem dX3_init_281 : decode cX3_init 281 = .ok (.aload_n 0, 1) := dk_42 (dk_at dksX3_init_11 23 rfl rfl)
theorem dX3_init_282 : decode cX3_init 282 = .ok (.iconst 1, 1) := dk_4 (dk_at dksX3_init_12 0 rfl rfl)
theorem dX3_init_283 : decode cX3_init 283 = .ok (.putfield 118, 3) := dk_181 0 118 (dk_at dksX3_init_12 1 rfl rfl)
theorem dX3_init_286 : decode cX3_init 286 = .ok (.aload_n 0, 1) := dk_42 (dk_at dksX3_init_12 4 rfl rfl)
theorem dX3_init_287 : decode cX3_init 287 = .ok (.getfield 7, 3) := dk_180 0 7 (dk_at dksX3_init_12 5 rfl rfl)
theorem dX3_init_290 : decode cX3_init 290 = .ok (.iconst 0, 1) := dk_3 (dk_at dksX3_init_12 8 rfl rfl)
theorem dX3_init_291 : decode cX3_init 291 = .ok (.iconst 1, 1) := dk_4 (dk_at dksX3_init_12 9 rfl rfl)
theorem dX3_init_292 : decode cX3_init 292 = .ok (.bastore, 1) := dk_84 (dk_at dksX3_init_12 10 rfl rfl)
theorem dX3_init_293 : decode cX3_init 293 = .ok (.aload_n 0, 1) := dk_42 (dk_at dksX3_init_12 11 rfl rfl)
theorem dX3_init_294 : decode cX3_init 294 = .ok (.getfield 13, 3) := dk_180 0 13 (dk_at dksX3_init_12 12 rfl rfl)
theorem dX3_init_297 : decode cX3_init 297 = .ok (.iconst 0, 1) := dk_3 (dk_at dksX3_init_12 15 rfl rfl)
theorem dX3_init_298 : decode cX3_init 298 = .ok (.iconst 1, 1) := dk_4 (dk_at dksX3_init_12 16 rfl rfl)
theorem dX3_init_299 : decode cX3_init 299 = .ok (.bastore, 1) := dk_84 (dk_at dksX3_init_12 17 rfl rfl)
theorem dX3_init_300 : decode cX3_init 300 = .ok (.aload_n 0, 1) := dk_42 (dk_at dksX3_init_12 18 rfl rfl)
theorem dX3_init_301 : decode cX3_init 301 = .ok (.getfield 16, 3) := dk_180 0 16 (dk_at dksX3_init_12 19 rfl rfl)
theorem dX3_init_304 : decode cX3_init 304 = .ok (.iconst 0, 1) := dk_3 (dk_at dksX3_init_12 22 rfl rfl)
theorem dX3_init_305 : decode cX3_init 305 = .ok (.iconst (-1), 1) := dk_2 (dk_at dksX3_init_12 23 rfl rfl)
theorem dX3_init_306 : decode cX3_init 306 = .ok (.iastore, 1) := dk_79 (dk_at dksX3_init_13 0 rfl rfl)
theorem dX3_init_307 : decode cX3_init 307 = .ok (.aload_n 0, 1) := dk_42 (dk_at dksX3_init_13 1 rfl rfl)
theorem dX3_init_308 : decode cX3_init 308 = .ok (.getfield 36, 3) := dk_180 0 36 (dk_at dksX3_init_13 2 rfl rfl)
theorem dX3_init_311 : decode cX3_init 311 = .ok (.iconst 0, 1) := dk_3 (dk_at dksX3_init_13 5 rfl rfl)
theorem dX3_init_312 : decode cX3_init 312 = .ok (.bipush 15, 2) := dk_16 15 (dk_at dksX3_init_13 6 rfl rfl)
theorem dX3_init_314 : decode cX3_init 314 = .ok (.iastore, 1) := dk_79 (dk_at dksX3_init_13 8 rfl rfl)
theorem dX3_init_315 : decode cX3_init 315 = .ok (.return_, 1) := dk_177 (dk_at dksX3_init_13 9 rfl rfl)
abbrev cX3_thrown : ByteArray := prog_11_method_2_code
def yX3_thrown : MethodName := ⟨RX3, "thrown", "()I"⟩
theorem dX3_thrown_0 : decode cX3_thrown 0 = .ok (.aload_n 0, 1) := by decide +kernel
theorem dX3_thrown_1 : decode cX3_thrown 1 = .ok (.getfield 121, 3) := by decide +kernel
theorem dX3_thrown_4 : decode cX3_thrown 4 = .ok (.ireturn, 1) := by decide +kernel
abbrev cX3_make : ByteArray := prog_11_method_13_code
def yX3_make : MethodName := ⟨RX3, "make", "(ICZ)I"⟩
def dkwX3_make_6 : List UInt8 := [182, 0, 153, 21, 4, 172]
abbrev dktX3_make_6 : List UInt8 := dkwX3_make_6 ++ []
def dkwX3_make_5 : List UInt8 := [16, 15, 79, 42, 89, 180, 0, 118, 4, 96, 181, 0, 118, 42, 42, 21, 4, 182, 0, 150, 3, 21, 4]
abbrev dktX3_make_5 : List UInt8 := dkwX3_make_5 ++ dktX3_make_6
def dkwX3_make_4 : List UInt8 := [27, 79, 42, 180, 0, 20, 21, 4, 28, 85, 42, 180, 0, 24, 21, 4, 4, 79, 42, 180, 0, 36, 21, 4]
abbrev dktX3_make_4 : List UInt8 := dkwX3_make_4 ++ dktX3_make_5
def dkwX3_make_3 : List UInt8 := [54, 4, 42, 180, 0, 7, 21, 4, 4, 84, 42, 180, 0, 13, 21, 4, 29, 84, 42, 180, 0, 16, 21, 4]
abbrev dktX3_make_3 : List UInt8 := dkwX3_make_3 ++ dktX3_make_4
def dkwX3_make_2 : List UInt8 := [160, 0, 7, 6, 167, 0, 4, 3, 181, 0, 121, 42, 180, 0, 121, 158, 0, 5, 3, 172, 42, 180, 0, 118]
abbrev dktX3_make_2 : List UInt8 := dkwX3_make_2 ++ dktX3_make_3
def dkwX3_make_1 : List UInt8 := [154, 0, 7, 5, 167, 0, 27, 42, 27, 28, 2, 182, 0, 146, 154, 0, 12, 42, 180, 0, 118, 16, 60]
abbrev dktX3_make_1 : List UInt8 := dkwX3_make_1 ++ dktX3_make_2
def dkwX3_make_0 : List UInt8 := [42, 27, 182, 0, 139, 154, 0, 9, 42, 4, 182, 0, 142, 172, 42, 28, 16, 97, 16, 122, 184, 0, 124]
abbrev dktX3_make_0 : List UInt8 := dkwX3_make_0 ++ dktX3_make_1
theorem dksX3_make_0 : cX3_make.data.toList.drop 0 = dktX3_make_0 := by decide +kernel
theorem dksX3_make_1 : cX3_make.data.toList.drop 23 = dktX3_make_1 := dk_seg dksX3_make_0 23 rfl rfl
theorem dksX3_make_2 : cX3_make.data.toList.drop 46 = dktX3_make_2 := dk_seg dksX3_make_1 23 rfl rfl
theorem dksX3_make_3 : cX3_make.data.toList.drop 70 = dktX3_make_3 := dk_seg dksX3_make_2 24 rfl rfl
theorem dksX3_make_4 : cX3_make.data.toList.drop 94 = dktX3_make_4 := dk_seg dksX3_make_3 24 rfl rfl
theorem dksX3_make_5 : cX3_make.data.toList.drop 118 = dktX3_make_5 := dk_seg dksX3_make_4 24 rfl rfl
theorem dksX3_make_6 : cX3_make.data.toList.drop 141 = dktX3_make_6 := dk_seg dksX3_make_5 23 rfl rfl
theorem dX3_make_0 : decode cX3_make 0 = .ok (.aload_n 0, 1) := dk_42 (dk_at dksX3_make_0 0 rfl rfl)
theorem dX3_make_1 : decode cX3_make 1 = .ok (.iload_n 1, 1) := dk_27 (dk_at dksX3_make_0 1 rfl rfl)
theorem dX3_make_2 : decode cX3_make 2 = .ok (.invokevirtual 139, 3) := dk_182 0 139 (dk_at dksX3_make_0 2 rfl rfl)
theorem dX3_make_5 : decode cX3_make 5 = .ok (.ifCond .ne 9, 3) := dk_154 0 9 (dk_at dksX3_make_0 5 rfl rfl)
theorem dX3_make_8 : decode cX3_make 8 = .ok (.aload_n 0, 1) := dk_42 (dk_at dksX3_make_0 8 rfl rfl)
theorem dX3_make_9 : decode cX3_make 9 = .ok (.iconst 1, 1) := dk_4 (dk_at dksX3_make_0 9 rfl rfl)
theorem dX3_make_10 : decode cX3_make 10 = .ok (.invokevirtual 142, 3) := dk_182 0 142 (dk_at dksX3_make_0 10 rfl rfl)
theorem dX3_make_13 : decode cX3_make 13 = .ok (.ireturn, 1) := dk_172 (dk_at dksX3_make_0 13 rfl rfl)
theorem dX3_make_14 : decode cX3_make 14 = .ok (.aload_n 0, 1) := dk_42 (dk_at dksX3_make_0 14 rfl rfl)
theorem dX3_make_15 : decode cX3_make 15 = .ok (.iload_n 2, 1) := dk_28 (dk_at dksX3_make_0 15 rfl rfl)
theorem dX3_make_16 : decode cX3_make 16 = .ok (.bipush 97, 2) := dk_16 97 (dk_at dksX3_make_0 16 rfl rfl)
theorem dX3_make_18 : decode cX3_make 18 = .ok (.bipush 122, 2) := dk_16 122 (dk_at dksX3_make_0 18 rfl rfl)
theorem dX3_make_20 : decode cX3_make 20 = .ok (.invokestatic 124, 3) := dk_184 0 124 (dk_at dksX3_make_0 20 rfl rfl)
theorem dX3_make_23 : decode cX3_make 23 = .ok (.ifCond .ne 7, 3) := dk_154 0 7 (dk_at dksX3_make_1 0 rfl rfl)
theorem dX3_make_26 : decode cX3_make 26 = .ok (.iconst 2, 1) := dk_5 (dk_at dksX3_make_1 3 rfl rfl)
theorem dX3_make_27 : decode cX3_make 27 = .ok (.goto 27, 3) := dk_167 0 27 (dk_at dksX3_make_1 4 rfl rfl)
theorem dX3_make_30 : decode cX3_make 30 = .ok (.aload_n 0, 1) := dk_42 (dk_at dksX3_make_1 7 rfl rfl)
theorem dX3_make_31 : decode cX3_make 31 = .ok (.iload_n 1, 1) := dk_27 (dk_at dksX3_make_1 8 rfl rfl)
theorem dX3_make_32 : decode cX3_make 32 = .ok (.iload_n 2, 1) := dk_28 (dk_at dksX3_make_1 9 rfl rfl)
theorem dX3_make_33 : decode cX3_make 33 = .ok (.iconst (-1), 1) := dk_2 (dk_at dksX3_make_1 10 rfl rfl)
theorem dX3_make_34 : decode cX3_make 34 = .ok (.invokevirtual 146, 3) := dk_182 0 146 (dk_at dksX3_make_1 11 rfl rfl)
theorem dX3_make_37 : decode cX3_make 37 = .ok (.ifCond .ne 12, 3) := dk_154 0 12 (dk_at dksX3_make_1 14 rfl rfl)
theorem dX3_make_40 : decode cX3_make 40 = .ok (.aload_n 0, 1) := dk_42 (dk_at dksX3_make_1 17 rfl rfl)
theorem dX3_make_41 : decode cX3_make 41 = .ok (.getfield 118, 3) := dk_180 0 118 (dk_at dksX3_make_1 18 rfl rfl)
theorem dX3_make_44 : decode cX3_make 44 = .ok (.bipush 60, 2) := dk_16 60 (dk_at dksX3_make_1 21 rfl rfl)
theorem dX3_make_46 : decode cX3_make 46 = .ok (.if_icmp .ne 7, 3) := dk_160 0 7 (dk_at dksX3_make_2 0 rfl rfl)
theorem dX3_make_49 : decode cX3_make 49 = .ok (.iconst 3, 1) := dk_6 (dk_at dksX3_make_2 3 rfl rfl)
theorem dX3_make_50 : decode cX3_make 50 = .ok (.goto 4, 3) := dk_167 0 4 (dk_at dksX3_make_2 4 rfl rfl)
theorem dX3_make_53 : decode cX3_make 53 = .ok (.iconst 0, 1) := dk_3 (dk_at dksX3_make_2 7 rfl rfl)
theorem dX3_make_54 : decode cX3_make 54 = .ok (.putfield 121, 3) := dk_181 0 121 (dk_at dksX3_make_2 8 rfl rfl)
theorem dX3_make_57 : decode cX3_make 57 = .ok (.aload_n 0, 1) := dk_42 (dk_at dksX3_make_2 11 rfl rfl)
theorem dX3_make_58 : decode cX3_make 58 = .ok (.getfield 121, 3) := dk_180 0 121 (dk_at dksX3_make_2 12 rfl rfl)
theorem dX3_make_61 : decode cX3_make 61 = .ok (.ifCond .le 5, 3) := dk_158 0 5 (dk_at dksX3_make_2 15 rfl rfl)
theorem dX3_make_64 : decode cX3_make 64 = .ok (.iconst 0, 1) := dk_3 (dk_at dksX3_make_2 18 rfl rfl)
theorem dX3_make_65 : decode cX3_make 65 = .ok (.ireturn, 1) := dk_172 (dk_at dksX3_make_2 19 rfl rfl)
theorem dX3_make_66 : decode cX3_make 66 = .ok (.aload_n 0, 1) := dk_42 (dk_at dksX3_make_2 20 rfl rfl)
theorem dX3_make_67 : decode cX3_make 67 = .ok (.getfield 118, 3) := dk_180 0 118 (dk_at dksX3_make_2 21 rfl rfl)
theorem dX3_make_70 : decode cX3_make 70 = .ok (.istore 4, 2) := dk_54 4 (dk_at dksX3_make_3 0 rfl rfl)
theorem dX3_make_72 : decode cX3_make 72 = .ok (.aload_n 0, 1) := dk_42 (dk_at dksX3_make_3 2 rfl rfl)
theorem dX3_make_73 : decode cX3_make 73 = .ok (.getfield 7, 3) := dk_180 0 7 (dk_at dksX3_make_3 3 rfl rfl)
theorem dX3_make_76 : decode cX3_make 76 = .ok (.iload 4, 2) := dk_21 4 (dk_at dksX3_make_3 6 rfl rfl)
theorem dX3_make_78 : decode cX3_make 78 = .ok (.iconst 1, 1) := dk_4 (dk_at dksX3_make_3 8 rfl rfl)
theorem dX3_make_79 : decode cX3_make 79 = .ok (.bastore, 1) := dk_84 (dk_at dksX3_make_3 9 rfl rfl)
theorem dX3_make_80 : decode cX3_make 80 = .ok (.aload_n 0, 1) := dk_42 (dk_at dksX3_make_3 10 rfl rfl)
theorem dX3_make_81 : decode cX3_make 81 = .ok (.getfield 13, 3) := dk_180 0 13 (dk_at dksX3_make_3 11 rfl rfl)
theorem dX3_make_84 : decode cX3_make 84 = .ok (.iload 4, 2) := dk_21 4 (dk_at dksX3_make_3 14 rfl rfl)
theorem dX3_make_86 : decode cX3_make 86 = .ok (.iload_n 3, 1) := dk_29 (dk_at dksX3_make_3 16 rfl rfl)
theorem dX3_make_87 : decode cX3_make 87 = .ok (.bastore, 1) := dk_84 (dk_at dksX3_make_3 17 rfl rfl)
theorem dX3_make_88 : decode cX3_make 88 = .ok (.aload_n 0, 1) := dk_42 (dk_at dksX3_make_3 18 rfl rfl)
theorem dX3_make_89 : decode cX3_make 89 = .ok (.getfield 16, 3) := dk_180 0 16 (dk_at dksX3_make_3 19 rfl rfl)
theorem dX3_make_92 : decode cX3_make 92 = .ok (.iload 4, 2) := dk_21 4 (dk_at dksX3_make_3 22 rfl rfl)
theorem dX3_make_94 : decode cX3_make 94 = .ok (.iload_n 1, 1) := dk_27 (dk_at dksX3_make_4 0 rfl rfl)
theorem dX3_make_95 : decode cX3_make 95 = .ok (.iastore, 1) := dk_79 (dk_at dksX3_make_4 1 rfl rfl)
theorem dX3_make_96 : decode cX3_make 96 = .ok (.aload_n 0, 1) := dk_42 (dk_at dksX3_make_4 2 rfl rfl)
theorem dX3_make_97 : decode cX3_make 97 = .ok (.getfield 20, 3) := dk_180 0 20 (dk_at dksX3_make_4 3 rfl rfl)
theorem dX3_make_100 : decode cX3_make 100 = .ok (.iload 4, 2) := dk_21 4 (dk_at dksX3_make_4 6 rfl rfl)
theorem dX3_make_102 : decode cX3_make 102 = .ok (.iload_n 2, 1) := dk_28 (dk_at dksX3_make_4 8 rfl rfl)
theorem dX3_make_103 : decode cX3_make 103 = .ok (.castore, 1) := dk_85 (dk_at dksX3_make_4 9 rfl rfl)
theorem dX3_make_104 : decode cX3_make 104 = .ok (.aload_n 0, 1) := dk_42 (dk_at dksX3_make_4 10 rfl rfl)
theorem dX3_make_105 : decode cX3_make 105 = .ok (.getfield 24, 3) := dk_180 0 24 (dk_at dksX3_make_4 11 rfl rfl)
theorem dX3_make_108 : decode cX3_make 108 = .ok (.iload 4, 2) := dk_21 4 (dk_at dksX3_make_4 14 rfl rfl)
theorem dX3_make_110 : decode cX3_make 110 = .ok (.iconst 1, 1) := dk_4 (dk_at dksX3_make_4 16 rfl rfl)
theorem dX3_make_111 : decode cX3_make 111 = .ok (.iastore, 1) := dk_79 (dk_at dksX3_make_4 17 rfl rfl)
theorem dX3_make_112 : decode cX3_make 112 = .ok (.aload_n 0, 1) := dk_42 (dk_at dksX3_make_4 18 rfl rfl)
theorem dX3_make_113 : decode cX3_make 113 = .ok (.getfield 36, 3) := dk_180 0 36 (dk_at dksX3_make_4 19 rfl rfl)
theorem dX3_make_116 : decode cX3_make 116 = .ok (.iload 4, 2) := dk_21 4 (dk_at dksX3_make_4 22 rfl rfl)
theorem dX3_make_118 : decode cX3_make 118 = .ok (.bipush 15, 2) := dk_16 15 (dk_at dksX3_make_5 0 rfl rfl)
theorem dX3_make_120 : decode cX3_make 120 = .ok (.iastore, 1) := dk_79 (dk_at dksX3_make_5 2 rfl rfl)
theorem dX3_make_121 : decode cX3_make 121 = .ok (.aload_n 0, 1) := dk_42 (dk_at dksX3_make_5 3 rfl rfl)
theorem dX3_make_122 : decode cX3_make 122 = .ok (.dup, 1) := dk_89 (dk_at dksX3_make_5 4 rfl rfl)
theorem dX3_make_123 : decode cX3_make 123 = .ok (.getfield 118, 3) := dk_180 0 118 (dk_at dksX3_make_5 5 rfl rfl)
theorem dX3_make_126 : decode cX3_make 126 = .ok (.iconst 1, 1) := dk_4 (dk_at dksX3_make_5 8 rfl rfl)
theorem dX3_make_127 : decode cX3_make 127 = .ok (.iadd, 1) := dk_96 (dk_at dksX3_make_5 9 rfl rfl)
theorem dX3_make_128 : decode cX3_make 128 = .ok (.putfield 118, 3) := dk_181 0 118 (dk_at dksX3_make_5 10 rfl rfl)
theorem dX3_make_131 : decode cX3_make 131 = .ok (.aload_n 0, 1) := dk_42 (dk_at dksX3_make_5 13 rfl rfl)
theorem dX3_make_132 : decode cX3_make 132 = .ok (.aload_n 0, 1) := dk_42 (dk_at dksX3_make_5 14 rfl rfl)
theorem dX3_make_133 : decode cX3_make 133 = .ok (.iload 4, 2) := dk_21 4 (dk_at dksX3_make_5 15 rfl rfl)
theorem dX3_make_135 : decode cX3_make 135 = .ok (.invokevirtual 150, 3) := dk_182 0 150 (dk_at dksX3_make_5 17 rfl rfl)
theorem dX3_make_138 : decode cX3_make 138 = .ok (.iconst 0, 1) := dk_3 (dk_at dksX3_make_5 20 rfl rfl)
theorem dX3_make_139 : decode cX3_make 139 = .ok (.iload 4, 2) := dk_21 4 (dk_at dksX3_make_5 21 rfl rfl)
theorem dX3_make_141 : decode cX3_make 141 = .ok (.invokevirtual 153, 3) := dk_182 0 153 (dk_at dksX3_make_6 0 rfl rfl)
theorem dX3_make_144 : decode cX3_make 144 = .ok (.iload 4, 2) := dk_21 4 (dk_at dksX3_make_6 3 rfl rfl)
theorem dX3_make_146 : decode cX3_make 146 = .ok (.ireturn, 1) := dk_172 (dk_at dksX3_make_6 5 rfl rfl)
abbrev cX3_isFolderAt : ByteArray := prog_11_method_6_code
def yX3_isFolderAt : MethodName := ⟨RX3, "isFolderAt", "(I)Z"⟩
def dkwX3_isFolderAt_0 : List UInt8 := [42, 27, 182, 0, 128, 153, 0, 16, 42, 180, 0, 13, 27, 51, 153, 0, 7, 4, 167, 0, 4, 3, 172]
abbrev dktX3_isFolderAt_0 : List UInt8 := dkwX3_isFolderAt_0 ++ []
theorem dksX3_isFolderAt_0 : cX3_isFolderAt.data.toList.drop 0 = dktX3_isFolderAt_0 := by decide +kernel
theorem dX3_isFolderAt_0 : decode cX3_isFolderAt 0 = .ok (.aload_n 0, 1) := dk_42 (dk_at dksX3_isFolderAt_0 0 rfl rfl)
theorem dX3_isFolderAt_1 : decode cX3_isFolderAt 1 = .ok (.iload_n 1, 1) := dk_27 (dk_at dksX3_isFolderAt_0 1 rfl rfl)
theorem dX3_isFolderAt_2 : decode cX3_isFolderAt 2 = .ok (.invokevirtual 128, 3) := dk_182 0 128 (dk_at dksX3_isFolderAt_0 2 rfl rfl)
theorem dX3_isFolderAt_5 : decode cX3_isFolderAt 5 = .ok (.ifCond .eq 16, 3) := dk_153 0 16 (dk_at dksX3_isFolderAt_0 5 rfl rfl)
theorem dX3_isFolderAt_8 : decode cX3_isFolderAt 8 = .ok (.aload_n 0, 1) := dk_42 (dk_at dksX3_isFolderAt_0 8 rfl rfl)
theorem dX3_isFolderAt_9 : decode cX3_isFolderAt 9 = .ok (.getfield 13, 3) := dk_180 0 13 (dk_at dksX3_isFolderAt_0 9 rfl rfl)
theorem dX3_isFolderAt_12 : decode cX3_isFolderAt 12 = .ok (.iload_n 1, 1) := dk_27 (dk_at dksX3_isFolderAt_0 12 rfl rfl)
theorem dX3_isFolderAt_13 : decode cX3_isFolderAt 13 = .ok (.baload, 1) := dk_51 (dk_at dksX3_isFolderAt_0 13 rfl rfl)
theorem dX3_isFolderAt_14 : decode cX3_isFolderAt 14 = .ok (.ifCond .eq 7, 3) := dk_153 0 7 (dk_at dksX3_isFolderAt_0 14 rfl rfl)
theorem dX3_isFolderAt_17 : decode cX3_isFolderAt 17 = .ok (.iconst 1, 1) := dk_4 (dk_at dksX3_isFolderAt_0 17 rfl rfl)
theorem dX3_isFolderAt_18 : decode cX3_isFolderAt 18 = .ok (.goto 4, 3) := dk_167 0 4 (dk_at dksX3_isFolderAt_0 18 rfl rfl)
theorem dX3_isFolderAt_21 : decode cX3_isFolderAt 21 = .ok (.iconst 0, 1) := dk_3 (dk_at dksX3_isFolderAt_0 21 rfl rfl)
theorem dX3_isFolderAt_22 : decode cX3_isFolderAt 22 = .ok (.ireturn, 1) := dk_172 (dk_at dksX3_isFolderAt_0 22 rfl rfl)
abbrev cX3_isNode : ByteArray := prog_11_method_5_code
def yX3_isNode : MethodName := ⟨RX3, "isNode", "(I)Z"⟩
def dkwX3_isNode_1 : List UInt8 := [167, 0, 4, 3, 172]
abbrev dktX3_isNode_1 : List UInt8 := dkwX3_isNode_1 ++ []
def dkwX3_isNode_0 : List UInt8 := [27, 3, 42, 180, 0, 118, 4, 100, 184, 0, 124, 153, 0, 16, 42, 180, 0, 7, 27, 51, 153, 0, 7, 4]
abbrev dktX3_isNode_0 : List UInt8 := dkwX3_isNode_0 ++ dktX3_isNode_1
theorem dksX3_isNode_0 : cX3_isNode.data.toList.drop 0 = dktX3_isNode_0 := by decide +kernel
theorem dksX3_isNode_1 : cX3_isNode.data.toList.drop 24 = dktX3_isNode_1 := dk_seg dksX3_isNode_0 24 rfl rfl
theorem dX3_isNode_0 : decode cX3_isNode 0 = .ok (.iload_n 1, 1) := dk_27 (dk_at dksX3_isNode_0 0 rfl rfl)
theorem dX3_isNode_1 : decode cX3_isNode 1 = .ok (.iconst 0, 1) := dk_3 (dk_at dksX3_isNode_0 1 rfl rfl)
theorem dX3_isNode_2 : decode cX3_isNode 2 = .ok (.aload_n 0, 1) := dk_42 (dk_at dksX3_isNode_0 2 rfl rfl)
theorem dX3_isNode_3 : decode cX3_isNode 3 = .ok (.getfield 118, 3) := dk_180 0 118 (dk_at dksX3_isNode_0 3 rfl rfl)
theorem dX3_isNode_6 : decode cX3_isNode 6 = .ok (.iconst 1, 1) := dk_4 (dk_at dksX3_isNode_0 6 rfl rfl)
theorem dX3_isNode_7 : decode cX3_isNode 7 = .ok (.isub, 1) := dk_100 (dk_at dksX3_isNode_0 7 rfl rfl)
theorem dX3_isNode_8 : decode cX3_isNode 8 = .ok (.invokestatic 124, 3) := dk_184 0 124 (dk_at dksX3_isNode_0 8 rfl rfl)
theorem dX3_isNode_11 : decode cX3_isNode 11 = .ok (.ifCond .eq 16, 3) := dk_153 0 16 (dk_at dksX3_isNode_0 11 rfl rfl)
theorem dX3_isNode_14 : decode cX3_isNode 14 = .ok (.aload_n 0, 1) := dk_42 (dk_at dksX3_isNode_0 14 rfl rfl)
theorem dX3_isNode_15 : decode cX3_isNode 15 = .ok (.getfield 7, 3) := dk_180 0 7 (dk_at dksX3_isNode_0 15 rfl rfl)
theorem dX3_isNode_18 : decode cX3_isNode 18 = .ok (.iload_n 1, 1) := dk_27 (dk_at dksX3_isNode_0 18 rfl rfl)
theorem dX3_isNode_19 : decode cX3_isNode 19 = .ok (.baload, 1) := dk_51 (dk_at dksX3_isNode_0 19 rfl rfl)
theorem dX3_isNode_20 : decode cX3_isNode 20 = .ok (.ifCond .eq 7, 3) := dk_153 0 7 (dk_at dksX3_isNode_0 20 rfl rfl)
theorem dX3_isNode_23 : decode cX3_isNode 23 = .ok (.iconst 1, 1) := dk_4 (dk_at dksX3_isNode_0 23 rfl rfl)
theorem dX3_isNode_24 : decode cX3_isNode 24 = .ok (.goto 4, 3) := dk_167 0 4 (dk_at dksX3_isNode_1 0 rfl rfl)
theorem dX3_isNode_27 : decode cX3_isNode 27 = .ok (.iconst 0, 1) := dk_3 (dk_at dksX3_isNode_1 3 rfl rfl)
theorem dX3_isNode_28 : decode cX3_isNode 28 = .ok (.ireturn, 1) := dk_172 (dk_at dksX3_isNode_1 4 rfl rfl)
abbrev cX3_in : ByteArray := prog_11_method_4_code
def yX3_in : MethodName := ⟨RX3, "in", "(III)Z"⟩
def dkwX3_in_0 : List UInt8 := [26, 27, 161, 0, 12, 26, 28, 163, 0, 7, 4, 167, 0, 4, 3, 172]
abbrev dktX3_in_0 : List UInt8 := dkwX3_in_0 ++ []
theorem dksX3_in_0 : cX3_in.data.toList.drop 0 = dktX3_in_0 := by decide +kernel
theorem dX3_in_0 : decode cX3_in 0 = .ok (.iload_n 0, 1) := dk_26 (dk_at dksX3_in_0 0 rfl rfl)
theorem dX3_in_1 : decode cX3_in 1 = .ok (.iload_n 1, 1) := dk_27 (dk_at dksX3_in_0 1 rfl rfl)
theorem dX3_in_2 : decode cX3_in 2 = .ok (.if_icmp .lt 12, 3) := dk_161 0 12 (dk_at dksX3_in_0 2 rfl rfl)
theorem dX3_in_5 : decode cX3_in 5 = .ok (.iload_n 0, 1) := dk_26 (dk_at dksX3_in_0 5 rfl rfl)
theorem dX3_in_6 : decode cX3_in 6 = .ok (.iload_n 2, 1) := dk_28 (dk_at dksX3_in_0 6 rfl rfl)
theorem dX3_in_7 : decode cX3_in 7 = .ok (.if_icmp .gt 7, 3) := dk_163 0 7 (dk_at dksX3_in_0 7 rfl rfl)
theorem dX3_in_10 : decode cX3_in 10 = .ok (.iconst 1, 1) := dk_4 (dk_at dksX3_in_0 10 rfl rfl)
theorem dX3_in_11 : decode cX3_in 11 = .ok (.goto 4, 3) := dk_167 0 4 (dk_at dksX3_in_0 11 rfl rfl)
theorem dX3_in_14 : decode cX3_in 14 = .ok (.iconst 0, 1) := dk_3 (dk_at dksX3_in_0 14 rfl rfl)
theorem dX3_in_15 : decode cX3_in 15 = .ok (.ireturn, 1) := dk_172 (dk_at dksX3_in_0 15 rfl rfl)
abbrev cX3_fails : ByteArray := prog_11_method_3_code
def yX3_fails : MethodName := ⟨RX3, "fails", "(I)I"⟩
def dkwX3_fails_0 : List UInt8 := [42, 27, 181, 0, 121, 3, 172]
abbrev dktX3_fails_0 : List UInt8 := dkwX3_fails_0 ++ []
theorem dksX3_fails_0 : cX3_fails.data.toList.drop 0 = dktX3_fails_0 := by decide +kernel
theorem dX3_fails_0 : decode cX3_fails 0 = .ok (.aload_n 0, 1) := dk_42 (dk_at dksX3_fails_0 0 rfl rfl)
theorem dX3_fails_1 : decode cX3_fails 1 = .ok (.iload_n 1, 1) := dk_27 (dk_at dksX3_fails_0 1 rfl rfl)
theorem dX3_fails_2 : decode cX3_fails 2 = .ok (.putfield 121, 3) := dk_181 0 121 (dk_at dksX3_fails_0 2 rfl rfl)
theorem dX3_fails_5 : decode cX3_fails 5 = .ok (.iconst 0, 1) := dk_3 (dk_at dksX3_fails_0 5 rfl rfl)
theorem dX3_fails_6 : decode cX3_fails 6 = .ok (.ireturn, 1) := dk_172 (dk_at dksX3_fails_0 6 rfl rfl)
abbrev cX3_isTaken : ByteArray := prog_11_method_11_code
def yX3_isTaken : MethodName := ⟨RX3, "isTaken", "(ICI)Z"⟩
def dkwX3_isTaken_3 : List UInt8 := [21, 4, 172]
abbrev dktX3_isTaken_3 : List UInt8 := dkwX3_isTaken_3 ++ []
def dkwX3_isTaken_2 : List UInt8 := [42, 180, 0, 20, 21, 5, 52, 28, 160, 0, 7, 4, 167, 0, 4, 3, 54, 4, 132, 5, 1, 167, 255, 194]
abbrev dktX3_isTaken_2 : List UInt8 := dkwX3_isTaken_2 ++ dktX3_isTaken_3
def dkwX3_isTaken_1 : List UInt8 := [159, 0, 39, 42, 180, 0, 7, 21, 5, 51, 153, 0, 29, 42, 180, 0, 16, 21, 5, 46, 27, 160, 0, 18]
abbrev dktX3_isTaken_1 : List UInt8 := dkwX3_isTaken_1 ++ dktX3_isTaken_2
def dkwX3_isTaken_0 : List UInt8 := [3, 54, 4, 3, 54, 5, 21, 5, 42, 180, 0, 118, 162, 0, 59, 21, 4, 154, 0, 41, 21, 5, 29]
abbrev dktX3_isTaken_0 : List UInt8 := dkwX3_isTaken_0 ++ dktX3_isTaken_1
theorem dksX3_isTaken_0 : cX3_isTaken.data.toList.drop 0 = dktX3_isTaken_0 := by decide +kernel
theorem dksX3_isTaken_1 : cX3_isTaken.data.toList.drop 23 = dktX3_isTaken_1 := dk_seg dksX3_isTaken_0 23 rfl rfl
theorem dksX3_isTaken_2 : cX3_isTaken.data.toList.drop 47 = dktX3_isTaken_2 := dk_seg dksX3_isTaken_1 24 rfl rfl
theorem dksX3_isTaken_3 : cX3_isTaken.data.toList.drop 71 = dktX3_isTaken_3 := dk_seg dksX3_isTaken_2 24 rfl rfl
theorem dX3_isTaken_0 : decode cX3_isTaken 0 = .ok (.iconst 0, 1) := dk_3 (dk_at dksX3_isTaken_0 0 rfl rfl)
theorem dX3_isTaken_1 : decode cX3_isTaken 1 = .ok (.istore 4, 2) := dk_54 4 (dk_at dksX3_isTaken_0 1 rfl rfl)
theorem dX3_isTaken_3 : decode cX3_isTaken 3 = .ok (.iconst 0, 1) := dk_3 (dk_at dksX3_isTaken_0 3 rfl rfl)
theorem dX3_isTaken_4 : decode cX3_isTaken 4 = .ok (.istore 5, 2) := dk_54 5 (dk_at dksX3_isTaken_0 4 rfl rfl)
theorem dX3_isTaken_6 : decode cX3_isTaken 6 = .ok (.iload 5, 2) := dk_21 5 (dk_at dksX3_isTaken_0 6 rfl rfl)
theorem dX3_isTaken_8 : decode cX3_isTaken 8 = .ok (.aload_n 0, 1) := dk_42 (dk_at dksX3_isTaken_0 8 rfl rfl)
theorem dX3_isTaken_9 : decode cX3_isTaken 9 = .ok (.getfield 118, 3) := dk_180 0 118 (dk_at dksX3_isTaken_0 9 rfl rfl)
theorem dX3_isTaken_12 : decode cX3_isTaken 12 = .ok (.if_icmp .ge 59, 3) := dk_162 0 59 (dk_at dksX3_isTaken_0 12 rfl rfl)
theorem dX3_isTaken_15 : decode cX3_isTaken 15 = .ok (.iload 4, 2) := dk_21 4 (dk_at dksX3_isTaken_0 15 rfl rfl)
theorem dX3_isTaken_17 : decode cX3_isTaken 17 = .ok (.ifCond .ne 41, 3) := dk_154 0 41 (dk_at dksX3_isTaken_0 17 rfl rfl)
theorem dX3_isTaken_20 : decode cX3_isTaken 20 = .ok (.iload 5, 2) := dk_21 5 (dk_at dksX3_isTaken_0 20 rfl rfl)
theorem dX3_isTaken_22 : decode cX3_isTaken 22 = .ok (.iload_n 3, 1) := dk_29 (dk_at dksX3_isTaken_0 22 rfl rfl)
theorem dX3_isTaken_23 : decode cX3_isTaken 23 = .ok (.if_icmp .eq 39, 3) := dk_159 0 39 (dk_at dksX3_isTaken_1 0 rfl rfl)
theorem dX3_isTaken_26 : decode cX3_isTaken 26 = .ok (.aload_n 0, 1) := dk_42 (dk_at dksX3_isTaken_1 3 rfl rfl)
theorem dX3_isTaken_27 : decode cX3_isTaken 27 = .ok (.getfield 7, 3) := dk_180 0 7 (dk_at dksX3_isTaken_1 4 rfl rfl)
theorem dX3_isTaken_30 : decode cX3_isTaken 30 = .ok (.iload 5, 2) := dk_21 5 (dk_at dksX3_isTaken_1 7 rfl rfl)
theorem dX3_isTaken_32 : decode cX3_isTaken 32 = .ok (.baload, 1) := dk_51 (dk_at dksX3_isTaken_1 9 rfl rfl)
theorem dX3_isTaken_33 : decode cX3_isTaken 33 = .ok (.ifCond .eq 29, 3) := dk_153 0 29 (dk_at dksX3_isTaken_1 10 rfl rfl)
theorem dX3_isTaken_36 : decode cX3_isTaken 36 = .ok (.aload_n 0, 1) := dk_42 (dk_at dksX3_isTaken_1 13 rfl rfl)
theorem dX3_isTaken_37 : decode cX3_isTaken 37 = .ok (.getfield 16, 3) := dk_180 0 16 (dk_at dksX3_isTaken_1 14 rfl rfl)
theorem dX3_isTaken_40 : decode cX3_isTaken 40 = .ok (.iload 5, 2) := dk_21 5 (dk_at dksX3_isTaken_1 17 rfl rfl)
theorem dX3_isTaken_42 : decode cX3_isTaken 42 = .ok (.iaload, 1) := dk_46 (dk_at dksX3_isTaken_1 19 rfl rfl)
theorem dX3_isTaken_43 : decode cX3_isTaken 43 = .ok (.iload_n 1, 1) := dk_27 (dk_at dksX3_isTaken_1 20 rfl rfl)
theorem dX3_isTaken_44 : decode cX3_isTaken 44 = .ok (.if_icmp .ne 18, 3) := dk_160 0 18 (dk_at dksX3_isTaken_1 21 rfl rfl)
theorem dX3_isTaken_47 : decode cX3_isTaken 47 = .ok (.aload_n 0, 1) := dk_42 (dk_at dksX3_isTaken_2 0 rfl rfl)
theorem dX3_isTaken_48 : decode cX3_isTaken 48 = .ok (.getfield 20, 3) := dk_180 0 20 (dk_at dksX3_isTaken_2 1 rfl rfl)
theorem dX3_isTaken_51 : decode cX3_isTaken 51 = .ok (.iload 5, 2) := dk_21 5 (dk_at dksX3_isTaken_2 4 rfl rfl)
theorem dX3_isTaken_53 : decode cX3_isTaken 53 = .ok (.caload, 1) := dk_52 (dk_at dksX3_isTaken_2 6 rfl rfl)
theorem dX3_isTaken_54 : decode cX3_isTaken 54 = .ok (.iload_n 2, 1) := dk_28 (dk_at dksX3_isTaken_2 7 rfl rfl)
theorem dX3_isTaken_55 : decode cX3_isTaken 55 = .ok (.if_icmp .ne 7, 3) := dk_160 0 7 (dk_at dksX3_isTaken_2 8 rfl rfl)
theorem dX3_isTaken_58 : decode cX3_isTaken 58 = .ok (.iconst 1, 1) := dk_4 (dk_at dksX3_isTaken_2 11 rfl rfl)
theorem dX3_isTaken_59 : decode cX3_isTaken 59 = .ok (.goto 4, 3) := dk_167 0 4 (dk_at dksX3_isTaken_2 12 rfl rfl)
theorem dX3_isTaken_62 : decode cX3_isTaken 62 = .ok (.iconst 0, 1) := dk_3 (dk_at dksX3_isTaken_2 15 rfl rfl)
theorem dX3_isTaken_63 : decode cX3_isTaken 63 = .ok (.istore 4, 2) := dk_54 4 (dk_at dksX3_isTaken_2 16 rfl rfl)
theorem dX3_isTaken_65 : decode cX3_isTaken 65 = .ok (.iinc 5 1, 3) := dk_132 5 1 (dk_at dksX3_isTaken_2 18 rfl rfl)
theorem dX3_isTaken_68 : decode cX3_isTaken 68 = .ok (.goto (-62), 3) := dk_167 255 194 (dk_at dksX3_isTaken_2 21 rfl rfl)
theorem dX3_isTaken_71 : decode cX3_isTaken 71 = .ok (.iload 4, 2) := dk_21 4 (dk_at dksX3_isTaken_3 0 rfl rfl)
theorem dX3_isTaken_73 : decode cX3_isTaken 73 = .ok (.ireturn, 1) := dk_172 (dk_at dksX3_isTaken_3 2 rfl rfl)
abbrev cX3_over : ByteArray := prog_11_method_10_code
def yX3_over : MethodName := ⟨RX3, "over", "(I)I"⟩
def dkwX3_over_2 : List UInt8 := [172]
abbrev dktX3_over_2 : List UInt8 := dkwX3_over_2 ++ []
def dkwX3_over_1 : List UInt8 := [180, 0, 39, 29, 46, 182, 0, 135, 153, 0, 7, 29, 167, 0, 4, 28, 61, 132, 3, 1, 167, 255, 216, 28]
abbrev dktX3_over_1 : List UInt8 := dkwX3_over_1 ++ dktX3_over_2
def dkwX3_over_0 : List UInt8 := [2, 61, 3, 62, 29, 42, 180, 0, 132, 162, 0, 38, 42, 180, 0, 7, 27, 51, 153, 0, 29, 42, 27, 42]
abbrev dktX3_over_0 : List UInt8 := dkwX3_over_0 ++ dktX3_over_1
theorem dksX3_over_0 : cX3_over.data.toList.drop 0 = dktX3_over_0 := by decide +kernel
theorem dksX3_over_1 : cX3_over.data.toList.drop 24 = dktX3_over_1 := dk_seg dksX3_over_0 24 rfl rfl
theorem dksX3_over_2 : cX3_over.data.toList.drop 48 = dktX3_over_2 := dk_seg dksX3_over_1 24 rfl rfl
theorem dX3_over_0 : decode cX3_over 0 = .ok (.iconst (-1), 1) := dk_2 (dk_at dksX3_over_0 0 rfl rfl)
theorem dX3_over_1 : decode cX3_over 1 = .ok (.istore_n 2, 1) := dk_61 (dk_at dksX3_over_0 1 rfl rfl)
theorem dX3_over_2 : decode cX3_over 2 = .ok (.iconst 0, 1) := dk_3 (dk_at dksX3_over_0 2 rfl rfl)
theorem dX3_over_3 : decode cX3_over 3 = .ok (.istore_n 3, 1) := dk_62 (dk_at dksX3_over_0 3 rfl rfl)
theorem dX3_over_4 : decode cX3_over 4 = .ok (.iload_n 3, 1) := dk_29 (dk_at dksX3_over_0 4 rfl rfl)
theorem dX3_over_5 : decode cX3_over 5 = .ok (.aload_n 0, 1) := dk_42 (dk_at dksX3_over_0 5 rfl rfl)
theorem dX3_over_6 : decode cX3_over 6 = .ok (.getfield 132, 3) := dk_180 0 132 (dk_at dksX3_over_0 6 rfl rfl)
theorem dX3_over_9 : decode cX3_over 9 = .ok (.if_icmp .ge 38, 3) := dk_162 0 38 (dk_at dksX3_over_0 9 rfl rfl)
theorem dX3_over_12 : decode cX3_over 12 = .ok (.aload_n 0, 1) := dk_42 (dk_at dksX3_over_0 12 rfl rfl)
theorem dX3_over_13 : decode cX3_over 13 = .ok (.getfield 7, 3) := dk_180 0 7 (dk_at dksX3_over_0 13 rfl rfl)
theorem dX3_over_16 : decode cX3_over 16 = .ok (.iload_n 1, 1) := dk_27 (dk_at dksX3_over_0 16 rfl rfl)
theorem dX3_over_17 : decode cX3_over 17 = .ok (.baload, 1) := dk_51 (dk_at dksX3_over_0 17 rfl rfl)
theorem dX3_over_18 : decode cX3_over 18 = .ok (.ifCond .eq 29, 3) := dk_153 0 29 (dk_at dksX3_over_0 18 rfl rfl)
theorem dX3_over_21 : decode cX3_over 21 = .ok (.aload_n 0, 1) := dk_42 (dk_at dksX3_over_0 21 rfl rfl)
theorem dX3_over_22 : decode cX3_over 22 = .ok (.iload_n 1, 1) := dk_27 (dk_at dksX3_over_0 22 rfl rfl)
theorem dX3_over_23 : decode cX3_over 23 = .ok (.aload_n 0, 1) := dk_42 (dk_at dksX3_over_0 23 rfl rfl)
theorem dX3_over_24 : decode cX3_over 24 = .ok (.getfield 39, 3) := dk_180 0 39 (dk_at dksX3_over_1 0 rfl rfl)
theorem dX3_over_27 : decode cX3_over 27 = .ok (.iload_n 3, 1) := dk_29 (dk_at dksX3_over_1 3 rfl rfl)
theorem dX3_over_28 : decode cX3_over 28 = .ok (.iaload, 1) := dk_46 (dk_at dksX3_over_1 4 rfl rfl)
theorem dX3_over_29 : decode cX3_over 29 = .ok (.invokevirtual 135, 3) := dk_182 0 135 (dk_at dksX3_over_1 5 rfl rfl)
theorem dX3_over_32 : decode cX3_over 32 = .ok (.ifCond .eq 7, 3) := dk_153 0 7 (dk_at dksX3_over_1 8 rfl rfl)
theorem dX3_over_35 : decode cX3_over 35 = .ok (.iload_n 3, 1) := dk_29 (dk_at dksX3_over_1 11 rfl rfl)
theorem dX3_over_36 : decode cX3_over 36 = .ok (.goto 4, 3) := dk_167 0 4 (dk_at dksX3_over_1 12 rfl rfl)
theorem dX3_over_39 : decode cX3_over 39 = .ok (.iload_n 2, 1) := dk_28 (dk_at dksX3_over_1 15 rfl rfl)
theorem dX3_over_40 : decode cX3_over 40 = .ok (.istore_n 2, 1) := dk_61 (dk_at dksX3_over_1 16 rfl rfl)
theorem dX3_over_41 : decode cX3_over 41 = .ok (.iinc 3 1, 3) := dk_132 3 1 (dk_at dksX3_over_1 17 rfl rfl)
theorem dX3_over_44 : decode cX3_over 44 = .ok (.goto (-40), 3) := dk_167 255 216 (dk_at dksX3_over_1 20 rfl rfl)
theorem dX3_over_47 : decode cX3_over 47 = .ok (.iload_n 2, 1) := dk_28 (dk_at dksX3_over_1 23 rfl rfl)
theorem dX3_over_48 : decode cX3_over 48 = .ok (.ireturn, 1) := dk_172 (dk_at dksX3_over_2 0 rfl rfl)
abbrev cX3_isBelow : ByteArray := prog_11_method_8_code
def yX3_isBelow : MethodName := ⟨RX3, "isBelow", "(II)Z"⟩
def dkwX3_isBelow_1 : List UInt8 := [160, 0, 7, 4, 167, 0, 4, 3, 62, 42, 180, 0, 16, 21, 4, 46, 54, 4, 167, 255, 225, 29, 172]
abbrev dktX3_isBelow_1 : List UInt8 := dkwX3_isBelow_1 ++ []
def dkwX3_isBelow_0 : List UInt8 := [3, 62, 42, 180, 0, 16, 27, 46, 54, 4, 21, 4, 2, 159, 0, 31, 29, 154, 0, 9, 21, 4, 28]
abbrev dktX3_isBelow_0 : List UInt8 := dkwX3_isBelow_0 ++ dktX3_isBelow_1
theorem dksX3_isBelow_0 : cX3_isBelow.data.toList.drop 0 = dktX3_isBelow_0 := by decide +kernel
theorem dksX3_isBelow_1 : cX3_isBelow.data.toList.drop 23 = dktX3_isBelow_1 := dk_seg dksX3_isBelow_0 23 rfl rfl
theorem dX3_isBelow_0 : decode cX3_isBelow 0 = .ok (.iconst 0, 1) := dk_3 (dk_at dksX3_isBelow_0 0 rfl rfl)
theorem dX3_isBelow_1 : decode cX3_isBelow 1 = .ok (.istore_n 3, 1) := dk_62 (dk_at dksX3_isBelow_0 1 rfl rfl)
theorem dX3_isBelow_2 : decode cX3_isBelow 2 = .ok (.aload_n 0, 1) := dk_42 (dk_at dksX3_isBelow_0 2 rfl rfl)
theorem dX3_isBelow_3 : decode cX3_isBelow 3 = .ok (.getfield 16, 3) := dk_180 0 16 (dk_at dksX3_isBelow_0 3 rfl rfl)
theorem dX3_isBelow_6 : decode cX3_isBelow 6 = .ok (.iload_n 1, 1) := dk_27 (dk_at dksX3_isBelow_0 6 rfl rfl)
theorem dX3_isBelow_7 : decode cX3_isBelow 7 = .ok (.iaload, 1) := dk_46 (dk_at dksX3_isBelow_0 7 rfl rfl)
theorem dX3_isBelow_8 : decode cX3_isBelow 8 = .ok (.istore 4, 2) := dk_54 4 (dk_at dksX3_isBelow_0 8 rfl rfl)
theorem dX3_isBelow_10 : decode cX3_isBelow 10 = .ok (.iload 4, 2) := dk_21 4 (dk_at dksX3_isBelow_0 10 rfl rfl)
theorem dX3_isBelow_12 : decode cX3_isBelow 12 = .ok (.iconst (-1), 1) := dk_2 (dk_at dksX3_isBelow_0 12 rfl rfl)
theorem dX3_isBelow_13 : decode cX3_isBelow 13 = .ok (.if_icmp .eq 31, 3) := dk_159 0 31 (dk_at dksX3_isBelow_0 13 rfl rfl)
theorem dX3_isBelow_16 : decode cX3_isBelow 16 = .ok (.iload_n 3, 1) := dk_29 (dk_at dksX3_isBelow_0 16 rfl rfl)
theorem dX3_isBelow_17 : decode cX3_isBelow 17 = .ok (.ifCond .ne 9, 3) := dk_154 0 9 (dk_at dksX3_isBelow_0 17 rfl rfl)
theorem dX3_isBelow_20 : decode cX3_isBelow 20 = .ok (.iload 4, 2) := dk_21 4 (dk_at dksX3_isBelow_0 20 rfl rfl)
theorem dX3_isBelow_22 : decode cX3_isBelow 22 = .ok (.iload_n 2, 1) := dk_28 (dk_at dksX3_isBelow_0 22 rfl rfl)
theorem dX3_isBelow_23 : decode cX3_isBelow 23 = .ok (.if_icmp .ne 7, 3) := dk_160 0 7 (dk_at dksX3_isBelow_1 0 rfl rfl)
theorem dX3_isBelow_26 : decode cX3_isBelow 26 = .ok (.iconst 1, 1) := dk_4 (dk_at dksX3_isBelow_1 3 rfl rfl)
theorem dX3_isBelow_27 : decode cX3_isBelow 27 = .ok (.goto 4, 3) := dk_167 0 4 (dk_at dksX3_isBelow_1 4 rfl rfl)
theorem dX3_isBelow_30 : decode cX3_isBelow 30 = .ok (.iconst 0, 1) := dk_3 (dk_at dksX3_isBelow_1 7 rfl rfl)
theorem dX3_isBelow_31 : decode cX3_isBelow 31 = .ok (.istore_n 3, 1) := dk_62 (dk_at dksX3_isBelow_1 8 rfl rfl)
theorem dX3_isBelow_32 : decode cX3_isBelow 32 = .ok (.aload_n 0, 1) := dk_42 (dk_at dksX3_isBelow_1 9 rfl rfl)
theorem dX3_isBelow_33 : decode cX3_isBelow 33 = .ok (.getfield 16, 3) := dk_180 0 16 (dk_at dksX3_isBelow_1 10 rfl rfl)
theorem dX3_isBelow_36 : decode cX3_isBelow 36 = .ok (.iload 4, 2) := dk_21 4 (dk_at dksX3_isBelow_1 13 rfl rfl)
theorem dX3_isBelow_38 : decode cX3_isBelow 38 = .ok (.iaload, 1) := dk_46 (dk_at dksX3_isBelow_1 15 rfl rfl)
theorem dX3_isBelow_39 : decode cX3_isBelow 39 = .ok (.istore 4, 2) := dk_54 4 (dk_at dksX3_isBelow_1 16 rfl rfl)
theorem dX3_isBelow_41 : decode cX3_isBelow 41 = .ok (.goto (-31), 3) := dk_167 255 225 (dk_at dksX3_isBelow_1 18 rfl rfl)
theorem dX3_isBelow_44 : decode cX3_isBelow 44 = .ok (.iload_n 3, 1) := dk_29 (dk_at dksX3_isBelow_1 21 rfl rfl)
theorem dX3_isBelow_45 : decode cX3_isBelow 45 = .ok (.ireturn, 1) := dk_172 (dk_at dksX3_isBelow_1 22 rfl rfl)
abbrev cX3_comes : ByteArray := prog_11_method_12_code
def yX3_comes : MethodName := ⟨RX3, "comes", "(III)V"⟩
def dkwX3_comes_3 : List UInt8 := [46, 96, 29, 79, 42, 180, 0, 42, 27, 92, 46, 4, 96, 79, 177]
abbrev dktX3_comes_3 : List UInt8 := dkwX3_comes_3 ++ []
def dkwX3_comes_2 : List UInt8 := [27, 104, 42, 180, 0, 42, 27, 46, 96, 28, 79, 42, 180, 0, 48, 16, 8, 27, 104, 42, 180, 0, 42, 27]
abbrev dktX3_comes_2 : List UInt8 := dkwX3_comes_2 ++ dktX3_comes_3
def dkwX3_comes_1 : List UInt8 := [160, 0, 18, 42, 180, 0, 42, 27, 3, 79, 42, 180, 0, 51, 27, 4, 84, 177, 42, 180, 0, 45, 16, 8]
abbrev dktX3_comes_1 : List UInt8 := dkwX3_comes_1 ++ dktX3_comes_2
def dkwX3_comes_0 : List UInt8 := [27, 2, 159, 0, 12, 42, 180, 0, 51, 27, 51, 153, 0, 4, 177, 42, 180, 0, 42, 27, 46, 16, 8]
abbrev dktX3_comes_0 : List UInt8 := dkwX3_comes_0 ++ dktX3_comes_1
theorem dksX3_comes_0 : cX3_comes.data.toList.drop 0 = dktX3_comes_0 := by decide +kernel
theorem dksX3_comes_1 : cX3_comes.data.toList.drop 23 = dktX3_comes_1 := dk_seg dksX3_comes_0 23 rfl rfl
theorem dksX3_comes_2 : cX3_comes.data.toList.drop 47 = dktX3_comes_2 := dk_seg dksX3_comes_1 24 rfl rfl
theorem dksX3_comes_3 : cX3_comes.data.toList.drop 71 = dktX3_comes_3 := dk_seg dksX3_comes_2 24 rfl rfl
theorem dX3_comes_0 : decode cX3_comes 0 = .ok (.iload_n 1, 1) := dk_27 (dk_at dksX3_comes_0 0 rfl rfl)
theorem dX3_comes_1 : decode cX3_comes 1 = .ok (.iconst (-1), 1) := dk_2 (dk_at dksX3_comes_0 1 rfl rfl)
theorem dX3_comes_2 : decode cX3_comes 2 = .ok (.if_icmp .eq 12, 3) := dk_159 0 12 (dk_at dksX3_comes_0 2 rfl rfl)
theorem dX3_comes_5 : decode cX3_comes 5 = .ok (.aload_n 0, 1) := dk_42 (dk_at dksX3_comes_0 5 rfl rfl)
theorem dX3_comes_6 : decode cX3_comes 6 = .ok (.getfield 51, 3) := dk_180 0 51 (dk_at dksX3_comes_0 6 rfl rfl)
theorem dX3_comes_9 : decode cX3_comes 9 = .ok (.iload_n 1, 1) := dk_27 (dk_at dksX3_comes_0 9 rfl rfl)
theorem dX3_comes_10 : decode cX3_comes 10 = .ok (.baload, 1) := dk_51 (dk_at dksX3_comes_0 10 rfl rfl)
theorem dX3_comes_11 : decode cX3_comes 11 = .ok (.ifCond .eq 4, 3) := dk_153 0 4 (dk_at dksX3_comes_0 11 rfl rfl)
theorem dX3_comes_14 : decode cX3_comes 14 = .ok (.return_, 1) := dk_177 (dk_at dksX3_comes_0 14 rfl rfl)
theorem dX3_comes_15 : decode cX3_comes 15 = .ok (.aload_n 0, 1) := dk_42 (dk_at dksX3_comes_0 15 rfl rfl)
theorem dX3_comes_16 : decode cX3_comes 16 = .ok (.getfield 42, 3) := dk_180 0 42 (dk_at dksX3_comes_0 16 rfl rfl)
theorem dX3_comes_19 : decode cX3_comes 19 = .ok (.iload_n 1, 1) := dk_27 (dk_at dksX3_comes_0 19 rfl rfl)
theorem dX3_comes_20 : decode cX3_comes 20 = .ok (.iaload, 1) := dk_46 (dk_at dksX3_comes_0 20 rfl rfl)
theorem dX3_comes_21 : decode cX3_comes 21 = .ok (.bipush 8, 2) := dk_16 8 (dk_at dksX3_comes_0 21 rfl rfl)
theorem dX3_comes_23 : decode cX3_comes 23 = .ok (.if_icmp .ne 18, 3) := dk_160 0 18 (dk_at dksX3_comes_1 0 rfl rfl)
theorem dX3_comes_26 : decode cX3_comes 26 = .ok (.aload_n 0, 1) := dk_42 (dk_at dksX3_comes_1 3 rfl rfl)
theorem dX3_comes_27 : decode cX3_comes 27 = .ok (.getfield 42, 3) := dk_180 0 42 (dk_at dksX3_comes_1 4 rfl rfl)
theorem dX3_comes_30 : decode cX3_comes 30 = .ok (.iload_n 1, 1) := dk_27 (dk_at dksX3_comes_1 7 rfl rfl)
theorem dX3_comes_31 : decode cX3_comes 31 = .ok (.iconst 0, 1) := dk_3 (dk_at dksX3_comes_1 8 rfl rfl)
theorem dX3_comes_32 : decode cX3_comes 32 = .ok (.iastore, 1) := dk_79 (dk_at dksX3_comes_1 9 rfl rfl)
theorem dX3_comes_33 : decode cX3_comes 33 = .ok (.aload_n 0, 1) := dk_42 (dk_at dksX3_comes_1 10 rfl rfl)
theorem dX3_comes_34 : decode cX3_comes 34 = .ok (.getfield 51, 3) := dk_180 0 51 (dk_at dksX3_comes_1 11 rfl rfl)
theorem dX3_comes_37 : decode cX3_comes 37 = .ok (.iload_n 1, 1) := dk_27 (dk_at dksX3_comes_1 14 rfl rfl)
theorem dX3_comes_38 : decode cX3_comes 38 = .ok (.iconst 1, 1) := dk_4 (dk_at dksX3_comes_1 15 rfl rfl)
theorem dX3_comes_39 : decode cX3_comes 39 = .ok (.bastore, 1) := dk_84 (dk_at dksX3_comes_1 16 rfl rfl)
theorem dX3_comes_40 : decode cX3_comes 40 = .ok (.return_, 1) := dk_177 (dk_at dksX3_comes_1 17 rfl rfl)
theorem dX3_comes_41 : decode cX3_comes 41 = .ok (.aload_n 0, 1) := dk_42 (dk_at dksX3_comes_1 18 rfl rfl)
theorem dX3_comes_42 : decode cX3_comes 42 = .ok (.getfield 45, 3) := dk_180 0 45 (dk_at dksX3_comes_1 19 rfl rfl)
theorem dX3_comes_45 : decode cX3_comes 45 = .ok (.bipush 8, 2) := dk_16 8 (dk_at dksX3_comes_1 22 rfl rfl)
theorem dX3_comes_47 : decode cX3_comes 47 = .ok (.iload_n 1, 1) := dk_27 (dk_at dksX3_comes_2 0 rfl rfl)
theorem dX3_comes_48 : decode cX3_comes 48 = .ok (.imul, 1) := dk_104 (dk_at dksX3_comes_2 1 rfl rfl)
theorem dX3_comes_49 : decode cX3_comes 49 = .ok (.aload_n 0, 1) := dk_42 (dk_at dksX3_comes_2 2 rfl rfl)
theorem dX3_comes_50 : decode cX3_comes 50 = .ok (.getfield 42, 3) := dk_180 0 42 (dk_at dksX3_comes_2 3 rfl rfl)
theorem dX3_comes_53 : decode cX3_comes 53 = .ok (.iload_n 1, 1) := dk_27 (dk_at dksX3_comes_2 6 rfl rfl)
theorem dX3_comes_54 : decode cX3_comes 54 = .ok (.iaload, 1) := dk_46 (dk_at dksX3_comes_2 7 rfl rfl)
theorem dX3_comes_55 : decode cX3_comes 55 = .ok (.iadd, 1) := dk_96 (dk_at dksX3_comes_2 8 rfl rfl)
theorem dX3_comes_56 : decode cX3_comes 56 = .ok (.iload_n 2, 1) := dk_28 (dk_at dksX3_comes_2 9 rfl rfl)
theorem dX3_comes_57 : decode cX3_comes 57 = .ok (.iastore, 1) := dk_79 (dk_at dksX3_comes_2 10 rfl rfl)
theorem dX3_comes_58 : decode cX3_comes 58 = .ok (.aload_n 0, 1) := dk_42 (dk_at dksX3_comes_2 11 rfl rfl)
theorem dX3_comes_59 : decode cX3_comes 59 = .ok (.getfield 48, 3) := dk_180 0 48 (dk_at dksX3_comes_2 12 rfl rfl)
theorem dX3_comes_62 : decode cX3_comes 62 = .ok (.bipush 8, 2) := dk_16 8 (dk_at dksX3_comes_2 15 rfl rfl)
theorem dX3_comes_64 : decode cX3_comes 64 = .ok (.iload_n 1, 1) := dk_27 (dk_at dksX3_comes_2 17 rfl rfl)
theorem dX3_comes_65 : decode cX3_comes 65 = .ok (.imul, 1) := dk_104 (dk_at dksX3_comes_2 18 rfl rfl)
theorem dX3_comes_66 : decode cX3_comes 66 = .ok (.aload_n 0, 1) := dk_42 (dk_at dksX3_comes_2 19 rfl rfl)
theorem dX3_comes_67 : decode cX3_comes 67 = .ok (.getfield 42, 3) := dk_180 0 42 (dk_at dksX3_comes_2 20 rfl rfl)
theorem dX3_comes_70 : decode cX3_comes 70 = .ok (.iload_n 1, 1) := dk_27 (dk_at dksX3_comes_2 23 rfl rfl)
theorem dX3_comes_71 : decode cX3_comes 71 = .ok (.iaload, 1) := dk_46 (dk_at dksX3_comes_3 0 rfl rfl)
theorem dX3_comes_72 : decode cX3_comes 72 = .ok (.iadd, 1) := dk_96 (dk_at dksX3_comes_3 1 rfl rfl)
theorem dX3_comes_73 : decode cX3_comes 73 = .ok (.iload_n 3, 1) := dk_29 (dk_at dksX3_comes_3 2 rfl rfl)
theorem dX3_comes_74 : decode cX3_comes 74 = .ok (.iastore, 1) := dk_79 (dk_at dksX3_comes_3 3 rfl rfl)
theorem dX3_comes_75 : decode cX3_comes 75 = .ok (.aload_n 0, 1) := dk_42 (dk_at dksX3_comes_3 4 rfl rfl)
theorem dX3_comes_76 : decode cX3_comes 76 = .ok (.getfield 42, 3) := dk_180 0 42 (dk_at dksX3_comes_3 5 rfl rfl)
theorem dX3_comes_79 : decode cX3_comes 79 = .ok (.iload_n 1, 1) := dk_27 (dk_at dksX3_comes_3 8 rfl rfl)
theorem dX3_comes_80 : decode cX3_comes 80 = .ok (.dup2, 1) := dk_92 (dk_at dksX3_comes_3 9 rfl rfl)
theorem dX3_comes_81 : decode cX3_comes 81 = .ok (.iaload, 1) := dk_46 (dk_at dksX3_comes_3 10 rfl rfl)
theorem dX3_comes_82 : decode cX3_comes 82 = .ok (.iconst 1, 1) := dk_4 (dk_at dksX3_comes_3 11 rfl rfl)
theorem dX3_comes_83 : decode cX3_comes 83 = .ok (.iadd, 1) := dk_96 (dk_at dksX3_comes_3 12 rfl rfl)
theorem dX3_comes_84 : decode cX3_comes 84 = .ok (.iastore, 1) := dk_79 (dk_at dksX3_comes_3 13 rfl rfl)
theorem dX3_comes_85 : decode cX3_comes 85 = .ok (.return_, 1) := dk_177 (dk_at dksX3_comes_3 14 rfl rfl)
abbrev cX3_write : ByteArray := prog_11_method_14_code
def yX3_write : MethodName := ⟨RX3, "write", "(II)I"⟩
def dkwX3_write_5 : List UInt8 := [180, 0, 24, 27, 46, 172]
abbrev dktX3_write_5 : List UInt8 := dkwX3_write_5 ++ []
def dkwX3_write_4 : List UInt8 := [96, 79, 42, 180, 0, 24, 27, 92, 46, 4, 96, 79, 42, 42, 27, 182, 0, 150, 4, 27, 182, 0, 153, 42]
abbrev dktX3_write_4 : List UInt8 := dkwX3_write_4 ++ dktX3_write_5
def dkwX3_write_3 : List UInt8 := [180, 0, 30, 16, 20, 27, 104, 42, 180, 0, 27, 27, 46, 96, 28, 79, 42, 180, 0, 27, 27, 92, 46, 4]
abbrev dktX3_write_3 : List UInt8 := dkwX3_write_3 ++ dktX3_write_4
def dkwX3_write_2 : List UInt8 := [16, 20, 160, 0, 7, 6, 167, 0, 4, 3, 181, 0, 121, 42, 180, 0, 121, 158, 0, 5, 3, 172, 42]
abbrev dktX3_write_2 : List UInt8 := dkwX3_write_2 ++ dktX3_write_3
def dkwX3_write_1 : List UInt8 := [28, 2, 160, 0, 7, 5, 167, 0, 28, 42, 180, 0, 33, 27, 51, 154, 0, 14, 42, 180, 0, 27, 27, 46]
abbrev dktX3_write_1 : List UInt8 := dkwX3_write_1 ++ dktX3_write_2
def dkwX3_write_0 : List UInt8 := [42, 42, 27, 182, 0, 157, 154, 0, 7, 4, 167, 0, 48, 28, 16, 253, 16, 99, 184, 0, 124, 153, 0, 8]
abbrev dktX3_write_0 : List UInt8 := dkwX3_write_0 ++ dktX3_write_1
theorem dksX3_write_0 : cX3_write.data.toList.drop 0 = dktX3_write_0 := by decide +kernel
theorem dksX3_write_1 : cX3_write.data.toList.drop 24 = dktX3_write_1 := dk_seg dksX3_write_0 24 rfl rfl
theorem dksX3_write_2 : cX3_write.data.toList.drop 48 = dktX3_write_2 := dk_seg dksX3_write_1 24 rfl rfl
theorem dksX3_write_3 : cX3_write.data.toList.drop 71 = dktX3_write_3 := dk_seg dksX3_write_2 23 rfl rfl
theorem dksX3_write_4 : cX3_write.data.toList.drop 95 = dktX3_write_4 := dk_seg dksX3_write_3 24 rfl rfl
theorem dksX3_write_5 : cX3_write.data.toList.drop 119 = dktX3_write_5 := dk_seg dksX3_write_4 24 rfl rfl
theorem dX3_write_0 : decode cX3_write 0 = .ok (.aload_n 0, 1) := dk_42 (dk_at dksX3_write_0 0 rfl rfl)
theorem dX3_write_1 : decode cX3_write 1 = .ok (.aload_n 0, 1) := dk_42 (dk_at dksX3_write_0 1 rfl rfl)
theorem dX3_write_2 : decode cX3_write 2 = .ok (.iload_n 1, 1) := dk_27 (dk_at dksX3_write_0 2 rfl rfl)
theorem dX3_write_3 : decode cX3_write 3 = .ok (.invokevirtual 157, 3) := dk_182 0 157 (dk_at dksX3_write_0 3 rfl rfl)
theorem dX3_write_6 : decode cX3_write 6 = .ok (.ifCond .ne 7, 3) := dk_154 0 7 (dk_at dksX3_write_0 6 rfl rfl)
theorem dX3_write_9 : decode cX3_write 9 = .ok (.iconst 1, 1) := dk_4 (dk_at dksX3_write_0 9 rfl rfl)
theorem dX3_write_10 : decode cX3_write 10 = .ok (.goto 48, 3) := dk_167 0 48 (dk_at dksX3_write_0 10 rfl rfl)
theorem dX3_write_13 : decode cX3_write 13 = .ok (.iload_n 2, 1) := dk_28 (dk_at dksX3_write_0 13 rfl rfl)
theorem dX3_write_14 : decode cX3_write 14 = .ok (.bipush (-3), 2) := dk_16 253 (dk_at dksX3_write_0 14 rfl rfl)
theorem dX3_write_16 : decode cX3_write 16 = .ok (.bipush 99, 2) := dk_16 99 (dk_at dksX3_write_0 16 rfl rfl)
theorem dX3_write_18 : decode cX3_write 18 = .ok (.invokestatic 124, 3) := dk_184 0 124 (dk_at dksX3_write_0 18 rfl rfl)
theorem dX3_write_21 : decode cX3_write 21 = .ok (.ifCond .eq 8, 3) := dk_153 0 8 (dk_at dksX3_write_0 21 rfl rfl)
theorem dX3_write_24 : decode cX3_write 24 = .ok (.iload_n 2, 1) := dk_28 (dk_at dksX3_write_1 0 rfl rfl)
theorem dX3_write_25 : decode cX3_write 25 = .ok (.iconst (-1), 1) := dk_2 (dk_at dksX3_write_1 1 rfl rfl)
theorem dX3_write_26 : decode cX3_write 26 = .ok (.if_icmp .ne 7, 3) := dk_160 0 7 (dk_at dksX3_write_1 2 rfl rfl)
theorem dX3_write_29 : decode cX3_write 29 = .ok (.iconst 2, 1) := dk_5 (dk_at dksX3_write_1 5 rfl rfl)
theorem dX3_write_30 : decode cX3_write 30 = .ok (.goto 28, 3) := dk_167 0 28 (dk_at dksX3_write_1 6 rfl rfl)
theorem dX3_write_33 : decode cX3_write 33 = .ok (.aload_n 0, 1) := dk_42 (dk_at dksX3_write_1 9 rfl rfl)
theorem dX3_write_34 : decode cX3_write 34 = .ok (.getfield 33, 3) := dk_180 0 33 (dk_at dksX3_write_1 10 rfl rfl)
theorem dX3_write_37 : decode cX3_write 37 = .ok (.iload_n 1, 1) := dk_27 (dk_at dksX3_write_1 13 rfl rfl)
theorem dX3_write_38 : decode cX3_write 38 = .ok (.baload, 1) := dk_51 (dk_at dksX3_write_1 14 rfl rfl)
theorem dX3_write_39 : decode cX3_write 39 = .ok (.ifCond .ne 14, 3) := dk_154 0 14 (dk_at dksX3_write_1 15 rfl rfl)
theorem dX3_write_42 : decode cX3_write 42 = .ok (.aload_n 0, 1) := dk_42 (dk_at dksX3_write_1 18 rfl rfl)
theorem dX3_write_43 : decode cX3_write 43 = .ok (.getfield 27, 3) := dk_180 0 27 (dk_at dksX3_write_1 19 rfl rfl)
theorem dX3_write_46 : decode cX3_write 46 = .ok (.iload_n 1, 1) := dk_27 (dk_at dksX3_write_1 22 rfl rfl)
theorem dX3_write_47 : decode cX3_write 47 = .ok (.iaload, 1) := dk_46 (dk_at dksX3_write_1 23 rfl rfl)
theorem dX3_write_48 : decode cX3_write 48 = .ok (.bipush 20, 2) := dk_16 20 (dk_at dksX3_write_2 0 rfl rfl)
theorem dX3_write_50 : decode cX3_write 50 = .ok (.if_icmp .ne 7, 3) := dk_160 0 7 (dk_at dksX3_write_2 2 rfl rfl)
theorem dX3_write_53 : decode cX3_write 53 = .ok (.iconst 3, 1) := dk_6 (dk_at dksX3_write_2 5 rfl rfl)
theorem dX3_write_54 : decode cX3_write 54 = .ok (.goto 4, 3) := dk_167 0 4 (dk_at dksX3_write_2 6 rfl rfl)
theorem dX3_write_57 : decode cX3_write 57 = .ok (.iconst 0, 1) := dk_3 (dk_at dksX3_write_2 9 rfl rfl)
theorem dX3_write_58 : decode cX3_write 58 = .ok (.putfield 121, 3) := dk_181 0 121 (dk_at dksX3_write_2 10 rfl rfl)
theorem dX3_write_61 : decode cX3_write 61 = .ok (.aload_n 0, 1) := dk_42 (dk_at dksX3_write_2 13 rfl rfl)
theorem dX3_write_62 : decode cX3_write 62 = .ok (.getfield 121, 3) := dk_180 0 121 (dk_at dksX3_write_2 14 rfl rfl)
theorem dX3_write_65 : decode cX3_write 65 = .ok (.ifCond .le 5, 3) := dk_158 0 5 (dk_at dksX3_write_2 17 rfl rfl)
theorem dX3_write_68 : decode cX3_write 68 = .ok (.iconst 0, 1) := dk_3 (dk_at dksX3_write_2 20 rfl rfl)
theorem dX3_write_69 : decode cX3_write 69 = .ok (.ireturn, 1) := dk_172 (dk_at dksX3_write_2 21 rfl rfl)
theorem dX3_write_70 : decode cX3_write 70 = .ok (.aload_n 0, 1) := dk_42 (dk_at dksX3_write_2 22 rfl rfl)
theorem dX3_write_71 : decode cX3_write 71 = .ok (.getfield 30, 3) := dk_180 0 30 (dk_at dksX3_write_3 0 rfl rfl)
theorem dX3_write_74 : decode cX3_write 74 = .ok (.bipush 20, 2) := dk_16 20 (dk_at dksX3_write_3 3 rfl rfl)
theorem dX3_write_76 : decode cX3_write 76 = .ok (.iload_n 1, 1) := dk_27 (dk_at dksX3_write_3 5 rfl rfl)
theorem dX3_write_77 : decode cX3_write 77 = .ok (.imul, 1) := dk_104 (dk_at dksX3_write_3 6 rfl rfl)
theorem dX3_write_78 : decode cX3_write 78 = .ok (.aload_n 0, 1) := dk_42 (dk_at dksX3_write_3 7 rfl rfl)
theorem dX3_write_79 : decode cX3_write 79 = .ok (.getfield 27, 3) := dk_180 0 27 (dk_at dksX3_write_3 8 rfl rfl)
theorem dX3_write_82 : decode cX3_write 82 = .ok (.iload_n 1, 1) := dk_27 (dk_at dksX3_write_3 11 rfl rfl)
theorem dX3_write_83 : decode cX3_write 83 = .ok (.iaload, 1) := dk_46 (dk_at dksX3_write_3 12 rfl rfl)
theorem dX3_write_84 : decode cX3_write 84 = .ok (.iadd, 1) := dk_96 (dk_at dksX3_write_3 13 rfl rfl)
theorem dX3_write_85 : decode cX3_write 85 = .ok (.iload_n 2, 1) := dk_28 (dk_at dksX3_write_3 14 rfl rfl)
theorem dX3_write_86 : decode cX3_write 86 = .ok (.iastore, 1) := dk_79 (dk_at dksX3_write_3 15 rfl rfl)
theorem dX3_write_87 : decode cX3_write 87 = .ok (.aload_n 0, 1) := dk_42 (dk_at dksX3_write_3 16 rfl rfl)
theorem dX3_write_88 : decode cX3_write 88 = .ok (.getfield 27, 3) := dk_180 0 27 (dk_at dksX3_write_3 17 rfl rfl)
theorem dX3_write_91 : decode cX3_write 91 = .ok (.iload_n 1, 1) := dk_27 (dk_at dksX3_write_3 20 rfl rfl)
theorem dX3_write_92 : decode cX3_write 92 = .ok (.dup2, 1) := dk_92 (dk_at dksX3_write_3 21 rfl rfl)
theorem dX3_write_93 : decode cX3_write 93 = .ok (.iaload, 1) := dk_46 (dk_at dksX3_write_3 22 rfl rfl)
theorem dX3_write_94 : decode cX3_write 94 = .ok (.iconst 1, 1) := dk_4 (dk_at dksX3_write_3 23 rfl rfl)
theorem dX3_write_95 : decode cX3_write 95 = .ok (.iadd, 1) := dk_96 (dk_at dksX3_write_4 0 rfl rfl)
theorem dX3_write_96 : decode cX3_write 96 = .ok (.iastore, 1) := dk_79 (dk_at dksX3_write_4 1 rfl rfl)
theorem dX3_write_97 : decode cX3_write 97 = .ok (.aload_n 0, 1) := dk_42 (dk_at dksX3_write_4 2 rfl rfl)
theorem dX3_write_98 : decode cX3_write 98 = .ok (.getfield 24, 3) := dk_180 0 24 (dk_at dksX3_write_4 3 rfl rfl)
theorem dX3_write_101 : decode cX3_write 101 = .ok (.iload_n 1, 1) := dk_27 (dk_at dksX3_write_4 6 rfl rfl)
theorem dX3_write_102 : decode cX3_write 102 = .ok (.dup2, 1) := dk_92 (dk_at dksX3_write_4 7 rfl rfl)
theorem dX3_write_103 : decode cX3_write 103 = .ok (.iaload, 1) := dk_46 (dk_at dksX3_write_4 8 rfl rfl)
theorem dX3_write_104 : decode cX3_write 104 = .ok (.iconst 1, 1) := dk_4 (dk_at dksX3_write_4 9 rfl rfl)
theorem dX3_write_105 : decode cX3_write 105 = .ok (.iadd, 1) := dk_96 (dk_at dksX3_write_4 10 rfl rfl)
theorem dX3_write_106 : decode cX3_write 106 = .ok (.iastore, 1) := dk_79 (dk_at dksX3_write_4 11 rfl rfl)
theorem dX3_write_107 : decode cX3_write 107 = .ok (.aload_n 0, 1) := dk_42 (dk_at dksX3_write_4 12 rfl rfl)
theorem dX3_write_108 : decode cX3_write 108 = .ok (.aload_n 0, 1) := dk_42 (dk_at dksX3_write_4 13 rfl rfl)
theorem dX3_write_109 : decode cX3_write 109 = .ok (.iload_n 1, 1) := dk_27 (dk_at dksX3_write_4 14 rfl rfl)
theorem dX3_write_110 : decode cX3_write 110 = .ok (.invokevirtual 150, 3) := dk_182 0 150 (dk_at dksX3_write_4 15 rfl rfl)
theorem dX3_write_113 : decode cX3_write 113 = .ok (.iconst 1, 1) := dk_4 (dk_at dksX3_write_4 18 rfl rfl)
theorem dX3_write_114 : decode cX3_write 114 = .ok (.iload_n 1, 1) := dk_27 (dk_at dksX3_write_4 19 rfl rfl)
theorem dX3_write_115 : decode cX3_write 115 = .ok (.invokevirtual 153, 3) := dk_182 0 153 (dk_at dksX3_write_4 20 rfl rfl)
theorem dX3_write_118 : decode cX3_write 118 = .ok (.aload_n 0, 1) := dk_42 (dk_at dksX3_write_4 23 rfl rfl)
theorem dX3_write_119 : decode cX3_write 119 = .ok (.getfield 24, 3) := dk_180 0 24 (dk_at dksX3_write_5 0 rfl rfl)
theorem dX3_write_122 : decode cX3_write 122 = .ok (.iload_n 1, 1) := dk_27 (dk_at dksX3_write_5 3 rfl rfl)
theorem dX3_write_123 : decode cX3_write 123 = .ok (.iaload, 1) := dk_46 (dk_at dksX3_write_5 4 rfl rfl)
theorem dX3_write_124 : decode cX3_write 124 = .ok (.ireturn, 1) := dk_172 (dk_at dksX3_write_5 5 rfl rfl)
abbrev cX3_isFileAt : ByteArray := prog_11_method_7_code
def yX3_isFileAt : MethodName := ⟨RX3, "isFileAt", "(I)Z"⟩
def dkwX3_isFileAt_0 : List UInt8 := [42, 27, 182, 0, 128, 153, 0, 16, 42, 180, 0, 13, 27, 51, 154, 0, 7, 4, 167, 0, 4, 3, 172]
abbrev dktX3_isFileAt_0 : List UInt8 := dkwX3_isFileAt_0 ++ []
theorem dksX3_isFileAt_0 : cX3_isFileAt.data.toList.drop 0 = dktX3_isFileAt_0 := by decide +kernel
theorem dX3_isFileAt_0 : decode cX3_isFileAt 0 = .ok (.aload_n 0, 1) := dk_42 (dk_at dksX3_isFileAt_0 0 rfl rfl)
theorem dX3_isFileAt_1 : decode cX3_isFileAt 1 = .ok (.iload_n 1, 1) := dk_27 (dk_at dksX3_isFileAt_0 1 rfl rfl)
theorem dX3_isFileAt_2 : decode cX3_isFileAt 2 = .ok (.invokevirtual 128, 3) := dk_182 0 128 (dk_at dksX3_isFileAt_0 2 rfl rfl)
theorem dX3_isFileAt_5 : decode cX3_isFileAt 5 = .ok (.ifCond .eq 16, 3) := dk_153 0 16 (dk_at dksX3_isFileAt_0 5 rfl rfl)
theorem dX3_isFileAt_8 : decode cX3_isFileAt 8 = .ok (.aload_n 0, 1) := dk_42 (dk_at dksX3_isFileAt_0 8 rfl rfl)
theorem dX3_isFileAt_9 : decode cX3_isFileAt 9 = .ok (.getfield 13, 3) := dk_180 0 13 (dk_at dksX3_isFileAt_0 9 rfl rfl)
theorem dX3_isFileAt_12 : decode cX3_isFileAt 12 = .ok (.iload_n 1, 1) := dk_27 (dk_at dksX3_isFileAt_0 12 rfl rfl)
theorem dX3_isFileAt_13 : decode cX3_isFileAt 13 = .ok (.baload, 1) := dk_51 (dk_at dksX3_isFileAt_0 13 rfl rfl)
theorem dX3_isFileAt_14 : decode cX3_isFileAt 14 = .ok (.ifCond .ne 7, 3) := dk_154 0 7 (dk_at dksX3_isFileAt_0 14 rfl rfl)
theorem dX3_isFileAt_17 : decode cX3_isFileAt 17 = .ok (.iconst 1, 1) := dk_4 (dk_at dksX3_isFileAt_0 17 rfl rfl)
theorem dX3_isFileAt_18 : decode cX3_isFileAt 18 = .ok (.goto 4, 3) := dk_167 0 4 (dk_at dksX3_isFileAt_0 18 rfl rfl)
theorem dX3_isFileAt_21 : decode cX3_isFileAt 21 = .ok (.iconst 0, 1) := dk_3 (dk_at dksX3_isFileAt_0 21 rfl rfl)
theorem dX3_isFileAt_22 : decode cX3_isFileAt 22 = .ok (.ireturn, 1) := dk_172 (dk_at dksX3_isFileAt_0 22 rfl rfl)
abbrev cX3_empty : ByteArray := prog_11_method_15_code
def yX3_empty : MethodName := ⟨RX3, "empty", "(I)I"⟩
def dkwX3_empty_3 : List UInt8 := [182, 0, 153, 28, 172]
abbrev dktX3_empty_3 : List UInt8 := dkwX3_empty_3 ++ []
def dkwX3_empty_2 : List UInt8 := [180, 0, 27, 27, 3, 79, 42, 180, 0, 24, 27, 92, 46, 4, 96, 79, 42, 42, 27, 182, 0, 150, 4, 27]
abbrev dktX3_empty_2 : List UInt8 := dkwX3_empty_2 ++ dktX3_empty_3
def dkwX3_empty_1 : List UInt8 := [167, 0, 4, 3, 181, 0, 121, 42, 180, 0, 121, 158, 0, 5, 3, 172, 42, 180, 0, 27, 27, 46, 61, 42]
abbrev dktX3_empty_1 : List UInt8 := dkwX3_empty_1 ++ dktX3_empty_2
def dkwX3_empty_0 : List UInt8 := [42, 42, 27, 182, 0, 157, 154, 0, 7, 4, 167, 0, 17, 42, 180, 0, 33, 27, 51, 153, 0, 7, 5]
abbrev dktX3_empty_0 : List UInt8 := dkwX3_empty_0 ++ dktX3_empty_1
theorem dksX3_empty_0 : cX3_empty.data.toList.drop 0 = dktX3_empty_0 := by decide +kernel
theorem dksX3_empty_1 : cX3_empty.data.toList.drop 23 = dktX3_empty_1 := dk_seg dksX3_empty_0 23 rfl rfl
theorem dksX3_empty_2 : cX3_empty.data.toList.drop 47 = dktX3_empty_2 := dk_seg dksX3_empty_1 24 rfl rfl
theorem dksX3_empty_3 : cX3_empty.data.toList.drop 71 = dktX3_empty_3 := dk_seg dksX3_empty_2 24 rfl rfl
theorem dX3_empty_0 : decode cX3_empty 0 = .ok (.aload_n 0, 1) := dk_42 (dk_at dksX3_empty_0 0 rfl rfl)
theorem dX3_empty_1 : decode cX3_empty 1 = .ok (.aload_n 0, 1) := dk_42 (dk_at dksX3_empty_0 1 rfl rfl)
theorem dX3_empty_2 : decode cX3_empty 2 = .ok (.iload_n 1, 1) := dk_27 (dk_at dksX3_empty_0 2 rfl rfl)
theorem dX3_empty_3 : decode cX3_empty 3 = .ok (.invokevirtual 157, 3) := dk_182 0 157 (dk_at dksX3_empty_0 3 rfl rfl)
theorem dX3_empty_6 : decode cX3_empty 6 = .ok (.ifCond .ne 7, 3) := dk_154 0 7 (dk_at dksX3_empty_0 6 rfl rfl)
theorem dX3_empty_9 : decode cX3_empty 9 = .ok (.iconst 1, 1) := dk_4 (dk_at dksX3_empty_0 9 rfl rfl)
theorem dX3_empty_10 : decode cX3_empty 10 = .ok (.goto 17, 3) := dk_167 0 17 (dk_at dksX3_empty_0 10 rfl rfl)
theorem dX3_empty_13 : decode cX3_empty 13 = .ok (.aload_n 0, 1) := dk_42 (dk_at dksX3_empty_0 13 rfl rfl)
theorem dX3_empty_14 : decode cX3_empty 14 = .ok (.getfield 33, 3) := dk_180 0 33 (dk_at dksX3_empty_0 14 rfl rfl)
theorem dX3_empty_17 : decode cX3_empty 17 = .ok (.iload_n 1, 1) := dk_27 (dk_at dksX3_empty_0 17 rfl rfl)
theorem dX3_empty_18 : decode cX3_empty 18 = .ok (.baload, 1) := dk_51 (dk_at dksX3_empty_0 18 rfl rfl)
theorem dX3_empty_19 : decode cX3_empty 19 = .ok (.ifCond .eq 7, 3) := dk_153 0 7 (dk_at dksX3_empty_0 19 rfl rfl)
theorem dX3_empty_22 : decode cX3_empty 22 = .ok (.iconst 2, 1) := dk_5 (dk_at dksX3_empty_0 22 rfl rfl)
theorem dX3_empty_23 : decode cX3_empty 23 = .ok (.goto 4, 3) := dk_167 0 4 (dk_at dksX3_empty_1 0 rfl rfl)
theorem dX3_empty_26 : decode cX3_empty 26 = .ok (.iconst 0, 1) := dk_3 (dk_at dksX3_empty_1 3 rfl rfl)
theorem dX3_empty_27 : decode cX3_empty 27 = .ok (.putfield 121, 3) := dk_181 0 121 (dk_at dksX3_empty_1 4 rfl rfl)
theorem dX3_empty_30 : decode cX3_empty 30 = .ok (.aload_n 0, 1) := dk_42 (dk_at dksX3_empty_1 7 rfl rfl)
theorem dX3_empty_31 : decode cX3_empty 31 = .ok (.getfield 121, 3) := dk_180 0 121 (dk_at dksX3_empty_1 8 rfl rfl)
theorem dX3_empty_34 : decode cX3_empty 34 = .ok (.ifCond .le 5, 3) := dk_158 0 5 (dk_at dksX3_empty_1 11 rfl rfl)
theorem dX3_empty_37 : decode cX3_empty 37 = .ok (.iconst 0, 1) := dk_3 (dk_at dksX3_empty_1 14 rfl rfl)
theorem dX3_empty_38 : decode cX3_empty 38 = .ok (.ireturn, 1) := dk_172 (dk_at dksX3_empty_1 15 rfl rfl)
theorem dX3_empty_39 : decode cX3_empty 39 = .ok (.aload_n 0, 1) := dk_42 (dk_at dksX3_empty_1 16 rfl rfl)
theorem dX3_empty_40 : decode cX3_empty 40 = .ok (.getfield 27, 3) := dk_180 0 27 (dk_at dksX3_empty_1 17 rfl rfl)
theorem dX3_empty_43 : decode cX3_empty 43 = .ok (.iload_n 1, 1) := dk_27 (dk_at dksX3_empty_1 20 rfl rfl)
theorem dX3_empty_44 : decode cX3_empty 44 = .ok (.iaload, 1) := dk_46 (dk_at dksX3_empty_1 21 rfl rfl)
theorem dX3_empty_45 : decode cX3_empty 45 = .ok (.istore_n 2, 1) := dk_61 (dk_at dksX3_empty_1 22 rfl rfl)
theorem dX3_empty_46 : decode cX3_empty 46 = .ok (.aload_n 0, 1) := dk_42 (dk_at dksX3_empty_1 23 rfl rfl)
theorem dX3_empty_47 : decode cX3_empty 47 = .ok (.getfield 27, 3) := dk_180 0 27 (dk_at dksX3_empty_2 0 rfl rfl)
theorem dX3_empty_50 : decode cX3_empty 50 = .ok (.iload_n 1, 1) := dk_27 (dk_at dksX3_empty_2 3 rfl rfl)
theorem dX3_empty_51 : decode cX3_empty 51 = .ok (.iconst 0, 1) := dk_3 (dk_at dksX3_empty_2 4 rfl rfl)
theorem dX3_empty_52 : decode cX3_empty 52 = .ok (.iastore, 1) := dk_79 (dk_at dksX3_empty_2 5 rfl rfl)
theorem dX3_empty_53 : decode cX3_empty 53 = .ok (.aload_n 0, 1) := dk_42 (dk_at dksX3_empty_2 6 rfl rfl)
theorem dX3_empty_54 : decode cX3_empty 54 = .ok (.getfield 24, 3) := dk_180 0 24 (dk_at dksX3_empty_2 7 rfl rfl)
theorem dX3_empty_57 : decode cX3_empty 57 = .ok (.iload_n 1, 1) := dk_27 (dk_at dksX3_empty_2 10 rfl rfl)
theorem dX3_empty_58 : decode cX3_empty 58 = .ok (.dup2, 1) := dk_92 (dk_at dksX3_empty_2 11 rfl rfl)
theorem dX3_empty_59 : decode cX3_empty 59 = .ok (.iaload, 1) := dk_46 (dk_at dksX3_empty_2 12 rfl rfl)
theorem dX3_empty_60 : decode cX3_empty 60 = .ok (.iconst 1, 1) := dk_4 (dk_at dksX3_empty_2 13 rfl rfl)
theorem dX3_empty_61 : decode cX3_empty 61 = .ok (.iadd, 1) := dk_96 (dk_at dksX3_empty_2 14 rfl rfl)
theorem dX3_empty_62 : decode cX3_empty 62 = .ok (.iastore, 1) := dk_79 (dk_at dksX3_empty_2 15 rfl rfl)
theorem dX3_empty_63 : decode cX3_empty 63 = .ok (.aload_n 0, 1) := dk_42 (dk_at dksX3_empty_2 16 rfl rfl)
theorem dX3_empty_64 : decode cX3_empty 64 = .ok (.aload_n 0, 1) := dk_42 (dk_at dksX3_empty_2 17 rfl rfl)
theorem dX3_empty_65 : decode cX3_empty 65 = .ok (.iload_n 1, 1) := dk_27 (dk_at dksX3_empty_2 18 rfl rfl)
theorem dX3_empty_66 : decode cX3_empty 66 = .ok (.invokevirtual 150, 3) := dk_182 0 150 (dk_at dksX3_empty_2 19 rfl rfl)
theorem dX3_empty_69 : decode cX3_empty 69 = .ok (.iconst 1, 1) := dk_4 (dk_at dksX3_empty_2 22 rfl rfl)
theorem dX3_empty_70 : decode cX3_empty 70 = .ok (.iload_n 1, 1) := dk_27 (dk_at dksX3_empty_2 23 rfl rfl)
theorem dX3_empty_71 : decode cX3_empty 71 = .ok (.invokevirtual 153, 3) := dk_182 0 153 (dk_at dksX3_empty_3 0 rfl rfl)
theorem dX3_empty_74 : decode cX3_empty 74 = .ok (.iload_n 2, 1) := dk_28 (dk_at dksX3_empty_3 3 rfl rfl)
theorem dX3_empty_75 : decode cX3_empty 75 = .ok (.ireturn, 1) := dk_172 (dk_at dksX3_empty_3 4 rfl rfl)
abbrev cX3_move : ByteArray := prog_11_method_17_code
def yX3_move : MethodName := ⟨RX3, "move", "(IIC)I"⟩
def dkwX3_move_8 : List UInt8 := [27, 182, 0, 153, 21, 6, 172]
abbrev dktX3_move_8 : List UInt8 := dkwX3_move_8 ++ []
def dkwX3_move_7 : List UInt8 := [182, 0, 150, 54, 8, 21, 7, 21, 8, 159, 0, 11, 42, 21, 7, 5, 27, 182, 0, 153, 42, 21, 8, 3]
abbrev dktX3_move_7 : List UInt8 := dkwX3_move_7 ++ dktX3_move_8
def dkwX3_move_6 : List UInt8 := [42, 27, 182, 0, 150, 54, 7, 42, 180, 0, 16, 27, 28, 79, 42, 180, 0, 20, 27, 29, 85, 42, 27]
abbrev dktX3_move_6 : List UInt8 := dkwX3_move_6 ++ dktX3_move_7
def dkwX3_move_5 : List UInt8 := [167, 0, 4, 3, 181, 0, 121, 42, 180, 0, 121, 158, 0, 5, 3, 172, 42, 180, 0, 16, 27, 46, 54, 6]
abbrev dktX3_move_5 : List UInt8 := dkwX3_move_5 ++ dktX3_move_6
def dkwX3_move_4 : List UInt8 := [167, 0, 28, 21, 4, 154, 0, 18, 42, 28, 29, 27, 182, 0, 146, 154, 0, 8, 21, 5, 153, 0, 7, 6]
abbrev dktX3_move_4 : List UInt8 := dkwX3_move_4 ++ dktX3_move_5
def dkwX3_move_3 : List UInt8 := [2, 159, 0, 7, 4, 167, 0, 4, 3, 54, 5, 42, 29, 16, 97, 16, 122, 184, 0, 124, 154, 0, 7, 5]
abbrev dktX3_move_3 : List UInt8 := dkwX3_move_3 ++ dktX3_move_4
def dkwX3_move_2 : List UInt8 := [54, 4, 42, 27, 182, 0, 160, 153, 0, 25, 42, 28, 182, 0, 163, 2, 160, 0, 12, 42, 28, 182, 0, 150]
abbrev dktX3_move_2 : List UInt8 := dkwX3_move_2 ++ dktX3_move_3
def dkwX3_move_1 : List UInt8 := [182, 0, 142, 172, 28, 27, 159, 0, 12, 42, 28, 27, 182, 0, 135, 153, 0, 7, 4, 167, 0, 4, 3]
abbrev dktX3_move_1 : List UInt8 := dkwX3_move_1 ++ dktX3_move_2
def dkwX3_move_0 : List UInt8 := [42, 27, 182, 0, 128, 153, 0, 15, 27, 153, 0, 11, 42, 28, 182, 0, 139, 154, 0, 9, 42, 4]
abbrev dktX3_move_0 : List UInt8 := dkwX3_move_0 ++ dktX3_move_1
theorem dksX3_move_0 : cX3_move.data.toList.drop 0 = dktX3_move_0 := by decide +kernel
theorem dksX3_move_1 : cX3_move.data.toList.drop 22 = dktX3_move_1 := dk_seg dksX3_move_0 22 rfl rfl
theorem dksX3_move_2 : cX3_move.data.toList.drop 45 = dktX3_move_2 := dk_seg dksX3_move_1 23 rfl rfl
theorem dksX3_move_3 : cX3_move.data.toList.drop 69 = dktX3_move_3 := dk_seg dksX3_move_2 24 rfl rfl
theorem dksX3_move_4 : cX3_move.data.toList.drop 93 = dktX3_move_4 := dk_seg dksX3_move_3 24 rfl rfl
theorem dksX3_move_5 : cX3_move.data.toList.drop 117 = dktX3_move_5 := dk_seg dksX3_move_4 24 rfl rfl
theorem dksX3_move_6 : cX3_move.data.toList.drop 141 = dktX3_move_6 := dk_seg dksX3_move_5 24 rfl rfl
theorem dksX3_move_7 : cX3_move.data.toList.drop 164 = dktX3_move_7 := dk_seg dksX3_move_6 23 rfl rfl
theorem dksX3_move_8 : cX3_move.data.toList.drop 188 = dktX3_move_8 := dk_seg dksX3_move_7 24 rfl rfl
theorem dX3_move_0 : decode cX3_move 0 = .ok (.aload_n 0, 1) := dk_42 (dk_at dksX3_move_0 0 rfl rfl)
theorem dX3_move_1 : decode cX3_move 1 = .ok (.iload_n 1, 1) := dk_27 (dk_at dksX3_move_0 1 rfl rfl)
theorem dX3_move_2 : decode cX3_move 2 = .ok (.invokevirtual 128, 3) := dk_182 0 128 (dk_at dksX3_move_0 2 rfl rfl)
theorem dX3_move_5 : decode cX3_move 5 = .ok (.ifCond .eq 15, 3) := dk_153 0 15 (dk_at dksX3_move_0 5 rfl rfl)
theorem dX3_move_8 : decode cX3_move 8 = .ok (.iload_n 1, 1) := dk_27 (dk_at dksX3_move_0 8 rfl rfl)
theorem dX3_move_9 : decode cX3_move 9 = .ok (.ifCond .eq 11, 3) := dk_153 0 11 (dk_at dksX3_move_0 9 rfl rfl)
theorem dX3_move_12 : decode cX3_move 12 = .ok (.aload_n 0, 1) := dk_42 (dk_at dksX3_move_0 12 rfl rfl)
theorem dX3_move_13 : decode cX3_move 13 = .ok (.iload_n 2, 1) := dk_28 (dk_at dksX3_move_0 13 rfl rfl)
theorem dX3_move_14 : decode cX3_move 14 = .ok (.invokevirtual 139, 3) := dk_182 0 139 (dk_at dksX3_move_0 14 rfl rfl)
theorem dX3_move_17 : decode cX3_move 17 = .ok (.ifCond .ne 9, 3) := dk_154 0 9 (dk_at dksX3_move_0 17 rfl rfl)
theorem dX3_move_20 : decode cX3_move 20 = .ok (.aload_n 0, 1) := dk_42 (dk_at dksX3_move_0 20 rfl rfl)
theorem dX3_move_21 : decode cX3_move 21 = .ok (.iconst 1, 1) := dk_4 (dk_at dksX3_move_0 21 rfl rfl)
theorem dX3_move_22 : decode cX3_move 22 = .ok (.invokevirtual 142, 3) := dk_182 0 142 (dk_at dksX3_move_1 0 rfl rfl)
theorem dX3_move_25 : decode cX3_move 25 = .ok (.ireturn, 1) := dk_172 (dk_at dksX3_move_1 3 rfl rfl)
theorem dX3_move_26 : decode cX3_move 26 = .ok (.iload_n 2, 1) := dk_28 (dk_at dksX3_move_1 4 rfl rfl)
theorem dX3_move_27 : decode cX3_move 27 = .ok (.iload_n 1, 1) := dk_27 (dk_at dksX3_move_1 5 rfl rfl)
theorem dX3_move_28 : decode cX3_move 28 = .ok (.if_icmp .eq 12, 3) := dk_159 0 12 (dk_at dksX3_move_1 6 rfl rfl)
theorem dX3_move_31 : decode cX3_move 31 = .ok (.aload_n 0, 1) := dk_42 (dk_at dksX3_move_1 9 rfl rfl)
theorem dX3_move_32 : decode cX3_move 32 = .ok (.iload_n 2, 1) := dk_28 (dk_at dksX3_move_1 10 rfl rfl)
theorem dX3_move_33 : decode cX3_move 33 = .ok (.iload_n 1, 1) := dk_27 (dk_at dksX3_move_1 11 rfl rfl)
theorem dX3_move_34 : decode cX3_move 34 = .ok (.invokevirtual 135, 3) := dk_182 0 135 (dk_at dksX3_move_1 12 rfl rfl)
theorem dX3_move_37 : decode cX3_move 37 = .ok (.ifCond .eq 7, 3) := dk_153 0 7 (dk_at dksX3_move_1 15 rfl rfl)
theorem dX3_move_40 : decode cX3_move 40 = .ok (.iconst 1, 1) := dk_4 (dk_at dksX3_move_1 18 rfl rfl)
theorem dX3_move_41 : decode cX3_move 41 = .ok (.goto 4, 3) := dk_167 0 4 (dk_at dksX3_move_1 19 rfl rfl)
theorem dX3_move_44 : decode cX3_move 44 = .ok (.iconst 0, 1) := dk_3 (dk_at dksX3_move_1 22 rfl rfl)
theorem dX3_move_45 : decode cX3_move 45 = .ok (.istore 4, 2) := dk_54 4 (dk_at dksX3_move_2 0 rfl rfl)
theorem dX3_move_47 : decode cX3_move 47 = .ok (.aload_n 0, 1) := dk_42 (dk_at dksX3_move_2 2 rfl rfl)
theorem dX3_move_48 : decode cX3_move 48 = .ok (.iload_n 1, 1) := dk_27 (dk_at dksX3_move_2 3 rfl rfl)
theorem dX3_move_49 : decode cX3_move 49 = .ok (.invokevirtual 160, 3) := dk_182 0 160 (dk_at dksX3_move_2 4 rfl rfl)
theorem dX3_move_52 : decode cX3_move 52 = .ok (.ifCond .eq 25, 3) := dk_153 0 25 (dk_at dksX3_move_2 7 rfl rfl)
theorem dX3_move_55 : decode cX3_move 55 = .ok (.aload_n 0, 1) := dk_42 (dk_at dksX3_move_2 10 rfl rfl)
theorem dX3_move_56 : decode cX3_move 56 = .ok (.iload_n 2, 1) := dk_28 (dk_at dksX3_move_2 11 rfl rfl)
theorem dX3_move_57 : decode cX3_move 57 = .ok (.invokevirtual 163, 3) := dk_182 0 163 (dk_at dksX3_move_2 12 rfl rfl)
theorem dX3_move_60 : decode cX3_move 60 = .ok (.iconst (-1), 1) := dk_2 (dk_at dksX3_move_2 15 rfl rfl)
theorem dX3_move_61 : decode cX3_move 61 = .ok (.if_icmp .ne 12, 3) := dk_160 0 12 (dk_at dksX3_move_2 16 rfl rfl)
theorem dX3_move_64 : decode cX3_move 64 = .ok (.aload_n 0, 1) := dk_42 (dk_at dksX3_move_2 19 rfl rfl)
theorem dX3_move_65 : decode cX3_move 65 = .ok (.iload_n 2, 1) := dk_28 (dk_at dksX3_move_2 20 rfl rfl)
theorem dX3_move_66 : decode cX3_move 66 = .ok (.invokevirtual 150, 3) := dk_182 0 150 (dk_at dksX3_move_2 21 rfl rfl)
theorem dX3_move_69 : decode cX3_move 69 = .ok (.iconst (-1), 1) := dk_2 (dk_at dksX3_move_3 0 rfl rfl)
theorem dX3_move_70 : decode cX3_move 70 = .ok (.if_icmp .eq 7, 3) := dk_159 0 7 (dk_at dksX3_move_3 1 rfl rfl)
theorem dX3_move_73 : decode cX3_move 73 = .ok (.iconst 1, 1) := dk_4 (dk_at dksX3_move_3 4 rfl rfl)
theorem dX3_move_74 : decode cX3_move 74 = .ok (.goto 4, 3) := dk_167 0 4 (dk_at dksX3_move_3 5 rfl rfl)
theorem dX3_move_77 : decode cX3_move 77 = .ok (.iconst 0, 1) := dk_3 (dk_at dksX3_move_3 8 rfl rfl)
theorem dX3_move_78 : decode cX3_move 78 = .ok (.istore 5, 2) := dk_54 5 (dk_at dksX3_move_3 9 rfl rfl)
theorem dX3_move_80 : decode cX3_move 80 = .ok (.aload_n 0, 1) := dk_42 (dk_at dksX3_move_3 11 rfl rfl)
theorem dX3_move_81 : decode cX3_move 81 = .ok (.iload_n 3, 1) := dk_29 (dk_at dksX3_move_3 12 rfl rfl)
theorem dX3_move_82 : decode cX3_move 82 = .ok (.bipush 97, 2) := dk_16 97 (dk_at dksX3_move_3 13 rfl rfl)
theorem dX3_move_84 : decode cX3_move 84 = .ok (.bipush 122, 2) := dk_16 122 (dk_at dksX3_move_3 15 rfl rfl)
theorem dX3_move_86 : decode cX3_move 86 = .ok (.invokestatic 124, 3) := dk_184 0 124 (dk_at dksX3_move_3 17 rfl rfl)
theorem dX3_move_89 : decode cX3_move 89 = .ok (.ifCond .ne 7, 3) := dk_154 0 7 (dk_at dksX3_move_3 20 rfl rfl)
theorem dX3_move_92 : decode cX3_move 92 = .ok (.iconst 2, 1) := dk_5 (dk_at dksX3_move_3 23 rfl rfl)
theorem dX3_move_93 : decode cX3_move 93 = .ok (.goto 28, 3) := dk_167 0 28 (dk_at dksX3_move_4 0 rfl rfl)
theorem dX3_move_96 : decode cX3_move 96 = .ok (.iload 4, 2) := dk_21 4 (dk_at dksX3_move_4 3 rfl rfl)
theorem dX3_move_98 : decode cX3_move 98 = .ok (.ifCond .ne 18, 3) := dk_154 0 18 (dk_at dksX3_move_4 5 rfl rfl)
theorem dX3_move_101 : decode cX3_move 101 = .ok (.aload_n 0, 1) := dk_42 (dk_at dksX3_move_4 8 rfl rfl)
theorem dX3_move_102 : decode cX3_move 102 = .ok (.iload_n 2, 1) := dk_28 (dk_at dksX3_move_4 9 rfl rfl)
theorem dX3_move_103 : decode cX3_move 103 = .ok (.iload_n 3, 1) := dk_29 (dk_at dksX3_move_4 10 rfl rfl)
theorem dX3_move_104 : decode cX3_move 104 = .ok (.iload_n 1, 1) := dk_27 (dk_at dksX3_move_4 11 rfl rfl)
theorem dX3_move_105 : decode cX3_move 105 = .ok (.invokevirtual 146, 3) := dk_182 0 146 (dk_at dksX3_move_4 12 rfl rfl)
theorem dX3_move_108 : decode cX3_move 108 = .ok (.ifCond .ne 8, 3) := dk_154 0 8 (dk_at dksX3_move_4 15 rfl rfl)
theorem dX3_move_111 : decode cX3_move 111 = .ok (.iload 5, 2) := dk_21 5 (dk_at dksX3_move_4 18 rfl rfl)
theorem dX3_move_113 : decode cX3_move 113 = .ok (.ifCond .eq 7, 3) := dk_153 0 7 (dk_at dksX3_move_4 20 rfl rfl)
theorem dX3_move_116 : decode cX3_move 116 = .ok (.iconst 3, 1) := dk_6 (dk_at dksX3_move_4 23 rfl rfl)
theorem dX3_move_117 : decode cX3_move 117 = .ok (.goto 4, 3) := dk_167 0 4 (dk_at dksX3_move_5 0 rfl rfl)
theorem dX3_move_120 : decode cX3_move 120 = .ok (.iconst 0, 1) := dk_3 (dk_at dksX3_move_5 3 rfl rfl)
theorem dX3_move_121 : decode cX3_move 121 = .ok (.putfield 121, 3) := dk_181 0 121 (dk_at dksX3_move_5 4 rfl rfl)
theorem dX3_move_124 : decode cX3_move 124 = .ok (.aload_n 0, 1) := dk_42 (dk_at dksX3_move_5 7 rfl rfl)
theorem dX3_move_125 : decode cX3_move 125 = .ok (.getfield 121, 3) := dk_180 0 121 (dk_at dksX3_move_5 8 rfl rfl)
theorem dX3_move_128 : decode cX3_move 128 = .ok (.ifCond .le 5, 3) := dk_158 0 5 (dk_at dksX3_move_5 11 rfl rfl)
theorem dX3_move_131 : decode cX3_move 131 = .ok (.iconst 0, 1) := dk_3 (dk_at dksX3_move_5 14 rfl rfl)
theorem dX3_move_132 : decode cX3_move 132 = .ok (.ireturn, 1) := dk_172 (dk_at dksX3_move_5 15 rfl rfl)
theorem dX3_move_133 : decode cX3_move 133 = .ok (.aload_n 0, 1) := dk_42 (dk_at dksX3_move_5 16 rfl rfl)
theorem dX3_move_134 : decode cX3_move 134 = .ok (.getfield 16, 3) := dk_180 0 16 (dk_at dksX3_move_5 17 rfl rfl)
theorem dX3_move_137 : decode cX3_move 137 = .ok (.iload_n 1, 1) := dk_27 (dk_at dksX3_move_5 20 rfl rfl)
theorem dX3_move_138 : decode cX3_move 138 = .ok (.iaload, 1) := dk_46 (dk_at dksX3_move_5 21 rfl rfl)
theorem dX3_move_139 : decode cX3_move 139 = .ok (.istore 6, 2) := dk_54 6 (dk_at dksX3_move_5 22 rfl rfl)
theorem dX3_move_141 : decode cX3_move 141 = .ok (.aload_n 0, 1) := dk_42 (dk_at dksX3_move_6 0 rfl rfl)
theorem dX3_move_142 : decode cX3_move 142 = .ok (.iload_n 1, 1) := dk_27 (dk_at dksX3_move_6 1 rfl rfl)
theorem dX3_move_143 : decode cX3_move 143 = .ok (.invokevirtual 150, 3) := dk_182 0 150 (dk_at dksX3_move_6 2 rfl rfl)
theorem dX3_move_146 : decode cX3_move 146 = .ok (.istore 7, 2) := dk_54 7 (dk_at dksX3_move_6 5 rfl rfl)
theorem dX3_move_148 : decode cX3_move 148 = .ok (.aload_n 0, 1) := dk_42 (dk_at dksX3_move_6 7 rfl rfl)
theorem dX3_move_149 : decode cX3_move 149 = .ok (.getfield 16, 3) := dk_180 0 16 (dk_at dksX3_move_6 8 rfl rfl)
theorem dX3_move_152 : decode cX3_move 152 = .ok (.iload_n 1, 1) := dk_27 (dk_at dksX3_move_6 11 rfl rfl)
theorem dX3_move_153 : decode cX3_move 153 = .ok (.iload_n 2, 1) := dk_28 (dk_at dksX3_move_6 12 rfl rfl)
theorem dX3_move_154 : decode cX3_move 154 = .ok (.iastore, 1) := dk_79 (dk_at dksX3_move_6 13 rfl rfl)
theorem dX3_move_155 : decode cX3_move 155 = .ok (.aload_n 0, 1) := dk_42 (dk_at dksX3_move_6 14 rfl rfl)
theorem dX3_move_156 : decode cX3_move 156 = .ok (.getfield 20, 3) := dk_180 0 20 (dk_at dksX3_move_6 15 rfl rfl)
theorem dX3_move_159 : decode cX3_move 159 = .ok (.iload_n 1, 1) := dk_27 (dk_at dksX3_move_6 18 rfl rfl)
theorem dX3_move_160 : decode cX3_move 160 = .ok (.iload_n 3, 1) := dk_29 (dk_at dksX3_move_6 19 rfl rfl)
theorem dX3_move_161 : decode cX3_move 161 = .ok (.castore, 1) := dk_85 (dk_at dksX3_move_6 20 rfl rfl)
theorem dX3_move_162 : decode cX3_move 162 = .ok (.aload_n 0, 1) := dk_42 (dk_at dksX3_move_6 21 rfl rfl)
theorem dX3_move_163 : decode cX3_move 163 = .ok (.iload_n 1, 1) := dk_27 (dk_at dksX3_move_6 22 rfl rfl)
theorem dX3_move_164 : decode cX3_move 164 = .ok (.invokevirtual 150, 3) := dk_182 0 150 (dk_at dksX3_move_7 0 rfl rfl)
theorem dX3_move_167 : decode cX3_move 167 = .ok (.istore 8, 2) := dk_54 8 (dk_at dksX3_move_7 3 rfl rfl)
theorem dX3_move_169 : decode cX3_move 169 = .ok (.iload 7, 2) := dk_21 7 (dk_at dksX3_move_7 5 rfl rfl)
theorem dX3_move_171 : decode cX3_move 171 = .ok (.iload 8, 2) := dk_21 8 (dk_at dksX3_move_7 7 rfl rfl)
theorem dX3_move_173 : decode cX3_move 173 = .ok (.if_icmp .eq 11, 3) := dk_159 0 11 (dk_at dksX3_move_7 9 rfl rfl)
theorem dX3_move_176 : decode cX3_move 176 = .ok (.aload_n 0, 1) := dk_42 (dk_at dksX3_move_7 12 rfl rfl)
theorem dX3_move_177 : decode cX3_move 177 = .ok (.iload 7, 2) := dk_21 7 (dk_at dksX3_move_7 13 rfl rfl)
theorem dX3_move_179 : decode cX3_move 179 = .ok (.iconst 2, 1) := dk_5 (dk_at dksX3_move_7 15 rfl rfl)
theorem dX3_move_180 : decode cX3_move 180 = .ok (.iload_n 1, 1) := dk_27 (dk_at dksX3_move_7 16 rfl rfl)
theorem dX3_move_181 : decode cX3_move 181 = .ok (.invokevirtual 153, 3) := dk_182 0 153 (dk_at dksX3_move_7 17 rfl rfl)
theorem dX3_move_184 : decode cX3_move 184 = .ok (.aload_n 0, 1) := dk_42 (dk_at dksX3_move_7 20 rfl rfl)
theorem dX3_move_185 : decode cX3_move 185 = .ok (.iload 8, 2) := dk_21 8 (dk_at dksX3_move_7 21 rfl rfl)
theorem dX3_move_187 : decode cX3_move 187 = .ok (.iconst 0, 1) := dk_3 (dk_at dksX3_move_7 23 rfl rfl)
theorem dX3_move_188 : decode cX3_move 188 = .ok (.iload_n 1, 1) := dk_27 (dk_at dksX3_move_8 0 rfl rfl)
theorem dX3_move_189 : decode cX3_move 189 = .ok (.invokevirtual 153, 3) := dk_182 0 153 (dk_at dksX3_move_8 1 rfl rfl)
theorem dX3_move_192 : decode cX3_move 192 = .ok (.iload 6, 2) := dk_21 6 (dk_at dksX3_move_8 4 rfl rfl)
theorem dX3_move_194 : decode cX3_move 194 = .ok (.ireturn, 1) := dk_172 (dk_at dksX3_move_8 6 rfl rfl)
abbrev cX3_holdsRoot : ByteArray := prog_11_method_16_code
def yX3_holdsRoot : MethodName := ⟨RX3, "holdsRoot", "(I)Z"⟩
def dkwX3_holdsRoot_2 : List UInt8 := [132, 3, 1, 167, 255, 211, 28, 172]
abbrev dktX3_holdsRoot_2 : List UInt8 := dkwX3_holdsRoot_2 ++ []
def dkwX3_holdsRoot_1 : List UInt8 := [159, 0, 17, 42, 42, 180, 0, 39, 29, 46, 27, 182, 0, 135, 153, 0, 7, 4, 167, 0, 4, 3, 61]
abbrev dktX3_holdsRoot_1 : List UInt8 := dkwX3_holdsRoot_1 ++ dktX3_holdsRoot_2
def dkwX3_holdsRoot_0 : List UInt8 := [3, 61, 3, 62, 29, 42, 180, 0, 132, 162, 0, 43, 28, 154, 0, 27, 42, 180, 0, 39, 29, 46, 27]
abbrev dktX3_holdsRoot_0 : List UInt8 := dkwX3_holdsRoot_0 ++ dktX3_holdsRoot_1
theorem dksX3_holdsRoot_0 : cX3_holdsRoot.data.toList.drop 0 = dktX3_holdsRoot_0 := by decide +kernel
theorem dksX3_holdsRoot_1 : cX3_holdsRoot.data.toList.drop 23 = dktX3_holdsRoot_1 := dk_seg dksX3_holdsRoot_0 23 rfl rfl
theorem dksX3_holdsRoot_2 : cX3_holdsRoot.data.toList.drop 46 = dktX3_holdsRoot_2 := dk_seg dksX3_holdsRoot_1 23 rfl rfl
theorem dX3_holdsRoot_0 : decode cX3_holdsRoot 0 = .ok (.iconst 0, 1) := dk_3 (dk_at dksX3_holdsRoot_0 0 rfl rfl)
theorem dX3_holdsRoot_1 : decode cX3_holdsRoot 1 = .ok (.istore_n 2, 1) := dk_61 (dk_at dksX3_holdsRoot_0 1 rfl rfl)
theorem dX3_holdsRoot_2 : decode cX3_holdsRoot 2 = .ok (.iconst 0, 1) := dk_3 (dk_at dksX3_holdsRoot_0 2 rfl rfl)
theorem dX3_holdsRoot_3 : decode cX3_holdsRoot 3 = .ok (.istore_n 3, 1) := dk_62 (dk_at dksX3_holdsRoot_0 3 rfl rfl)
theorem dX3_holdsRoot_4 : decode cX3_holdsRoot 4 = .ok (.iload_n 3, 1) := dk_29 (dk_at dksX3_holdsRoot_0 4 rfl rfl)
theorem dX3_holdsRoot_5 : decode cX3_holdsRoot 5 = .ok (.aload_n 0, 1) := dk_42 (dk_at dksX3_holdsRoot_0 5 rfl rfl)
theorem dX3_holdsRoot_6 : decode cX3_holdsRoot 6 = .ok (.getfield 132, 3) := dk_180 0 132 (dk_at dksX3_holdsRoot_0 6 rfl rfl)
theorem dX3_holdsRoot_9 : decode cX3_holdsRoot 9 = .ok (.if_icmp .ge 43, 3) := dk_162 0 43 (dk_at dksX3_holdsRoot_0 9 rfl rfl)
theorem dX3_holdsRoot_12 : decode cX3_holdsRoot 12 = .ok (.iload_n 2, 1) := dk_28 (dk_at dksX3_holdsRoot_0 12 rfl rfl)
theorem dX3_holdsRoot_13 : decode cX3_holdsRoot 13 = .ok (.ifCond .ne 27, 3) := dk_154 0 27 (dk_at dksX3_holdsRoot_0 13 rfl rfl)
theorem dX3_holdsRoot_16 : decode cX3_holdsRoot 16 = .ok (.aload_n 0, 1) := dk_42 (dk_at dksX3_holdsRoot_0 16 rfl rfl)
theorem dX3_holdsRoot_17 : decode cX3_holdsRoot 17 = .ok (.getfield 39, 3) := dk_180 0 39 (dk_at dksX3_holdsRoot_0 17 rfl rfl)
theorem dX3_holdsRoot_20 : decode cX3_holdsRoot 20 = .ok (.iload_n 3, 1) := dk_29 (dk_at dksX3_holdsRoot_0 20 rfl rfl)
theorem dX3_holdsRoot_21 : decode cX3_holdsRoot 21 = .ok (.iaload, 1) := dk_46 (dk_at dksX3_holdsRoot_0 21 rfl rfl)
theorem dX3_holdsRoot_22 : decode cX3_holdsRoot 22 = .ok (.iload_n 1, 1) := dk_27 (dk_at dksX3_holdsRoot_0 22 rfl rfl)
theorem dX3_holdsRoot_23 : decode cX3_holdsRoot 23 = .ok (.if_icmp .eq 17, 3) := dk_159 0 17 (dk_at dksX3_holdsRoot_1 0 rfl rfl)
theorem dX3_holdsRoot_26 : decode cX3_holdsRoot 26 = .ok (.aload_n 0, 1) := dk_42 (dk_at dksX3_holdsRoot_1 3 rfl rfl)
theorem dX3_holdsRoot_27 : decode cX3_holdsRoot 27 = .ok (.aload_n 0, 1) := dk_42 (dk_at dksX3_holdsRoot_1 4 rfl rfl)
theorem dX3_holdsRoot_28 : decode cX3_holdsRoot 28 = .ok (.getfield 39, 3) := dk_180 0 39 (dk_at dksX3_holdsRoot_1 5 rfl rfl)
theorem dX3_holdsRoot_31 : decode cX3_holdsRoot 31 = .ok (.iload_n 3, 1) := dk_29 (dk_at dksX3_holdsRoot_1 8 rfl rfl)
theorem dX3_holdsRoot_32 : decode cX3_holdsRoot 32 = .ok (.iaload, 1) := dk_46 (dk_at dksX3_holdsRoot_1 9 rfl rfl)
theorem dX3_holdsRoot_33 : decode cX3_holdsRoot 33 = .ok (.iload_n 1, 1) := dk_27 (dk_at dksX3_holdsRoot_1 10 rfl rfl)
theorem dX3_holdsRoot_34 : decode cX3_holdsRoot 34 = .ok (.invokevirtual 135, 3) := dk_182 0 135 (dk_at dksX3_holdsRoot_1 11 rfl rfl)
theorem dX3_holdsRoot_37 : decode cX3_holdsRoot 37 = .ok (.ifCond .eq 7, 3) := dk_153 0 7 (dk_at dksX3_holdsRoot_1 14 rfl rfl)
theorem dX3_holdsRoot_40 : decode cX3_holdsRoot 40 = .ok (.iconst 1, 1) := dk_4 (dk_at dksX3_holdsRoot_1 17 rfl rfl)
theorem dX3_holdsRoot_41 : decode cX3_holdsRoot 41 = .ok (.goto 4, 3) := dk_167 0 4 (dk_at dksX3_holdsRoot_1 18 rfl rfl)
theorem dX3_holdsRoot_44 : decode cX3_holdsRoot 44 = .ok (.iconst 0, 1) := dk_3 (dk_at dksX3_holdsRoot_1 21 rfl rfl)
theorem dX3_holdsRoot_45 : decode cX3_holdsRoot 45 = .ok (.istore_n 2, 1) := dk_61 (dk_at dksX3_holdsRoot_1 22 rfl rfl)
theorem dX3_holdsRoot_46 : decode cX3_holdsRoot 46 = .ok (.iinc 3 1, 3) := dk_132 3 1 (dk_at dksX3_holdsRoot_2 0 rfl rfl)
theorem dX3_holdsRoot_49 : decode cX3_holdsRoot 49 = .ok (.goto (-45), 3) := dk_167 255 211 (dk_at dksX3_holdsRoot_2 3 rfl rfl)
theorem dX3_holdsRoot_52 : decode cX3_holdsRoot 52 = .ok (.iload_n 2, 1) := dk_28 (dk_at dksX3_holdsRoot_2 6 rfl rfl)
theorem dX3_holdsRoot_53 : decode cX3_holdsRoot 53 = .ok (.ireturn, 1) := dk_172 (dk_at dksX3_holdsRoot_2 7 rfl rfl)
abbrev cX3_rootAt : ByteArray := prog_11_method_9_code
def yX3_rootAt : MethodName := ⟨RX3, "rootAt", "(I)I"⟩
def dkwX3_rootAt_1 : List UInt8 := [167, 0, 4, 28, 61, 132, 3, 1, 167, 255, 229, 28, 172]
abbrev dktX3_rootAt_1 : List UInt8 := dkwX3_rootAt_1 ++ []
def dkwX3_rootAt_0 : List UInt8 := [2, 61, 3, 62, 29, 42, 180, 0, 132, 162, 0, 25, 42, 180, 0, 39, 29, 46, 27, 160, 0, 7, 29]
abbrev dktX3_rootAt_0 : List UInt8 := dkwX3_rootAt_0 ++ dktX3_rootAt_1
theorem dksX3_rootAt_0 : cX3_rootAt.data.toList.drop 0 = dktX3_rootAt_0 := by decide +kernel
theorem dksX3_rootAt_1 : cX3_rootAt.data.toList.drop 23 = dktX3_rootAt_1 := dk_seg dksX3_rootAt_0 23 rfl rfl
theorem dX3_rootAt_0 : decode cX3_rootAt 0 = .ok (.iconst (-1), 1) := dk_2 (dk_at dksX3_rootAt_0 0 rfl rfl)
theorem dX3_rootAt_1 : decode cX3_rootAt 1 = .ok (.istore_n 2, 1) := dk_61 (dk_at dksX3_rootAt_0 1 rfl rfl)
theorem dX3_rootAt_2 : decode cX3_rootAt 2 = .ok (.iconst 0, 1) := dk_3 (dk_at dksX3_rootAt_0 2 rfl rfl)
theorem dX3_rootAt_3 : decode cX3_rootAt 3 = .ok (.istore_n 3, 1) := dk_62 (dk_at dksX3_rootAt_0 3 rfl rfl)
theorem dX3_rootAt_4 : decode cX3_rootAt 4 = .ok (.iload_n 3, 1) := dk_29 (dk_at dksX3_rootAt_0 4 rfl rfl)
theorem dX3_rootAt_5 : decode cX3_rootAt 5 = .ok (.aload_n 0, 1) := dk_42 (dk_at dksX3_rootAt_0 5 rfl rfl)
theorem dX3_rootAt_6 : decode cX3_rootAt 6 = .ok (.getfield 132, 3) := dk_180 0 132 (dk_at dksX3_rootAt_0 6 rfl rfl)
theorem dX3_rootAt_9 : decode cX3_rootAt 9 = .ok (.if_icmp .ge 25, 3) := dk_162 0 25 (dk_at dksX3_rootAt_0 9 rfl rfl)
theorem dX3_rootAt_12 : decode cX3_rootAt 12 = .ok (.aload_n 0, 1) := dk_42 (dk_at dksX3_rootAt_0 12 rfl rfl)
theorem dX3_rootAt_13 : decode cX3_rootAt 13 = .ok (.getfield 39, 3) := dk_180 0 39 (dk_at dksX3_rootAt_0 13 rfl rfl)
theorem dX3_rootAt_16 : decode cX3_rootAt 16 = .ok (.iload_n 3, 1) := dk_29 (dk_at dksX3_rootAt_0 16 rfl rfl)
theorem dX3_rootAt_17 : decode cX3_rootAt 17 = .ok (.iaload, 1) := dk_46 (dk_at dksX3_rootAt_0 17 rfl rfl)
theorem dX3_rootAt_18 : decode cX3_rootAt 18 = .ok (.iload_n 1, 1) := dk_27 (dk_at dksX3_rootAt_0 18 rfl rfl)
theorem dX3_rootAt_19 : decode cX3_rootAt 19 = .ok (.if_icmp .ne 7, 3) := dk_160 0 7 (dk_at dksX3_rootAt_0 19 rfl rfl)
theorem dX3_rootAt_22 : decode cX3_rootAt 22 = .ok (.iload_n 3, 1) := dk_29 (dk_at dksX3_rootAt_0 22 rfl rfl)
theorem dX3_rootAt_23 : decode cX3_rootAt 23 = .ok (.goto 4, 3) := dk_167 0 4 (dk_at dksX3_rootAt_1 0 rfl rfl)
theorem dX3_rootAt_26 : decode cX3_rootAt 26 = .ok (.iload_n 2, 1) := dk_28 (dk_at dksX3_rootAt_1 3 rfl rfl)
theorem dX3_rootAt_27 : decode cX3_rootAt 27 = .ok (.istore_n 2, 1) := dk_61 (dk_at dksX3_rootAt_1 4 rfl rfl)
theorem dX3_rootAt_28 : decode cX3_rootAt 28 = .ok (.iinc 3 1, 3) := dk_132 3 1 (dk_at dksX3_rootAt_1 5 rfl rfl)
theorem dX3_rootAt_31 : decode cX3_rootAt 31 = .ok (.goto (-27), 3) := dk_167 255 229 (dk_at dksX3_rootAt_1 8 rfl rfl)
theorem dX3_rootAt_34 : decode cX3_rootAt 34 = .ok (.iload_n 2, 1) := dk_28 (dk_at dksX3_rootAt_1 11 rfl rfl)
theorem dX3_rootAt_35 : decode cX3_rootAt 35 = .ok (.ireturn, 1) := dk_172 (dk_at dksX3_rootAt_1 12 rfl rfl)
abbrev cX3_remove : ByteArray := prog_11_method_18_code
def yX3_remove : MethodName := ⟨RX3, "remove", "(I)I"⟩
def dkwX3_remove_9 : List UInt8 := [28, 172]
abbrev dktX3_remove_9 : List UInt8 := dkwX3_remove_9 ++ []
def dkwX3_remove_8 : List UInt8 := [42, 21, 4, 182, 0, 166, 132, 4, 255, 167, 255, 227, 42, 180, 0, 132, 29, 162, 0, 7, 42, 182, 0, 170]
abbrev dktX3_remove_8 : List UInt8 := dkwX3_remove_8 ++ dktX3_remove_9
def dkwX3_remove_7 : List UInt8 := [4, 100, 54, 4, 21, 4, 155, 0, 30, 42, 180, 0, 7, 42, 180, 0, 39, 21, 4, 46, 51, 154, 0, 9]
abbrev dktX3_remove_7 : List UInt8 := dkwX3_remove_7 ++ dktX3_remove_8
def dkwX3_remove_6 : List UInt8 := [154, 0, 7, 4, 167, 0, 4, 3, 84, 132, 3, 1, 167, 255, 216, 42, 180, 0, 132, 62, 42, 180, 0, 132]
abbrev dktX3_remove_6 : List UInt8 := dkwX3_remove_6 ++ dktX3_remove_7
def dkwX3_remove_5 : List UInt8 := [162, 0, 38, 42, 180, 0, 7, 29, 42, 180, 0, 7, 29, 51, 153, 0, 16, 42, 180, 0, 112, 29, 51]
abbrev dktX3_remove_5 : List UInt8 := dkwX3_remove_5 ++ dktX3_remove_6
def dkwX3_remove_4 : List UInt8 := [51, 153, 0, 7, 4, 167, 0, 4, 3, 96, 61, 132, 3, 1, 167, 255, 194, 3, 62, 29, 42, 180, 0, 118]
abbrev dktX3_remove_4 : List UInt8 := dkwX3_remove_4 ++ dktX3_remove_5
def dkwX3_remove_3 : List UInt8 := [159, 0, 12, 42, 29, 27, 182, 0, 135, 153, 0, 7, 4, 167, 0, 4, 3, 84, 28, 42, 180, 0, 112, 29]
abbrev dktX3_remove_3 : List UInt8 := dkwX3_remove_3 ++ dktX3_remove_4
def dkwX3_remove_2 : List UInt8 := [42, 180, 0, 118, 162, 0, 60, 42, 180, 0, 112, 29, 42, 180, 0, 7, 29, 51, 153, 0, 21, 29, 27]
abbrev dktX3_remove_2 : List UInt8 := dkwX3_remove_2 ++ dktX3_remove_3
def dkwX3_remove_1 : List UInt8 := [180, 0, 121, 158, 0, 5, 3, 172, 42, 42, 27, 182, 0, 150, 5, 27, 182, 0, 153, 3, 61, 3, 62, 29]
abbrev dktX3_remove_1 : List UInt8 := dkwX3_remove_1 ++ dktX3_remove_2
def dkwX3_remove_0 : List UInt8 := [42, 42, 27, 182, 0, 128, 153, 0, 11, 27, 153, 0, 7, 3, 167, 0, 4, 4, 181, 0, 121, 42]
abbrev dktX3_remove_0 : List UInt8 := dkwX3_remove_0 ++ dktX3_remove_1
theorem dksX3_remove_0 : cX3_remove.data.toList.drop 0 = dktX3_remove_0 := by decide +kernel
theorem dksX3_remove_1 : cX3_remove.data.toList.drop 22 = dktX3_remove_1 := dk_seg dksX3_remove_0 22 rfl rfl
theorem dksX3_remove_2 : cX3_remove.data.toList.drop 46 = dktX3_remove_2 := dk_seg dksX3_remove_1 24 rfl rfl
theorem dksX3_remove_3 : cX3_remove.data.toList.drop 69 = dktX3_remove_3 := dk_seg dksX3_remove_2 23 rfl rfl
theorem dksX3_remove_4 : cX3_remove.data.toList.drop 93 = dktX3_remove_4 := dk_seg dksX3_remove_3 24 rfl rfl
theorem dksX3_remove_5 : cX3_remove.data.toList.drop 117 = dktX3_remove_5 := dk_seg dksX3_remove_4 24 rfl rfl
theorem dksX3_remove_6 : cX3_remove.data.toList.drop 140 = dktX3_remove_6 := dk_seg dksX3_remove_5 23 rfl rfl
theorem dksX3_remove_7 : cX3_remove.data.toList.drop 164 = dktX3_remove_7 := dk_seg dksX3_remove_6 24 rfl rfl
theorem dksX3_remove_8 : cX3_remove.data.toList.drop 188 = dktX3_remove_8 := dk_seg dksX3_remove_7 24 rfl rfl
theorem dksX3_remove_9 : cX3_remove.data.toList.drop 212 = dktX3_remove_9 := dk_seg dksX3_remove_8 24 rfl rfl
theorem dX3_remove_0 : decode cX3_remove 0 = .ok (.aload_n 0, 1) := dk_42 (dk_at dksX3_remove_0 0 rfl rfl)
theorem dX3_remove_1 : decode cX3_remove 1 = .ok (.aload_n 0, 1) := dk_42 (dk_at dksX3_remove_0 1 rfl rfl)
theorem dX3_remove_2 : decode cX3_remove 2 = .ok (.iload_n 1, 1) := dk_27 (dk_at dksX3_remove_0 2 rfl rfl)
theorem dX3_remove_3 : decode cX3_remove 3 = .ok (.invokevirtual 128, 3) := dk_182 0 128 (dk_at dksX3_remove_0 3 rfl rfl)
theorem dX3_remove_6 : decode cX3_remove 6 = .ok (.ifCond .eq 11, 3) := dk_153 0 11 (dk_at dksX3_remove_0 6 rfl rfl)
theorem dX3_remove_9 : decode cX3_remove 9 = .ok (.iload_n 1, 1) := dk_27 (dk_at dksX3_remove_0 9 rfl rfl)
theorem dX3_remove_10 : decode cX3_remove 10 = .ok (.ifCond .eq 7, 3) := dk_153 0 7 (dk_at dksX3_remove_0 10 rfl rfl)
theorem dX3_remove_13 : decode cX3_remove 13 = .ok (.iconst 0, 1) := dk_3 (dk_at dksX3_remove_0 13 rfl rfl)
theorem dX3_remove_14 : decode cX3_remove 14 = .ok (.goto 4, 3) := dk_167 0 4 (dk_at dksX3_remove_0 14 rfl rfl)
theorem dX3_remove_17 : decode cX3_remove 17 = .ok (.iconst 1, 1) := dk_4 (dk_at dksX3_remove_0 17 rfl rfl)
theorem dX3_remove_18 : decode cX3_remove 18 = .ok (.putfield 121, 3) := dk_181 0 121 (dk_at dksX3_remove_0 18 rfl rfl)
theorem dX3_remove_21 : decode cX3_remove 21 = .ok (.aload_n 0, 1) := dk_42 (dk_at dksX3_remove_0 21 rfl rfl)
theorem dX3_remove_22 : decode cX3_remove 22 = .ok (.getfield 121, 3) := dk_180 0 121 (dk_at dksX3_remove_1 0 rfl rfl)
theorem dX3_remove_25 : decode cX3_remove 25 = .ok (.ifCond .le 5, 3) := dk_158 0 5 (dk_at dksX3_remove_1 3 rfl rfl)
theorem dX3_remove_28 : decode cX3_remove 28 = .ok (.iconst 0, 1) := dk_3 (dk_at dksX3_remove_1 6 rfl rfl)
theorem dX3_remove_29 : decode cX3_remove 29 = .ok (.ireturn, 1) := dk_172 (dk_at dksX3_remove_1 7 rfl rfl)
theorem dX3_remove_30 : decode cX3_remove 30 = .ok (.aload_n 0, 1) := dk_42 (dk_at dksX3_remove_1 8 rfl rfl)
theorem dX3_remove_31 : decode cX3_remove 31 = .ok (.aload_n 0, 1) := dk_42 (dk_at dksX3_remove_1 9 rfl rfl)
theorem dX3_remove_32 : decode cX3_remove 32 = .ok (.iload_n 1, 1) := dk_27 (dk_at dksX3_remove_1 10 rfl rfl)
theorem dX3_remove_33 : decode cX3_remove 33 = .ok (.invokevirtual 150, 3) := dk_182 0 150 (dk_at dksX3_remove_1 11 rfl rfl)
theorem dX3_remove_36 : decode cX3_remove 36 = .ok (.iconst 2, 1) := dk_5 (dk_at dksX3_remove_1 14 rfl rfl)
theorem dX3_remove_37 : decode cX3_remove 37 = .ok (.iload_n 1, 1) := dk_27 (dk_at dksX3_remove_1 15 rfl rfl)
theorem dX3_remove_38 : decode cX3_remove 38 = .ok (.invokevirtual 153, 3) := dk_182 0 153 (dk_at dksX3_remove_1 16 rfl rfl)
theorem dX3_remove_41 : decode cX3_remove 41 = .ok (.iconst 0, 1) := dk_3 (dk_at dksX3_remove_1 19 rfl rfl)
theorem dX3_remove_42 : decode cX3_remove 42 = .ok (.istore_n 2, 1) := dk_61 (dk_at dksX3_remove_1 20 rfl rfl)
theorem dX3_remove_43 : decode cX3_remove 43 = .ok (.iconst 0, 1) := dk_3 (dk_at dksX3_remove_1 21 rfl rfl)
theorem dX3_remove_44 : decode cX3_remove 44 = .ok (.istore_n 3, 1) := dk_62 (dk_at dksX3_remove_1 22 rfl rfl)
theorem dX3_remove_45 : decode cX3_remove 45 = .ok (.iload_n 3, 1) := dk_29 (dk_at dksX3_remove_1 23 rfl rfl)
theorem dX3_remove_46 : decode cX3_remove 46 = .ok (.aload_n 0, 1) := dk_42 (dk_at dksX3_remove_2 0 rfl rfl)
theorem dX3_remove_47 : decode cX3_remove 47 = .ok (.getfield 118, 3) := dk_180 0 118 (dk_at dksX3_remove_2 1 rfl rfl)
theorem dX3_remove_50 : decode cX3_remove 50 = .ok (.if_icmp .ge 60, 3) := dk_162 0 60 (dk_at dksX3_remove_2 4 rfl rfl)
theorem dX3_remove_53 : decode cX3_remove 53 = .ok (.aload_n 0, 1) := dk_42 (dk_at dksX3_remove_2 7 rfl rfl)
theorem dX3_remove_54 : decode cX3_remove 54 = .ok (.getfield 112, 3) := dk_180 0 112 (dk_at dksX3_remove_2 8 rfl rfl)
theorem dX3_remove_57 : decode cX3_remove 57 = .ok (.iload_n 3, 1) := dk_29 (dk_at dksX3_remove_2 11 rfl rfl)
theorem dX3_remove_58 : decode cX3_remove 58 = .ok (.aload_n 0, 1) := dk_42 (dk_at dksX3_remove_2 12 rfl rfl)
theorem dX3_remove_59 : decode cX3_remove 59 = .ok (.getfield 7, 3) := dk_180 0 7 (dk_at dksX3_remove_2 13 rfl rfl)
theorem dX3_remove_62 : decode cX3_remove 62 = .ok (.iload_n 3, 1) := dk_29 (dk_at dksX3_remove_2 16 rfl rfl)
theorem dX3_remove_63 : decode cX3_remove 63 = .ok (.baload, 1) := dk_51 (dk_at dksX3_remove_2 17 rfl rfl)
theorem dX3_remove_64 : decode cX3_remove 64 = .ok (.ifCond .eq 21, 3) := dk_153 0 21 (dk_at dksX3_remove_2 18 rfl rfl)
theorem dX3_remove_67 : decode cX3_remove 67 = .ok (.iload_n 3, 1) := dk_29 (dk_at dksX3_remove_2 21 rfl rfl)
theorem dX3_remove_68 : decode cX3_remove 68 = .ok (.iload_n 1, 1) := dk_27 (dk_at dksX3_remove_2 22 rfl rfl)
theorem dX3_remove_69 : decode cX3_remove 69 = .ok (.if_icmp .eq 12, 3) := dk_159 0 12 (dk_at dksX3_remove_3 0 rfl rfl)
theorem dX3_remove_72 : decode cX3_remove 72 = .ok (.aload_n 0, 1) := dk_42 (dk_at dksX3_remove_3 3 rfl rfl)
theorem dX3_remove_73 : decode cX3_remove 73 = .ok (.iload_n 3, 1) := dk_29 (dk_at dksX3_remove_3 4 rfl rfl)
theorem dX3_remove_74 : decode cX3_remove 74 = .ok (.iload_n 1, 1) := dk_27 (dk_at dksX3_remove_3 5 rfl rfl)
theorem dX3_remove_75 : decode cX3_remove 75 = .ok (.invokevirtual 135, 3) := dk_182 0 135 (dk_at dksX3_remove_3 6 rfl rfl)
theorem dX3_remove_78 : decode cX3_remove 78 = .ok (.ifCond .eq 7, 3) := dk_153 0 7 (dk_at dksX3_remove_3 9 rfl rfl)
theorem dX3_remove_81 : decode cX3_remove 81 = .ok (.iconst 1, 1) := dk_4 (dk_at dksX3_remove_3 12 rfl rfl)
theorem dX3_remove_82 : decode cX3_remove 82 = .ok (.goto 4, 3) := dk_167 0 4 (dk_at dksX3_remove_3 13 rfl rfl)
theorem dX3_remove_85 : decode cX3_remove 85 = .ok (.iconst 0, 1) := dk_3 (dk_at dksX3_remove_3 16 rfl rfl)
theorem dX3_remove_86 : decode cX3_remove 86 = .ok (.bastore, 1) := dk_84 (dk_at dksX3_remove_3 17 rfl rfl)
theorem dX3_remove_87 : decode cX3_remove 87 = .ok (.iload_n 2, 1) := dk_28 (dk_at dksX3_remove_3 18 rfl rfl)
theorem dX3_remove_88 : decode cX3_remove 88 = .ok (.aload_n 0, 1) := dk_42 (dk_at dksX3_remove_3 19 rfl rfl)
theorem dX3_remove_89 : decode cX3_remove 89 = .ok (.getfield 112, 3) := dk_180 0 112 (dk_at dksX3_remove_3 20 rfl rfl)
theorem dX3_remove_92 : decode cX3_remove 92 = .ok (.iload_n 3, 1) := dk_29 (dk_at dksX3_remove_3 23 rfl rfl)
theorem dX3_remove_93 : decode cX3_remove 93 = .ok (.baload, 1) := dk_51 (dk_at dksX3_remove_4 0 rfl rfl)
theorem dX3_remove_94 : decode cX3_remove 94 = .ok (.ifCond .eq 7, 3) := dk_153 0 7 (dk_at dksX3_remove_4 1 rfl rfl)
theorem dX3_remove_97 : decode cX3_remove 97 = .ok (.iconst 1, 1) := dk_4 (dk_at dksX3_remove_4 4 rfl rfl)
theorem dX3_remove_98 : decode cX3_remove 98 = .ok (.goto 4, 3) := dk_167 0 4 (dk_at dksX3_remove_4 5 rfl rfl)
theorem dX3_remove_101 : decode cX3_remove 101 = .ok (.iconst 0, 1) := dk_3 (dk_at dksX3_remove_4 8 rfl rfl)
theorem dX3_remove_102 : decode cX3_remove 102 = .ok (.iadd, 1) := dk_96 (dk_at dksX3_remove_4 9 rfl rfl)
theorem dX3_remove_103 : decode cX3_remove 103 = .ok (.istore_n 2, 1) := dk_61 (dk_at dksX3_remove_4 10 rfl rfl)
theorem dX3_remove_104 : decode cX3_remove 104 = .ok (.iinc 3 1, 3) := dk_132 3 1 (dk_at dksX3_remove_4 11 rfl rfl)
theorem dX3_remove_107 : decode cX3_remove 107 = .ok (.goto (-62), 3) := dk_167 255 194 (dk_at dksX3_remove_4 14 rfl rfl)
theorem dX3_remove_110 : decode cX3_remove 110 = .ok (.iconst 0, 1) := dk_3 (dk_at dksX3_remove_4 17 rfl rfl)
theorem dX3_remove_111 : decode cX3_remove 111 = .ok (.istore_n 3, 1) := dk_62 (dk_at dksX3_remove_4 18 rfl rfl)
theorem dX3_remove_112 : decode cX3_remove 112 = .ok (.iload_n 3, 1) := dk_29 (dk_at dksX3_remove_4 19 rfl rfl)
theorem dX3_remove_113 : decode cX3_remove 113 = .ok (.aload_n 0, 1) := dk_42 (dk_at dksX3_remove_4 20 rfl rfl)
theorem dX3_remove_114 : decode cX3_remove 114 = .ok (.getfield 118, 3) := dk_180 0 118 (dk_at dksX3_remove_4 21 rfl rfl)
theorem dX3_remove_117 : decode cX3_remove 117 = .ok (.if_icmp .ge 38, 3) := dk_162 0 38 (dk_at dksX3_remove_5 0 rfl rfl)
theorem dX3_remove_120 : decode cX3_remove 120 = .ok (.aload_n 0, 1) := dk_42 (dk_at dksX3_remove_5 3 rfl rfl)
theorem dX3_remove_121 : decode cX3_remove 121 = .ok (.getfield 7, 3) := dk_180 0 7 (dk_at dksX3_remove_5 4 rfl rfl)
theorem dX3_remove_124 : decode cX3_remove 124 = .ok (.iload_n 3, 1) := dk_29 (dk_at dksX3_remove_5 7 rfl rfl)
theorem dX3_remove_125 : decode cX3_remove 125 = .ok (.aload_n 0, 1) := dk_42 (dk_at dksX3_remove_5 8 rfl rfl)
theorem dX3_remove_126 : decode cX3_remove 126 = .ok (.getfield 7, 3) := dk_180 0 7 (dk_at dksX3_remove_5 9 rfl rfl)
theorem dX3_remove_129 : decode cX3_remove 129 = .ok (.iload_n 3, 1) := dk_29 (dk_at dksX3_remove_5 12 rfl rfl)
theorem dX3_remove_130 : decode cX3_remove 130 = .ok (.baload, 1) := dk_51 (dk_at dksX3_remove_5 13 rfl rfl)
theorem dX3_remove_131 : decode cX3_remove 131 = .ok (.ifCond .eq 16, 3) := dk_153 0 16 (dk_at dksX3_remove_5 14 rfl rfl)
theorem dX3_remove_134 : decode cX3_remove 134 = .ok (.aload_n 0, 1) := dk_42 (dk_at dksX3_remove_5 17 rfl rfl)
theorem dX3_remove_135 : decode cX3_remove 135 = .ok (.getfield 112, 3) := dk_180 0 112 (dk_at dksX3_remove_5 18 rfl rfl)
theorem dX3_remove_138 : decode cX3_remove 138 = .ok (.iload_n 3, 1) := dk_29 (dk_at dksX3_remove_5 21 rfl rfl)
theorem dX3_remove_139 : decode cX3_remove 139 = .ok (.baload, 1) := dk_51 (dk_at dksX3_remove_5 22 rfl rfl)
theorem dX3_remove_140 : decode cX3_remove 140 = .ok (.ifCond .ne 7, 3) := dk_154 0 7 (dk_at dksX3_remove_6 0 rfl rfl)
theorem dX3_remove_143 : decode cX3_remove 143 = .ok (.iconst 1, 1) := dk_4 (dk_at dksX3_remove_6 3 rfl rfl)
theorem dX3_remove_144 : decode cX3_remove 144 = .ok (.goto 4, 3) := dk_167 0 4 (dk_at dksX3_remove_6 4 rfl rfl)
theorem dX3_remove_147 : decode cX3_remove 147 = .ok (.iconst 0, 1) := dk_3 (dk_at dksX3_remove_6 7 rfl rfl)
theorem dX3_remove_148 : decode cX3_remove 148 = .ok (.bastore, 1) := dk_84 (dk_at dksX3_remove_6 8 rfl rfl)
theorem dX3_remove_149 : decode cX3_remove 149 = .ok (.iinc 3 1, 3) := dk_132 3 1 (dk_at dksX3_remove_6 9 rfl rfl)
theorem dX3_remove_152 : decode cX3_remove 152 = .ok (.goto (-40), 3) := dk_167 255 216 (dk_at dksX3_remove_6 12 rfl rfl)
theorem dX3_remove_155 : decode cX3_remove 155 = .ok (.aload_n 0, 1) := dk_42 (dk_at dksX3_remove_6 15 rfl rfl)
theorem dX3_remove_156 : decode cX3_remove 156 = .ok (.getfield 132, 3) := dk_180 0 132 (dk_at dksX3_remove_6 16 rfl rfl)
theorem dX3_remove_159 : decode cX3_remove 159 = .ok (.istore_n 3, 1) := dk_62 (dk_at dksX3_remove_6 19 rfl rfl)
theorem dX3_remove_160 : decode cX3_remove 160 = .ok (.aload_n 0, 1) := dk_42 (dk_at dksX3_remove_6 20 rfl rfl)
theorem dX3_remove_161 : decode cX3_remove 161 = .ok (.getfield 132, 3) := dk_180 0 132 (dk_at dksX3_remove_6 21 rfl rfl)
theorem dX3_remove_164 : decode cX3_remove 164 = .ok (.iconst 1, 1) := dk_4 (dk_at dksX3_remove_7 0 rfl rfl)
theorem dX3_remove_165 : decode cX3_remove 165 = .ok (.isub, 1) := dk_100 (dk_at dksX3_remove_7 1 rfl rfl)
theorem dX3_remove_166 : decode cX3_remove 166 = .ok (.istore 4, 2) := dk_54 4 (dk_at dksX3_remove_7 2 rfl rfl)
theorem dX3_remove_168 : decode cX3_remove 168 = .ok (.iload 4, 2) := dk_21 4 (dk_at dksX3_remove_7 4 rfl rfl)
theorem dX3_remove_170 : decode cX3_remove 170 = .ok (.ifCond .lt 30, 3) := dk_155 0 30 (dk_at dksX3_remove_7 6 rfl rfl)
theorem dX3_remove_173 : decode cX3_remove 173 = .ok (.aload_n 0, 1) := dk_42 (dk_at dksX3_remove_7 9 rfl rfl)
theorem dX3_remove_174 : decode cX3_remove 174 = .ok (.getfield 7, 3) := dk_180 0 7 (dk_at dksX3_remove_7 10 rfl rfl)
theorem dX3_remove_177 : decode cX3_remove 177 = .ok (.aload_n 0, 1) := dk_42 (dk_at dksX3_remove_7 13 rfl rfl)
theorem dX3_remove_178 : decode cX3_remove 178 = .ok (.getfield 39, 3) := dk_180 0 39 (dk_at dksX3_remove_7 14 rfl rfl)
theorem dX3_remove_181 : decode cX3_remove 181 = .ok (.iload 4, 2) := dk_21 4 (dk_at dksX3_remove_7 17 rfl rfl)
theorem dX3_remove_183 : decode cX3_remove 183 = .ok (.iaload, 1) := dk_46 (dk_at dksX3_remove_7 19 rfl rfl)
theorem dX3_remove_184 : decode cX3_remove 184 = .ok (.baload, 1) := dk_51 (dk_at dksX3_remove_7 20 rfl rfl)
theorem dX3_remove_185 : decode cX3_remove 185 = .ok (.ifCond .ne 9, 3) := dk_154 0 9 (dk_at dksX3_remove_7 21 rfl rfl)
theorem dX3_remove_188 : decode cX3_remove 188 = .ok (.aload_n 0, 1) := dk_42 (dk_at dksX3_remove_8 0 rfl rfl)
theorem dX3_remove_189 : decode cX3_remove 189 = .ok (.iload 4, 2) := dk_21 4 (dk_at dksX3_remove_8 1 rfl rfl)
theorem dX3_remove_191 : decode cX3_remove 191 = .ok (.invokevirtual 166, 3) := dk_182 0 166 (dk_at dksX3_remove_8 3 rfl rfl)
theorem dX3_remove_194 : decode cX3_remove 194 = .ok (.iinc 4 (-1), 3) := dk_132 4 255 (dk_at dksX3_remove_8 6 rfl rfl)
theorem dX3_remove_197 : decode cX3_remove 197 = .ok (.goto (-29), 3) := dk_167 255 227 (dk_at dksX3_remove_8 9 rfl rfl)
theorem dX3_remove_200 : decode cX3_remove 200 = .ok (.aload_n 0, 1) := dk_42 (dk_at dksX3_remove_8 12 rfl rfl)
theorem dX3_remove_201 : decode cX3_remove 201 = .ok (.getfield 132, 3) := dk_180 0 132 (dk_at dksX3_remove_8 13 rfl rfl)
theorem dX3_remove_204 : decode cX3_remove 204 = .ok (.iload_n 3, 1) := dk_29 (dk_at dksX3_remove_8 16 rfl rfl)
theorem dX3_remove_205 : decode cX3_remove 205 = .ok (.if_icmp .ge 7, 3) := dk_162 0 7 (dk_at dksX3_remove_8 17 rfl rfl)
theorem dX3_remove_208 : decode cX3_remove 208 = .ok (.aload_n 0, 1) := dk_42 (dk_at dksX3_remove_8 20 rfl rfl)
theorem dX3_remove_209 : decode cX3_remove 209 = .ok (.invokevirtual 170, 3) := dk_182 0 170 (dk_at dksX3_remove_8 21 rfl rfl)
theorem dX3_remove_212 : decode cX3_remove 212 = .ok (.iload_n 2, 1) := dk_28 (dk_at dksX3_remove_9 0 rfl rfl)
theorem dX3_remove_213 : decode cX3_remove 213 = .ok (.ireturn, 1) := dk_172 (dk_at dksX3_remove_9 1 rfl rfl)
abbrev cX3_drops : ByteArray := prog_11_method_24_code
def yX3_drops : MethodName := ⟨RX3, "drops", "(I)V"⟩
def dkwX3_drops_9 : List UInt8 := [4, 96, 104, 29, 96, 51, 84, 132, 3, 1, 167, 255, 223, 132, 2, 1, 167, 255, 37, 177]
abbrev dktX3_drops_9 : List UInt8 := dkwX3_drops_9 ++ []
def dkwX3_drops_8 : List UInt8 := [62, 29, 16, 60, 162, 0, 33, 42, 180, 0, 63, 16, 60, 28, 104, 29, 96, 42, 180, 0, 63, 16, 60, 28]
abbrev dktX3_drops_8 : List UInt8 := dkwX3_drops_8 ++ dktX3_drops_9
def dkwX3_drops_7 : List UInt8 := [104, 29, 96, 42, 180, 0, 60, 16, 60, 28, 4, 96, 104, 29, 96, 46, 79, 132, 3, 1, 167, 255, 223, 3]
abbrev dktX3_drops_7 : List UInt8 := dkwX3_drops_7 ++ dktX3_drops_8
def dkwX3_drops_6 : List UInt8 := [96, 46, 79, 132, 3, 1, 167, 255, 199, 3, 62, 29, 16, 60, 162, 0, 33, 42, 180, 0, 60, 16, 60, 28]
abbrev dktX3_drops_6 : List UInt8 := dkwX3_drops_6 ++ dktX3_drops_7
def dkwX3_drops_5 : List UInt8 := [96, 46, 79, 42, 180, 0, 48, 16, 8, 28, 104, 29, 96, 42, 180, 0, 48, 16, 8, 28, 4, 96, 104, 29]
abbrev dktX3_drops_5 : List UInt8 := dkwX3_drops_5 ++ dktX3_drops_6
def dkwX3_drops_4 : List UInt8 := [162, 0, 57, 42, 180, 0, 45, 16, 8, 28, 104, 29, 96, 42, 180, 0, 45, 16, 8, 28, 4, 96, 104, 29]
abbrev dktX3_drops_4 : List UInt8 := dkwX3_drops_4 ++ dktX3_drops_5
def dkwX3_drops_3 : List UInt8 := [4, 96, 51, 84, 42, 180, 0, 57, 28, 42, 180, 0, 57, 28, 4, 96, 46, 79, 3, 62, 29, 16, 8]
abbrev dktX3_drops_3 : List UInt8 := dkwX3_drops_3 ++ dktX3_drops_4
def dkwX3_drops_2 : List UInt8 := [42, 180, 0, 51, 28, 42, 180, 0, 51, 28, 4, 96, 51, 84, 42, 180, 0, 54, 28, 42, 180, 0, 54, 28]
abbrev dktX3_drops_2 : List UInt8 := dkwX3_drops_2 ++ dktX3_drops_3
def dkwX3_drops_1 : List UInt8 := [28, 42, 180, 0, 39, 28, 4, 96, 46, 79, 42, 180, 0, 42, 28, 42, 180, 0, 42, 28, 4, 96, 46, 79]
abbrev dktX3_drops_1 : List UInt8 := dkwX3_drops_1 ++ dktX3_drops_2
def dkwX3_drops_0 : List UInt8 := [42, 89, 180, 0, 132, 4, 100, 181, 0, 132, 27, 61, 28, 42, 180, 0, 132, 162, 0, 217, 42, 180, 0, 39]
abbrev dktX3_drops_0 : List UInt8 := dkwX3_drops_0 ++ dktX3_drops_1
theorem dksX3_drops_0 : cX3_drops.data.toList.drop 0 = dktX3_drops_0 := by decide +kernel
theorem dksX3_drops_1 : cX3_drops.data.toList.drop 24 = dktX3_drops_1 := dk_seg dksX3_drops_0 24 rfl rfl
theorem dksX3_drops_2 : cX3_drops.data.toList.drop 48 = dktX3_drops_2 := dk_seg dksX3_drops_1 24 rfl rfl
theorem dksX3_drops_3 : cX3_drops.data.toList.drop 72 = dktX3_drops_3 := dk_seg dksX3_drops_2 24 rfl rfl
theorem dksX3_drops_4 : cX3_drops.data.toList.drop 95 = dktX3_drops_4 := dk_seg dksX3_drops_3 23 rfl rfl
theorem dksX3_drops_5 : cX3_drops.data.toList.drop 119 = dktX3_drops_5 := dk_seg dksX3_drops_4 24 rfl rfl
theorem dksX3_drops_6 : cX3_drops.data.toList.drop 143 = dktX3_drops_6 := dk_seg dksX3_drops_5 24 rfl rfl
theorem dksX3_drops_7 : cX3_drops.data.toList.drop 167 = dktX3_drops_7 := dk_seg dksX3_drops_6 24 rfl rfl
theorem dksX3_drops_8 : cX3_drops.data.toList.drop 191 = dktX3_drops_8 := dk_seg dksX3_drops_7 24 rfl rfl
theorem dksX3_drops_9 : cX3_drops.data.toList.drop 215 = dktX3_drops_9 := dk_seg dksX3_drops_8 24 rfl rfl
theorem dX3_drops_0 : decode cX3_drops 0 = .ok (.aload_n 0, 1) := dk_42 (dk_at dksX3_drops_0 0 rfl rfl)
theorem dX3_drops_1 : decode cX3_drops 1 = .ok (.dup, 1) := dk_89 (dk_at dksX3_drops_0 1 rfl rfl)
theorem dX3_drops_2 : decode cX3_drops 2 = .ok (.getfield 132, 3) := dk_180 0 132 (dk_at dksX3_drops_0 2 rfl rfl)
theorem dX3_drops_5 : decode cX3_drops 5 = .ok (.iconst 1, 1) := dk_4 (dk_at dksX3_drops_0 5 rfl rfl)
theorem dX3_drops_6 : decode cX3_drops 6 = .ok (.isub, 1) := dk_100 (dk_at dksX3_drops_0 6 rfl rfl)
theorem dX3_drops_7 : decode cX3_drops 7 = .ok (.putfield 132, 3) := dk_181 0 132 (dk_at dksX3_drops_0 7 rfl rfl)
theorem dX3_drops_10 : decode cX3_drops 10 = .ok (.iload_n 1, 1) := dk_27 (dk_at dksX3_drops_0 10 rfl rfl)
theorem dX3_drops_11 : decode cX3_drops 11 = .ok (.istore_n 2, 1) := dk_61 (dk_at dksX3_drops_0 11 rfl rfl)
theorem dX3_drops_12 : decode cX3_drops 12 = .ok (.iload_n 2, 1) := dk_28 (dk_at dksX3_drops_0 12 rfl rfl)
theorem dX3_drops_13 : decode cX3_drops 13 = .ok (.aload_n 0, 1) := dk_42 (dk_at dksX3_drops_0 13 rfl rfl)
theorem dX3_drops_14 : decode cX3_drops 14 = .ok (.getfield 132, 3) := dk_180 0 132 (dk_at dksX3_drops_0 14 rfl rfl)
theorem dX3_drops_17 : decode cX3_drops 17 = .ok (.if_icmp .ge 217, 3) := dk_162 0 217 (dk_at dksX3_drops_0 17 rfl rfl)
theorem dX3_drops_20 : decode cX3_drops 20 = .ok (.aload_n 0, 1) := dk_42 (dk_at dksX3_drops_0 20 rfl rfl)
theorem dX3_drops_21 : decode cX3_drops 21 = .ok (.getfield 39, 3) := dk_180 0 39 (dk_at dksX3_drops_0 21 rfl rfl)
theorem dX3_drops_24 : decode cX3_drops 24 = .ok (.iload_n 2, 1) := dk_28 (dk_at dksX3_drops_1 0 rfl rfl)
theorem dX3_drops_25 : decode cX3_drops 25 = .ok (.aload_n 0, 1) := dk_42 (dk_at dksX3_drops_1 1 rfl rfl)
theorem dX3_drops_26 : decode cX3_drops 26 = .ok (.getfield 39, 3) := dk_180 0 39 (dk_at dksX3_drops_1 2 rfl rfl)
theorem dX3_drops_29 : decode cX3_drops 29 = .ok (.iload_n 2, 1) := dk_28 (dk_at dksX3_drops_1 5 rfl rfl)
theorem dX3_drops_30 : decode cX3_drops 30 = .ok (.iconst 1, 1) := dk_4 (dk_at dksX3_drops_1 6 rfl rfl)
theorem dX3_drops_31 : decode cX3_drops 31 = .ok (.iadd, 1) := dk_96 (dk_at dksX3_drops_1 7 rfl rfl)
theorem dX3_drops_32 : decode cX3_drops 32 = .ok (.iaload, 1) := dk_46 (dk_at dksX3_drops_1 8 rfl rfl)
theorem dX3_drops_33 : decode cX3_drops 33 = .ok (.iastore, 1) := dk_79 (dk_at dksX3_drops_1 9 rfl rfl)
theorem dX3_drops_34 : decode cX3_drops 34 = .ok (.aload_n 0, 1) := dk_42 (dk_at dksX3_drops_1 10 rfl rfl)
theorem dX3_drops_35 : decode cX3_drops 35 = .ok (.getfield 42, 3) := dk_180 0 42 (dk_at dksX3_drops_1 11 rfl rfl)
theorem dX3_drops_38 : decode cX3_drops 38 = .ok (.iload_n 2, 1) := dk_28 (dk_at dksX3_drops_1 14 rfl rfl)
theorem dX3_drops_39 : decode cX3_drops 39 = .ok (.aload_n 0, 1) := dk_42 (dk_at dksX3_drops_1 15 rfl rfl)
theorem dX3_drops_40 : decode cX3_drops 40 = .ok (.getfield 42, 3) := dk_180 0 42 (dk_at dksX3_drops_1 16 rfl rfl)
theorem dX3_drops_43 : decode cX3_drops 43 = .ok (.iload_n 2, 1) := dk_28 (dk_at dksX3_drops_1 19 rfl rfl)
theorem dX3_drops_44 : decode cX3_drops 44 = .ok (.iconst 1, 1) := dk_4 (dk_at dksX3_drops_1 20 rfl rfl)
theorem dX3_drops_45 : decode cX3_drops 45 = .ok (.iadd, 1) := dk_96 (dk_at dksX3_drops_1 21 rfl rfl)
theorem dX3_drops_46 : decode cX3_drops 46 = .ok (.iaload, 1) := dk_46 (dk_at dksX3_drops_1 22 rfl rfl)
theorem dX3_drops_47 : decode cX3_drops 47 = .ok (.iastore, 1) := dk_79 (dk_at dksX3_drops_1 23 rfl rfl)
theorem dX3_drops_48 : decode cX3_drops 48 = .ok (.aload_n 0, 1) := dk_42 (dk_at dksX3_drops_2 0 rfl rfl)
theorem dX3_drops_49 : decode cX3_drops 49 = .ok (.getfield 51, 3) := dk_180 0 51 (dk_at dksX3_drops_2 1 rfl rfl)
theorem dX3_drops_52 : decode cX3_drops 52 = .ok (.iload_n 2, 1) := dk_28 (dk_at dksX3_drops_2 4 rfl rfl)
theorem dX3_drops_53 : decode cX3_drops 53 = .ok (.aload_n 0, 1) := dk_42 (dk_at dksX3_drops_2 5 rfl rfl)
theorem dX3_drops_54 : decode cX3_drops 54 = .ok (.getfield 51, 3) := dk_180 0 51 (dk_at dksX3_drops_2 6 rfl rfl)
theorem dX3_drops_57 : decode cX3_drops 57 = .ok (.iload_n 2, 1) := dk_28 (dk_at dksX3_drops_2 9 rfl rfl)
theorem dX3_drops_58 : decode cX3_drops 58 = .ok (.iconst 1, 1) := dk_4 (dk_at dksX3_drops_2 10 rfl rfl)
theorem dX3_drops_59 : decode cX3_drops 59 = .ok (.iadd, 1) := dk_96 (dk_at dksX3_drops_2 11 rfl rfl)
theorem dX3_drops_60 : decode cX3_drops 60 = .ok (.baload, 1) := dk_51 (dk_at dksX3_drops_2 12 rfl rfl)
theorem dX3_drops_61 : decode cX3_drops 61 = .ok (.bastore, 1) := dk_84 (dk_at dksX3_drops_2 13 rfl rfl)
theorem dX3_drops_62 : decode cX3_drops 62 = .ok (.aload_n 0, 1) := dk_42 (dk_at dksX3_drops_2 14 rfl rfl)
theorem dX3_drops_63 : decode cX3_drops 63 = .ok (.getfield 54, 3) := dk_180 0 54 (dk_at dksX3_drops_2 15 rfl rfl)
theorem dX3_drops_66 : decode cX3_drops 66 = .ok (.iload_n 2, 1) := dk_28 (dk_at dksX3_drops_2 18 rfl rfl)
theorem dX3_drops_67 : decode cX3_drops 67 = .ok (.aload_n 0, 1) := dk_42 (dk_at dksX3_drops_2 19 rfl rfl)
theorem dX3_drops_68 : decode cX3_drops 68 = .ok (.getfield 54, 3) := dk_180 0 54 (dk_at dksX3_drops_2 20 rfl rfl)
theorem dX3_drops_71 : decode cX3_drops 71 = .ok (.iload_n 2, 1) := dk_28 (dk_at dksX3_drops_2 23 rfl rfl)
theorem dX3_drops_72 : decode cX3_drops 72 = .ok (.iconst 1, 1) := dk_4 (dk_at dksX3_drops_3 0 rfl rfl)
theorem dX3_drops_73 : decode cX3_drops 73 = .ok (.iadd, 1) := dk_96 (dk_at dksX3_drops_3 1 rfl rfl)
theorem dX3_drops_74 : decode cX3_drops 74 = .ok (.baload, 1) := dk_51 (dk_at dksX3_drops_3 2 rfl rfl)
theorem dX3_drops_75 : decode cX3_drops 75 = .ok (.bastore, 1) := dk_84 (dk_at dksX3_drops_3 3 rfl rfl)
theorem dX3_drops_76 : decode cX3_drops 76 = .ok (.aload_n 0, 1) := dk_42 (dk_at dksX3_drops_3 4 rfl rfl)
theorem dX3_drops_77 : decode cX3_drops 77 = .ok (.getfield 57, 3) := dk_180 0 57 (dk_at dksX3_drops_3 5 rfl rfl)
theorem dX3_drops_80 : decode cX3_drops 80 = .ok (.iload_n 2, 1) := dk_28 (dk_at dksX3_drops_3 8 rfl rfl)
theorem dX3_drops_81 : decode cX3_drops 81 = .ok (.aload_n 0, 1) := dk_42 (dk_at dksX3_drops_3 9 rfl rfl)
theorem dX3_drops_82 : decode cX3_drops 82 = .ok (.getfield 57, 3) := dk_180 0 57 (dk_at dksX3_drops_3 10 rfl rfl)
theorem dX3_drops_85 : decode cX3_drops 85 = .ok (.iload_n 2, 1) := dk_28 (dk_at dksX3_drops_3 13 rfl rfl)
theorem dX3_drops_86 : decode cX3_drops 86 = .ok (.iconst 1, 1) := dk_4 (dk_at dksX3_drops_3 14 rfl rfl)
theorem dX3_drops_87 : decode cX3_drops 87 = .ok (.iadd, 1) := dk_96 (dk_at dksX3_drops_3 15 rfl rfl)
theorem dX3_drops_88 : decode cX3_drops 88 = .ok (.iaload, 1) := dk_46 (dk_at dksX3_drops_3 16 rfl rfl)
theorem dX3_drops_89 : decode cX3_drops 89 = .ok (.iastore, 1) := dk_79 (dk_at dksX3_drops_3 17 rfl rfl)
theorem dX3_drops_90 : decode cX3_drops 90 = .ok (.iconst 0, 1) := dk_3 (dk_at dksX3_drops_3 18 rfl rfl)
theorem dX3_drops_91 : decode cX3_drops 91 = .ok (.istore_n 3, 1) := dk_62 (dk_at dksX3_drops_3 19 rfl rfl)
theorem dX3_drops_92 : decode cX3_drops 92 = .ok (.iload_n 3, 1) := dk_29 (dk_at dksX3_drops_3 20 rfl rfl)
theorem dX3_drops_93 : decode cX3_drops 93 = .ok (.bipush 8, 2) := dk_16 8 (dk_at dksX3_drops_3 21 rfl rfl)
theorem dX3_drops_95 : decode cX3_drops 95 = .ok (.if_icmp .ge 57, 3) := dk_162 0 57 (dk_at dksX3_drops_4 0 rfl rfl)
theorem dX3_drops_98 : decode cX3_drops 98 = .ok (.aload_n 0, 1) := dk_42 (dk_at dksX3_drops_4 3 rfl rfl)
theorem dX3_drops_99 : decode cX3_drops 99 = .ok (.getfield 45, 3) := dk_180 0 45 (dk_at dksX3_drops_4 4 rfl rfl)
theorem dX3_drops_102 : decode cX3_drops 102 = .ok (.bipush 8, 2) := dk_16 8 (dk_at dksX3_drops_4 7 rfl rfl)
theorem dX3_drops_104 : decode cX3_drops 104 = .ok (.iload_n 2, 1) := dk_28 (dk_at dksX3_drops_4 9 rfl rfl)
theorem dX3_drops_105 : decode cX3_drops 105 = .ok (.imul, 1) := dk_104 (dk_at dksX3_drops_4 10 rfl rfl)
theorem dX3_drops_106 : decode cX3_drops 106 = .ok (.iload_n 3, 1) := dk_29 (dk_at dksX3_drops_4 11 rfl rfl)
theorem dX3_drops_107 : decode cX3_drops 107 = .ok (.iadd, 1) := dk_96 (dk_at dksX3_drops_4 12 rfl rfl)
theorem dX3_drops_108 : decode cX3_drops 108 = .ok (.aload_n 0, 1) := dk_42 (dk_at dksX3_drops_4 13 rfl rfl)
theorem dX3_drops_109 : decode cX3_drops 109 = .ok (.getfield 45, 3) := dk_180 0 45 (dk_at dksX3_drops_4 14 rfl rfl)
theorem dX3_drops_112 : decode cX3_drops 112 = .ok (.bipush 8, 2) := dk_16 8 (dk_at dksX3_drops_4 17 rfl rfl)
theorem dX3_drops_114 : decode cX3_drops 114 = .ok (.iload_n 2, 1) := dk_28 (dk_at dksX3_drops_4 19 rfl rfl)
theorem dX3_drops_115 : decode cX3_drops 115 = .ok (.iconst 1, 1) := dk_4 (dk_at dksX3_drops_4 20 rfl rfl)
theorem dX3_drops_116 : decode cX3_drops 116 = .ok (.iadd, 1) := dk_96 (dk_at dksX3_drops_4 21 rfl rfl)
theorem dX3_drops_117 : decode cX3_drops 117 = .ok (.imul, 1) := dk_104 (dk_at dksX3_drops_4 22 rfl rfl)
theorem dX3_drops_118 : decode cX3_drops 118 = .ok (.iload_n 3, 1) := dk_29 (dk_at dksX3_drops_4 23 rfl rfl)
theorem dX3_drops_119 : decode cX3_drops 119 = .ok (.iadd, 1) := dk_96 (dk_at dksX3_drops_5 0 rfl rfl)
theorem dX3_drops_120 : decode cX3_drops 120 = .ok (.iaload, 1) := dk_46 (dk_at dksX3_drops_5 1 rfl rfl)
theorem dX3_drops_121 : decode cX3_drops 121 = .ok (.iastore, 1) := dk_79 (dk_at dksX3_drops_5 2 rfl rfl)
theorem dX3_drops_122 : decode cX3_drops 122 = .ok (.aload_n 0, 1) := dk_42 (dk_at dksX3_drops_5 3 rfl rfl)
theorem dX3_drops_123 : decode cX3_drops 123 = .ok (.getfield 48, 3) := dk_180 0 48 (dk_at dksX3_drops_5 4 rfl rfl)
theorem dX3_drops_126 : decode cX3_drops 126 = .ok (.bipush 8, 2) := dk_16 8 (dk_at dksX3_drops_5 7 rfl rfl)
theorem dX3_drops_128 : decode cX3_drops 128 = .ok (.iload_n 2, 1) := dk_28 (dk_at dksX3_drops_5 9 rfl rfl)
theorem dX3_drops_129 : decode cX3_drops 129 = .ok (.imul, 1) := dk_104 (dk_at dksX3_drops_5 10 rfl rfl)
theorem dX3_drops_130 : decode cX3_drops 130 = .ok (.iload_n 3, 1) := dk_29 (dk_at dksX3_drops_5 11 rfl rfl)
theorem dX3_drops_131 : decode cX3_drops 131 = .ok (.iadd, 1) := dk_96 (dk_at dksX3_drops_5 12 rfl rfl)
theorem dX3_drops_132 : decode cX3_drops 132 = .ok (.aload_n 0, 1) := dk_42 (dk_at dksX3_drops_5 13 rfl rfl)
theorem dX3_drops_133 : decode cX3_drops 133 = .ok (.getfield 48, 3) := dk_180 0 48 (dk_at dksX3_drops_5 14 rfl rfl)
theorem dX3_drops_136 : decode cX3_drops 136 = .ok (.bipush 8, 2) := dk_16 8 (dk_at dksX3_drops_5 17 rfl rfl)
theorem dX3_drops_138 : decode cX3_drops 138 = .ok (.iload_n 2, 1) := dk_28 (dk_at dksX3_drops_5 19 rfl rfl)
theorem dX3_drops_139 : decode cX3_drops 139 = .ok (.iconst 1, 1) := dk_4 (dk_at dksX3_drops_5 20 rfl rfl)
theorem dX3_drops_140 : decode cX3_drops 140 = .ok (.iadd, 1) := dk_96 (dk_at dksX3_drops_5 21 rfl rfl)
theorem dX3_drops_141 : decode cX3_drops 141 = .ok (.imul, 1) := dk_104 (dk_at dksX3_drops_5 22 rfl rfl)
theorem dX3_drops_142 : decode cX3_drops 142 = .ok (.iload_n 3, 1) := dk_29 (dk_at dksX3_drops_5 23 rfl rfl)
theorem dX3_drops_143 : decode cX3_drops 143 = .ok (.iadd, 1) := dk_96 (dk_at dksX3_drops_6 0 rfl rfl)
theorem dX3_drops_144 : decode cX3_drops 144 = .ok (.iaload, 1) := dk_46 (dk_at dksX3_drops_6 1 rfl rfl)
theorem dX3_drops_145 : decode cX3_drops 145 = .ok (.iastore, 1) := dk_79 (dk_at dksX3_drops_6 2 rfl rfl)
theorem dX3_drops_146 : decode cX3_drops 146 = .ok (.iinc 3 1, 3) := dk_132 3 1 (dk_at dksX3_drops_6 3 rfl rfl)
theorem dX3_drops_149 : decode cX3_drops 149 = .ok (.goto (-57), 3) := dk_167 255 199 (dk_at dksX3_drops_6 6 rfl rfl)
theorem dX3_drops_152 : decode cX3_drops 152 = .ok (.iconst 0, 1) := dk_3 (dk_at dksX3_drops_6 9 rfl rfl)
theorem dX3_drops_153 : decode cX3_drops 153 = .ok (.istore_n 3, 1) := dk_62 (dk_at dksX3_drops_6 10 rfl rfl)
theorem dX3_drops_154 : decode cX3_drops 154 = .ok (.iload_n 3, 1) := dk_29 (dk_at dksX3_drops_6 11 rfl rfl)
theorem dX3_drops_155 : decode cX3_drops 155 = .ok (.bipush 60, 2) := dk_16 60 (dk_at dksX3_drops_6 12 rfl rfl)
theorem dX3_drops_157 : decode cX3_drops 157 = .ok (.if_icmp .ge 33, 3) := dk_162 0 33 (dk_at dksX3_drops_6 14 rfl rfl)
theorem dX3_drops_160 : decode cX3_drops 160 = .ok (.aload_n 0, 1) := dk_42 (dk_at dksX3_drops_6 17 rfl rfl)
theorem dX3_drops_161 : decode cX3_drops 161 = .ok (.getfield 60, 3) := dk_180 0 60 (dk_at dksX3_drops_6 18 rfl rfl)
theorem dX3_drops_164 : decode cX3_drops 164 = .ok (.bipush 60, 2) := dk_16 60 (dk_at dksX3_drops_6 21 rfl rfl)
theorem dX3_drops_166 : decode cX3_drops 166 = .ok (.iload_n 2, 1) := dk_28 (dk_at dksX3_drops_6 23 rfl rfl)
theorem dX3_drops_167 : decode cX3_drops 167 = .ok (.imul, 1) := dk_104 (dk_at dksX3_drops_7 0 rfl rfl)
theorem dX3_drops_168 : decode cX3_drops 168 = .ok (.iload_n 3, 1) := dk_29 (dk_at dksX3_drops_7 1 rfl rfl)
theorem dX3_drops_169 : decode cX3_drops 169 = .ok (.iadd, 1) := dk_96 (dk_at dksX3_drops_7 2 rfl rfl)
theorem dX3_drops_170 : decode cX3_drops 170 = .ok (.aload_n 0, 1) := dk_42 (dk_at dksX3_drops_7 3 rfl rfl)
theorem dX3_drops_171 : decode cX3_drops 171 = .ok (.getfield 60, 3) := dk_180 0 60 (dk_at dksX3_drops_7 4 rfl rfl)
theorem dX3_drops_174 : decode cX3_drops 174 = .ok (.bipush 60, 2) := dk_16 60 (dk_at dksX3_drops_7 7 rfl rfl)
theorem dX3_drops_176 : decode cX3_drops 176 = .ok (.iload_n 2, 1) := dk_28 (dk_at dksX3_drops_7 9 rfl rfl)
theorem dX3_drops_177 : decode cX3_drops 177 = .ok (.iconst 1, 1) := dk_4 (dk_at dksX3_drops_7 10 rfl rfl)
theorem dX3_drops_178 : decode cX3_drops 178 = .ok (.iadd, 1) := dk_96 (dk_at dksX3_drops_7 11 rfl rfl)
theorem dX3_drops_179 : decode cX3_drops 179 = .ok (.imul, 1) := dk_104 (dk_at dksX3_drops_7 12 rfl rfl)
theorem dX3_drops_180 : decode cX3_drops 180 = .ok (.iload_n 3, 1) := dk_29 (dk_at dksX3_drops_7 13 rfl rfl)
theorem dX3_drops_181 : decode cX3_drops 181 = .ok (.iadd, 1) := dk_96 (dk_at dksX3_drops_7 14 rfl rfl)
theorem dX3_drops_182 : decode cX3_drops 182 = .ok (.iaload, 1) := dk_46 (dk_at dksX3_drops_7 15 rfl rfl)
theorem dX3_drops_183 : decode cX3_drops 183 = .ok (.iastore, 1) := dk_79 (dk_at dksX3_drops_7 16 rfl rfl)
theorem dX3_drops_184 : decode cX3_drops 184 = .ok (.iinc 3 1, 3) := dk_132 3 1 (dk_at dksX3_drops_7 17 rfl rfl)
theorem dX3_drops_187 : decode cX3_drops 187 = .ok (.goto (-33), 3) := dk_167 255 223 (dk_at dksX3_drops_7 20 rfl rfl)
theorem dX3_drops_190 : decode cX3_drops 190 = .ok (.iconst 0, 1) := dk_3 (dk_at dksX3_drops_7 23 rfl rfl)
theorem dX3_drops_191 : decode cX3_drops 191 = .ok (.istore_n 3, 1) := dk_62 (dk_at dksX3_drops_8 0 rfl rfl)
theorem dX3_drops_192 : decode cX3_drops 192 = .ok (.iload_n 3, 1) := dk_29 (dk_at dksX3_drops_8 1 rfl rfl)
theorem dX3_drops_193 : decode cX3_drops 193 = .ok (.bipush 60, 2) := dk_16 60 (dk_at dksX3_drops_8 2 rfl rfl)
theorem dX3_drops_195 : decode cX3_drops 195 = .ok (.if_icmp .ge 33, 3) := dk_162 0 33 (dk_at dksX3_drops_8 4 rfl rfl)
theorem dX3_drops_198 : decode cX3_drops 198 = .ok (.aload_n 0, 1) := dk_42 (dk_at dksX3_drops_8 7 rfl rfl)
theorem dX3_drops_199 : decode cX3_drops 199 = .ok (.getfield 63, 3) := dk_180 0 63 (dk_at dksX3_drops_8 8 rfl rfl)
theorem dX3_drops_202 : decode cX3_drops 202 = .ok (.bipush 60, 2) := dk_16 60 (dk_at dksX3_drops_8 11 rfl rfl)
theorem dX3_drops_204 : decode cX3_drops 204 = .ok (.iload_n 2, 1) := dk_28 (dk_at dksX3_drops_8 13 rfl rfl)
theorem dX3_drops_205 : decode cX3_drops 205 = .ok (.imul, 1) := dk_104 (dk_at dksX3_drops_8 14 rfl rfl)
theorem dX3_drops_206 : decode cX3_drops 206 = .ok (.iload_n 3, 1) := dk_29 (dk_at dksX3_drops_8 15 rfl rfl)
theorem dX3_drops_207 : decode cX3_drops 207 = .ok (.iadd, 1) := dk_96 (dk_at dksX3_drops_8 16 rfl rfl)
theorem dX3_drops_208 : decode cX3_drops 208 = .ok (.aload_n 0, 1) := dk_42 (dk_at dksX3_drops_8 17 rfl rfl)
theorem dX3_drops_209 : decode cX3_drops 209 = .ok (.getfield 63, 3) := dk_180 0 63 (dk_at dksX3_drops_8 18 rfl rfl)
theorem dX3_drops_212 : decode cX3_drops 212 = .ok (.bipush 60, 2) := dk_16 60 (dk_at dksX3_drops_8 21 rfl rfl)
theorem dX3_drops_214 : decode cX3_drops 214 = .ok (.iload_n 2, 1) := dk_28 (dk_at dksX3_drops_8 23 rfl rfl)
theorem dX3_drops_215 : decode cX3_drops 215 = .ok (.iconst 1, 1) := dk_4 (dk_at dksX3_drops_9 0 rfl rfl)
theorem dX3_drops_216 : decode cX3_drops 216 = .ok (.iadd, 1) := dk_96 (dk_at dksX3_drops_9 1 rfl rfl)
theorem dX3_drops_217 : decode cX3_drops 217 = .ok (.imul, 1) := dk_104 (dk_at dksX3_drops_9 2 rfl rfl)
theorem dX3_drops_218 : decode cX3_drops 218 = .ok (.iload_n 3, 1) := dk_29 (dk_at dksX3_drops_9 3 rfl rfl)
theorem dX3_drops_219 : decode cX3_drops 219 = .ok (.iadd, 1) := dk_96 (dk_at dksX3_drops_9 4 rfl rfl)
theorem dX3_drops_220 : decode cX3_drops 220 = .ok (.baload, 1) := dk_51 (dk_at dksX3_drops_9 5 rfl rfl)
theorem dX3_drops_221 : decode cX3_drops 221 = .ok (.bastore, 1) := dk_84 (dk_at dksX3_drops_9 6 rfl rfl)
theorem dX3_drops_222 : decode cX3_drops 222 = .ok (.iinc 3 1, 3) := dk_132 3 1 (dk_at dksX3_drops_9 7 rfl rfl)
theorem dX3_drops_225 : decode cX3_drops 225 = .ok (.goto (-33), 3) := dk_167 255 223 (dk_at dksX3_drops_9 10 rfl rfl)
theorem dX3_drops_228 : decode cX3_drops 228 = .ok (.iinc 2 1, 3) := dk_132 2 1 (dk_at dksX3_drops_9 13 rfl rfl)
theorem dX3_drops_231 : decode cX3_drops 231 = .ok (.goto (-219), 3) := dk_167 255 37 (dk_at dksX3_drops_9 16 rfl rfl)
theorem dX3_drops_234 : decode cX3_drops 234 = .ok (.return_, 1) := dk_177 (dk_at dksX3_drops_9 19 rfl rfl)
abbrev cX3_looksAtLost : ByteArray := prog_11_method_25_code
def yX3_looksAtLost : MethodName := ⟨RX3, "looksAtLost", "()V"⟩
def dkwX3_looksAtLost_1 : List UInt8 := [182, 0, 176, 132, 1, 1, 167, 255, 230, 177]
abbrev dktX3_looksAtLost_1 : List UInt8 := dkwX3_looksAtLost_1 ++ []
def dkwX3_looksAtLost_0 : List UInt8 := [3, 60, 27, 42, 180, 0, 118, 162, 0, 24, 42, 180, 0, 66, 27, 51, 153, 0, 9, 42, 27, 4]
abbrev dktX3_looksAtLost_0 : List UInt8 := dkwX3_looksAtLost_0 ++ dktX3_looksAtLost_1
theorem dksX3_looksAtLost_0 : cX3_looksAtLost.data.toList.drop 0 = dktX3_looksAtLost_0 := by decide +kernel
theorem dksX3_looksAtLost_1 : cX3_looksAtLost.data.toList.drop 22 = dktX3_looksAtLost_1 := dk_seg dksX3_looksAtLost_0 22 rfl rfl
theorem dX3_looksAtLost_0 : decode cX3_looksAtLost 0 = .ok (.iconst 0, 1) := dk_3 (dk_at dksX3_looksAtLost_0 0 rfl rfl)
theorem dX3_looksAtLost_1 : decode cX3_looksAtLost 1 = .ok (.istore_n 1, 1) := dk_60 (dk_at dksX3_looksAtLost_0 1 rfl rfl)
theorem dX3_looksAtLost_2 : decode cX3_looksAtLost 2 = .ok (.iload_n 1, 1) := dk_27 (dk_at dksX3_looksAtLost_0 2 rfl rfl)
theorem dX3_looksAtLost_3 : decode cX3_looksAtLost 3 = .ok (.aload_n 0, 1) := dk_42 (dk_at dksX3_looksAtLost_0 3 rfl rfl)
theorem dX3_looksAtLost_4 : decode cX3_looksAtLost 4 = .ok (.getfield 118, 3) := dk_180 0 118 (dk_at dksX3_looksAtLost_0 4 rfl rfl)
theorem dX3_looksAtLost_7 : decode cX3_looksAtLost 7 = .ok (.if_icmp .ge 24, 3) := dk_162 0 24 (dk_at dksX3_looksAtLost_0 7 rfl rfl)
theorem dX3_looksAtLost_10 : decode cX3_looksAtLost 10 = .ok (.aload_n 0, 1) := dk_42 (dk_at dksX3_looksAtLost_0 10 rfl rfl)
theorem dX3_looksAtLost_11 : decode cX3_looksAtLost 11 = .ok (.getfield 66, 3) := dk_180 0 66 (dk_at dksX3_looksAtLost_0 11 rfl rfl)
theorem dX3_looksAtLost_14 : decode cX3_looksAtLost 14 = .ok (.iload_n 1, 1) := dk_27 (dk_at dksX3_looksAtLost_0 14 rfl rfl)
theorem dX3_looksAtLost_15 : decode cX3_looksAtLost 15 = .ok (.baload, 1) := dk_51 (dk_at dksX3_looksAtLost_0 15 rfl rfl)
theorem dX3_looksAtLost_16 : decode cX3_looksAtLost 16 = .ok (.ifCond .eq 9, 3) := dk_153 0 9 (dk_at dksX3_looksAtLost_0 16 rfl rfl)
theorem dX3_looksAtLost_19 : decode cX3_looksAtLost 19 = .ok (.aload_n 0, 1) := dk_42 (dk_at dksX3_looksAtLost_0 19 rfl rfl)
theorem dX3_looksAtLost_20 : decode cX3_looksAtLost 20 = .ok (.iload_n 1, 1) := dk_27 (dk_at dksX3_looksAtLost_0 20 rfl rfl)
theorem dX3_looksAtLost_21 : decode cX3_looksAtLost 21 = .ok (.iconst 1, 1) := dk_4 (dk_at dksX3_looksAtLost_0 21 rfl rfl)
theorem dX3_looksAtLost_22 : decode cX3_looksAtLost 22 = .ok (.invokevirtual 176, 3) := dk_182 0 176 (dk_at dksX3_looksAtLost_1 0 rfl rfl)
theorem dX3_looksAtLost_25 : decode cX3_looksAtLost 25 = .ok (.iinc 1 1, 3) := dk_132 1 1 (dk_at dksX3_looksAtLost_1 3 rfl rfl)
theorem dX3_looksAtLost_28 : decode cX3_looksAtLost 28 = .ok (.goto (-26), 3) := dk_167 255 230 (dk_at dksX3_looksAtLost_1 6 rfl rfl)
theorem dX3_looksAtLost_31 : decode cX3_looksAtLost 31 = .ok (.return_, 1) := dk_177 (dk_at dksX3_looksAtLost_1 9 rfl rfl)
abbrev cX3_adds : ByteArray := prog_11_method_32_code
def yX3_adds : MethodName := ⟨RX3, "adds", "(II)V"⟩
def dkwX3_adds_3 : List UInt8 := [96, 181, 0, 183, 42, 180, 0, 94, 29, 28, 79, 177]
abbrev dktX3_adds_3 : List UInt8 := dkwX3_adds_3 ++ []
def dkwX3_adds_2 : List UInt8 := [180, 0, 183, 62, 42, 180, 0, 91, 29, 27, 79, 42, 180, 0, 97, 29, 3, 84, 42, 89, 180, 0, 183, 4]
abbrev dktX3_adds_2 : List UInt8 := dkwX3_adds_2 ++ dktX3_adds_3
def dkwX3_adds_1 : List UInt8 := [160, 0, 8, 21, 4, 167, 0, 4, 29, 62, 132, 4, 1, 167, 255, 226, 29, 2, 160, 0, 32, 42]
abbrev dktX3_adds_1 : List UInt8 := dkwX3_adds_1 ++ dktX3_adds_2
def dkwX3_adds_0 : List UInt8 := [2, 62, 3, 54, 4, 21, 4, 42, 180, 0, 183, 162, 0, 27, 42, 180, 0, 91, 21, 4, 46, 27]
abbrev dktX3_adds_0 : List UInt8 := dkwX3_adds_0 ++ dktX3_adds_1
theorem dksX3_adds_0 : cX3_adds.data.toList.drop 0 = dktX3_adds_0 := by decide +kernel
theorem dksX3_adds_1 : cX3_adds.data.toList.drop 22 = dktX3_adds_1 := dk_seg dksX3_adds_0 22 rfl rfl
theorem dksX3_adds_2 : cX3_adds.data.toList.drop 44 = dktX3_adds_2 := dk_seg dksX3_adds_1 22 rfl rfl
theorem dksX3_adds_3 : cX3_adds.data.toList.drop 68 = dktX3_adds_3 := dk_seg dksX3_adds_2 24 rfl rfl
theorem dX3_adds_0 : decode cX3_adds 0 = .ok (.iconst (-1), 1) := dk_2 (dk_at dksX3_adds_0 0 rfl rfl)
theorem dX3_adds_1 : decode cX3_adds 1 = .ok (.istore_n 3, 1) := dk_62 (dk_at dksX3_adds_0 1 rfl rfl)
theorem dX3_adds_2 : decode cX3_adds 2 = .ok (.iconst 0, 1) := dk_3 (dk_at dksX3_adds_0 2 rfl rfl)
theorem dX3_adds_3 : decode cX3_adds 3 = .ok (.istore 4, 2) := dk_54 4 (dk_at dksX3_adds_0 3 rfl rfl)
theorem dX3_adds_5 : decode cX3_adds 5 = .ok (.iload 4, 2) := dk_21 4 (dk_at dksX3_adds_0 5 rfl rfl)
theorem dX3_adds_7 : decode cX3_adds 7 = .ok (.aload_n 0, 1) := dk_42 (dk_at dksX3_adds_0 7 rfl rfl)
theorem dX3_adds_8 : decode cX3_adds 8 = .ok (.getfield 183, 3) := dk_180 0 183 (dk_at dksX3_adds_0 8 rfl rfl)
theorem dX3_adds_11 : decode cX3_adds 11 = .ok (.if_icmp .ge 27, 3) := dk_162 0 27 (dk_at dksX3_adds_0 11 rfl rfl)
theorem dX3_adds_14 : decode cX3_adds 14 = .ok (.aload_n 0, 1) := dk_42 (dk_at dksX3_adds_0 14 rfl rfl)
theorem dX3_adds_15 : decode cX3_adds 15 = .ok (.getfield 91, 3) := dk_180 0 91 (dk_at dksX3_adds_0 15 rfl rfl)
theorem dX3_adds_18 : decode cX3_adds 18 = .ok (.iload 4, 2) := dk_21 4 (dk_at dksX3_adds_0 18 rfl rfl)
theorem dX3_adds_20 : decode cX3_adds 20 = .ok (.iaload, 1) := dk_46 (dk_at dksX3_adds_0 20 rfl rfl)
theorem dX3_adds_21 : decode cX3_adds 21 = .ok (.iload_n 1, 1) := dk_27 (dk_at dksX3_adds_0 21 rfl rfl)
theorem dX3_adds_22 : decode cX3_adds 22 = .ok (.if_icmp .ne 8, 3) := dk_160 0 8 (dk_at dksX3_adds_1 0 rfl rfl)
theorem dX3_adds_25 : decode cX3_adds 25 = .ok (.iload 4, 2) := dk_21 4 (dk_at dksX3_adds_1 3 rfl rfl)
theorem dX3_adds_27 : decode cX3_adds 27 = .ok (.goto 4, 3) := dk_167 0 4 (dk_at dksX3_adds_1 5 rfl rfl)
theorem dX3_adds_30 : decode cX3_adds 30 = .ok (.iload_n 3, 1) := dk_29 (dk_at dksX3_adds_1 8 rfl rfl)
theorem dX3_adds_31 : decode cX3_adds 31 = .ok (.istore_n 3, 1) := dk_62 (dk_at dksX3_adds_1 9 rfl rfl)
theorem dX3_adds_32 : decode cX3_adds 32 = .ok (.iinc 4 1, 3) := dk_132 4 1 (dk_at dksX3_adds_1 10 rfl rfl)
theorem dX3_adds_35 : decode cX3_adds 35 = .ok (.goto (-30), 3) := dk_167 255 226 (dk_at dksX3_adds_1 13 rfl rfl)
theorem dX3_adds_38 : decode cX3_adds 38 = .ok (.iload_n 3, 1) := dk_29 (dk_at dksX3_adds_1 16 rfl rfl)
theorem dX3_adds_39 : decode cX3_adds 39 = .ok (.iconst (-1), 1) := dk_2 (dk_at dksX3_adds_1 17 rfl rfl)
theorem dX3_adds_40 : decode cX3_adds 40 = .ok (.if_icmp .ne 32, 3) := dk_160 0 32 (dk_at dksX3_adds_1 18 rfl rfl)
theorem dX3_adds_43 : decode cX3_adds 43 = .ok (.aload_n 0, 1) := dk_42 (dk_at dksX3_adds_1 21 rfl rfl)
theorem dX3_adds_44 : decode cX3_adds 44 = .ok (.getfield 183, 3) := dk_180 0 183 (dk_at dksX3_adds_2 0 rfl rfl)
theorem dX3_adds_47 : decode cX3_adds 47 = .ok (.istore_n 3, 1) := dk_62 (dk_at dksX3_adds_2 3 rfl rfl)
theorem dX3_adds_48 : decode cX3_adds 48 = .ok (.aload_n 0, 1) := dk_42 (dk_at dksX3_adds_2 4 rfl rfl)
theorem dX3_adds_49 : decode cX3_adds 49 = .ok (.getfield 91, 3) := dk_180 0 91 (dk_at dksX3_adds_2 5 rfl rfl)
theorem dX3_adds_52 : decode cX3_adds 52 = .ok (.iload_n 3, 1) := dk_29 (dk_at dksX3_adds_2 8 rfl rfl)
theorem dX3_adds_53 : decode cX3_adds 53 = .ok (.iload_n 1, 1) := dk_27 (dk_at dksX3_adds_2 9 rfl rfl)
theorem dX3_adds_54 : decode cX3_adds 54 = .ok (.iastore, 1) := dk_79 (dk_at dksX3_adds_2 10 rfl rfl)
theorem dX3_adds_55 : decode cX3_adds 55 = .ok (.aload_n 0, 1) := dk_42 (dk_at dksX3_adds_2 11 rfl rfl)
theorem dX3_adds_56 : decode cX3_adds 56 = .ok (.getfield 97, 3) := dk_180 0 97 (dk_at dksX3_adds_2 12 rfl rfl)
theorem dX3_adds_59 : decode cX3_adds 59 = .ok (.iload_n 3, 1) := dk_29 (dk_at dksX3_adds_2 15 rfl rfl)
theorem dX3_adds_60 : decode cX3_adds 60 = .ok (.iconst 0, 1) := dk_3 (dk_at dksX3_adds_2 16 rfl rfl)
theorem dX3_adds_61 : decode cX3_adds 61 = .ok (.bastore, 1) := dk_84 (dk_at dksX3_adds_2 17 rfl rfl)
theorem dX3_adds_62 : decode cX3_adds 62 = .ok (.aload_n 0, 1) := dk_42 (dk_at dksX3_adds_2 18 rfl rfl)
theorem dX3_adds_63 : decode cX3_adds 63 = .ok (.dup, 1) := dk_89 (dk_at dksX3_adds_2 19 rfl rfl)
theorem dX3_adds_64 : decode cX3_adds 64 = .ok (.getfield 183, 3) := dk_180 0 183 (dk_at dksX3_adds_2 20 rfl rfl)
theorem dX3_adds_67 : decode cX3_adds 67 = .ok (.iconst 1, 1) := dk_4 (dk_at dksX3_adds_2 23 rfl rfl)
theorem dX3_adds_68 : decode cX3_adds 68 = .ok (.iadd, 1) := dk_96 (dk_at dksX3_adds_3 0 rfl rfl)
theorem dX3_adds_69 : decode cX3_adds 69 = .ok (.putfield 183, 3) := dk_181 0 183 (dk_at dksX3_adds_3 1 rfl rfl)
theorem dX3_adds_72 : decode cX3_adds 72 = .ok (.aload_n 0, 1) := dk_42 (dk_at dksX3_adds_3 4 rfl rfl)
theorem dX3_adds_73 : decode cX3_adds 73 = .ok (.getfield 94, 3) := dk_180 0 94 (dk_at dksX3_adds_3 5 rfl rfl)
theorem dX3_adds_76 : decode cX3_adds 76 = .ok (.iload_n 3, 1) := dk_29 (dk_at dksX3_adds_3 8 rfl rfl)
theorem dX3_adds_77 : decode cX3_adds 77 = .ok (.iload_n 2, 1) := dk_28 (dk_at dksX3_adds_3 9 rfl rfl)
theorem dX3_adds_78 : decode cX3_adds 78 = .ok (.iastore, 1) := dk_79 (dk_at dksX3_adds_3 10 rfl rfl)
theorem dX3_adds_79 : decode cX3_adds 79 = .ok (.return_, 1) := dk_177 (dk_at dksX3_adds_3 11 rfl rfl)
abbrev cX3_lock : ByteArray := prog_11_method_19_code
def yX3_lock : MethodName := ⟨RX3, "lock", "(IZ)Z"⟩
def dkwX3_lock_1 : List UInt8 := [3, 172, 42, 180, 0, 33, 27, 51, 62, 42, 180, 0, 33, 27, 28, 84, 29, 172]
abbrev dktX3_lock_1 : List UInt8 := dkwX3_lock_1 ++ []
def dkwX3_lock_0 : List UInt8 := [42, 42, 27, 182, 0, 157, 153, 0, 7, 3, 167, 0, 4, 4, 181, 0, 121, 42, 180, 0, 121, 158, 0, 5]
abbrev dktX3_lock_0 : List UInt8 := dkwX3_lock_0 ++ dktX3_lock_1
theorem dksX3_lock_0 : cX3_lock.data.toList.drop 0 = dktX3_lock_0 := by decide +kernel
theorem dksX3_lock_1 : cX3_lock.data.toList.drop 24 = dktX3_lock_1 := dk_seg dksX3_lock_0 24 rfl rfl
theorem dX3_lock_0 : decode cX3_lock 0 = .ok (.aload_n 0, 1) := dk_42 (dk_at dksX3_lock_0 0 rfl rfl)
theorem dX3_lock_1 : decode cX3_lock 1 = .ok (.aload_n 0, 1) := dk_42 (dk_at dksX3_lock_0 1 rfl rfl)
theorem dX3_lock_2 : decode cX3_lock 2 = .ok (.iload_n 1, 1) := dk_27 (dk_at dksX3_lock_0 2 rfl rfl)
theorem dX3_lock_3 : decode cX3_lock 3 = .ok (.invokevirtual 157, 3) := dk_182 0 157 (dk_at dksX3_lock_0 3 rfl rfl)
theorem dX3_lock_6 : decode cX3_lock 6 = .ok (.ifCond .eq 7, 3) := dk_153 0 7 (dk_at dksX3_lock_0 6 rfl rfl)
theorem dX3_lock_9 : decode cX3_lock 9 = .ok (.iconst 0, 1) := dk_3 (dk_at dksX3_lock_0 9 rfl rfl)
theorem dX3_lock_10 : decode cX3_lock 10 = .ok (.goto 4, 3) := dk_167 0 4 (dk_at dksX3_lock_0 10 rfl rfl)
theorem dX3_lock_13 : decode cX3_lock 13 = .ok (.iconst 1, 1) := dk_4 (dk_at dksX3_lock_0 13 rfl rfl)
theorem dX3_lock_14 : decode cX3_lock 14 = .ok (.putfield 121, 3) := dk_181 0 121 (dk_at dksX3_lock_0 14 rfl rfl)
theorem dX3_lock_17 : decode cX3_lock 17 = .ok (.aload_n 0, 1) := dk_42 (dk_at dksX3_lock_0 17 rfl rfl)
theorem dX3_lock_18 : decode cX3_lock 18 = .ok (.getfield 121, 3) := dk_180 0 121 (dk_at dksX3_lock_0 18 rfl rfl)
theorem dX3_lock_21 : decode cX3_lock 21 = .ok (.ifCond .le 5, 3) := dk_158 0 5 (dk_at dksX3_lock_0 21 rfl rfl)
theorem dX3_lock_24 : decode cX3_lock 24 = .ok (.iconst 0, 1) := dk_3 (dk_at dksX3_lock_1 0 rfl rfl)
theorem dX3_lock_25 : decode cX3_lock 25 = .ok (.ireturn, 1) := dk_172 (dk_at dksX3_lock_1 1 rfl rfl)
theorem dX3_lock_26 : decode cX3_lock 26 = .ok (.aload_n 0, 1) := dk_42 (dk_at dksX3_lock_1 2 rfl rfl)
theorem dX3_lock_27 : decode cX3_lock 27 = .ok (.getfield 33, 3) := dk_180 0 33 (dk_at dksX3_lock_1 3 rfl rfl)
theorem dX3_lock_30 : decode cX3_lock 30 = .ok (.iload_n 1, 1) := dk_27 (dk_at dksX3_lock_1 6 rfl rfl)
theorem dX3_lock_31 : decode cX3_lock 31 = .ok (.baload, 1) := dk_51 (dk_at dksX3_lock_1 7 rfl rfl)
theorem dX3_lock_32 : decode cX3_lock 32 = .ok (.istore_n 3, 1) := dk_62 (dk_at dksX3_lock_1 8 rfl rfl)
theorem dX3_lock_33 : decode cX3_lock 33 = .ok (.aload_n 0, 1) := dk_42 (dk_at dksX3_lock_1 9 rfl rfl)
theorem dX3_lock_34 : decode cX3_lock 34 = .ok (.getfield 33, 3) := dk_180 0 33 (dk_at dksX3_lock_1 10 rfl rfl)
theorem dX3_lock_37 : decode cX3_lock 37 = .ok (.iload_n 1, 1) := dk_27 (dk_at dksX3_lock_1 13 rfl rfl)
theorem dX3_lock_38 : decode cX3_lock 38 = .ok (.iload_n 2, 1) := dk_28 (dk_at dksX3_lock_1 14 rfl rfl)
theorem dX3_lock_39 : decode cX3_lock 39 = .ok (.bastore, 1) := dk_84 (dk_at dksX3_lock_1 15 rfl rfl)
theorem dX3_lock_40 : decode cX3_lock 40 = .ok (.iload_n 3, 1) := dk_29 (dk_at dksX3_lock_1 16 rfl rfl)
theorem dX3_lock_41 : decode cX3_lock 41 = .ok (.ireturn, 1) := dk_172 (dk_at dksX3_lock_1 17 rfl rfl)
abbrev cX3_people : ByteArray := prog_11_method_20_code
def yX3_people : MethodName := ⟨RX3, "people", "(II)I"⟩
def dkwX3_people_2 : List UInt8 := [180, 0, 36, 27, 28, 79, 29, 172]
abbrev dktX3_people_2 : List UInt8 := dkwX3_people_2 ++ []
def dkwX3_people_1 : List UInt8 := [167, 0, 4, 5, 181, 0, 121, 42, 180, 0, 121, 158, 0, 5, 3, 172, 42, 180, 0, 36, 27, 46, 62, 42]
abbrev dktX3_people_1 : List UInt8 := dkwX3_people_1 ++ dktX3_people_2
def dkwX3_people_0 : List UInt8 := [42, 42, 27, 182, 0, 128, 154, 0, 7, 4, 167, 0, 18, 28, 3, 16, 15, 184, 0, 124, 153, 0, 7, 3]
abbrev dktX3_people_0 : List UInt8 := dkwX3_people_0 ++ dktX3_people_1
theorem dksX3_people_0 : cX3_people.data.toList.drop 0 = dktX3_people_0 := by decide +kernel
theorem dksX3_people_1 : cX3_people.data.toList.drop 24 = dktX3_people_1 := dk_seg dksX3_people_0 24 rfl rfl
theorem dksX3_people_2 : cX3_people.data.toList.drop 48 = dktX3_people_2 := dk_seg dksX3_people_1 24 rfl rfl
theorem dX3_people_0 : decode cX3_people 0 = .ok (.aload_n 0, 1) := dk_42 (dk_at dksX3_people_0 0 rfl rfl)
theorem dX3_people_1 : decode cX3_people 1 = .ok (.aload_n 0, 1) := dk_42 (dk_at dksX3_people_0 1 rfl rfl)
theorem dX3_people_2 : decode cX3_people 2 = .ok (.iload_n 1, 1) := dk_27 (dk_at dksX3_people_0 2 rfl rfl)
theorem dX3_people_3 : decode cX3_people 3 = .ok (.invokevirtual 128, 3) := dk_182 0 128 (dk_at dksX3_people_0 3 rfl rfl)
theorem dX3_people_6 : decode cX3_people 6 = .ok (.ifCond .ne 7, 3) := dk_154 0 7 (dk_at dksX3_people_0 6 rfl rfl)
theorem dX3_people_9 : decode cX3_people 9 = .ok (.iconst 1, 1) := dk_4 (dk_at dksX3_people_0 9 rfl rfl)
theorem dX3_people_10 : decode cX3_people 10 = .ok (.goto 18, 3) := dk_167 0 18 (dk_at dksX3_people_0 10 rfl rfl)
theorem dX3_people_13 : decode cX3_people 13 = .ok (.iload_n 2, 1) := dk_28 (dk_at dksX3_people_0 13 rfl rfl)
theorem dX3_people_14 : decode cX3_people 14 = .ok (.iconst 0, 1) := dk_3 (dk_at dksX3_people_0 14 rfl rfl)
theorem dX3_people_15 : decode cX3_people 15 = .ok (.bipush 15, 2) := dk_16 15 (dk_at dksX3_people_0 15 rfl rfl)
theorem dX3_people_17 : decode cX3_people 17 = .ok (.invokestatic 124, 3) := dk_184 0 124 (dk_at dksX3_people_0 17 rfl rfl)
theorem dX3_people_20 : decode cX3_people 20 = .ok (.ifCond .eq 7, 3) := dk_153 0 7 (dk_at dksX3_people_0 20 rfl rfl)
theorem dX3_people_23 : decode cX3_people 23 = .ok (.iconst 0, 1) := dk_3 (dk_at dksX3_people_0 23 rfl rfl)
theorem dX3_people_24 : decode cX3_people 24 = .ok (.goto 4, 3) := dk_167 0 4 (dk_at dksX3_people_1 0 rfl rfl)
theorem dX3_people_27 : decode cX3_people 27 = .ok (.iconst 2, 1) := dk_5 (dk_at dksX3_people_1 3 rfl rfl)
theorem dX3_people_28 : decode cX3_people 28 = .ok (.putfield 121, 3) := dk_181 0 121 (dk_at dksX3_people_1 4 rfl rfl)
theorem dX3_people_31 : decode cX3_people 31 = .ok (.aload_n 0, 1) := dk_42 (dk_at dksX3_people_1 7 rfl rfl)
theorem dX3_people_32 : decode cX3_people 32 = .ok (.getfield 121, 3) := dk_180 0 121 (dk_at dksX3_people_1 8 rfl rfl)
theorem dX3_people_35 : decode cX3_people 35 = .ok (.ifCond .le 5, 3) := dk_158 0 5 (dk_at dksX3_people_1 11 rfl rfl)
theorem dX3_people_38 : decode cX3_people 38 = .ok (.iconst 0, 1) := dk_3 (dk_at dksX3_people_1 14 rfl rfl)
theorem dX3_people_39 : decode cX3_people 39 = .ok (.ireturn, 1) := dk_172 (dk_at dksX3_people_1 15 rfl rfl)
theorem dX3_people_40 : decode cX3_people 40 = .ok (.aload_n 0, 1) := dk_42 (dk_at dksX3_people_1 16 rfl rfl)
theorem dX3_people_41 : decode cX3_people 41 = .ok (.getfield 36, 3) := dk_180 0 36 (dk_at dksX3_people_1 17 rfl rfl)
theorem dX3_people_44 : decode cX3_people 44 = .ok (.iload_n 1, 1) := dk_27 (dk_at dksX3_people_1 20 rfl rfl)
theorem dX3_people_45 : decode cX3_people 45 = .ok (.iaload, 1) := dk_46 (dk_at dksX3_people_1 21 rfl rfl)
theorem dX3_people_46 : decode cX3_people 46 = .ok (.istore_n 3, 1) := dk_62 (dk_at dksX3_people_1 22 rfl rfl)
theorem dX3_people_47 : decode cX3_people 47 = .ok (.aload_n 0, 1) := dk_42 (dk_at dksX3_people_1 23 rfl rfl)
theorem dX3_people_48 : decode cX3_people 48 = .ok (.getfield 36, 3) := dk_180 0 36 (dk_at dksX3_people_2 0 rfl rfl)
theorem dX3_people_51 : decode cX3_people 51 = .ok (.iload_n 1, 1) := dk_27 (dk_at dksX3_people_2 3 rfl rfl)
theorem dX3_people_52 : decode cX3_people 52 = .ok (.iload_n 2, 1) := dk_28 (dk_at dksX3_people_2 4 rfl rfl)
theorem dX3_people_53 : decode cX3_people 53 = .ok (.iastore, 1) := dk_79 (dk_at dksX3_people_2 5 rfl rfl)
theorem dX3_people_54 : decode cX3_people 54 = .ok (.iload_n 3, 1) := dk_29 (dk_at dksX3_people_2 6 rfl rfl)
theorem dX3_people_55 : decode cX3_people 55 = .ok (.ireturn, 1) := dk_172 (dk_at dksX3_people_2 7 rfl rfl)
abbrev cX3_mayRead : ByteArray := prog_11_method_22_code
def yX3_mayRead : MethodName := ⟨RX3, "mayRead", "(II)Z"⟩
def dkwX3_mayRead_2 : List UInt8 := [172]
abbrev dktX3_mayRead_2 : List UInt8 := dkwX3_mayRead_2 ++ []
def dkwX3_mayRead_1 : List UInt8 := [181, 0, 121, 42, 180, 0, 121, 154, 0, 16, 42, 27, 28, 182, 0, 173, 153, 0, 7, 4, 167, 0, 4, 3]
abbrev dktX3_mayRead_1 : List UInt8 := dkwX3_mayRead_1 ++ dktX3_mayRead_2
def dkwX3_mayRead_0 : List UInt8 := [42, 27, 3, 6, 184, 0, 124, 153, 0, 15, 42, 28, 182, 0, 128, 153, 0, 7, 3, 167, 0, 4, 4]
abbrev dktX3_mayRead_0 : List UInt8 := dkwX3_mayRead_0 ++ dktX3_mayRead_1
theorem dksX3_mayRead_0 : cX3_mayRead.data.toList.drop 0 = dktX3_mayRead_0 := by decide +kernel
theorem dksX3_mayRead_1 : cX3_mayRead.data.toList.drop 23 = dktX3_mayRead_1 := dk_seg dksX3_mayRead_0 23 rfl rfl
theorem dksX3_mayRead_2 : cX3_mayRead.data.toList.drop 47 = dktX3_mayRead_2 := dk_seg dksX3_mayRead_1 24 rfl rfl
theorem dX3_mayRead_0 : decode cX3_mayRead 0 = .ok (.aload_n 0, 1) := dk_42 (dk_at dksX3_mayRead_0 0 rfl rfl)
theorem dX3_mayRead_1 : decode cX3_mayRead 1 = .ok (.iload_n 1, 1) := dk_27 (dk_at dksX3_mayRead_0 1 rfl rfl)
theorem dX3_mayRead_2 : decode cX3_mayRead 2 = .ok (.iconst 0, 1) := dk_3 (dk_at dksX3_mayRead_0 2 rfl rfl)
theorem dX3_mayRead_3 : decode cX3_mayRead 3 = .ok (.iconst 3, 1) := dk_6 (dk_at dksX3_mayRead_0 3 rfl rfl)
theorem dX3_mayRead_4 : decode cX3_mayRead 4 = .ok (.invokestatic 124, 3) := dk_184 0 124 (dk_at dksX3_mayRead_0 4 rfl rfl)
theorem dX3_mayRead_7 : decode cX3_mayRead 7 = .ok (.ifCond .eq 15, 3) := dk_153 0 15 (dk_at dksX3_mayRead_0 7 rfl rfl)
theorem dX3_mayRead_10 : decode cX3_mayRead 10 = .ok (.aload_n 0, 1) := dk_42 (dk_at dksX3_mayRead_0 10 rfl rfl)
theorem dX3_mayRead_11 : decode cX3_mayRead 11 = .ok (.iload_n 2, 1) := dk_28 (dk_at dksX3_mayRead_0 11 rfl rfl)
theorem dX3_mayRead_12 : decode cX3_mayRead 12 = .ok (.invokevirtual 128, 3) := dk_182 0 128 (dk_at dksX3_mayRead_0 12 rfl rfl)
theorem dX3_mayRead_15 : decode cX3_mayRead 15 = .ok (.ifCond .eq 7, 3) := dk_153 0 7 (dk_at dksX3_mayRead_0 15 rfl rfl)
theorem dX3_mayRead_18 : decode cX3_mayRead 18 = .ok (.iconst 0, 1) := dk_3 (dk_at dksX3_mayRead_0 18 rfl rfl)
theorem dX3_mayRead_19 : decode cX3_mayRead 19 = .ok (.goto 4, 3) := dk_167 0 4 (dk_at dksX3_mayRead_0 19 rfl rfl)
theorem dX3_mayRead_22 : decode cX3_mayRead 22 = .ok (.iconst 1, 1) := dk_4 (dk_at dksX3_mayRead_0 22 rfl rfl)
theorem dX3_mayRead_23 : decode cX3_mayRead 23 = .ok (.putfield 121, 3) := dk_181 0 121 (dk_at dksX3_mayRead_1 0 rfl rfl)
theorem dX3_mayRead_26 : decode cX3_mayRead 26 = .ok (.aload_n 0, 1) := dk_42 (dk_at dksX3_mayRead_1 3 rfl rfl)
theorem dX3_mayRead_27 : decode cX3_mayRead 27 = .ok (.getfield 121, 3) := dk_180 0 121 (dk_at dksX3_mayRead_1 4 rfl rfl)
theorem dX3_mayRead_30 : decode cX3_mayRead 30 = .ok (.ifCond .ne 16, 3) := dk_154 0 16 (dk_at dksX3_mayRead_1 7 rfl rfl)
theorem dX3_mayRead_33 : decode cX3_mayRead 33 = .ok (.aload_n 0, 1) := dk_42 (dk_at dksX3_mayRead_1 10 rfl rfl)
theorem dX3_mayRead_34 : decode cX3_mayRead 34 = .ok (.iload_n 1, 1) := dk_27 (dk_at dksX3_mayRead_1 11 rfl rfl)
theorem dX3_mayRead_35 : decode cX3_mayRead 35 = .ok (.iload_n 2, 1) := dk_28 (dk_at dksX3_mayRead_1 12 rfl rfl)
theorem dX3_mayRead_36 : decode cX3_mayRead 36 = .ok (.invokevirtual 173, 3) := dk_182 0 173 (dk_at dksX3_mayRead_1 13 rfl rfl)
theorem dX3_mayRead_39 : decode cX3_mayRead 39 = .ok (.ifCond .eq 7, 3) := dk_153 0 7 (dk_at dksX3_mayRead_1 16 rfl rfl)
theorem dX3_mayRead_42 : decode cX3_mayRead 42 = .ok (.iconst 1, 1) := dk_4 (dk_at dksX3_mayRead_1 19 rfl rfl)
theorem dX3_mayRead_43 : decode cX3_mayRead 43 = .ok (.goto 4, 3) := dk_167 0 4 (dk_at dksX3_mayRead_1 20 rfl rfl)
theorem dX3_mayRead_46 : decode cX3_mayRead 46 = .ok (.iconst 0, 1) := dk_3 (dk_at dksX3_mayRead_1 23 rfl rfl)
theorem dX3_mayRead_47 : decode cX3_mayRead 47 = .ok (.ireturn, 1) := dk_172 (dk_at dksX3_mayRead_2 0 rfl rfl)
abbrev cX3_mayReadAt : ByteArray := prog_11_method_21_code
def yX3_mayReadAt : MethodName := ⟨RX3, "mayReadAt", "(II)Z"⟩
def dkwX3_mayReadAt_2 : List UInt8 := [29, 172]
abbrev dktX3_mayReadAt_2 : List UInt8 := dkwX3_mayReadAt_2 ++ []
def dkwX3_mayReadAt_1 : List UInt8 := [4, 126, 4, 160, 0, 7, 4, 167, 0, 4, 3, 62, 42, 180, 0, 16, 21, 4, 46, 54, 4, 167, 255, 216]
abbrev dktX3_mayReadAt_1 : List UInt8 := dkwX3_mayReadAt_1 ++ dktX3_mayReadAt_2
def dkwX3_mayReadAt_0 : List UInt8 := [4, 62, 28, 54, 4, 21, 4, 2, 159, 0, 40, 29, 153, 0, 22, 42, 180, 0, 36, 21, 4, 46, 27, 122]
abbrev dktX3_mayReadAt_0 : List UInt8 := dkwX3_mayReadAt_0 ++ dktX3_mayReadAt_1
theorem dksX3_mayReadAt_0 : cX3_mayReadAt.data.toList.drop 0 = dktX3_mayReadAt_0 := by decide +kernel
theorem dksX3_mayReadAt_1 : cX3_mayReadAt.data.toList.drop 24 = dktX3_mayReadAt_1 := dk_seg dksX3_mayReadAt_0 24 rfl rfl
theorem dksX3_mayReadAt_2 : cX3_mayReadAt.data.toList.drop 48 = dktX3_mayReadAt_2 := dk_seg dksX3_mayReadAt_1 24 rfl rfl
theorem dX3_mayReadAt_0 : decode cX3_mayReadAt 0 = .ok (.iconst 1, 1) := dk_4 (dk_at dksX3_mayReadAt_0 0 rfl rfl)
theorem dX3_mayReadAt_1 : decode cX3_mayReadAt 1 = .ok (.istore_n 3, 1) := dk_62 (dk_at dksX3_mayReadAt_0 1 rfl rfl)
theorem dX3_mayReadAt_2 : decode cX3_mayReadAt 2 = .ok (.iload_n 2, 1) := dk_28 (dk_at dksX3_mayReadAt_0 2 rfl rfl)
theorem dX3_mayReadAt_3 : decode cX3_mayReadAt 3 = .ok (.istore 4, 2) := dk_54 4 (dk_at dksX3_mayReadAt_0 3 rfl rfl)
theorem dX3_mayReadAt_5 : decode cX3_mayReadAt 5 = .ok (.iload 4, 2) := dk_21 4 (dk_at dksX3_mayReadAt_0 5 rfl rfl)
theorem dX3_mayReadAt_7 : decode cX3_mayReadAt 7 = .ok (.iconst (-1), 1) := dk_2 (dk_at dksX3_mayReadAt_0 7 rfl rfl)
theorem dX3_mayReadAt_8 : decode cX3_mayReadAt 8 = .ok (.if_icmp .eq 40, 3) := dk_159 0 40 (dk_at dksX3_mayReadAt_0 8 rfl rfl)
theorem dX3_mayReadAt_11 : decode cX3_mayReadAt 11 = .ok (.iload_n 3, 1) := dk_29 (dk_at dksX3_mayReadAt_0 11 rfl rfl)
theorem dX3_mayReadAt_12 : decode cX3_mayReadAt 12 = .ok (.ifCond .eq 22, 3) := dk_153 0 22 (dk_at dksX3_mayReadAt_0 12 rfl rfl)
theorem dX3_mayReadAt_15 : decode cX3_mayReadAt 15 = .ok (.aload_n 0, 1) := dk_42 (dk_at dksX3_mayReadAt_0 15 rfl rfl)
theorem dX3_mayReadAt_16 : decode cX3_mayReadAt 16 = .ok (.getfield 36, 3) := dk_180 0 36 (dk_at dksX3_mayReadAt_0 16 rfl rfl)
theorem dX3_mayReadAt_19 : decode cX3_mayReadAt 19 = .ok (.iload 4, 2) := dk_21 4 (dk_at dksX3_mayReadAt_0 19 rfl rfl)
theorem dX3_mayReadAt_21 : decode cX3_mayReadAt 21 = .ok (.iaload, 1) := dk_46 (dk_at dksX3_mayReadAt_0 21 rfl rfl)
theorem dX3_mayReadAt_22 : decode cX3_mayReadAt 22 = .ok (.iload_n 1, 1) := dk_27 (dk_at dksX3_mayReadAt_0 22 rfl rfl)
theorem dX3_mayReadAt_23 : decode cX3_mayReadAt 23 = .ok (.ishr, 1) := dk_122 (dk_at dksX3_mayReadAt_0 23 rfl rfl)
theorem dX3_mayReadAt_24 : decode cX3_mayReadAt 24 = .ok (.iconst 1, 1) := dk_4 (dk_at dksX3_mayReadAt_1 0 rfl rfl)
theorem dX3_mayReadAt_25 : decode cX3_mayReadAt 25 = .ok (.iand, 1) := dk_126 (dk_at dksX3_mayReadAt_1 1 rfl rfl)
theorem dX3_mayReadAt_26 : decode cX3_mayReadAt 26 = .ok (.iconst 1, 1) := dk_4 (dk_at dksX3_mayReadAt_1 2 rfl rfl)
theorem dX3_mayReadAt_27 : decode cX3_mayReadAt 27 = .ok (.if_icmp .ne 7, 3) := dk_160 0 7 (dk_at dksX3_mayReadAt_1 3 rfl rfl)
theorem dX3_mayReadAt_30 : decode cX3_mayReadAt 30 = .ok (.iconst 1, 1) := dk_4 (dk_at dksX3_mayReadAt_1 6 rfl rfl)
theorem dX3_mayReadAt_31 : decode cX3_mayReadAt 31 = .ok (.goto 4, 3) := dk_167 0 4 (dk_at dksX3_mayReadAt_1 7 rfl rfl)
theorem dX3_mayReadAt_34 : decode cX3_mayReadAt 34 = .ok (.iconst 0, 1) := dk_3 (dk_at dksX3_mayReadAt_1 10 rfl rfl)
theorem dX3_mayReadAt_35 : decode cX3_mayReadAt 35 = .ok (.istore_n 3, 1) := dk_62 (dk_at dksX3_mayReadAt_1 11 rfl rfl)
theorem dX3_mayReadAt_36 : decode cX3_mayReadAt 36 = .ok (.aload_n 0, 1) := dk_42 (dk_at dksX3_mayReadAt_1 12 rfl rfl)
theorem dX3_mayReadAt_37 : decode cX3_mayReadAt 37 = .ok (.getfield 16, 3) := dk_180 0 16 (dk_at dksX3_mayReadAt_1 13 rfl rfl)
theorem dX3_mayReadAt_40 : decode cX3_mayReadAt 40 = .ok (.iload 4, 2) := dk_21 4 (dk_at dksX3_mayReadAt_1 16 rfl rfl)
theorem dX3_mayReadAt_42 : decode cX3_mayReadAt 42 = .ok (.iaload, 1) := dk_46 (dk_at dksX3_mayReadAt_1 18 rfl rfl)
theorem dX3_mayReadAt_43 : decode cX3_mayReadAt 43 = .ok (.istore 4, 2) := dk_54 4 (dk_at dksX3_mayReadAt_1 19 rfl rfl)
theorem dX3_mayReadAt_45 : decode cX3_mayReadAt 45 = .ok (.goto (-40), 3) := dk_167 255 216 (dk_at dksX3_mayReadAt_1 21 rfl rfl)
theorem dX3_mayReadAt_48 : decode cX3_mayReadAt 48 = .ok (.iload_n 3, 1) := dk_29 (dk_at dksX3_mayReadAt_2 0 rfl rfl)
theorem dX3_mayReadAt_49 : decode cX3_mayReadAt 49 = .ok (.ireturn, 1) := dk_172 (dk_at dksX3_mayReadAt_2 1 rfl rfl)
abbrev cX3_nodes : ByteArray := prog_11_method_23_code
def yX3_nodes : MethodName := ⟨RX3, "nodes", "()I"⟩
def dkwX3_nodes_1 : List UInt8 := [153, 0, 7, 4, 167, 0, 4, 3, 96, 60, 132, 2, 1, 167, 255, 228, 27, 172]
abbrev dktX3_nodes_1 : List UInt8 := dkwX3_nodes_1 ++ []
def dkwX3_nodes_0 : List UInt8 := [42, 3, 181, 0, 121, 3, 60, 3, 61, 28, 42, 180, 0, 118, 162, 0, 26, 27, 42, 180, 0, 7, 28, 51]
abbrev dktX3_nodes_0 : List UInt8 := dkwX3_nodes_0 ++ dktX3_nodes_1
theorem dksX3_nodes_0 : cX3_nodes.data.toList.drop 0 = dktX3_nodes_0 := by decide +kernel
theorem dksX3_nodes_1 : cX3_nodes.data.toList.drop 24 = dktX3_nodes_1 := dk_seg dksX3_nodes_0 24 rfl rfl
theorem dX3_nodes_0 : decode cX3_nodes 0 = .ok (.aload_n 0, 1) := dk_42 (dk_at dksX3_nodes_0 0 rfl rfl)
theorem dX3_nodes_1 : decode cX3_nodes 1 = .ok (.iconst 0, 1) := dk_3 (dk_at dksX3_nodes_0 1 rfl rfl)
theorem dX3_nodes_2 : decode cX3_nodes 2 = .ok (.putfield 121, 3) := dk_181 0 121 (dk_at dksX3_nodes_0 2 rfl rfl)
theorem dX3_nodes_5 : decode cX3_nodes 5 = .ok (.iconst 0, 1) := dk_3 (dk_at dksX3_nodes_0 5 rfl rfl)
theorem dX3_nodes_6 : decode cX3_nodes 6 = .ok (.istore_n 1, 1) := dk_60 (dk_at dksX3_nodes_0 6 rfl rfl)
theorem dX3_nodes_7 : decode cX3_nodes 7 = .ok (.iconst 0, 1) := dk_3 (dk_at dksX3_nodes_0 7 rfl rfl)
theorem dX3_nodes_8 : decode cX3_nodes 8 = .ok (.istore_n 2, 1) := dk_61 (dk_at dksX3_nodes_0 8 rfl rfl)
theorem dX3_nodes_9 : decode cX3_nodes 9 = .ok (.iload_n 2, 1) := dk_28 (dk_at dksX3_nodes_0 9 rfl rfl)
theorem dX3_nodes_10 : decode cX3_nodes 10 = .ok (.aload_n 0, 1) := dk_42 (dk_at dksX3_nodes_0 10 rfl rfl)
theorem dX3_nodes_11 : decode cX3_nodes 11 = .ok (.getfield 118, 3) := dk_180 0 118 (dk_at dksX3_nodes_0 11 rfl rfl)
theorem dX3_nodes_14 : decode cX3_nodes 14 = .ok (.if_icmp .ge 26, 3) := dk_162 0 26 (dk_at dksX3_nodes_0 14 rfl rfl)
theorem dX3_nodes_17 : decode cX3_nodes 17 = .ok (.iload_n 1, 1) := dk_27 (dk_at dksX3_nodes_0 17 rfl rfl)
theorem dX3_nodes_18 : decode cX3_nodes 18 = .ok (.aload_n 0, 1) := dk_42 (dk_at dksX3_nodes_0 18 rfl rfl)
theorem dX3_nodes_19 : decode cX3_nodes 19 = .ok (.getfield 7, 3) := dk_180 0 7 (dk_at dksX3_nodes_0 19 rfl rfl)
theorem dX3_nodes_22 : decode cX3_nodes 22 = .ok (.iload_n 2, 1) := dk_28 (dk_at dksX3_nodes_0 22 rfl rfl)
theorem dX3_nodes_23 : decode cX3_nodes 23 = .ok (.baload, 1) := dk_51 (dk_at dksX3_nodes_0 23 rfl rfl)
theorem dX3_nodes_24 : decode cX3_nodes 24 = .ok (.ifCond .eq 7, 3) := dk_153 0 7 (dk_at dksX3_nodes_1 0 rfl rfl)
theorem dX3_nodes_27 : decode cX3_nodes 27 = .ok (.iconst 1, 1) := dk_4 (dk_at dksX3_nodes_1 3 rfl rfl)
theorem dX3_nodes_28 : decode cX3_nodes 28 = .ok (.goto 4, 3) := dk_167 0 4 (dk_at dksX3_nodes_1 4 rfl rfl)
theorem dX3_nodes_31 : decode cX3_nodes 31 = .ok (.iconst 0, 1) := dk_3 (dk_at dksX3_nodes_1 7 rfl rfl)
theorem dX3_nodes_32 : decode cX3_nodes 32 = .ok (.iadd, 1) := dk_96 (dk_at dksX3_nodes_1 8 rfl rfl)
theorem dX3_nodes_33 : decode cX3_nodes 33 = .ok (.istore_n 1, 1) := dk_60 (dk_at dksX3_nodes_1 9 rfl rfl)
theorem dX3_nodes_34 : decode cX3_nodes 34 = .ok (.iinc 2 1, 3) := dk_132 2 1 (dk_at dksX3_nodes_1 10 rfl rfl)
theorem dX3_nodes_37 : decode cX3_nodes 37 = .ok (.goto (-28), 3) := dk_167 255 228 (dk_at dksX3_nodes_1 13 rfl rfl)
theorem dX3_nodes_40 : decode cX3_nodes 40 = .ok (.iload_n 1, 1) := dk_27 (dk_at dksX3_nodes_1 16 rfl rfl)
theorem dX3_nodes_41 : decode cX3_nodes 41 = .ok (.ireturn, 1) := dk_172 (dk_at dksX3_nodes_1 17 rfl rfl)
abbrev cX3_watch : ByteArray := prog_11_method_27_code
def yX3_watch : MethodName := ⟨RX3, "watch", "(I)I"⟩
def dkwX3_watch_5 : List UInt8 := [4, 100, 182, 0, 180, 167, 0, 12, 42, 28, 182, 0, 166, 42, 182, 0, 170, 42, 180, 0, 132, 172]
abbrev dktX3_watch_5 : List UInt8 := dkwX3_watch_5 ++ []
def dkwX3_watch_4 : List UInt8 := [180, 0, 51, 42, 180, 0, 132, 3, 84, 42, 89, 180, 0, 132, 4, 96, 181, 0, 132, 42, 42, 180, 0, 132]
abbrev dktX3_watch_4 : List UInt8 := dkwX3_watch_4 ++ dktX3_watch_5
def dkwX3_watch_3 : List UInt8 := [160, 0, 56, 42, 180, 0, 39, 42, 180, 0, 132, 27, 79, 42, 180, 0, 42, 42, 180, 0, 132, 3, 79, 42]
abbrev dktX3_watch_3 : List UInt8 := dkwX3_watch_3 ++ dktX3_watch_4
def dkwX3_watch_2 : List UInt8 := [2, 159, 0, 7, 5, 167, 0, 4, 3, 181, 0, 121, 42, 180, 0, 121, 158, 0, 5, 3, 172, 28, 2]
abbrev dktX3_watch_2 : List UInt8 := dkwX3_watch_2 ++ dktX3_watch_3
def dkwX3_watch_1 : List UInt8 := [160, 0, 32, 42, 180, 0, 132, 6, 159, 0, 20, 42, 27, 182, 0, 160, 154, 0, 12, 42, 27, 182, 0, 150]
abbrev dktX3_watch_1 : List UInt8 := dkwX3_watch_1 ++ dktX3_watch_2
def dkwX3_watch_0 : List UInt8 := [42, 27, 182, 0, 139, 154, 0, 9, 42, 4, 182, 0, 142, 172, 42, 27, 182, 0, 163, 61, 42, 28, 2]
abbrev dktX3_watch_0 : List UInt8 := dkwX3_watch_0 ++ dktX3_watch_1
theorem dksX3_watch_0 : cX3_watch.data.toList.drop 0 = dktX3_watch_0 := by decide +kernel
theorem dksX3_watch_1 : cX3_watch.data.toList.drop 23 = dktX3_watch_1 := dk_seg dksX3_watch_0 23 rfl rfl
theorem dksX3_watch_2 : cX3_watch.data.toList.drop 47 = dktX3_watch_2 := dk_seg dksX3_watch_1 24 rfl rfl
theorem dksX3_watch_3 : cX3_watch.data.toList.drop 70 = dktX3_watch_3 := dk_seg dksX3_watch_2 23 rfl rfl
theorem dksX3_watch_4 : cX3_watch.data.toList.drop 94 = dktX3_watch_4 := dk_seg dksX3_watch_3 24 rfl rfl
theorem dksX3_watch_5 : cX3_watch.data.toList.drop 118 = dktX3_watch_5 := dk_seg dksX3_watch_4 24 rfl rfl
theorem dX3_watch_0 : decode cX3_watch 0 = .ok (.aload_n 0, 1) := dk_42 (dk_at dksX3_watch_0 0 rfl rfl)
theorem dX3_watch_1 : decode cX3_watch 1 = .ok (.iload_n 1, 1) := dk_27 (dk_at dksX3_watch_0 1 rfl rfl)
theorem dX3_watch_2 : decode cX3_watch 2 = .ok (.invokevirtual 139, 3) := dk_182 0 139 (dk_at dksX3_watch_0 2 rfl rfl)
theorem dX3_watch_5 : decode cX3_watch 5 = .ok (.ifCond .ne 9, 3) := dk_154 0 9 (dk_at dksX3_watch_0 5 rfl rfl)
theorem dX3_watch_8 : decode cX3_watch 8 = .ok (.aload_n 0, 1) := dk_42 (dk_at dksX3_watch_0 8 rfl rfl)
theorem dX3_watch_9 : decode cX3_watch 9 = .ok (.iconst 1, 1) := dk_4 (dk_at dksX3_watch_0 9 rfl rfl)
theorem dX3_watch_10 : decode cX3_watch 10 = .ok (.invokevirtual 142, 3) := dk_182 0 142 (dk_at dksX3_watch_0 10 rfl rfl)
theorem dX3_watch_13 : decode cX3_watch 13 = .ok (.ireturn, 1) := dk_172 (dk_at dksX3_watch_0 13 rfl rfl)
theorem dX3_watch_14 : decode cX3_watch 14 = .ok (.aload_n 0, 1) := dk_42 (dk_at dksX3_watch_0 14 rfl rfl)
theorem dX3_watch_15 : decode cX3_watch 15 = .ok (.iload_n 1, 1) := dk_27 (dk_at dksX3_watch_0 15 rfl rfl)
theorem dX3_watch_16 : decode cX3_watch 16 = .ok (.invokevirtual 163, 3) := dk_182 0 163 (dk_at dksX3_watch_0 16 rfl rfl)
theorem dX3_watch_19 : decode cX3_watch 19 = .ok (.istore_n 2, 1) := dk_61 (dk_at dksX3_watch_0 19 rfl rfl)
theorem dX3_watch_20 : decode cX3_watch 20 = .ok (.aload_n 0, 1) := dk_42 (dk_at dksX3_watch_0 20 rfl rfl)
theorem dX3_watch_21 : decode cX3_watch 21 = .ok (.iload_n 2, 1) := dk_28 (dk_at dksX3_watch_0 21 rfl rfl)
theorem dX3_watch_22 : decode cX3_watch 22 = .ok (.iconst (-1), 1) := dk_2 (dk_at dksX3_watch_0 22 rfl rfl)
theorem dX3_watch_23 : decode cX3_watch 23 = .ok (.if_icmp .ne 32, 3) := dk_160 0 32 (dk_at dksX3_watch_1 0 rfl rfl)
theorem dX3_watch_26 : decode cX3_watch 26 = .ok (.aload_n 0, 1) := dk_42 (dk_at dksX3_watch_1 3 rfl rfl)
theorem dX3_watch_27 : decode cX3_watch 27 = .ok (.getfield 132, 3) := dk_180 0 132 (dk_at dksX3_watch_1 4 rfl rfl)
theorem dX3_watch_30 : decode cX3_watch 30 = .ok (.iconst 3, 1) := dk_6 (dk_at dksX3_watch_1 7 rfl rfl)
theorem dX3_watch_31 : decode cX3_watch 31 = .ok (.if_icmp .eq 20, 3) := dk_159 0 20 (dk_at dksX3_watch_1 8 rfl rfl)
theorem dX3_watch_34 : decode cX3_watch 34 = .ok (.aload_n 0, 1) := dk_42 (dk_at dksX3_watch_1 11 rfl rfl)
theorem dX3_watch_35 : decode cX3_watch 35 = .ok (.iload_n 1, 1) := dk_27 (dk_at dksX3_watch_1 12 rfl rfl)
theorem dX3_watch_36 : decode cX3_watch 36 = .ok (.invokevirtual 160, 3) := dk_182 0 160 (dk_at dksX3_watch_1 13 rfl rfl)
theorem dX3_watch_39 : decode cX3_watch 39 = .ok (.ifCond .ne 12, 3) := dk_154 0 12 (dk_at dksX3_watch_1 16 rfl rfl)
theorem dX3_watch_42 : decode cX3_watch 42 = .ok (.aload_n 0, 1) := dk_42 (dk_at dksX3_watch_1 19 rfl rfl)
theorem dX3_watch_43 : decode cX3_watch 43 = .ok (.iload_n 1, 1) := dk_27 (dk_at dksX3_watch_1 20 rfl rfl)
theorem dX3_watch_44 : decode cX3_watch 44 = .ok (.invokevirtual 150, 3) := dk_182 0 150 (dk_at dksX3_watch_1 21 rfl rfl)
theorem dX3_watch_47 : decode cX3_watch 47 = .ok (.iconst (-1), 1) := dk_2 (dk_at dksX3_watch_2 0 rfl rfl)
theorem dX3_watch_48 : decode cX3_watch 48 = .ok (.if_icmp .eq 7, 3) := dk_159 0 7 (dk_at dksX3_watch_2 1 rfl rfl)
theorem dX3_watch_51 : decode cX3_watch 51 = .ok (.iconst 2, 1) := dk_5 (dk_at dksX3_watch_2 4 rfl rfl)
theorem dX3_watch_52 : decode cX3_watch 52 = .ok (.goto 4, 3) := dk_167 0 4 (dk_at dksX3_watch_2 5 rfl rfl)
theorem dX3_watch_55 : decode cX3_watch 55 = .ok (.iconst 0, 1) := dk_3 (dk_at dksX3_watch_2 8 rfl rfl)
theorem dX3_watch_56 : decode cX3_watch 56 = .ok (.putfield 121, 3) := dk_181 0 121 (dk_at dksX3_watch_2 9 rfl rfl)
theorem dX3_watch_59 : decode cX3_watch 59 = .ok (.aload_n 0, 1) := dk_42 (dk_at dksX3_watch_2 12 rfl rfl)
theorem dX3_watch_60 : decode cX3_watch 60 = .ok (.getfield 121, 3) := dk_180 0 121 (dk_at dksX3_watch_2 13 rfl rfl)
theorem dX3_watch_63 : decode cX3_watch 63 = .ok (.ifCond .le 5, 3) := dk_158 0 5 (dk_at dksX3_watch_2 16 rfl rfl)
theorem dX3_watch_66 : decode cX3_watch 66 = .ok (.iconst 0, 1) := dk_3 (dk_at dksX3_watch_2 19 rfl rfl)
theorem dX3_watch_67 : decode cX3_watch 67 = .ok (.ireturn, 1) := dk_172 (dk_at dksX3_watch_2 20 rfl rfl)
theorem dX3_watch_68 : decode cX3_watch 68 = .ok (.iload_n 2, 1) := dk_28 (dk_at dksX3_watch_2 21 rfl rfl)
theorem dX3_watch_69 : decode cX3_watch 69 = .ok (.iconst (-1), 1) := dk_2 (dk_at dksX3_watch_2 22 rfl rfl)
theorem dX3_watch_70 : decode cX3_watch 70 = .ok (.if_icmp .ne 56, 3) := dk_160 0 56 (dk_at dksX3_watch_3 0 rfl rfl)
theorem dX3_watch_73 : decode cX3_watch 73 = .ok (.aload_n 0, 1) := dk_42 (dk_at dksX3_watch_3 3 rfl rfl)
theorem dX3_watch_74 : decode cX3_watch 74 = .ok (.getfield 39, 3) := dk_180 0 39 (dk_at dksX3_watch_3 4 rfl rfl)
theorem dX3_watch_77 : decode cX3_watch 77 = .ok (.aload_n 0, 1) := dk_42 (dk_at dksX3_watch_3 7 rfl rfl)
theorem dX3_watch_78 : decode cX3_watch 78 = .ok (.getfield 132, 3) := dk_180 0 132 (dk_at dksX3_watch_3 8 rfl rfl)
theorem dX3_watch_81 : decode cX3_watch 81 = .ok (.iload_n 1, 1) := dk_27 (dk_at dksX3_watch_3 11 rfl rfl)
theorem dX3_watch_82 : decode cX3_watch 82 = .ok (.iastore, 1) := dk_79 (dk_at dksX3_watch_3 12 rfl rfl)
theorem dX3_watch_83 : decode cX3_watch 83 = .ok (.aload_n 0, 1) := dk_42 (dk_at dksX3_watch_3 13 rfl rfl)
theorem dX3_watch_84 : decode cX3_watch 84 = .ok (.getfield 42, 3) := dk_180 0 42 (dk_at dksX3_watch_3 14 rfl rfl)
theorem dX3_watch_87 : decode cX3_watch 87 = .ok (.aload_n 0, 1) := dk_42 (dk_at dksX3_watch_3 17 rfl rfl)
theorem dX3_watch_88 : decode cX3_watch 88 = .ok (.getfield 132, 3) := dk_180 0 132 (dk_at dksX3_watch_3 18 rfl rfl)
theorem dX3_watch_91 : decode cX3_watch 91 = .ok (.iconst 0, 1) := dk_3 (dk_at dksX3_watch_3 21 rfl rfl)
theorem dX3_watch_92 : decode cX3_watch 92 = .ok (.iastore, 1) := dk_79 (dk_at dksX3_watch_3 22 rfl rfl)
theorem dX3_watch_93 : decode cX3_watch 93 = .ok (.aload_n 0, 1) := dk_42 (dk_at dksX3_watch_3 23 rfl rfl)
theorem dX3_watch_94 : decode cX3_watch 94 = .ok (.getfield 51, 3) := dk_180 0 51 (dk_at dksX3_watch_4 0 rfl rfl)
theorem dX3_watch_97 : decode cX3_watch 97 = .ok (.aload_n 0, 1) := dk_42 (dk_at dksX3_watch_4 3 rfl rfl)
theorem dX3_watch_98 : decode cX3_watch 98 = .ok (.getfield 132, 3) := dk_180 0 132 (dk_at dksX3_watch_4 4 rfl rfl)
theorem dX3_watch_101 : decode cX3_watch 101 = .ok (.iconst 0, 1) := dk_3 (dk_at dksX3_watch_4 7 rfl rfl)
theorem dX3_watch_102 : decode cX3_watch 102 = .ok (.bastore, 1) := dk_84 (dk_at dksX3_watch_4 8 rfl rfl)
theorem dX3_watch_103 : decode cX3_watch 103 = .ok (.aload_n 0, 1) := dk_42 (dk_at dksX3_watch_4 9 rfl rfl)
theorem dX3_watch_104 : decode cX3_watch 104 = .ok (.dup, 1) := dk_89 (dk_at dksX3_watch_4 10 rfl rfl)
theorem dX3_watch_105 : decode cX3_watch 105 = .ok (.getfield 132, 3) := dk_180 0 132 (dk_at dksX3_watch_4 11 rfl rfl)
theorem dX3_watch_108 : decode cX3_watch 108 = .ok (.iconst 1, 1) := dk_4 (dk_at dksX3_watch_4 14 rfl rfl)
theorem dX3_watch_109 : decode cX3_watch 109 = .ok (.iadd, 1) := dk_96 (dk_at dksX3_watch_4 15 rfl rfl)
theorem dX3_watch_110 : decode cX3_watch 110 = .ok (.putfield 132, 3) := dk_181 0 132 (dk_at dksX3_watch_4 16 rfl rfl)
theorem dX3_watch_113 : decode cX3_watch 113 = .ok (.aload_n 0, 1) := dk_42 (dk_at dksX3_watch_4 19 rfl rfl)
theorem dX3_watch_114 : decode cX3_watch 114 = .ok (.aload_n 0, 1) := dk_42 (dk_at dksX3_watch_4 20 rfl rfl)
theorem dX3_watch_115 : decode cX3_watch 115 = .ok (.getfield 132, 3) := dk_180 0 132 (dk_at dksX3_watch_4 21 rfl rfl)
theorem dX3_watch_118 : decode cX3_watch 118 = .ok (.iconst 1, 1) := dk_4 (dk_at dksX3_watch_5 0 rfl rfl)
theorem dX3_watch_119 : decode cX3_watch 119 = .ok (.isub, 1) := dk_100 (dk_at dksX3_watch_5 1 rfl rfl)
theorem dX3_watch_120 : decode cX3_watch 120 = .ok (.invokevirtual 180, 3) := dk_182 0 180 (dk_at dksX3_watch_5 2 rfl rfl)
theorem dX3_watch_123 : decode cX3_watch 123 = .ok (.goto 12, 3) := dk_167 0 12 (dk_at dksX3_watch_5 5 rfl rfl)
theorem dX3_watch_126 : decode cX3_watch 126 = .ok (.aload_n 0, 1) := dk_42 (dk_at dksX3_watch_5 8 rfl rfl)
theorem dX3_watch_127 : decode cX3_watch 127 = .ok (.iload_n 2, 1) := dk_28 (dk_at dksX3_watch_5 9 rfl rfl)
theorem dX3_watch_128 : decode cX3_watch 128 = .ok (.invokevirtual 166, 3) := dk_182 0 166 (dk_at dksX3_watch_5 10 rfl rfl)
theorem dX3_watch_131 : decode cX3_watch 131 = .ok (.aload_n 0, 1) := dk_42 (dk_at dksX3_watch_5 13 rfl rfl)
theorem dX3_watch_132 : decode cX3_watch 132 = .ok (.invokevirtual 170, 3) := dk_182 0 170 (dk_at dksX3_watch_5 14 rfl rfl)
theorem dX3_watch_135 : decode cX3_watch 135 = .ok (.aload_n 0, 1) := dk_42 (dk_at dksX3_watch_5 17 rfl rfl)
theorem dX3_watch_136 : decode cX3_watch 136 = .ok (.getfield 132, 3) := dk_180 0 132 (dk_at dksX3_watch_5 18 rfl rfl)
theorem dX3_watch_139 : decode cX3_watch 139 = .ok (.ireturn, 1) := dk_172 (dk_at dksX3_watch_5 21 rfl rfl)
abbrev cX3_beginsCrawl : ByteArray := prog_11_method_26_code
def yX3_beginsCrawl : MethodName := ⟨RX3, "beginsCrawl", "(I)V"⟩
def dkwX3_beginsCrawl_2 : List UInt8 := [3, 84, 132, 2, 1, 167, 255, 235, 177]
abbrev dktX3_beginsCrawl_2 : List UInt8 := dkwX3_beginsCrawl_2 ++ []
def dkwX3_beginsCrawl_1 : List UInt8 := [180, 0, 39, 27, 46, 79, 3, 61, 28, 16, 60, 162, 0, 21, 42, 180, 0, 63, 16, 60, 27, 104, 28, 96]
abbrev dktX3_beginsCrawl_1 : List UInt8 := dkwX3_beginsCrawl_1 ++ dktX3_beginsCrawl_2
def dkwX3_beginsCrawl_0 : List UInt8 := [42, 180, 0, 54, 27, 4, 84, 42, 180, 0, 57, 27, 4, 79, 42, 180, 0, 60, 16, 60, 27, 104, 42]
abbrev dktX3_beginsCrawl_0 : List UInt8 := dkwX3_beginsCrawl_0 ++ dktX3_beginsCrawl_1
theorem dksX3_beginsCrawl_0 : cX3_beginsCrawl.data.toList.drop 0 = dktX3_beginsCrawl_0 := by decide +kernel
theorem dksX3_beginsCrawl_1 : cX3_beginsCrawl.data.toList.drop 23 = dktX3_beginsCrawl_1 := dk_seg dksX3_beginsCrawl_0 23 rfl rfl
theorem dksX3_beginsCrawl_2 : cX3_beginsCrawl.data.toList.drop 47 = dktX3_beginsCrawl_2 := dk_seg dksX3_beginsCrawl_1 24 rfl rfl
theorem dX3_beginsCrawl_0 : decode cX3_beginsCrawl 0 = .ok (.aload_n 0, 1) := dk_42 (dk_at dksX3_beginsCrawl_0 0 rfl rfl)
theorem dX3_beginsCrawl_1 : decode cX3_beginsCrawl 1 = .ok (.getfield 54, 3) := dk_180 0 54 (dk_at dksX3_beginsCrawl_0 1 rfl rfl)
theorem dX3_beginsCrawl_4 : decode cX3_beginsCrawl 4 = .ok (.iload_n 1, 1) := dk_27 (dk_at dksX3_beginsCrawl_0 4 rfl rfl)
theorem dX3_beginsCrawl_5 : decode cX3_beginsCrawl 5 = .ok (.iconst 1, 1) := dk_4 (dk_at dksX3_beginsCrawl_0 5 rfl rfl)
theorem dX3_beginsCrawl_6 : decode cX3_beginsCrawl 6 = .ok (.bastore, 1) := dk_84 (dk_at dksX3_beginsCrawl_0 6 rfl rfl)
theorem dX3_beginsCrawl_7 : decode cX3_beginsCrawl 7 = .ok (.aload_n 0, 1) := dk_42 (dk_at dksX3_beginsCrawl_0 7 rfl rfl)
theorem dX3_beginsCrawl_8 : decode cX3_beginsCrawl 8 = .ok (.getfield 57, 3) := dk_180 0 57 (dk_at dksX3_beginsCrawl_0 8 rfl rfl)
theorem dX3_beginsCrawl_11 : decode cX3_beginsCrawl 11 = .ok (.iload_n 1, 1) := dk_27 (dk_at dksX3_beginsCrawl_0 11 rfl rfl)
theorem dX3_beginsCrawl_12 : decode cX3_beginsCrawl 12 = .ok (.iconst 1, 1) := dk_4 (dk_at dksX3_beginsCrawl_0 12 rfl rfl)
theorem dX3_beginsCrawl_13 : decode cX3_beginsCrawl 13 = .ok (.iastore, 1) := dk_79 (dk_at dksX3_beginsCrawl_0 13 rfl rfl)
theorem dX3_beginsCrawl_14 : decode cX3_beginsCrawl 14 = .ok (.aload_n 0, 1) := dk_42 (dk_at dksX3_beginsCrawl_0 14 rfl rfl)
theorem dX3_beginsCrawl_15 : decode cX3_beginsCrawl 15 = .ok (.getfield 60, 3) := dk_180 0 60 (dk_at dksX3_beginsCrawl_0 15 rfl rfl)
theorem dX3_beginsCrawl_18 : decode cX3_beginsCrawl 18 = .ok (.bipush 60, 2) := dk_16 60 (dk_at dksX3_beginsCrawl_0 18 rfl rfl)
theorem dX3_beginsCrawl_20 : decode cX3_beginsCrawl 20 = .ok (.iload_n 1, 1) := dk_27 (dk_at dksX3_beginsCrawl_0 20 rfl rfl)
theorem dX3_beginsCrawl_21 : decode cX3_beginsCrawl 21 = .ok (.imul, 1) := dk_104 (dk_at dksX3_beginsCrawl_0 21 rfl rfl)
theorem dX3_beginsCrawl_22 : decode cX3_beginsCrawl 22 = .ok (.aload_n 0, 1) := dk_42 (dk_at dksX3_beginsCrawl_0 22 rfl rfl)
theorem dX3_beginsCrawl_23 : decode cX3_beginsCrawl 23 = .ok (.getfield 39, 3) := dk_180 0 39 (dk_at dksX3_beginsCrawl_1 0 rfl rfl)
theorem dX3_beginsCrawl_26 : decode cX3_beginsCrawl 26 = .ok (.iload_n 1, 1) := dk_27 (dk_at dksX3_beginsCrawl_1 3 rfl rfl)
theorem dX3_beginsCrawl_27 : decode cX3_beginsCrawl 27 = .ok (.iaload, 1) := dk_46 (dk_at dksX3_beginsCrawl_1 4 rfl rfl)
theorem dX3_beginsCrawl_28 : decode cX3_beginsCrawl 28 = .ok (.iastore, 1) := dk_79 (dk_at dksX3_beginsCrawl_1 5 rfl rfl)
theorem dX3_beginsCrawl_29 : decode cX3_beginsCrawl 29 = .ok (.iconst 0, 1) := dk_3 (dk_at dksX3_beginsCrawl_1 6 rfl rfl)
theorem dX3_beginsCrawl_30 : decode cX3_beginsCrawl 30 = .ok (.istore_n 2, 1) := dk_61 (dk_at dksX3_beginsCrawl_1 7 rfl rfl)
theorem dX3_beginsCrawl_31 : decode cX3_beginsCrawl 31 = .ok (.iload_n 2, 1) := dk_28 (dk_at dksX3_beginsCrawl_1 8 rfl rfl)
theorem dX3_beginsCrawl_32 : decode cX3_beginsCrawl 32 = .ok (.bipush 60, 2) := dk_16 60 (dk_at dksX3_beginsCrawl_1 9 rfl rfl)
theorem dX3_beginsCrawl_34 : decode cX3_beginsCrawl 34 = .ok (.if_icmp .ge 21, 3) := dk_162 0 21 (dk_at dksX3_beginsCrawl_1 11 rfl rfl)
theorem dX3_beginsCrawl_37 : decode cX3_beginsCrawl 37 = .ok (.aload_n 0, 1) := dk_42 (dk_at dksX3_beginsCrawl_1 14 rfl rfl)
theorem dX3_beginsCrawl_38 : decode cX3_beginsCrawl 38 = .ok (.getfield 63, 3) := dk_180 0 63 (dk_at dksX3_beginsCrawl_1 15 rfl rfl)
theorem dX3_beginsCrawl_41 : decode cX3_beginsCrawl 41 = .ok (.bipush 60, 2) := dk_16 60 (dk_at dksX3_beginsCrawl_1 18 rfl rfl)
theorem dX3_beginsCrawl_43 : decode cX3_beginsCrawl 43 = .ok (.iload_n 1, 1) := dk_27 (dk_at dksX3_beginsCrawl_1 20 rfl rfl)
theorem dX3_beginsCrawl_44 : decode cX3_beginsCrawl 44 = .ok (.imul, 1) := dk_104 (dk_at dksX3_beginsCrawl_1 21 rfl rfl)
theorem dX3_beginsCrawl_45 : decode cX3_beginsCrawl 45 = .ok (.iload_n 2, 1) := dk_28 (dk_at dksX3_beginsCrawl_1 22 rfl rfl)
theorem dX3_beginsCrawl_46 : decode cX3_beginsCrawl 46 = .ok (.iadd, 1) := dk_96 (dk_at dksX3_beginsCrawl_1 23 rfl rfl)
theorem dX3_beginsCrawl_47 : decode cX3_beginsCrawl 47 = .ok (.iconst 0, 1) := dk_3 (dk_at dksX3_beginsCrawl_2 0 rfl rfl)
theorem dX3_beginsCrawl_48 : decode cX3_beginsCrawl 48 = .ok (.bastore, 1) := dk_84 (dk_at dksX3_beginsCrawl_2 1 rfl rfl)
theorem dX3_beginsCrawl_49 : decode cX3_beginsCrawl 49 = .ok (.iinc 2 1, 3) := dk_132 2 1 (dk_at dksX3_beginsCrawl_2 2 rfl rfl)
theorem dX3_beginsCrawl_52 : decode cX3_beginsCrawl 52 = .ok (.goto (-21), 3) := dk_167 255 235 (dk_at dksX3_beginsCrawl_2 5 rfl rfl)
theorem dX3_beginsCrawl_55 : decode cX3_beginsCrawl 55 = .ok (.return_, 1) := dk_177 (dk_at dksX3_beginsCrawl_2 8 rfl rfl)
abbrev cX3_notices : ByteArray := prog_11_method_28_code
def yX3_notices : MethodName := ⟨RX3, "notices", "(I)I"⟩
def dkwX3_notices_2 : List UInt8 := [167, 0, 22, 42, 180, 0, 51, 28, 51, 153, 0, 7, 2, 167, 0, 9, 42, 180, 0, 42, 28, 46, 172]
abbrev dktX3_notices_2 : List UInt8 := dkwX3_notices_2 ++ []
def dkwX3_notices_1 : List UInt8 := [42, 28, 2, 160, 0, 7, 4, 167, 0, 4, 3, 181, 0, 121, 42, 180, 0, 121, 158, 0, 7, 3]
abbrev dktX3_notices_1 : List UInt8 := dkwX3_notices_1 ++ dktX3_notices_2
def dkwX3_notices_0 : List UInt8 := [27, 3, 42, 180, 0, 118, 4, 100, 184, 0, 124, 153, 0, 11, 42, 27, 182, 0, 163, 167, 0, 4, 2, 61]
abbrev dktX3_notices_0 : List UInt8 := dkwX3_notices_0 ++ dktX3_notices_1
theorem dksX3_notices_0 : cX3_notices.data.toList.drop 0 = dktX3_notices_0 := by decide +kernel
theorem dksX3_notices_1 : cX3_notices.data.toList.drop 24 = dktX3_notices_1 := dk_seg dksX3_notices_0 24 rfl rfl
theorem dksX3_notices_2 : cX3_notices.data.toList.drop 46 = dktX3_notices_2 := dk_seg dksX3_notices_1 22 rfl rfl
theorem dX3_notices_0 : decode cX3_notices 0 = .ok (.iload_n 1, 1) := dk_27 (dk_at dksX3_notices_0 0 rfl rfl)
theorem dX3_notices_1 : decode cX3_notices 1 = .ok (.iconst 0, 1) := dk_3 (dk_at dksX3_notices_0 1 rfl rfl)
theorem dX3_notices_2 : decode cX3_notices 2 = .ok (.aload_n 0, 1) := dk_42 (dk_at dksX3_notices_0 2 rfl rfl)
theorem dX3_notices_3 : decode cX3_notices 3 = .ok (.getfield 118, 3) := dk_180 0 118 (dk_at dksX3_notices_0 3 rfl rfl)
theorem dX3_notices_6 : decode cX3_notices 6 = .ok (.iconst 1, 1) := dk_4 (dk_at dksX3_notices_0 6 rfl rfl)
theorem dX3_notices_7 : decode cX3_notices 7 = .ok (.isub, 1) := dk_100 (dk_at dksX3_notices_0 7 rfl rfl)
theorem dX3_notices_8 : decode cX3_notices 8 = .ok (.invokestatic 124, 3) := dk_184 0 124 (dk_at dksX3_notices_0 8 rfl rfl)
theorem dX3_notices_11 : decode cX3_notices 11 = .ok (.ifCond .eq 11, 3) := dk_153 0 11 (dk_at dksX3_notices_0 11 rfl rfl)
theorem dX3_notices_14 : decode cX3_notices 14 = .ok (.aload_n 0, 1) := dk_42 (dk_at dksX3_notices_0 14 rfl rfl)
theorem dX3_notices_15 : decode cX3_notices 15 = .ok (.iload_n 1, 1) := dk_27 (dk_at dksX3_notices_0 15 rfl rfl)
theorem dX3_notices_16 : decode cX3_notices 16 = .ok (.invokevirtual 163, 3) := dk_182 0 163 (dk_at dksX3_notices_0 16 rfl rfl)
theorem dX3_notices_19 : decode cX3_notices 19 = .ok (.goto 4, 3) := dk_167 0 4 (dk_at dksX3_notices_0 19 rfl rfl)
theorem dX3_notices_22 : decode cX3_notices 22 = .ok (.iconst (-1), 1) := dk_2 (dk_at dksX3_notices_0 22 rfl rfl)
theorem dX3_notices_23 : decode cX3_notices 23 = .ok (.istore_n 2, 1) := dk_61 (dk_at dksX3_notices_0 23 rfl rfl)
theorem dX3_notices_24 : decode cX3_notices 24 = .ok (.aload_n 0, 1) := dk_42 (dk_at dksX3_notices_1 0 rfl rfl)
theorem dX3_notices_25 : decode cX3_notices 25 = .ok (.iload_n 2, 1) := dk_28 (dk_at dksX3_notices_1 1 rfl rfl)
theorem dX3_notices_26 : decode cX3_notices 26 = .ok (.iconst (-1), 1) := dk_2 (dk_at dksX3_notices_1 2 rfl rfl)
theorem dX3_notices_27 : decode cX3_notices 27 = .ok (.if_icmp .ne 7, 3) := dk_160 0 7 (dk_at dksX3_notices_1 3 rfl rfl)
theorem dX3_notices_30 : decode cX3_notices 30 = .ok (.iconst 1, 1) := dk_4 (dk_at dksX3_notices_1 6 rfl rfl)
theorem dX3_notices_31 : decode cX3_notices 31 = .ok (.goto 4, 3) := dk_167 0 4 (dk_at dksX3_notices_1 7 rfl rfl)
theorem dX3_notices_34 : decode cX3_notices 34 = .ok (.iconst 0, 1) := dk_3 (dk_at dksX3_notices_1 10 rfl rfl)
theorem dX3_notices_35 : decode cX3_notices 35 = .ok (.putfield 121, 3) := dk_181 0 121 (dk_at dksX3_notices_1 11 rfl rfl)
theorem dX3_notices_38 : decode cX3_notices 38 = .ok (.aload_n 0, 1) := dk_42 (dk_at dksX3_notices_1 14 rfl rfl)
theorem dX3_notices_39 : decode cX3_notices 39 = .ok (.getfield 121, 3) := dk_180 0 121 (dk_at dksX3_notices_1 15 rfl rfl)
theorem dX3_notices_42 : decode cX3_notices 42 = .ok (.ifCond .le 7, 3) := dk_158 0 7 (dk_at dksX3_notices_1 18 rfl rfl)
theorem dX3_notices_45 : decode cX3_notices 45 = .ok (.iconst 0, 1) := dk_3 (dk_at dksX3_notices_1 21 rfl rfl)
theorem dX3_notices_46 : decode cX3_notices 46 = .ok (.goto 22, 3) := dk_167 0 22 (dk_at dksX3_notices_2 0 rfl rfl)
theorem dX3_notices_49 : decode cX3_notices 49 = .ok (.aload_n 0, 1) := dk_42 (dk_at dksX3_notices_2 3 rfl rfl)
theorem dX3_notices_50 : decode cX3_notices 50 = .ok (.getfield 51, 3) := dk_180 0 51 (dk_at dksX3_notices_2 4 rfl rfl)
theorem dX3_notices_53 : decode cX3_notices 53 = .ok (.iload_n 2, 1) := dk_28 (dk_at dksX3_notices_2 7 rfl rfl)
theorem dX3_notices_54 : decode cX3_notices 54 = .ok (.baload, 1) := dk_51 (dk_at dksX3_notices_2 8 rfl rfl)
theorem dX3_notices_55 : decode cX3_notices 55 = .ok (.ifCond .eq 7, 3) := dk_153 0 7 (dk_at dksX3_notices_2 9 rfl rfl)
theorem dX3_notices_58 : decode cX3_notices 58 = .ok (.iconst (-1), 1) := dk_2 (dk_at dksX3_notices_2 12 rfl rfl)
theorem dX3_notices_59 : decode cX3_notices 59 = .ok (.goto 9, 3) := dk_167 0 9 (dk_at dksX3_notices_2 13 rfl rfl)
theorem dX3_notices_62 : decode cX3_notices 62 = .ok (.aload_n 0, 1) := dk_42 (dk_at dksX3_notices_2 16 rfl rfl)
theorem dX3_notices_63 : decode cX3_notices 63 = .ok (.getfield 42, 3) := dk_180 0 42 (dk_at dksX3_notices_2 17 rfl rfl)
theorem dX3_notices_66 : decode cX3_notices 66 = .ok (.iload_n 2, 1) := dk_28 (dk_at dksX3_notices_2 20 rfl rfl)
theorem dX3_notices_67 : decode cX3_notices 67 = .ok (.iaload, 1) := dk_46 (dk_at dksX3_notices_2 21 rfl rfl)
theorem dX3_notices_68 : decode cX3_notices 68 = .ok (.ireturn, 1) := dk_172 (dk_at dksX3_notices_2 22 rfl rfl)
abbrev cX3_twice : ByteArray := prog_11_method_29_code
def yX3_twice : MethodName := ⟨RX3, "twice", "(I)I"⟩
def dkwX3_twice_4 : List UInt8 := [167, 0, 9, 42, 180, 0, 42, 28, 46, 172]
abbrev dktX3_twice_4 : List UInt8 := dkwX3_twice_4 ++ []
def dkwX3_twice_3 : List UInt8 := [104, 42, 180, 0, 42, 28, 46, 96, 4, 100, 46, 182, 0, 153, 42, 180, 0, 51, 28, 51, 153, 0, 7, 2]
abbrev dktX3_twice_3 : List UInt8 := dkwX3_twice_3 ++ dktX3_twice_4
def dkwX3_twice_2 : List UInt8 := [180, 0, 45, 16, 8, 28, 104, 42, 180, 0, 42, 28, 46, 96, 4, 100, 46, 42, 180, 0, 48, 16, 8, 28]
abbrev dktX3_twice_2 : List UInt8 := dkwX3_twice_2 ++ dktX3_twice_3
def dkwX3_twice_1 : List UInt8 := [154, 0, 7, 5, 167, 0, 4, 3, 181, 0, 121, 42, 180, 0, 121, 158, 0, 5, 3, 172, 42, 28, 42]
abbrev dktX3_twice_1 : List UInt8 := dkwX3_twice_1 ++ dktX3_twice_2
def dkwX3_twice_0 : List UInt8 := [42, 27, 182, 0, 163, 61, 42, 28, 2, 160, 0, 7, 4, 167, 0, 17, 42, 180, 0, 42, 28, 46]
abbrev dktX3_twice_0 : List UInt8 := dkwX3_twice_0 ++ dktX3_twice_1
theorem dksX3_twice_0 : cX3_twice.data.toList.drop 0 = dktX3_twice_0 := by decide +kernel
theorem dksX3_twice_1 : cX3_twice.data.toList.drop 22 = dktX3_twice_1 := dk_seg dksX3_twice_0 22 rfl rfl
theorem dksX3_twice_2 : cX3_twice.data.toList.drop 45 = dktX3_twice_2 := dk_seg dksX3_twice_1 23 rfl rfl
theorem dksX3_twice_3 : cX3_twice.data.toList.drop 69 = dktX3_twice_3 := dk_seg dksX3_twice_2 24 rfl rfl
theorem dksX3_twice_4 : cX3_twice.data.toList.drop 93 = dktX3_twice_4 := dk_seg dksX3_twice_3 24 rfl rfl
theorem dX3_twice_0 : decode cX3_twice 0 = .ok (.aload_n 0, 1) := dk_42 (dk_at dksX3_twice_0 0 rfl rfl)
theorem dX3_twice_1 : decode cX3_twice 1 = .ok (.iload_n 1, 1) := dk_27 (dk_at dksX3_twice_0 1 rfl rfl)
theorem dX3_twice_2 : decode cX3_twice 2 = .ok (.invokevirtual 163, 3) := dk_182 0 163 (dk_at dksX3_twice_0 2 rfl rfl)
theorem dX3_twice_5 : decode cX3_twice 5 = .ok (.istore_n 2, 1) := dk_61 (dk_at dksX3_twice_0 5 rfl rfl)
theorem dX3_twice_6 : decode cX3_twice 6 = .ok (.aload_n 0, 1) := dk_42 (dk_at dksX3_twice_0 6 rfl rfl)
theorem dX3_twice_7 : decode cX3_twice 7 = .ok (.iload_n 2, 1) := dk_28 (dk_at dksX3_twice_0 7 rfl rfl)
theorem dX3_twice_8 : decode cX3_twice 8 = .ok (.iconst (-1), 1) := dk_2 (dk_at dksX3_twice_0 8 rfl rfl)
theorem dX3_twice_9 : decode cX3_twice 9 = .ok (.if_icmp .ne 7, 3) := dk_160 0 7 (dk_at dksX3_twice_0 9 rfl rfl)
theorem dX3_twice_12 : decode cX3_twice 12 = .ok (.iconst 1, 1) := dk_4 (dk_at dksX3_twice_0 12 rfl rfl)
theorem dX3_twice_13 : decode cX3_twice 13 = .ok (.goto 17, 3) := dk_167 0 17 (dk_at dksX3_twice_0 13 rfl rfl)
theorem dX3_twice_16 : decode cX3_twice 16 = .ok (.aload_n 0, 1) := dk_42 (dk_at dksX3_twice_0 16 rfl rfl)
theorem dX3_twice_17 : decode cX3_twice 17 = .ok (.getfield 42, 3) := dk_180 0 42 (dk_at dksX3_twice_0 17 rfl rfl)
theorem dX3_twice_20 : decode cX3_twice 20 = .ok (.iload_n 2, 1) := dk_28 (dk_at dksX3_twice_0 20 rfl rfl)
theorem dX3_twice_21 : decode cX3_twice 21 = .ok (.iaload, 1) := dk_46 (dk_at dksX3_twice_0 21 rfl rfl)
theorem dX3_twice_22 : decode cX3_twice 22 = .ok (.ifCond .ne 7, 3) := dk_154 0 7 (dk_at dksX3_twice_1 0 rfl rfl)
theorem dX3_twice_25 : decode cX3_twice 25 = .ok (.iconst 2, 1) := dk_5 (dk_at dksX3_twice_1 3 rfl rfl)
theorem dX3_twice_26 : decode cX3_twice 26 = .ok (.goto 4, 3) := dk_167 0 4 (dk_at dksX3_twice_1 4 rfl rfl)
theorem dX3_twice_29 : decode cX3_twice 29 = .ok (.iconst 0, 1) := dk_3 (dk_at dksX3_twice_1 7 rfl rfl)
theorem dX3_twice_30 : decode cX3_twice 30 = .ok (.putfield 121, 3) := dk_181 0 121 (dk_at dksX3_twice_1 8 rfl rfl)
theorem dX3_twice_33 : decode cX3_twice 33 = .ok (.aload_n 0, 1) := dk_42 (dk_at dksX3_twice_1 11 rfl rfl)
theorem dX3_twice_34 : decode cX3_twice 34 = .ok (.getfield 121, 3) := dk_180 0 121 (dk_at dksX3_twice_1 12 rfl rfl)
theorem dX3_twice_37 : decode cX3_twice 37 = .ok (.ifCond .le 5, 3) := dk_158 0 5 (dk_at dksX3_twice_1 15 rfl rfl)
theorem dX3_twice_40 : decode cX3_twice 40 = .ok (.iconst 0, 1) := dk_3 (dk_at dksX3_twice_1 18 rfl rfl)
theorem dX3_twice_41 : decode cX3_twice 41 = .ok (.ireturn, 1) := dk_172 (dk_at dksX3_twice_1 19 rfl rfl)
theorem dX3_twice_42 : decode cX3_twice 42 = .ok (.aload_n 0, 1) := dk_42 (dk_at dksX3_twice_1 20 rfl rfl)
theorem dX3_twice_43 : decode cX3_twice 43 = .ok (.iload_n 2, 1) := dk_28 (dk_at dksX3_twice_1 21 rfl rfl)
theorem dX3_twice_44 : decode cX3_twice 44 = .ok (.aload_n 0, 1) := dk_42 (dk_at dksX3_twice_1 22 rfl rfl)
theorem dX3_twice_45 : decode cX3_twice 45 = .ok (.getfield 45, 3) := dk_180 0 45 (dk_at dksX3_twice_2 0 rfl rfl)
theorem dX3_twice_48 : decode cX3_twice 48 = .ok (.bipush 8, 2) := dk_16 8 (dk_at dksX3_twice_2 3 rfl rfl)
theorem dX3_twice_50 : decode cX3_twice 50 = .ok (.iload_n 2, 1) := dk_28 (dk_at dksX3_twice_2 5 rfl rfl)
theorem dX3_twice_51 : decode cX3_twice 51 = .ok (.imul, 1) := dk_104 (dk_at dksX3_twice_2 6 rfl rfl)
theorem dX3_twice_52 : decode cX3_twice 52 = .ok (.aload_n 0, 1) := dk_42 (dk_at dksX3_twice_2 7 rfl rfl)
theorem dX3_twice_53 : decode cX3_twice 53 = .ok (.getfield 42, 3) := dk_180 0 42 (dk_at dksX3_twice_2 8 rfl rfl)
theorem dX3_twice_56 : decode cX3_twice 56 = .ok (.iload_n 2, 1) := dk_28 (dk_at dksX3_twice_2 11 rfl rfl)
theorem dX3_twice_57 : decode cX3_twice 57 = .ok (.iaload, 1) := dk_46 (dk_at dksX3_twice_2 12 rfl rfl)
theorem dX3_twice_58 : decode cX3_twice 58 = .ok (.iadd, 1) := dk_96 (dk_at dksX3_twice_2 13 rfl rfl)
theorem dX3_twice_59 : decode cX3_twice 59 = .ok (.iconst 1, 1) := dk_4 (dk_at dksX3_twice_2 14 rfl rfl)
theorem dX3_twice_60 : decode cX3_twice 60 = .ok (.isub, 1) := dk_100 (dk_at dksX3_twice_2 15 rfl rfl)
theorem dX3_twice_61 : decode cX3_twice 61 = .ok (.iaload, 1) := dk_46 (dk_at dksX3_twice_2 16 rfl rfl)
theorem dX3_twice_62 : decode cX3_twice 62 = .ok (.aload_n 0, 1) := dk_42 (dk_at dksX3_twice_2 17 rfl rfl)
theorem dX3_twice_63 : decode cX3_twice 63 = .ok (.getfield 48, 3) := dk_180 0 48 (dk_at dksX3_twice_2 18 rfl rfl)
theorem dX3_twice_66 : decode cX3_twice 66 = .ok (.bipush 8, 2) := dk_16 8 (dk_at dksX3_twice_2 21 rfl rfl)
theorem dX3_twice_68 : decode cX3_twice 68 = .ok (.iload_n 2, 1) := dk_28 (dk_at dksX3_twice_2 23 rfl rfl)
theorem dX3_twice_69 : decode cX3_twice 69 = .ok (.imul, 1) := dk_104 (dk_at dksX3_twice_3 0 rfl rfl)
theorem dX3_twice_70 : decode cX3_twice 70 = .ok (.aload_n 0, 1) := dk_42 (dk_at dksX3_twice_3 1 rfl rfl)
theorem dX3_twice_71 : decode cX3_twice 71 = .ok (.getfield 42, 3) := dk_180 0 42 (dk_at dksX3_twice_3 2 rfl rfl)
theorem dX3_twice_74 : decode cX3_twice 74 = .ok (.iload_n 2, 1) := dk_28 (dk_at dksX3_twice_3 5 rfl rfl)
theorem dX3_twice_75 : decode cX3_twice 75 = .ok (.iaload, 1) := dk_46 (dk_at dksX3_twice_3 6 rfl rfl)
theorem dX3_twice_76 : decode cX3_twice 76 = .ok (.iadd, 1) := dk_96 (dk_at dksX3_twice_3 7 rfl rfl)
theorem dX3_twice_77 : decode cX3_twice 77 = .ok (.iconst 1, 1) := dk_4 (dk_at dksX3_twice_3 8 rfl rfl)
theorem dX3_twice_78 : decode cX3_twice 78 = .ok (.isub, 1) := dk_100 (dk_at dksX3_twice_3 9 rfl rfl)
theorem dX3_twice_79 : decode cX3_twice 79 = .ok (.iaload, 1) := dk_46 (dk_at dksX3_twice_3 10 rfl rfl)
theorem dX3_twice_80 : decode cX3_twice 80 = .ok (.invokevirtual 153, 3) := dk_182 0 153 (dk_at dksX3_twice_3 11 rfl rfl)
theorem dX3_twice_83 : decode cX3_twice 83 = .ok (.aload_n 0, 1) := dk_42 (dk_at dksX3_twice_3 14 rfl rfl)
theorem dX3_twice_84 : decode cX3_twice 84 = .ok (.getfield 51, 3) := dk_180 0 51 (dk_at dksX3_twice_3 15 rfl rfl)
theorem dX3_twice_87 : decode cX3_twice 87 = .ok (.iload_n 2, 1) := dk_28 (dk_at dksX3_twice_3 18 rfl rfl)
theorem dX3_twice_88 : decode cX3_twice 88 = .ok (.baload, 1) := dk_51 (dk_at dksX3_twice_3 19 rfl rfl)
theorem dX3_twice_89 : decode cX3_twice 89 = .ok (.ifCond .eq 7, 3) := dk_153 0 7 (dk_at dksX3_twice_3 20 rfl rfl)
theorem dX3_twice_92 : decode cX3_twice 92 = .ok (.iconst (-1), 1) := dk_2 (dk_at dksX3_twice_3 23 rfl rfl)
theorem dX3_twice_93 : decode cX3_twice 93 = .ok (.goto 9, 3) := dk_167 0 9 (dk_at dksX3_twice_4 0 rfl rfl)
theorem dX3_twice_96 : decode cX3_twice 96 = .ok (.aload_n 0, 1) := dk_42 (dk_at dksX3_twice_4 3 rfl rfl)
theorem dX3_twice_97 : decode cX3_twice 97 = .ok (.getfield 42, 3) := dk_180 0 42 (dk_at dksX3_twice_4 4 rfl rfl)
theorem dX3_twice_100 : decode cX3_twice 100 = .ok (.iload_n 2, 1) := dk_28 (dk_at dksX3_twice_4 7 rfl rfl)
theorem dX3_twice_101 : decode cX3_twice 101 = .ok (.iaload, 1) := dk_46 (dk_at dksX3_twice_4 8 rfl rfl)
theorem dX3_twice_102 : decode cX3_twice 102 = .ok (.ireturn, 1) := dk_172 (dk_at dksX3_twice_4 9 rfl rfl)
abbrev cX3_lose : ByteArray := prog_11_method_30_code
def yX3_lose : MethodName := ⟨RX3, "lose", "(II)I"⟩
def dkwX3_lose_3 : List UInt8 := [79, 42, 180, 0, 42, 29, 46, 172]
abbrev dktX3_lose_3 : List UInt8 := dkwX3_lose_3 ++ []
def dkwX3_lose_2 : List UInt8 := [29, 92, 46, 28, 42, 180, 0, 42, 29, 46, 162, 0, 7, 28, 167, 0, 9, 42, 180, 0, 42, 29, 46, 100]
abbrev dktX3_lose_2 : List UInt8 := dkwX3_lose_2 ++ dktX3_lose_3
def dkwX3_lose_1 : List UInt8 := [153, 0, 7, 3, 167, 0, 4, 5, 181, 0, 121, 42, 180, 0, 121, 158, 0, 5, 3, 172, 42, 180, 0, 42]
abbrev dktX3_lose_1 : List UInt8 := dkwX3_lose_1 ++ dktX3_lose_2
def dkwX3_lose_0 : List UInt8 := [42, 27, 182, 0, 163, 62, 42, 29, 2, 160, 0, 7, 4, 167, 0, 18, 28, 4, 16, 8, 184, 0, 124]
abbrev dktX3_lose_0 : List UInt8 := dkwX3_lose_0 ++ dktX3_lose_1
theorem dksX3_lose_0 : cX3_lose.data.toList.drop 0 = dktX3_lose_0 := by decide +kernel
theorem dksX3_lose_1 : cX3_lose.data.toList.drop 23 = dktX3_lose_1 := dk_seg dksX3_lose_0 23 rfl rfl
theorem dksX3_lose_2 : cX3_lose.data.toList.drop 47 = dktX3_lose_2 := dk_seg dksX3_lose_1 24 rfl rfl
theorem dksX3_lose_3 : cX3_lose.data.toList.drop 71 = dktX3_lose_3 := dk_seg dksX3_lose_2 24 rfl rfl
theorem dX3_lose_0 : decode cX3_lose 0 = .ok (.aload_n 0, 1) := dk_42 (dk_at dksX3_lose_0 0 rfl rfl)
theorem dX3_lose_1 : decode cX3_lose 1 = .ok (.iload_n 1, 1) := dk_27 (dk_at dksX3_lose_0 1 rfl rfl)
theorem dX3_lose_2 : decode cX3_lose 2 = .ok (.invokevirtual 163, 3) := dk_182 0 163 (dk_at dksX3_lose_0 2 rfl rfl)
theorem dX3_lose_5 : decode cX3_lose 5 = .ok (.istore_n 3, 1) := dk_62 (dk_at dksX3_lose_0 5 rfl rfl)
theorem dX3_lose_6 : decode cX3_lose 6 = .ok (.aload_n 0, 1) := dk_42 (dk_at dksX3_lose_0 6 rfl rfl)
theorem dX3_lose_7 : decode cX3_lose 7 = .ok (.iload_n 3, 1) := dk_29 (dk_at dksX3_lose_0 7 rfl rfl)
theorem dX3_lose_8 : decode cX3_lose 8 = .ok (.iconst (-1), 1) := dk_2 (dk_at dksX3_lose_0 8 rfl rfl)
theorem dX3_lose_9 : decode cX3_lose 9 = .ok (.if_icmp .ne 7, 3) := dk_160 0 7 (dk_at dksX3_lose_0 9 rfl rfl)
theorem dX3_lose_12 : decode cX3_lose 12 = .ok (.iconst 1, 1) := dk_4 (dk_at dksX3_lose_0 12 rfl rfl)
theorem dX3_lose_13 : decode cX3_lose 13 = .ok (.goto 18, 3) := dk_167 0 18 (dk_at dksX3_lose_0 13 rfl rfl)
theorem dX3_lose_16 : decode cX3_lose 16 = .ok (.iload_n 2, 1) := dk_28 (dk_at dksX3_lose_0 16 rfl rfl)
theorem dX3_lose_17 : decode cX3_lose 17 = .ok (.iconst 1, 1) := dk_4 (dk_at dksX3_lose_0 17 rfl rfl)
theorem dX3_lose_18 : decode cX3_lose 18 = .ok (.bipush 8, 2) := dk_16 8 (dk_at dksX3_lose_0 18 rfl rfl)
theorem dX3_lose_20 : decode cX3_lose 20 = .ok (.invokestatic 124, 3) := dk_184 0 124 (dk_at dksX3_lose_0 20 rfl rfl)
theorem dX3_lose_23 : decode cX3_lose 23 = .ok (.ifCond .eq 7, 3) := dk_153 0 7 (dk_at dksX3_lose_1 0 rfl rfl)
theorem dX3_lose_26 : decode cX3_lose 26 = .ok (.iconst 0, 1) := dk_3 (dk_at dksX3_lose_1 3 rfl rfl)
theorem dX3_lose_27 : decode cX3_lose 27 = .ok (.goto 4, 3) := dk_167 0 4 (dk_at dksX3_lose_1 4 rfl rfl)
theorem dX3_lose_30 : decode cX3_lose 30 = .ok (.iconst 2, 1) := dk_5 (dk_at dksX3_lose_1 7 rfl rfl)
theorem dX3_lose_31 : decode cX3_lose 31 = .ok (.putfield 121, 3) := dk_181 0 121 (dk_at dksX3_lose_1 8 rfl rfl)
theorem dX3_lose_34 : decode cX3_lose 34 = .ok (.aload_n 0, 1) := dk_42 (dk_at dksX3_lose_1 11 rfl rfl)
theorem dX3_lose_35 : decode cX3_lose 35 = .ok (.getfield 121, 3) := dk_180 0 121 (dk_at dksX3_lose_1 12 rfl rfl)
theorem dX3_lose_38 : decode cX3_lose 38 = .ok (.ifCond .le 5, 3) := dk_158 0 5 (dk_at dksX3_lose_1 15 rfl rfl)
theorem dX3_lose_41 : decode cX3_lose 41 = .ok (.iconst 0, 1) := dk_3 (dk_at dksX3_lose_1 18 rfl rfl)
theorem dX3_lose_42 : decode cX3_lose 42 = .ok (.ireturn, 1) := dk_172 (dk_at dksX3_lose_1 19 rfl rfl)
theorem dX3_lose_43 : decode cX3_lose 43 = .ok (.aload_n 0, 1) := dk_42 (dk_at dksX3_lose_1 20 rfl rfl)
theorem dX3_lose_44 : decode cX3_lose 44 = .ok (.getfield 42, 3) := dk_180 0 42 (dk_at dksX3_lose_1 21 rfl rfl)
theorem dX3_lose_47 : decode cX3_lose 47 = .ok (.iload_n 3, 1) := dk_29 (dk_at dksX3_lose_2 0 rfl rfl)
theorem dX3_lose_48 : decode cX3_lose 48 = .ok (.dup2, 1) := dk_92 (dk_at dksX3_lose_2 1 rfl rfl)
theorem dX3_lose_49 : decode cX3_lose 49 = .ok (.iaload, 1) := dk_46 (dk_at dksX3_lose_2 2 rfl rfl)
theorem dX3_lose_50 : decode cX3_lose 50 = .ok (.iload_n 2, 1) := dk_28 (dk_at dksX3_lose_2 3 rfl rfl)
theorem dX3_lose_51 : decode cX3_lose 51 = .ok (.aload_n 0, 1) := dk_42 (dk_at dksX3_lose_2 4 rfl rfl)
theorem dX3_lose_52 : decode cX3_lose 52 = .ok (.getfield 42, 3) := dk_180 0 42 (dk_at dksX3_lose_2 5 rfl rfl)
theorem dX3_lose_55 : decode cX3_lose 55 = .ok (.iload_n 3, 1) := dk_29 (dk_at dksX3_lose_2 8 rfl rfl)
theorem dX3_lose_56 : decode cX3_lose 56 = .ok (.iaload, 1) := dk_46 (dk_at dksX3_lose_2 9 rfl rfl)
theorem dX3_lose_57 : decode cX3_lose 57 = .ok (.if_icmp .ge 7, 3) := dk_162 0 7 (dk_at dksX3_lose_2 10 rfl rfl)
theorem dX3_lose_60 : decode cX3_lose 60 = .ok (.iload_n 2, 1) := dk_28 (dk_at dksX3_lose_2 13 rfl rfl)
theorem dX3_lose_61 : decode cX3_lose 61 = .ok (.goto 9, 3) := dk_167 0 9 (dk_at dksX3_lose_2 14 rfl rfl)
theorem dX3_lose_64 : decode cX3_lose 64 = .ok (.aload_n 0, 1) := dk_42 (dk_at dksX3_lose_2 17 rfl rfl)
theorem dX3_lose_65 : decode cX3_lose 65 = .ok (.getfield 42, 3) := dk_180 0 42 (dk_at dksX3_lose_2 18 rfl rfl)
theorem dX3_lose_68 : decode cX3_lose 68 = .ok (.iload_n 3, 1) := dk_29 (dk_at dksX3_lose_2 21 rfl rfl)
theorem dX3_lose_69 : decode cX3_lose 69 = .ok (.iaload, 1) := dk_46 (dk_at dksX3_lose_2 22 rfl rfl)
theorem dX3_lose_70 : decode cX3_lose 70 = .ok (.isub, 1) := dk_100 (dk_at dksX3_lose_2 23 rfl rfl)
theorem dX3_lose_71 : decode cX3_lose 71 = .ok (.iastore, 1) := dk_79 (dk_at dksX3_lose_3 0 rfl rfl)
theorem dX3_lose_72 : decode cX3_lose 72 = .ok (.aload_n 0, 1) := dk_42 (dk_at dksX3_lose_3 1 rfl rfl)
theorem dX3_lose_73 : decode cX3_lose 73 = .ok (.getfield 42, 3) := dk_180 0 42 (dk_at dksX3_lose_3 2 rfl rfl)
theorem dX3_lose_76 : decode cX3_lose 76 = .ok (.iload_n 3, 1) := dk_29 (dk_at dksX3_lose_3 5 rfl rfl)
theorem dX3_lose_77 : decode cX3_lose 77 = .ok (.iaload, 1) := dk_46 (dk_at dksX3_lose_3 6 rfl rfl)
theorem dX3_lose_78 : decode cX3_lose 78 = .ok (.ireturn, 1) := dk_172 (dk_at dksX3_lose_3 7 rfl rfl)
abbrev cX3_pass : ByteArray := prog_11_method_49_code
def yX3_pass : MethodName := ⟨RX3, "pass", "(I)I"⟩
def dkwX3_pass_2 : List UInt8 := [167, 0, 4, 3, 96, 181, 0, 241, 42, 180, 0, 121, 158, 0, 7, 3, 167, 0, 7, 42, 180, 0, 241, 172]
abbrev dktX3_pass_2 : List UInt8 := dkwX3_pass_2 ++ []
def dkwX3_pass_1 : List UInt8 := [164, 0, 7, 5, 167, 0, 4, 3, 181, 0, 121, 42, 89, 180, 0, 241, 42, 180, 0, 121, 154, 0, 7, 27]
abbrev dktX3_pass_1 : List UInt8 := dkwX3_pass_1 ++ dktX3_pass_2
def dkwX3_pass_0 : List UInt8 := [42, 27, 4, 17, 3, 232, 184, 0, 124, 154, 0, 7, 4, 167, 0, 19, 42, 180, 0, 241, 27, 96, 18, 244]
abbrev dktX3_pass_0 : List UInt8 := dkwX3_pass_0 ++ dktX3_pass_1
theorem dksX3_pass_0 : cX3_pass.data.toList.drop 0 = dktX3_pass_0 := by decide +kernel
theorem dksX3_pass_1 : cX3_pass.data.toList.drop 24 = dktX3_pass_1 := dk_seg dksX3_pass_0 24 rfl rfl
theorem dksX3_pass_2 : cX3_pass.data.toList.drop 48 = dktX3_pass_2 := dk_seg dksX3_pass_1 24 rfl rfl
theorem dX3_pass_0 : decode cX3_pass 0 = .ok (.aload_n 0, 1) := dk_42 (dk_at dksX3_pass_0 0 rfl rfl)
theorem dX3_pass_1 : decode cX3_pass 1 = .ok (.iload_n 1, 1) := dk_27 (dk_at dksX3_pass_0 1 rfl rfl)
theorem dX3_pass_2 : decode cX3_pass 2 = .ok (.iconst 1, 1) := dk_4 (dk_at dksX3_pass_0 2 rfl rfl)
theorem dX3_pass_3 : decode cX3_pass 3 = .ok (.sipush 1000, 3) := dk_17 3 232 (dk_at dksX3_pass_0 3 rfl rfl)
theorem dX3_pass_6 : decode cX3_pass 6 = .ok (.invokestatic 124, 3) := dk_184 0 124 (dk_at dksX3_pass_0 6 rfl rfl)
theorem dX3_pass_9 : decode cX3_pass 9 = .ok (.ifCond .ne 7, 3) := dk_154 0 7 (dk_at dksX3_pass_0 9 rfl rfl)
theorem dX3_pass_12 : decode cX3_pass 12 = .ok (.iconst 1, 1) := dk_4 (dk_at dksX3_pass_0 12 rfl rfl)
theorem dX3_pass_13 : decode cX3_pass 13 = .ok (.goto 19, 3) := dk_167 0 19 (dk_at dksX3_pass_0 13 rfl rfl)
theorem dX3_pass_16 : decode cX3_pass 16 = .ok (.aload_n 0, 1) := dk_42 (dk_at dksX3_pass_0 16 rfl rfl)
theorem dX3_pass_17 : decode cX3_pass 17 = .ok (.getfield 241, 3) := dk_180 0 241 (dk_at dksX3_pass_0 17 rfl rfl)
theorem dX3_pass_20 : decode cX3_pass 20 = .ok (.iload_n 1, 1) := dk_27 (dk_at dksX3_pass_0 20 rfl rfl)
theorem dX3_pass_21 : decode cX3_pass 21 = .ok (.iadd, 1) := dk_96 (dk_at dksX3_pass_0 21 rfl rfl)
theorem dX3_pass_22 : decode cX3_pass 22 = .ok (.ldc 244, 2) := dk_18 244 (dk_at dksX3_pass_0 22 rfl rfl)
theorem dX3_pass_24 : decode cX3_pass 24 = .ok (.if_icmp .le 7, 3) := dk_164 0 7 (dk_at dksX3_pass_1 0 rfl rfl)
theorem dX3_pass_27 : decode cX3_pass 27 = .ok (.iconst 2, 1) := dk_5 (dk_at dksX3_pass_1 3 rfl rfl)
theorem dX3_pass_28 : decode cX3_pass 28 = .ok (.goto 4, 3) := dk_167 0 4 (dk_at dksX3_pass_1 4 rfl rfl)
theorem dX3_pass_31 : decode cX3_pass 31 = .ok (.iconst 0, 1) := dk_3 (dk_at dksX3_pass_1 7 rfl rfl)
theorem dX3_pass_32 : decode cX3_pass 32 = .ok (.putfield 121, 3) := dk_181 0 121 (dk_at dksX3_pass_1 8 rfl rfl)
theorem dX3_pass_35 : decode cX3_pass 35 = .ok (.aload_n 0, 1) := dk_42 (dk_at dksX3_pass_1 11 rfl rfl)
theorem dX3_pass_36 : decode cX3_pass 36 = .ok (.dup, 1) := dk_89 (dk_at dksX3_pass_1 12 rfl rfl)
theorem dX3_pass_37 : decode cX3_pass 37 = .ok (.getfield 241, 3) := dk_180 0 241 (dk_at dksX3_pass_1 13 rfl rfl)
theorem dX3_pass_40 : decode cX3_pass 40 = .ok (.aload_n 0, 1) := dk_42 (dk_at dksX3_pass_1 16 rfl rfl)
theorem dX3_pass_41 : decode cX3_pass 41 = .ok (.getfield 121, 3) := dk_180 0 121 (dk_at dksX3_pass_1 17 rfl rfl)
theorem dX3_pass_44 : decode cX3_pass 44 = .ok (.ifCond .ne 7, 3) := dk_154 0 7 (dk_at dksX3_pass_1 20 rfl rfl)
theorem dX3_pass_47 : decode cX3_pass 47 = .ok (.iload_n 1, 1) := dk_27 (dk_at dksX3_pass_1 23 rfl rfl)
theorem dX3_pass_48 : decode cX3_pass 48 = .ok (.goto 4, 3) := dk_167 0 4 (dk_at dksX3_pass_2 0 rfl rfl)
theorem dX3_pass_51 : decode cX3_pass 51 = .ok (.iconst 0, 1) := dk_3 (dk_at dksX3_pass_2 3 rfl rfl)
theorem dX3_pass_52 : decode cX3_pass 52 = .ok (.iadd, 1) := dk_96 (dk_at dksX3_pass_2 4 rfl rfl)
theorem dX3_pass_53 : decode cX3_pass 53 = .ok (.putfield 241, 3) := dk_181 0 241 (dk_at dksX3_pass_2 5 rfl rfl)
theorem dX3_pass_56 : decode cX3_pass 56 = .ok (.aload_n 0, 1) := dk_42 (dk_at dksX3_pass_2 8 rfl rfl)
theorem dX3_pass_57 : decode cX3_pass 57 = .ok (.getfield 121, 3) := dk_180 0 121 (dk_at dksX3_pass_2 9 rfl rfl)
theorem dX3_pass_60 : decode cX3_pass 60 = .ok (.ifCond .le 7, 3) := dk_158 0 7 (dk_at dksX3_pass_2 12 rfl rfl)
theorem dX3_pass_63 : decode cX3_pass 63 = .ok (.iconst 0, 1) := dk_3 (dk_at dksX3_pass_2 15 rfl rfl)
theorem dX3_pass_64 : decode cX3_pass 64 = .ok (.goto 7, 3) := dk_167 0 7 (dk_at dksX3_pass_2 16 rfl rfl)
theorem dX3_pass_67 : decode cX3_pass 67 = .ok (.aload_n 0, 1) := dk_42 (dk_at dksX3_pass_2 19 rfl rfl)
theorem dX3_pass_68 : decode cX3_pass 68 = .ok (.getfield 241, 3) := dk_180 0 241 (dk_at dksX3_pass_2 20 rfl rfl)
theorem dX3_pass_71 : decode cX3_pass 71 = .ok (.ireturn, 1) := dk_172 (dk_at dksX3_pass_2 23 rfl rfl)
abbrev cX3_battery : ByteArray := prog_11_method_50_code
def yX3_battery : MethodName := ⟨RX3, "battery", "(Z)Z"⟩
def dkwX3_battery_0 : List UInt8 := [42, 3, 181, 0, 121, 42, 180, 0, 245, 61, 42, 27, 181, 0, 245, 28, 172]
abbrev dktX3_battery_0 : List UInt8 := dkwX3_battery_0 ++ []
theorem dksX3_battery_0 : cX3_battery.data.toList.drop 0 = dktX3_battery_0 := by decide +kernel
theorem dX3_battery_0 : decode cX3_battery 0 = .ok (.aload_n 0, 1) := dk_42 (dk_at dksX3_battery_0 0 rfl rfl)
theorem dX3_battery_1 : decode cX3_battery 1 = .ok (.iconst 0, 1) := dk_3 (dk_at dksX3_battery_0 1 rfl rfl)
theorem dX3_battery_2 : decode cX3_battery 2 = .ok (.putfield 121, 3) := dk_181 0 121 (dk_at dksX3_battery_0 2 rfl rfl)
theorem dX3_battery_5 : decode cX3_battery 5 = .ok (.aload_n 0, 1) := dk_42 (dk_at dksX3_battery_0 5 rfl rfl)
theorem dX3_battery_6 : decode cX3_battery 6 = .ok (.getfield 245, 3) := dk_180 0 245 (dk_at dksX3_battery_0 6 rfl rfl)
theorem dX3_battery_9 : decode cX3_battery 9 = .ok (.istore_n 2, 1) := dk_61 (dk_at dksX3_battery_0 9 rfl rfl)
theorem dX3_battery_10 : decode cX3_battery 10 = .ok (.aload_n 0, 1) := dk_42 (dk_at dksX3_battery_0 10 rfl rfl)
theorem dX3_battery_11 : decode cX3_battery 11 = .ok (.iload_n 1, 1) := dk_27 (dk_at dksX3_battery_0 11 rfl rfl)
theorem dX3_battery_12 : decode cX3_battery 12 = .ok (.putfield 245, 3) := dk_181 0 245 (dk_at dksX3_battery_0 12 rfl rfl)
theorem dX3_battery_15 : decode cX3_battery 15 = .ok (.iload_n 2, 1) := dk_28 (dk_at dksX3_battery_0 15 rfl rfl)
theorem dX3_battery_16 : decode cX3_battery 16 = .ok (.ireturn, 1) := dk_172 (dk_at dksX3_battery_0 16 rfl rfl)
abbrev cX3_limits : ByteArray := prog_11_method_51_code
def yX3_limits : MethodName := ⟨RX3, "limits", "(II)I"⟩
def dkwX3_limits_2 : List UInt8 := [28, 181, 0, 88, 29, 172]
abbrev dktX3_limits_2 : List UInt8 := dkwX3_limits_2 ++ []
def dkwX3_limits_1 : List UInt8 := [4, 181, 0, 121, 42, 180, 0, 121, 158, 0, 5, 3, 172, 42, 180, 0, 88, 62, 42, 27, 181, 0, 84, 42]
abbrev dktX3_limits_1 : List UInt8 := dkwX3_limits_1 ++ dktX3_limits_2
def dkwX3_limits_0 : List UInt8 := [42, 27, 3, 6, 184, 0, 124, 153, 0, 17, 28, 4, 16, 20, 184, 0, 124, 153, 0, 7, 3, 167, 0, 4]
abbrev dktX3_limits_0 : List UInt8 := dkwX3_limits_0 ++ dktX3_limits_1
theorem dksX3_limits_0 : cX3_limits.data.toList.drop 0 = dktX3_limits_0 := by decide +kernel
theorem dksX3_limits_1 : cX3_limits.data.toList.drop 24 = dktX3_limits_1 := dk_seg dksX3_limits_0 24 rfl rfl
theorem dksX3_limits_2 : cX3_limits.data.toList.drop 48 = dktX3_limits_2 := dk_seg dksX3_limits_1 24 rfl rfl
theorem dX3_limits_0 : decode cX3_limits 0 = .ok (.aload_n 0, 1) := dk_42 (dk_at dksX3_limits_0 0 rfl rfl)
theorem dX3_limits_1 : decode cX3_limits 1 = .ok (.iload_n 1, 1) := dk_27 (dk_at dksX3_limits_0 1 rfl rfl)
theorem dX3_limits_2 : decode cX3_limits 2 = .ok (.iconst 0, 1) := dk_3 (dk_at dksX3_limits_0 2 rfl rfl)
theorem dX3_limits_3 : decode cX3_limits 3 = .ok (.iconst 3, 1) := dk_6 (dk_at dksX3_limits_0 3 rfl rfl)
theorem dX3_limits_4 : decode cX3_limits 4 = .ok (.invokestatic 124, 3) := dk_184 0 124 (dk_at dksX3_limits_0 4 rfl rfl)
theorem dX3_limits_7 : decode cX3_limits 7 = .ok (.ifCond .eq 17, 3) := dk_153 0 17 (dk_at dksX3_limits_0 7 rfl rfl)
theorem dX3_limits_10 : decode cX3_limits 10 = .ok (.iload_n 2, 1) := dk_28 (dk_at dksX3_limits_0 10 rfl rfl)
theorem dX3_limits_11 : decode cX3_limits 11 = .ok (.iconst 1, 1) := dk_4 (dk_at dksX3_limits_0 11 rfl rfl)
theorem dX3_limits_12 : decode cX3_limits 12 = .ok (.bipush 20, 2) := dk_16 20 (dk_at dksX3_limits_0 12 rfl rfl)
theorem dX3_limits_14 : decode cX3_limits 14 = .ok (.invokestatic 124, 3) := dk_184 0 124 (dk_at dksX3_limits_0 14 rfl rfl)
theorem dX3_limits_17 : decode cX3_limits 17 = .ok (.ifCond .eq 7, 3) := dk_153 0 7 (dk_at dksX3_limits_0 17 rfl rfl)
theorem dX3_limits_20 : decode cX3_limits 20 = .ok (.iconst 0, 1) := dk_3 (dk_at dksX3_limits_0 20 rfl rfl)
theorem dX3_limits_21 : decode cX3_limits 21 = .ok (.goto 4, 3) := dk_167 0 4 (dk_at dksX3_limits_0 21 rfl rfl)
theorem dX3_limits_24 : decode cX3_limits 24 = .ok (.iconst 1, 1) := dk_4 (dk_at dksX3_limits_1 0 rfl rfl)
theorem dX3_limits_25 : decode cX3_limits 25 = .ok (.putfield 121, 3) := dk_181 0 121 (dk_at dksX3_limits_1 1 rfl rfl)
theorem dX3_limits_28 : decode cX3_limits 28 = .ok (.aload_n 0, 1) := dk_42 (dk_at dksX3_limits_1 4 rfl rfl)
theorem dX3_limits_29 : decode cX3_limits 29 = .ok (.getfield 121, 3) := dk_180 0 121 (dk_at dksX3_limits_1 5 rfl rfl)
theorem dX3_limits_32 : decode cX3_limits 32 = .ok (.ifCond .le 5, 3) := dk_158 0 5 (dk_at dksX3_limits_1 8 rfl rfl)
theorem dX3_limits_35 : decode cX3_limits 35 = .ok (.iconst 0, 1) := dk_3 (dk_at dksX3_limits_1 11 rfl rfl)
theorem dX3_limits_36 : decode cX3_limits 36 = .ok (.ireturn, 1) := dk_172 (dk_at dksX3_limits_1 12 rfl rfl)
theorem dX3_limits_37 : decode cX3_limits 37 = .ok (.aload_n 0, 1) := dk_42 (dk_at dksX3_limits_1 13 rfl rfl)
theorem dX3_limits_38 : decode cX3_limits 38 = .ok (.getfield 88, 3) := dk_180 0 88 (dk_at dksX3_limits_1 14 rfl rfl)
theorem dX3_limits_41 : decode cX3_limits 41 = .ok (.istore_n 3, 1) := dk_62 (dk_at dksX3_limits_1 17 rfl rfl)
theorem dX3_limits_42 : decode cX3_limits 42 = .ok (.aload_n 0, 1) := dk_42 (dk_at dksX3_limits_1 18 rfl rfl)
theorem dX3_limits_43 : decode cX3_limits 43 = .ok (.iload_n 1, 1) := dk_27 (dk_at dksX3_limits_1 19 rfl rfl)
theorem dX3_limits_44 : decode cX3_limits 44 = .ok (.putfield 84, 3) := dk_181 0 84 (dk_at dksX3_limits_1 20 rfl rfl)
theorem dX3_limits_47 : decode cX3_limits 47 = .ok (.aload_n 0, 1) := dk_42 (dk_at dksX3_limits_1 23 rfl rfl)
theorem dX3_limits_48 : decode cX3_limits 48 = .ok (.iload_n 2, 1) := dk_28 (dk_at dksX3_limits_2 0 rfl rfl)
theorem dX3_limits_49 : decode cX3_limits 49 = .ok (.putfield 88, 3) := dk_181 0 88 (dk_at dksX3_limits_2 1 rfl rfl)
theorem dX3_limits_52 : decode cX3_limits 52 = .ok (.iload_n 3, 1) := dk_29 (dk_at dksX3_limits_2 4 rfl rfl)
theorem dX3_limits_53 : decode cX3_limits 53 = .ok (.ireturn, 1) := dk_172 (dk_at dksX3_limits_2 5 rfl rfl)
abbrev cX3_work : ByteArray := prog_11_method_52_code
def yX3_work : MethodName := ⟨RX3, "work", "(I)I"⟩
def dkwX3_work_7 : List UInt8 := [21, 5, 3, 84, 132, 5, 1, 167, 255, 236, 42, 182, 1, 2, 29, 172]
abbrev dktX3_work_7 : List UInt8 := dkwX3_work_7 ++ []
def dkwX3_work_6 : List UInt8 := [167, 0, 4, 3, 96, 181, 0, 252, 3, 54, 5, 21, 5, 42, 180, 0, 183, 162, 0, 17, 42, 180, 0, 97]
abbrev dktX3_work_6 : List UInt8 := dkwX3_work_6 ++ dktX3_work_7
def dkwX3_work_5 : List UInt8 := [100, 182, 0, 255, 54, 4, 167, 255, 237, 42, 89, 180, 0, 252, 42, 180, 0, 245, 153, 0, 7, 29]
abbrev dktX3_work_5 : List UInt8 := dkwX3_work_5 ++ dktX3_work_6
def dkwX3_work_4 : List UInt8 := [27, 61, 3, 62, 42, 28, 182, 0, 255, 54, 4, 21, 4, 158, 0, 20, 29, 21, 4, 96, 62, 42, 28, 29]
abbrev dktX3_work_4 : List UInt8 := dkwX3_work_4 ++ dktX3_work_5
def dkwX3_work_3 : List UInt8 := [153, 0, 24, 16, 20, 42, 180, 0, 252, 100, 27, 162, 0, 13, 16, 20, 42, 180, 0, 252, 100, 167, 0, 4]
abbrev dktX3_work_3 : List UInt8 := dkwX3_work_3 ++ dktX3_work_4
def dkwX3_work_2 : List UInt8 := [167, 0, 4, 3, 181, 0, 252, 42, 42, 180, 0, 241, 16, 60, 108, 181, 0, 249, 42, 180, 0, 245]
abbrev dktX3_work_2 : List UInt8 := dkwX3_work_2 ++ dktX3_work_3
def dkwX3_work_1 : List UInt8 := [158, 0, 5, 3, 172, 42, 42, 180, 0, 249, 42, 180, 0, 241, 16, 60, 108, 160, 0, 10, 42, 180, 0, 252]
abbrev dktX3_work_1 : List UInt8 := dkwX3_work_1 ++ dktX3_work_2
def dkwX3_work_0 : List UInt8 := [42, 27, 4, 17, 1, 244, 184, 0, 124, 153, 0, 7, 3, 167, 0, 4, 4, 181, 0, 121, 42, 180, 0, 121]
abbrev dktX3_work_0 : List UInt8 := dkwX3_work_0 ++ dktX3_work_1
theorem dksX3_work_0 : cX3_work.data.toList.drop 0 = dktX3_work_0 := by decide +kernel
theorem dksX3_work_1 : cX3_work.data.toList.drop 24 = dktX3_work_1 := dk_seg dksX3_work_0 24 rfl rfl
theorem dksX3_work_2 : cX3_work.data.toList.drop 48 = dktX3_work_2 := dk_seg dksX3_work_1 24 rfl rfl
theorem dksX3_work_3 : cX3_work.data.toList.drop 70 = dktX3_work_3 := dk_seg dksX3_work_2 22 rfl rfl
theorem dksX3_work_4 : cX3_work.data.toList.drop 94 = dktX3_work_4 := dk_seg dksX3_work_3 24 rfl rfl
theorem dksX3_work_5 : cX3_work.data.toList.drop 118 = dktX3_work_5 := dk_seg dksX3_work_4 24 rfl rfl
theorem dksX3_work_6 : cX3_work.data.toList.drop 140 = dktX3_work_6 := dk_seg dksX3_work_5 22 rfl rfl
theorem dksX3_work_7 : cX3_work.data.toList.drop 164 = dktX3_work_7 := dk_seg dksX3_work_6 24 rfl rfl
theorem dX3_work_0 : decode cX3_work 0 = .ok (.aload_n 0, 1) := dk_42 (dk_at dksX3_work_0 0 rfl rfl)
theorem dX3_work_1 : decode cX3_work 1 = .ok (.iload_n 1, 1) := dk_27 (dk_at dksX3_work_0 1 rfl rfl)
theorem dX3_work_2 : decode cX3_work 2 = .ok (.iconst 1, 1) := dk_4 (dk_at dksX3_work_0 2 rfl rfl)
theorem dX3_work_3 : decode cX3_work 3 = .ok (.sipush 500, 3) := dk_17 1 244 (dk_at dksX3_work_0 3 rfl rfl)
theorem dX3_work_6 : decode cX3_work 6 = .ok (.invokestatic 124, 3) := dk_184 0 124 (dk_at dksX3_work_0 6 rfl rfl)
theorem dX3_work_9 : decode cX3_work 9 = .ok (.ifCond .eq 7, 3) := dk_153 0 7 (dk_at dksX3_work_0 9 rfl rfl)
theorem dX3_work_12 : decode cX3_work 12 = .ok (.iconst 0, 1) := dk_3 (dk_at dksX3_work_0 12 rfl rfl)
theorem dX3_work_13 : decode cX3_work 13 = .ok (.goto 4, 3) := dk_167 0 4 (dk_at dksX3_work_0 13 rfl rfl)
theorem dX3_work_16 : decode cX3_work 16 = .ok (.iconst 1, 1) := dk_4 (dk_at dksX3_work_0 16 rfl rfl)
theorem dX3_work_17 : decode cX3_work 17 = .ok (.putfield 121, 3) := dk_181 0 121 (dk_at dksX3_work_0 17 rfl rfl)
theorem dX3_work_20 : decode cX3_work 20 = .ok (.aload_n 0, 1) := dk_42 (dk_at dksX3_work_0 20 rfl rfl)
theorem dX3_work_21 : decode cX3_work 21 = .ok (.getfield 121, 3) := dk_180 0 121 (dk_at dksX3_work_0 21 rfl rfl)
theorem dX3_work_24 : decode cX3_work 24 = .ok (.ifCond .le 5, 3) := dk_158 0 5 (dk_at dksX3_work_1 0 rfl rfl)
theorem dX3_work_27 : decode cX3_work 27 = .ok (.iconst 0, 1) := dk_3 (dk_at dksX3_work_1 3 rfl rfl)
theorem dX3_work_28 : decode cX3_work 28 = .ok (.ireturn, 1) := dk_172 (dk_at dksX3_work_1 4 rfl rfl)
theorem dX3_work_29 : decode cX3_work 29 = .ok (.aload_n 0, 1) := dk_42 (dk_at dksX3_work_1 5 rfl rfl)
theorem dX3_work_30 : decode cX3_work 30 = .ok (.aload_n 0, 1) := dk_42 (dk_at dksX3_work_1 6 rfl rfl)
theorem dX3_work_31 : decode cX3_work 31 = .ok (.getfield 249, 3) := dk_180 0 249 (dk_at dksX3_work_1 7 rfl rfl)
theorem dX3_work_34 : decode cX3_work 34 = .ok (.aload_n 0, 1) := dk_42 (dk_at dksX3_work_1 10 rfl rfl)
theorem dX3_work_35 : decode cX3_work 35 = .ok (.getfield 241, 3) := dk_180 0 241 (dk_at dksX3_work_1 11 rfl rfl)
theorem dX3_work_38 : decode cX3_work 38 = .ok (.bipush 60, 2) := dk_16 60 (dk_at dksX3_work_1 14 rfl rfl)
theorem dX3_work_40 : decode cX3_work 40 = .ok (.idiv, 1) := dk_108 (dk_at dksX3_work_1 16 rfl rfl)
theorem dX3_work_41 : decode cX3_work 41 = .ok (.if_icmp .ne 10, 3) := dk_160 0 10 (dk_at dksX3_work_1 17 rfl rfl)
theorem dX3_work_44 : decode cX3_work 44 = .ok (.aload_n 0, 1) := dk_42 (dk_at dksX3_work_1 20 rfl rfl)
theorem dX3_work_45 : decode cX3_work 45 = .ok (.getfield 252, 3) := dk_180 0 252 (dk_at dksX3_work_1 21 rfl rfl)
theorem dX3_work_48 : decode cX3_work 48 = .ok (.goto 4, 3) := dk_167 0 4 (dk_at dksX3_work_2 0 rfl rfl)
theorem dX3_work_51 : decode cX3_work 51 = .ok (.iconst 0, 1) := dk_3 (dk_at dksX3_work_2 3 rfl rfl)
theorem dX3_work_52 : decode cX3_work 52 = .ok (.putfield 252, 3) := dk_181 0 252 (dk_at dksX3_work_2 4 rfl rfl)
theorem dX3_work_55 : decode cX3_work 55 = .ok (.aload_n 0, 1) := dk_42 (dk_at dksX3_work_2 7 rfl rfl)
theorem dX3_work_56 : decode cX3_work 56 = .ok (.aload_n 0, 1) := dk_42 (dk_at dksX3_work_2 8 rfl rfl)
theorem dX3_work_57 : decode cX3_work 57 = .ok (.getfield 241, 3) := dk_180 0 241 (dk_at dksX3_work_2 9 rfl rfl)
theorem dX3_work_60 : decode cX3_work 60 = .ok (.bipush 60, 2) := dk_16 60 (dk_at dksX3_work_2 12 rfl rfl)
theorem dX3_work_62 : decode cX3_work 62 = .ok (.idiv, 1) := dk_108 (dk_at dksX3_work_2 14 rfl rfl)
theorem dX3_work_63 : decode cX3_work 63 = .ok (.putfield 249, 3) := dk_181 0 249 (dk_at dksX3_work_2 15 rfl rfl)
theorem dX3_work_66 : decode cX3_work 66 = .ok (.aload_n 0, 1) := dk_42 (dk_at dksX3_work_2 18 rfl rfl)
theorem dX3_work_67 : decode cX3_work 67 = .ok (.getfield 245, 3) := dk_180 0 245 (dk_at dksX3_work_2 19 rfl rfl)
theorem dX3_work_70 : decode cX3_work 70 = .ok (.ifCond .eq 24, 3) := dk_153 0 24 (dk_at dksX3_work_3 0 rfl rfl)
theorem dX3_work_73 : decode cX3_work 73 = .ok (.bipush 20, 2) := dk_16 20 (dk_at dksX3_work_3 3 rfl rfl)
theorem dX3_work_75 : decode cX3_work 75 = .ok (.aload_n 0, 1) := dk_42 (dk_at dksX3_work_3 5 rfl rfl)
theorem dX3_work_76 : decode cX3_work 76 = .ok (.getfield 252, 3) := dk_180 0 252 (dk_at dksX3_work_3 6 rfl rfl)
theorem dX3_work_79 : decode cX3_work 79 = .ok (.isub, 1) := dk_100 (dk_at dksX3_work_3 9 rfl rfl)
theorem dX3_work_80 : decode cX3_work 80 = .ok (.iload_n 1, 1) := dk_27 (dk_at dksX3_work_3 10 rfl rfl)
theorem dX3_work_81 : decode cX3_work 81 = .ok (.if_icmp .ge 13, 3) := dk_162 0 13 (dk_at dksX3_work_3 11 rfl rfl)
theorem dX3_work_84 : decode cX3_work 84 = .ok (.bipush 20, 2) := dk_16 20 (dk_at dksX3_work_3 14 rfl rfl)
theorem dX3_work_86 : decode cX3_work 86 = .ok (.aload_n 0, 1) := dk_42 (dk_at dksX3_work_3 16 rfl rfl)
theorem dX3_work_87 : decode cX3_work 87 = .ok (.getfield 252, 3) := dk_180 0 252 (dk_at dksX3_work_3 17 rfl rfl)
theorem dX3_work_90 : decode cX3_work 90 = .ok (.isub, 1) := dk_100 (dk_at dksX3_work_3 20 rfl rfl)
theorem dX3_work_91 : decode cX3_work 91 = .ok (.goto 4, 3) := dk_167 0 4 (dk_at dksX3_work_3 21 rfl rfl)
theorem dX3_work_94 : decode cX3_work 94 = .ok (.iload_n 1, 1) := dk_27 (dk_at dksX3_work_4 0 rfl rfl)
theorem dX3_work_95 : decode cX3_work 95 = .ok (.istore_n 2, 1) := dk_61 (dk_at dksX3_work_4 1 rfl rfl)
theorem dX3_work_96 : decode cX3_work 96 = .ok (.iconst 0, 1) := dk_3 (dk_at dksX3_work_4 2 rfl rfl)
theorem dX3_work_97 : decode cX3_work 97 = .ok (.istore_n 3, 1) := dk_62 (dk_at dksX3_work_4 3 rfl rfl)
theorem dX3_work_98 : decode cX3_work 98 = .ok (.aload_n 0, 1) := dk_42 (dk_at dksX3_work_4 4 rfl rfl)
theorem dX3_work_99 : decode cX3_work 99 = .ok (.iload_n 2, 1) := dk_28 (dk_at dksX3_work_4 5 rfl rfl)
theorem dX3_work_100 : decode cX3_work 100 = .ok (.invokevirtual 255, 3) := dk_182 0 255 (dk_at dksX3_work_4 6 rfl rfl)
theorem dX3_work_103 : decode cX3_work 103 = .ok (.istore 4, 2) := dk_54 4 (dk_at dksX3_work_4 9 rfl rfl)
theorem dX3_work_105 : decode cX3_work 105 = .ok (.iload 4, 2) := dk_21 4 (dk_at dksX3_work_4 11 rfl rfl)
theorem dX3_work_107 : decode cX3_work 107 = .ok (.ifCond .le 20, 3) := dk_158 0 20 (dk_at dksX3_work_4 13 rfl rfl)
theorem dX3_work_110 : decode cX3_work 110 = .ok (.iload_n 3, 1) := dk_29 (dk_at dksX3_work_4 16 rfl rfl)
theorem dX3_work_111 : decode cX3_work 111 = .ok (.iload 4, 2) := dk_21 4 (dk_at dksX3_work_4 17 rfl rfl)
theorem dX3_work_113 : decode cX3_work 113 = .ok (.iadd, 1) := dk_96 (dk_at dksX3_work_4 19 rfl rfl)
theorem dX3_work_114 : decode cX3_work 114 = .ok (.istore_n 3, 1) := dk_62 (dk_at dksX3_work_4 20 rfl rfl)
theorem dX3_work_115 : decode cX3_work 115 = .ok (.aload_n 0, 1) := dk_42 (dk_at dksX3_work_4 21 rfl rfl)
theorem dX3_work_116 : decode cX3_work 116 = .ok (.iload_n 2, 1) := dk_28 (dk_at dksX3_work_4 22 rfl rfl)
theorem dX3_work_117 : decode cX3_work 117 = .ok (.iload_n 3, 1) := dk_29 (dk_at dksX3_work_4 23 rfl rfl)
theorem dX3_work_118 : decode cX3_work 118 = .ok (.isub, 1) := dk_100 (dk_at dksX3_work_5 0 rfl rfl)
theorem dX3_work_119 : decode cX3_work 119 = .ok (.invokevirtual 255, 3) := dk_182 0 255 (dk_at dksX3_work_5 1 rfl rfl)
theorem dX3_work_122 : decode cX3_work 122 = .ok (.istore 4, 2) := dk_54 4 (dk_at dksX3_work_5 4 rfl rfl)
theorem dX3_work_124 : decode cX3_work 124 = .ok (.goto (-19), 3) := dk_167 255 237 (dk_at dksX3_work_5 6 rfl rfl)
theorem dX3_work_127 : decode cX3_work 127 = .ok (.aload_n 0, 1) := dk_42 (dk_at dksX3_work_5 9 rfl rfl)
theorem dX3_work_128 : decode cX3_work 128 = .ok (.dup, 1) := dk_89 (dk_at dksX3_work_5 10 rfl rfl)
theorem dX3_work_129 : decode cX3_work 129 = .ok (.getfield 252, 3) := dk_180 0 252 (dk_at dksX3_work_5 11 rfl rfl)
theorem dX3_work_132 : decode cX3_work 132 = .ok (.aload_n 0, 1) := dk_42 (dk_at dksX3_work_5 14 rfl rfl)
theorem dX3_work_133 : decode cX3_work 133 = .ok (.getfield 245, 3) := dk_180 0 245 (dk_at dksX3_work_5 15 rfl rfl)
theorem dX3_work_136 : decode cX3_work 136 = .ok (.ifCond .eq 7, 3) := dk_153 0 7 (dk_at dksX3_work_5 18 rfl rfl)
theorem dX3_work_139 : decode cX3_work 139 = .ok (.iload_n 3, 1) := dk_29 (dk_at dksX3_work_5 21 rfl rfl)
theorem dX3_work_140 : decode cX3_work 140 = .ok (.goto 4, 3) := dk_167 0 4 (dk_at dksX3_work_6 0 rfl rfl)
theorem dX3_work_143 : decode cX3_work 143 = .ok (.iconst 0, 1) := dk_3 (dk_at dksX3_work_6 3 rfl rfl)
theorem dX3_work_144 : decode cX3_work 144 = .ok (.iadd, 1) := dk_96 (dk_at dksX3_work_6 4 rfl rfl)
theorem dX3_work_145 : decode cX3_work 145 = .ok (.putfield 252, 3) := dk_181 0 252 (dk_at dksX3_work_6 5 rfl rfl)
theorem dX3_work_148 : decode cX3_work 148 = .ok (.iconst 0, 1) := dk_3 (dk_at dksX3_work_6 8 rfl rfl)
theorem dX3_work_149 : decode cX3_work 149 = .ok (.istore 5, 2) := dk_54 5 (dk_at dksX3_work_6 9 rfl rfl)
theorem dX3_work_151 : decode cX3_work 151 = .ok (.iload 5, 2) := dk_21 5 (dk_at dksX3_work_6 11 rfl rfl)
theorem dX3_work_153 : decode cX3_work 153 = .ok (.aload_n 0, 1) := dk_42 (dk_at dksX3_work_6 13 rfl rfl)
theorem dX3_work_154 : decode cX3_work 154 = .ok (.getfield 183, 3) := dk_180 0 183 (dk_at dksX3_work_6 14 rfl rfl)
theorem dX3_work_157 : decode cX3_work 157 = .ok (.if_icmp .ge 17, 3) := dk_162 0 17 (dk_at dksX3_work_6 17 rfl rfl)
theorem dX3_work_160 : decode cX3_work 160 = .ok (.aload_n 0, 1) := dk_42 (dk_at dksX3_work_6 20 rfl rfl)
theorem dX3_work_161 : decode cX3_work 161 = .ok (.getfield 97, 3) := dk_180 0 97 (dk_at dksX3_work_6 21 rfl rfl)
theorem dX3_work_164 : decode cX3_work 164 = .ok (.iload 5, 2) := dk_21 5 (dk_at dksX3_work_7 0 rfl rfl)
theorem dX3_work_166 : decode cX3_work 166 = .ok (.iconst 0, 1) := dk_3 (dk_at dksX3_work_7 2 rfl rfl)
theorem dX3_work_167 : decode cX3_work 167 = .ok (.bastore, 1) := dk_84 (dk_at dksX3_work_7 3 rfl rfl)
theorem dX3_work_168 : decode cX3_work 168 = .ok (.iinc 5 1, 3) := dk_132 5 1 (dk_at dksX3_work_7 4 rfl rfl)
theorem dX3_work_171 : decode cX3_work 171 = .ok (.goto (-20), 3) := dk_167 255 236 (dk_at dksX3_work_7 7 rfl rfl)
theorem dX3_work_174 : decode cX3_work 174 = .ok (.aload_n 0, 1) := dk_42 (dk_at dksX3_work_7 10 rfl rfl)
theorem dX3_work_175 : decode cX3_work 175 = .ok (.invokevirtual 258, 3) := dk_182 1 2 (dk_at dksX3_work_7 11 rfl rfl)
theorem dX3_work_178 : decode cX3_work 178 = .ok (.iload_n 3, 1) := dk_29 (dk_at dksX3_work_7 14 rfl rfl)
theorem dX3_work_179 : decode cX3_work 179 = .ok (.ireturn, 1) := dk_172 (dk_at dksX3_work_7 15 rfl rfl)
abbrev cX3_does : ByteArray := prog_11_method_48_code
def yX3_does : MethodName := ⟨RX3, "does", "(I)I"⟩
def dkwX3_does_4 : List UInt8 := [182, 0, 238, 21, 5, 172]
abbrev dktX3_does_4 : List UInt8 := dkwX3_does_4 ++ []
def dkwX3_does_3 : List UInt8 := [182, 0, 232, 167, 0, 22, 29, 2, 159, 0, 11, 42, 29, 182, 0, 235, 167, 0, 9, 42, 21, 4]
abbrev dktX3_does_3 : List UInt8 := dkwX3_does_3 ++ dktX3_does_4
def dkwX3_does_2 : List UInt8 := [160, 0, 16, 29, 2, 160, 0, 11, 21, 4, 2, 160, 0, 5, 3, 172, 28, 2, 159, 0, 11, 42, 28]
abbrev dktX3_does_2 : List UInt8 := dkwX3_does_2 ++ dktX3_does_3
def dkwX3_does_1 : List UInt8 := [159, 0, 11, 42, 29, 182, 0, 229, 167, 0, 4, 4, 54, 5, 21, 5, 27, 163, 0, 19, 28, 2]
abbrev dktX3_does_1 : List UInt8 := dkwX3_does_1 ++ dktX3_does_2
def dkwX3_does_0 : List UInt8 := [42, 182, 0, 219, 61, 42, 182, 0, 223, 62, 42, 182, 0, 226, 54, 4, 28, 2, 160, 0, 16, 29, 2]
abbrev dktX3_does_0 : List UInt8 := dkwX3_does_0 ++ dktX3_does_1
theorem dksX3_does_0 : cX3_does.data.toList.drop 0 = dktX3_does_0 := by decide +kernel
theorem dksX3_does_1 : cX3_does.data.toList.drop 23 = dktX3_does_1 := dk_seg dksX3_does_0 23 rfl rfl
theorem dksX3_does_2 : cX3_does.data.toList.drop 45 = dktX3_does_2 := dk_seg dksX3_does_1 22 rfl rfl
theorem dksX3_does_3 : cX3_does.data.toList.drop 68 = dktX3_does_3 := dk_seg dksX3_does_2 23 rfl rfl
theorem dksX3_does_4 : cX3_does.data.toList.drop 90 = dktX3_does_4 := dk_seg dksX3_does_3 22 rfl rfl
theorem dX3_does_0 : decode cX3_does 0 = .ok (.aload_n 0, 1) := dk_42 (dk_at dksX3_does_0 0 rfl rfl)
theorem dX3_does_1 : decode cX3_does 1 = .ok (.invokevirtual 219, 3) := dk_182 0 219 (dk_at dksX3_does_0 1 rfl rfl)
theorem dX3_does_4 : decode cX3_does 4 = .ok (.istore_n 2, 1) := dk_61 (dk_at dksX3_does_0 4 rfl rfl)
theorem dX3_does_5 : decode cX3_does 5 = .ok (.aload_n 0, 1) := dk_42 (dk_at dksX3_does_0 5 rfl rfl)
theorem dX3_does_6 : decode cX3_does 6 = .ok (.invokevirtual 223, 3) := dk_182 0 223 (dk_at dksX3_does_0 6 rfl rfl)
theorem dX3_does_9 : decode cX3_does 9 = .ok (.istore_n 3, 1) := dk_62 (dk_at dksX3_does_0 9 rfl rfl)
theorem dX3_does_10 : decode cX3_does 10 = .ok (.aload_n 0, 1) := dk_42 (dk_at dksX3_does_0 10 rfl rfl)
theorem dX3_does_11 : decode cX3_does 11 = .ok (.invokevirtual 226, 3) := dk_182 0 226 (dk_at dksX3_does_0 11 rfl rfl)
theorem dX3_does_14 : decode cX3_does 14 = .ok (.istore 4, 2) := dk_54 4 (dk_at dksX3_does_0 14 rfl rfl)
theorem dX3_does_16 : decode cX3_does 16 = .ok (.iload_n 2, 1) := dk_28 (dk_at dksX3_does_0 16 rfl rfl)
theorem dX3_does_17 : decode cX3_does 17 = .ok (.iconst (-1), 1) := dk_2 (dk_at dksX3_does_0 17 rfl rfl)
theorem dX3_does_18 : decode cX3_does 18 = .ok (.if_icmp .ne 16, 3) := dk_160 0 16 (dk_at dksX3_does_0 18 rfl rfl)
theorem dX3_does_21 : decode cX3_does 21 = .ok (.iload_n 3, 1) := dk_29 (dk_at dksX3_does_0 21 rfl rfl)
theorem dX3_does_22 : decode cX3_does 22 = .ok (.iconst (-1), 1) := dk_2 (dk_at dksX3_does_0 22 rfl rfl)
theorem dX3_does_23 : decode cX3_does 23 = .ok (.if_icmp .eq 11, 3) := dk_159 0 11 (dk_at dksX3_does_1 0 rfl rfl)
theorem dX3_does_26 : decode cX3_does 26 = .ok (.aload_n 0, 1) := dk_42 (dk_at dksX3_does_1 3 rfl rfl)
theorem dX3_does_27 : decode cX3_does 27 = .ok (.iload_n 3, 1) := dk_29 (dk_at dksX3_does_1 4 rfl rfl)
theorem dX3_does_28 : decode cX3_does 28 = .ok (.invokevirtual 229, 3) := dk_182 0 229 (dk_at dksX3_does_1 5 rfl rfl)
theorem dX3_does_31 : decode cX3_does 31 = .ok (.goto 4, 3) := dk_167 0 4 (dk_at dksX3_does_1 8 rfl rfl)
theorem dX3_does_34 : decode cX3_does 34 = .ok (.iconst 1, 1) := dk_4 (dk_at dksX3_does_1 11 rfl rfl)
theorem dX3_does_35 : decode cX3_does 35 = .ok (.istore 5, 2) := dk_54 5 (dk_at dksX3_does_1 12 rfl rfl)
theorem dX3_does_37 : decode cX3_does 37 = .ok (.iload 5, 2) := dk_21 5 (dk_at dksX3_does_1 14 rfl rfl)
theorem dX3_does_39 : decode cX3_does 39 = .ok (.iload_n 1, 1) := dk_27 (dk_at dksX3_does_1 16 rfl rfl)
theorem dX3_does_40 : decode cX3_does 40 = .ok (.if_icmp .gt 19, 3) := dk_163 0 19 (dk_at dksX3_does_1 17 rfl rfl)
theorem dX3_does_43 : decode cX3_does 43 = .ok (.iload_n 2, 1) := dk_28 (dk_at dksX3_does_1 20 rfl rfl)
theorem dX3_does_44 : decode cX3_does 44 = .ok (.iconst (-1), 1) := dk_2 (dk_at dksX3_does_1 21 rfl rfl)
theorem dX3_does_45 : decode cX3_does 45 = .ok (.if_icmp .ne 16, 3) := dk_160 0 16 (dk_at dksX3_does_2 0 rfl rfl)
theorem dX3_does_48 : decode cX3_does 48 = .ok (.iload_n 3, 1) := dk_29 (dk_at dksX3_does_2 3 rfl rfl)
theorem dX3_does_49 : decode cX3_does 49 = .ok (.iconst (-1), 1) := dk_2 (dk_at dksX3_does_2 4 rfl rfl)
theorem dX3_does_50 : decode cX3_does 50 = .ok (.if_icmp .ne 11, 3) := dk_160 0 11 (dk_at dksX3_does_2 5 rfl rfl)
theorem dX3_does_53 : decode cX3_does 53 = .ok (.iload 4, 2) := dk_21 4 (dk_at dksX3_does_2 8 rfl rfl)
theorem dX3_does_55 : decode cX3_does 55 = .ok (.iconst (-1), 1) := dk_2 (dk_at dksX3_does_2 10 rfl rfl)
theorem dX3_does_56 : decode cX3_does 56 = .ok (.if_icmp .ne 5, 3) := dk_160 0 5 (dk_at dksX3_does_2 11 rfl rfl)
theorem dX3_does_59 : decode cX3_does 59 = .ok (.iconst 0, 1) := dk_3 (dk_at dksX3_does_2 14 rfl rfl)
theorem dX3_does_60 : decode cX3_does 60 = .ok (.ireturn, 1) := dk_172 (dk_at dksX3_does_2 15 rfl rfl)
theorem dX3_does_61 : decode cX3_does 61 = .ok (.iload_n 2, 1) := dk_28 (dk_at dksX3_does_2 16 rfl rfl)
theorem dX3_does_62 : decode cX3_does 62 = .ok (.iconst (-1), 1) := dk_2 (dk_at dksX3_does_2 17 rfl rfl)
theorem dX3_does_63 : decode cX3_does 63 = .ok (.if_icmp .eq 11, 3) := dk_159 0 11 (dk_at dksX3_does_2 18 rfl rfl)
theorem dX3_does_66 : decode cX3_does 66 = .ok (.aload_n 0, 1) := dk_42 (dk_at dksX3_does_2 21 rfl rfl)
theorem dX3_does_67 : decode cX3_does 67 = .ok (.iload_n 2, 1) := dk_28 (dk_at dksX3_does_2 22 rfl rfl)
theorem dX3_does_68 : decode cX3_does 68 = .ok (.invokevirtual 232, 3) := dk_182 0 232 (dk_at dksX3_does_3 0 rfl rfl)
theorem dX3_does_71 : decode cX3_does 71 = .ok (.goto 22, 3) := dk_167 0 22 (dk_at dksX3_does_3 3 rfl rfl)
theorem dX3_does_74 : decode cX3_does 74 = .ok (.iload_n 3, 1) := dk_29 (dk_at dksX3_does_3 6 rfl rfl)
theorem dX3_does_75 : decode cX3_does 75 = .ok (.iconst (-1), 1) := dk_2 (dk_at dksX3_does_3 7 rfl rfl)
theorem dX3_does_76 : decode cX3_does 76 = .ok (.if_icmp .eq 11, 3) := dk_159 0 11 (dk_at dksX3_does_3 8 rfl rfl)
theorem dX3_does_79 : decode cX3_does 79 = .ok (.aload_n 0, 1) := dk_42 (dk_at dksX3_does_3 11 rfl rfl)
theorem dX3_does_80 : decode cX3_does 80 = .ok (.iload_n 3, 1) := dk_29 (dk_at dksX3_does_3 12 rfl rfl)
theorem dX3_does_81 : decode cX3_does 81 = .ok (.invokevirtual 235, 3) := dk_182 0 235 (dk_at dksX3_does_3 13 rfl rfl)
theorem dX3_does_84 : decode cX3_does 84 = .ok (.goto 9, 3) := dk_167 0 9 (dk_at dksX3_does_3 16 rfl rfl)
theorem dX3_does_87 : decode cX3_does 87 = .ok (.aload_n 0, 1) := dk_42 (dk_at dksX3_does_3 19 rfl rfl)
theorem dX3_does_88 : decode cX3_does 88 = .ok (.iload 4, 2) := dk_21 4 (dk_at dksX3_does_3 20 rfl rfl)
theorem dX3_does_90 : decode cX3_does 90 = .ok (.invokevirtual 238, 3) := dk_182 0 238 (dk_at dksX3_does_4 0 rfl rfl)
theorem dX3_does_93 : decode cX3_does 93 = .ok (.iload 5, 2) := dk_21 5 (dk_at dksX3_does_4 3 rfl rfl)
theorem dX3_does_95 : decode cX3_does 95 = .ok (.ireturn, 1) := dk_172 (dk_at dksX3_does_4 5 rfl rfl)
abbrev cX3_firstNoticed : ByteArray := prog_11_method_45_code
def yX3_firstNoticed : MethodName := ⟨RX3, "firstNoticed", "()I"⟩
def dkwX3_firstNoticed_1 : List UInt8 := [180, 0, 42, 28, 46, 158, 0, 7, 28, 167, 0, 4, 27, 60, 132, 2, 255, 167, 255, 225, 27, 172]
abbrev dktX3_firstNoticed_1 : List UInt8 := dkwX3_firstNoticed_1 ++ []
def dkwX3_firstNoticed_0 : List UInt8 := [2, 60, 42, 180, 0, 132, 4, 100, 61, 28, 155, 0, 33, 42, 180, 0, 51, 28, 51, 154, 0, 12, 42]
abbrev dktX3_firstNoticed_0 : List UInt8 := dkwX3_firstNoticed_0 ++ dktX3_firstNoticed_1
theorem dksX3_firstNoticed_0 : cX3_firstNoticed.data.toList.drop 0 = dktX3_firstNoticed_0 := by decide +kernel
theorem dksX3_firstNoticed_1 : cX3_firstNoticed.data.toList.drop 23 = dktX3_firstNoticed_1 := dk_seg dksX3_firstNoticed_0 23 rfl rfl
theorem dX3_firstNoticed_0 : decode cX3_firstNoticed 0 = .ok (.iconst (-1), 1) := dk_2 (dk_at dksX3_firstNoticed_0 0 rfl rfl)
theorem dX3_firstNoticed_1 : decode cX3_firstNoticed 1 = .ok (.istore_n 1, 1) := dk_60 (dk_at dksX3_firstNoticed_0 1 rfl rfl)
theorem dX3_firstNoticed_2 : decode cX3_firstNoticed 2 = .ok (.aload_n 0, 1) := dk_42 (dk_at dksX3_firstNoticed_0 2 rfl rfl)
theorem dX3_firstNoticed_3 : decode cX3_firstNoticed 3 = .ok (.getfield 132, 3) := dk_180 0 132 (dk_at dksX3_firstNoticed_0 3 rfl rfl)
theorem dX3_firstNoticed_6 : decode cX3_firstNoticed 6 = .ok (.iconst 1, 1) := dk_4 (dk_at dksX3_firstNoticed_0 6 rfl rfl)
theorem dX3_firstNoticed_7 : decode cX3_firstNoticed 7 = .ok (.isub, 1) := dk_100 (dk_at dksX3_firstNoticed_0 7 rfl rfl)
theorem dX3_firstNoticed_8 : decode cX3_firstNoticed 8 = .ok (.istore_n 2, 1) := dk_61 (dk_at dksX3_firstNoticed_0 8 rfl rfl)
theorem dX3_firstNoticed_9 : decode cX3_firstNoticed 9 = .ok (.iload_n 2, 1) := dk_28 (dk_at dksX3_firstNoticed_0 9 rfl rfl)
theorem dX3_firstNoticed_10 : decode cX3_firstNoticed 10 = .ok (.ifCond .lt 33, 3) := dk_155 0 33 (dk_at dksX3_firstNoticed_0 10 rfl rfl)
theorem dX3_firstNoticed_13 : decode cX3_firstNoticed 13 = .ok (.aload_n 0, 1) := dk_42 (dk_at dksX3_firstNoticed_0 13 rfl rfl)
theorem dX3_firstNoticed_14 : decode cX3_firstNoticed 14 = .ok (.getfield 51, 3) := dk_180 0 51 (dk_at dksX3_firstNoticed_0 14 rfl rfl)
theorem dX3_firstNoticed_17 : decode cX3_firstNoticed 17 = .ok (.iload_n 2, 1) := dk_28 (dk_at dksX3_firstNoticed_0 17 rfl rfl)
theorem dX3_firstNoticed_18 : decode cX3_firstNoticed 18 = .ok (.baload, 1) := dk_51 (dk_at dksX3_firstNoticed_0 18 rfl rfl)
theorem dX3_firstNoticed_19 : decode cX3_firstNoticed 19 = .ok (.ifCond .ne 12, 3) := dk_154 0 12 (dk_at dksX3_firstNoticed_0 19 rfl rfl)
theorem dX3_firstNoticed_22 : decode cX3_firstNoticed 22 = .ok (.aload_n 0, 1) := dk_42 (dk_at dksX3_firstNoticed_0 22 rfl rfl)
theorem dX3_firstNoticed_23 : decode cX3_firstNoticed 23 = .ok (.getfield 42, 3) := dk_180 0 42 (dk_at dksX3_firstNoticed_1 0 rfl rfl)
theorem dX3_firstNoticed_26 : decode cX3_firstNoticed 26 = .ok (.iload_n 2, 1) := dk_28 (dk_at dksX3_firstNoticed_1 3 rfl rfl)
theorem dX3_firstNoticed_27 : decode cX3_firstNoticed 27 = .ok (.iaload, 1) := dk_46 (dk_at dksX3_firstNoticed_1 4 rfl rfl)
theorem dX3_firstNoticed_28 : decode cX3_firstNoticed 28 = .ok (.ifCond .le 7, 3) := dk_158 0 7 (dk_at dksX3_firstNoticed_1 5 rfl rfl)
theorem dX3_firstNoticed_31 : decode cX3_firstNoticed 31 = .ok (.iload_n 2, 1) := dk_28 (dk_at dksX3_firstNoticed_1 8 rfl rfl)
theorem dX3_firstNoticed_32 : decode cX3_firstNoticed 32 = .ok (.goto 4, 3) := dk_167 0 4 (dk_at dksX3_firstNoticed_1 9 rfl rfl)
theorem dX3_firstNoticed_35 : decode cX3_firstNoticed 35 = .ok (.iload_n 1, 1) := dk_27 (dk_at dksX3_firstNoticed_1 12 rfl rfl)
theorem dX3_firstNoticed_36 : decode cX3_firstNoticed 36 = .ok (.istore_n 1, 1) := dk_60 (dk_at dksX3_firstNoticed_1 13 rfl rfl)
theorem dX3_firstNoticed_37 : decode cX3_firstNoticed 37 = .ok (.iinc 2 (-1), 3) := dk_132 2 255 (dk_at dksX3_firstNoticed_1 14 rfl rfl)
theorem dX3_firstNoticed_40 : decode cX3_firstNoticed 40 = .ok (.goto (-31), 3) := dk_167 255 225 (dk_at dksX3_firstNoticed_1 17 rfl rfl)
theorem dX3_firstNoticed_43 : decode cX3_firstNoticed 43 = .ok (.iload_n 1, 1) := dk_27 (dk_at dksX3_firstNoticed_1 20 rfl rfl)
theorem dX3_firstNoticed_44 : decode cX3_firstNoticed 44 = .ok (.ireturn, 1) := dk_172 (dk_at dksX3_firstNoticed_1 21 rfl rfl)
abbrev cX3_firstAct : ByteArray := prog_11_method_33_code
def yX3_firstAct : MethodName := ⟨RX3, "firstAct", "()I"⟩
def dkwX3_firstAct_1 : List UInt8 := [167, 0, 4, 28, 60, 132, 2, 255, 167, 255, 234, 27, 172]
abbrev dktX3_firstAct_1 : List UInt8 := dkwX3_firstAct_1 ++ []
def dkwX3_firstAct_0 : List UInt8 := [2, 60, 42, 180, 0, 183, 4, 100, 61, 28, 155, 0, 24, 42, 180, 0, 97, 28, 51, 153, 0, 7, 27]
abbrev dktX3_firstAct_0 : List UInt8 := dkwX3_firstAct_0 ++ dktX3_firstAct_1
theorem dksX3_firstAct_0 : cX3_firstAct.data.toList.drop 0 = dktX3_firstAct_0 := by decide +kernel
theorem dksX3_firstAct_1 : cX3_firstAct.data.toList.drop 23 = dktX3_firstAct_1 := dk_seg dksX3_firstAct_0 23 rfl rfl
theorem dX3_firstAct_0 : decode cX3_firstAct 0 = .ok (.iconst (-1), 1) := dk_2 (dk_at dksX3_firstAct_0 0 rfl rfl)
theorem dX3_firstAct_1 : decode cX3_firstAct 1 = .ok (.istore_n 1, 1) := dk_60 (dk_at dksX3_firstAct_0 1 rfl rfl)
theorem dX3_firstAct_2 : decode cX3_firstAct 2 = .ok (.aload_n 0, 1) := dk_42 (dk_at dksX3_firstAct_0 2 rfl rfl)
theorem dX3_firstAct_3 : decode cX3_firstAct 3 = .ok (.getfield 183, 3) := dk_180 0 183 (dk_at dksX3_firstAct_0 3 rfl rfl)
theorem dX3_firstAct_6 : decode cX3_firstAct 6 = .ok (.iconst 1, 1) := dk_4 (dk_at dksX3_firstAct_0 6 rfl rfl)
theorem dX3_firstAct_7 : decode cX3_firstAct 7 = .ok (.isub, 1) := dk_100 (dk_at dksX3_firstAct_0 7 rfl rfl)
theorem dX3_firstAct_8 : decode cX3_firstAct 8 = .ok (.istore_n 2, 1) := dk_61 (dk_at dksX3_firstAct_0 8 rfl rfl)
theorem dX3_firstAct_9 : decode cX3_firstAct 9 = .ok (.iload_n 2, 1) := dk_28 (dk_at dksX3_firstAct_0 9 rfl rfl)
theorem dX3_firstAct_10 : decode cX3_firstAct 10 = .ok (.ifCond .lt 24, 3) := dk_155 0 24 (dk_at dksX3_firstAct_0 10 rfl rfl)
theorem dX3_firstAct_13 : decode cX3_firstAct 13 = .ok (.aload_n 0, 1) := dk_42 (dk_at dksX3_firstAct_0 13 rfl rfl)
theorem dX3_firstAct_14 : decode cX3_firstAct 14 = .ok (.getfield 97, 3) := dk_180 0 97 (dk_at dksX3_firstAct_0 14 rfl rfl)
theorem dX3_firstAct_17 : decode cX3_firstAct 17 = .ok (.iload_n 2, 1) := dk_28 (dk_at dksX3_firstAct_0 17 rfl rfl)
theorem dX3_firstAct_18 : decode cX3_firstAct 18 = .ok (.baload, 1) := dk_51 (dk_at dksX3_firstAct_0 18 rfl rfl)
theorem dX3_firstAct_19 : decode cX3_firstAct 19 = .ok (.ifCond .eq 7, 3) := dk_153 0 7 (dk_at dksX3_firstAct_0 19 rfl rfl)
theorem dX3_firstAct_22 : decode cX3_firstAct 22 = .ok (.iload_n 1, 1) := dk_27 (dk_at dksX3_firstAct_0 22 rfl rfl)
theorem dX3_firstAct_23 : decode cX3_firstAct 23 = .ok (.goto 4, 3) := dk_167 0 4 (dk_at dksX3_firstAct_1 0 rfl rfl)
theorem dX3_firstAct_26 : decode cX3_firstAct 26 = .ok (.iload_n 2, 1) := dk_28 (dk_at dksX3_firstAct_1 3 rfl rfl)
theorem dX3_firstAct_27 : decode cX3_firstAct 27 = .ok (.istore_n 1, 1) := dk_60 (dk_at dksX3_firstAct_1 4 rfl rfl)
theorem dX3_firstAct_28 : decode cX3_firstAct 28 = .ok (.iinc 2 (-1), 3) := dk_132 2 255 (dk_at dksX3_firstAct_1 5 rfl rfl)
theorem dX3_firstAct_31 : decode cX3_firstAct 31 = .ok (.goto (-22), 3) := dk_167 255 234 (dk_at dksX3_firstAct_1 8 rfl rfl)
theorem dX3_firstAct_34 : decode cX3_firstAct 34 = .ok (.iload_n 1, 1) := dk_27 (dk_at dksX3_firstAct_1 11 rfl rfl)
theorem dX3_firstAct_35 : decode cX3_firstAct 35 = .ok (.ireturn, 1) := dk_172 (dk_at dksX3_firstAct_1 12 rfl rfl)
abbrev cX3_firstCrawl : ByteArray := prog_11_method_46_code
def yX3_firstCrawl : MethodName := ⟨RX3, "firstCrawl", "()I"⟩
def dkwX3_firstCrawl_1 : List UInt8 := [167, 0, 4, 27, 60, 132, 2, 255, 167, 255, 234, 27, 172]
abbrev dktX3_firstCrawl_1 : List UInt8 := dkwX3_firstCrawl_1 ++ []
def dkwX3_firstCrawl_0 : List UInt8 := [2, 60, 42, 180, 0, 132, 4, 100, 61, 28, 155, 0, 24, 42, 180, 0, 54, 28, 51, 153, 0, 7, 28]
abbrev dktX3_firstCrawl_0 : List UInt8 := dkwX3_firstCrawl_0 ++ dktX3_firstCrawl_1
theorem dksX3_firstCrawl_0 : cX3_firstCrawl.data.toList.drop 0 = dktX3_firstCrawl_0 := by decide +kernel
theorem dksX3_firstCrawl_1 : cX3_firstCrawl.data.toList.drop 23 = dktX3_firstCrawl_1 := dk_seg dksX3_firstCrawl_0 23 rfl rfl
theorem dX3_firstCrawl_0 : decode cX3_firstCrawl 0 = .ok (.iconst (-1), 1) := dk_2 (dk_at dksX3_firstCrawl_0 0 rfl rfl)
theorem dX3_firstCrawl_1 : decode cX3_firstCrawl 1 = .ok (.istore_n 1, 1) := dk_60 (dk_at dksX3_firstCrawl_0 1 rfl rfl)
theorem dX3_firstCrawl_2 : decode cX3_firstCrawl 2 = .ok (.aload_n 0, 1) := dk_42 (dk_at dksX3_firstCrawl_0 2 rfl rfl)
theorem dX3_firstCrawl_3 : decode cX3_firstCrawl 3 = .ok (.getfield 132, 3) := dk_180 0 132 (dk_at dksX3_firstCrawl_0 3 rfl rfl)
theorem dX3_firstCrawl_6 : decode cX3_firstCrawl 6 = .ok (.iconst 1, 1) := dk_4 (dk_at dksX3_firstCrawl_0 6 rfl rfl)
theorem dX3_firstCrawl_7 : decode cX3_firstCrawl 7 = .ok (.isub, 1) := dk_100 (dk_at dksX3_firstCrawl_0 7 rfl rfl)
theorem dX3_firstCrawl_8 : decode cX3_firstCrawl 8 = .ok (.istore_n 2, 1) := dk_61 (dk_at dksX3_firstCrawl_0 8 rfl rfl)
theorem dX3_firstCrawl_9 : decode cX3_firstCrawl 9 = .ok (.iload_n 2, 1) := dk_28 (dk_at dksX3_firstCrawl_0 9 rfl rfl)
theorem dX3_firstCrawl_10 : decode cX3_firstCrawl 10 = .ok (.ifCond .lt 24, 3) := dk_155 0 24 (dk_at dksX3_firstCrawl_0 10 rfl rfl)
theorem dX3_firstCrawl_13 : decode cX3_firstCrawl 13 = .ok (.aload_n 0, 1) := dk_42 (dk_at dksX3_firstCrawl_0 13 rfl rfl)
theorem dX3_firstCrawl_14 : decode cX3_firstCrawl 14 = .ok (.getfield 54, 3) := dk_180 0 54 (dk_at dksX3_firstCrawl_0 14 rfl rfl)
theorem dX3_firstCrawl_17 : decode cX3_firstCrawl 17 = .ok (.iload_n 2, 1) := dk_28 (dk_at dksX3_firstCrawl_0 17 rfl rfl)
theorem dX3_firstCrawl_18 : decode cX3_firstCrawl 18 = .ok (.baload, 1) := dk_51 (dk_at dksX3_firstCrawl_0 18 rfl rfl)
theorem dX3_firstCrawl_19 : decode cX3_firstCrawl 19 = .ok (.ifCond .eq 7, 3) := dk_153 0 7 (dk_at dksX3_firstCrawl_0 19 rfl rfl)
theorem dX3_firstCrawl_22 : decode cX3_firstCrawl 22 = .ok (.iload_n 2, 1) := dk_28 (dk_at dksX3_firstCrawl_0 22 rfl rfl)
theorem dX3_firstCrawl_23 : decode cX3_firstCrawl 23 = .ok (.goto 4, 3) := dk_167 0 4 (dk_at dksX3_firstCrawl_1 0 rfl rfl)
theorem dX3_firstCrawl_26 : decode cX3_firstCrawl 26 = .ok (.iload_n 1, 1) := dk_27 (dk_at dksX3_firstCrawl_1 3 rfl rfl)
theorem dX3_firstCrawl_27 : decode cX3_firstCrawl 27 = .ok (.istore_n 1, 1) := dk_60 (dk_at dksX3_firstCrawl_1 4 rfl rfl)
theorem dX3_firstCrawl_28 : decode cX3_firstCrawl 28 = .ok (.iinc 2 (-1), 3) := dk_132 2 255 (dk_at dksX3_firstCrawl_1 5 rfl rfl)
theorem dX3_firstCrawl_31 : decode cX3_firstCrawl 31 = .ok (.goto (-22), 3) := dk_167 255 234 (dk_at dksX3_firstCrawl_1 8 rfl rfl)
theorem dX3_firstCrawl_34 : decode cX3_firstCrawl 34 = .ok (.iload_n 1, 1) := dk_27 (dk_at dksX3_firstCrawl_1 11 rfl rfl)
theorem dX3_firstCrawl_35 : decode cX3_firstCrawl 35 = .ok (.ireturn, 1) := dk_172 (dk_at dksX3_firstCrawl_1 12 rfl rfl)
abbrev cX3_cost : ByteArray := prog_11_method_40_code
def yX3_cost : MethodName := ⟨RX3, "cost", "(I)I"⟩
def dkwX3_cost_3 : List UInt8 := [42, 180, 0, 24, 28, 46, 159, 0, 14, 4, 42, 180, 0, 27, 28, 46, 96, 167, 0, 4, 4, 172]
abbrev dktX3_cost_3 : List UInt8 := dkwX3_cost_3 ++ []
def dkwX3_cost_2 : List UInt8 := [167, 0, 4, 3, 62, 29, 153, 0, 38, 42, 180, 0, 66, 28, 51, 153, 0, 18, 42, 180, 0, 75, 28, 46]
abbrev dktX3_cost_2 : List UInt8 := dkwX3_cost_2 ++ dktX3_cost_3
def dkwX3_cost_1 : List UInt8 := [159, 0, 25, 42, 180, 0, 13, 28, 51, 154, 0, 16, 42, 180, 0, 33, 28, 51, 154, 0, 7, 4]
abbrev dktX3_cost_1 : List UInt8 := dkwX3_cost_1 ++ dktX3_cost_2
def dkwX3_cost_0 : List UInt8 := [42, 180, 0, 91, 27, 46, 61, 42, 180, 0, 94, 27, 46, 4, 160, 0, 34, 42, 28, 182, 0, 150, 2]
abbrev dktX3_cost_0 : List UInt8 := dkwX3_cost_0 ++ dktX3_cost_1
theorem dksX3_cost_0 : cX3_cost.data.toList.drop 0 = dktX3_cost_0 := by decide +kernel
theorem dksX3_cost_1 : cX3_cost.data.toList.drop 23 = dktX3_cost_1 := dk_seg dksX3_cost_0 23 rfl rfl
theorem dksX3_cost_2 : cX3_cost.data.toList.drop 45 = dktX3_cost_2 := dk_seg dksX3_cost_1 22 rfl rfl
theorem dksX3_cost_3 : cX3_cost.data.toList.drop 69 = dktX3_cost_3 := dk_seg dksX3_cost_2 24 rfl rfl
theorem dX3_cost_0 : decode cX3_cost 0 = .ok (.aload_n 0, 1) := dk_42 (dk_at dksX3_cost_0 0 rfl rfl)
theorem dX3_cost_1 : decode cX3_cost 1 = .ok (.getfield 91, 3) := dk_180 0 91 (dk_at dksX3_cost_0 1 rfl rfl)
theorem dX3_cost_4 : decode cX3_cost 4 = .ok (.iload_n 1, 1) := dk_27 (dk_at dksX3_cost_0 4 rfl rfl)
theorem dX3_cost_5 : decode cX3_cost 5 = .ok (.iaload, 1) := dk_46 (dk_at dksX3_cost_0 5 rfl rfl)
theorem dX3_cost_6 : decode cX3_cost 6 = .ok (.istore_n 2, 1) := dk_61 (dk_at dksX3_cost_0 6 rfl rfl)
theorem dX3_cost_7 : decode cX3_cost 7 = .ok (.aload_n 0, 1) := dk_42 (dk_at dksX3_cost_0 7 rfl rfl)
theorem dX3_cost_8 : decode cX3_cost 8 = .ok (.getfield 94, 3) := dk_180 0 94 (dk_at dksX3_cost_0 8 rfl rfl)
theorem dX3_cost_11 : decode cX3_cost 11 = .ok (.iload_n 1, 1) := dk_27 (dk_at dksX3_cost_0 11 rfl rfl)
theorem dX3_cost_12 : decode cX3_cost 12 = .ok (.iaload, 1) := dk_46 (dk_at dksX3_cost_0 12 rfl rfl)
theorem dX3_cost_13 : decode cX3_cost 13 = .ok (.iconst 1, 1) := dk_4 (dk_at dksX3_cost_0 13 rfl rfl)
theorem dX3_cost_14 : decode cX3_cost 14 = .ok (.if_icmp .ne 34, 3) := dk_160 0 34 (dk_at dksX3_cost_0 14 rfl rfl)
theorem dX3_cost_17 : decode cX3_cost 17 = .ok (.aload_n 0, 1) := dk_42 (dk_at dksX3_cost_0 17 rfl rfl)
theorem dX3_cost_18 : decode cX3_cost 18 = .ok (.iload_n 2, 1) := dk_28 (dk_at dksX3_cost_0 18 rfl rfl)
theorem dX3_cost_19 : decode cX3_cost 19 = .ok (.invokevirtual 150, 3) := dk_182 0 150 (dk_at dksX3_cost_0 19 rfl rfl)
theorem dX3_cost_22 : decode cX3_cost 22 = .ok (.iconst (-1), 1) := dk_2 (dk_at dksX3_cost_0 22 rfl rfl)
theorem dX3_cost_23 : decode cX3_cost 23 = .ok (.if_icmp .eq 25, 3) := dk_159 0 25 (dk_at dksX3_cost_1 0 rfl rfl)
theorem dX3_cost_26 : decode cX3_cost 26 = .ok (.aload_n 0, 1) := dk_42 (dk_at dksX3_cost_1 3 rfl rfl)
theorem dX3_cost_27 : decode cX3_cost 27 = .ok (.getfield 13, 3) := dk_180 0 13 (dk_at dksX3_cost_1 4 rfl rfl)
theorem dX3_cost_30 : decode cX3_cost 30 = .ok (.iload_n 2, 1) := dk_28 (dk_at dksX3_cost_1 7 rfl rfl)
theorem dX3_cost_31 : decode cX3_cost 31 = .ok (.baload, 1) := dk_51 (dk_at dksX3_cost_1 8 rfl rfl)
theorem dX3_cost_32 : decode cX3_cost 32 = .ok (.ifCond .ne 16, 3) := dk_154 0 16 (dk_at dksX3_cost_1 9 rfl rfl)
theorem dX3_cost_35 : decode cX3_cost 35 = .ok (.aload_n 0, 1) := dk_42 (dk_at dksX3_cost_1 12 rfl rfl)
theorem dX3_cost_36 : decode cX3_cost 36 = .ok (.getfield 33, 3) := dk_180 0 33 (dk_at dksX3_cost_1 13 rfl rfl)
theorem dX3_cost_39 : decode cX3_cost 39 = .ok (.iload_n 2, 1) := dk_28 (dk_at dksX3_cost_1 16 rfl rfl)
theorem dX3_cost_40 : decode cX3_cost 40 = .ok (.baload, 1) := dk_51 (dk_at dksX3_cost_1 17 rfl rfl)
theorem dX3_cost_41 : decode cX3_cost 41 = .ok (.ifCond .ne 7, 3) := dk_154 0 7 (dk_at dksX3_cost_1 18 rfl rfl)
theorem dX3_cost_44 : decode cX3_cost 44 = .ok (.iconst 1, 1) := dk_4 (dk_at dksX3_cost_1 21 rfl rfl)
theorem dX3_cost_45 : decode cX3_cost 45 = .ok (.goto 4, 3) := dk_167 0 4 (dk_at dksX3_cost_2 0 rfl rfl)
theorem dX3_cost_48 : decode cX3_cost 48 = .ok (.iconst 0, 1) := dk_3 (dk_at dksX3_cost_2 3 rfl rfl)
theorem dX3_cost_49 : decode cX3_cost 49 = .ok (.istore_n 3, 1) := dk_62 (dk_at dksX3_cost_2 4 rfl rfl)
theorem dX3_cost_50 : decode cX3_cost 50 = .ok (.iload_n 3, 1) := dk_29 (dk_at dksX3_cost_2 5 rfl rfl)
theorem dX3_cost_51 : decode cX3_cost 51 = .ok (.ifCond .eq 38, 3) := dk_153 0 38 (dk_at dksX3_cost_2 6 rfl rfl)
theorem dX3_cost_54 : decode cX3_cost 54 = .ok (.aload_n 0, 1) := dk_42 (dk_at dksX3_cost_2 9 rfl rfl)
theorem dX3_cost_55 : decode cX3_cost 55 = .ok (.getfield 66, 3) := dk_180 0 66 (dk_at dksX3_cost_2 10 rfl rfl)
theorem dX3_cost_58 : decode cX3_cost 58 = .ok (.iload_n 2, 1) := dk_28 (dk_at dksX3_cost_2 13 rfl rfl)
theorem dX3_cost_59 : decode cX3_cost 59 = .ok (.baload, 1) := dk_51 (dk_at dksX3_cost_2 14 rfl rfl)
theorem dX3_cost_60 : decode cX3_cost 60 = .ok (.ifCond .eq 18, 3) := dk_153 0 18 (dk_at dksX3_cost_2 15 rfl rfl)
theorem dX3_cost_63 : decode cX3_cost 63 = .ok (.aload_n 0, 1) := dk_42 (dk_at dksX3_cost_2 18 rfl rfl)
theorem dX3_cost_64 : decode cX3_cost 64 = .ok (.getfield 75, 3) := dk_180 0 75 (dk_at dksX3_cost_2 19 rfl rfl)
theorem dX3_cost_67 : decode cX3_cost 67 = .ok (.iload_n 2, 1) := dk_28 (dk_at dksX3_cost_2 22 rfl rfl)
theorem dX3_cost_68 : decode cX3_cost 68 = .ok (.iaload, 1) := dk_46 (dk_at dksX3_cost_2 23 rfl rfl)
theorem dX3_cost_69 : decode cX3_cost 69 = .ok (.aload_n 0, 1) := dk_42 (dk_at dksX3_cost_3 0 rfl rfl)
theorem dX3_cost_70 : decode cX3_cost 70 = .ok (.getfield 24, 3) := dk_180 0 24 (dk_at dksX3_cost_3 1 rfl rfl)
theorem dX3_cost_73 : decode cX3_cost 73 = .ok (.iload_n 2, 1) := dk_28 (dk_at dksX3_cost_3 4 rfl rfl)
theorem dX3_cost_74 : decode cX3_cost 74 = .ok (.iaload, 1) := dk_46 (dk_at dksX3_cost_3 5 rfl rfl)
theorem dX3_cost_75 : decode cX3_cost 75 = .ok (.if_icmp .eq 14, 3) := dk_159 0 14 (dk_at dksX3_cost_3 6 rfl rfl)
theorem dX3_cost_78 : decode cX3_cost 78 = .ok (.iconst 1, 1) := dk_4 (dk_at dksX3_cost_3 9 rfl rfl)
theorem dX3_cost_79 : decode cX3_cost 79 = .ok (.aload_n 0, 1) := dk_42 (dk_at dksX3_cost_3 10 rfl rfl)
theorem dX3_cost_80 : decode cX3_cost 80 = .ok (.getfield 27, 3) := dk_180 0 27 (dk_at dksX3_cost_3 11 rfl rfl)
theorem dX3_cost_83 : decode cX3_cost 83 = .ok (.iload_n 2, 1) := dk_28 (dk_at dksX3_cost_3 14 rfl rfl)
theorem dX3_cost_84 : decode cX3_cost 84 = .ok (.iaload, 1) := dk_46 (dk_at dksX3_cost_3 15 rfl rfl)
theorem dX3_cost_85 : decode cX3_cost 85 = .ok (.iadd, 1) := dk_96 (dk_at dksX3_cost_3 16 rfl rfl)
theorem dX3_cost_86 : decode cX3_cost 86 = .ok (.goto 4, 3) := dk_167 0 4 (dk_at dksX3_cost_3 17 rfl rfl)
theorem dX3_cost_89 : decode cX3_cost 89 = .ok (.iconst 1, 1) := dk_4 (dk_at dksX3_cost_3 20 rfl rfl)
theorem dX3_cost_90 : decode cX3_cost 90 = .ok (.ireturn, 1) := dk_172 (dk_at dksX3_cost_3 21 rfl rfl)
abbrev cX3_notes : ByteArray := prog_11_method_47_code
def yX3_notes : MethodName := ⟨RX3, "notes", "(I)V"⟩
def dkwX3_notes_5 : List UInt8 := [96, 4, 96, 46, 79, 132, 2, 1, 167, 255, 195, 177]
abbrev dktX3_notes_5 : List UInt8 := dkwX3_notes_5 ++ []
def dkwX3_notes_4 : List UInt8 := [96, 4, 96, 46, 79, 42, 180, 0, 48, 16, 8, 27, 104, 28, 96, 42, 180, 0, 48, 16, 8, 27, 104, 28]
abbrev dktX3_notes_4 : List UInt8 := dkwX3_notes_4 ++ dktX3_notes_5
def dkwX3_notes_3 : List UInt8 := [27, 46, 162, 0, 57, 42, 180, 0, 45, 16, 8, 27, 104, 28, 96, 42, 180, 0, 45, 16, 8, 27, 104, 28]
abbrev dktX3_notes_3 : List UInt8 := dkwX3_notes_3 ++ dktX3_notes_4
def dkwX3_notes_2 : List UInt8 := [167, 0, 4, 4, 182, 0, 176, 42, 180, 0, 42, 27, 92, 46, 4, 100, 79, 3, 61, 28, 42, 180, 0, 42]
abbrev dktX3_notes_2 : List UInt8 := dkwX3_notes_2 ++ dktX3_notes_3
def dkwX3_notes_1 : List UInt8 := [180, 0, 48, 16, 8, 27, 104, 46, 42, 180, 0, 45, 16, 8, 27, 104, 46, 5, 160, 0, 7, 5]
abbrev dktX3_notes_1 : List UInt8 := dkwX3_notes_1 ++ dktX3_notes_2
def dkwX3_notes_0 : List UInt8 := [42, 180, 0, 51, 27, 51, 153, 0, 16, 42, 180, 0, 51, 27, 3, 84, 42, 27, 182, 0, 180, 177, 42, 42]
abbrev dktX3_notes_0 : List UInt8 := dkwX3_notes_0 ++ dktX3_notes_1
theorem dksX3_notes_0 : cX3_notes.data.toList.drop 0 = dktX3_notes_0 := by decide +kernel
theorem dksX3_notes_1 : cX3_notes.data.toList.drop 24 = dktX3_notes_1 := dk_seg dksX3_notes_0 24 rfl rfl
theorem dksX3_notes_2 : cX3_notes.data.toList.drop 46 = dktX3_notes_2 := dk_seg dksX3_notes_1 22 rfl rfl
theorem dksX3_notes_3 : cX3_notes.data.toList.drop 70 = dktX3_notes_3 := dk_seg dksX3_notes_2 24 rfl rfl
theorem dksX3_notes_4 : cX3_notes.data.toList.drop 94 = dktX3_notes_4 := dk_seg dksX3_notes_3 24 rfl rfl
theorem dksX3_notes_5 : cX3_notes.data.toList.drop 118 = dktX3_notes_5 := dk_seg dksX3_notes_4 24 rfl rfl
theorem dX3_notes_0 : decode cX3_notes 0 = .ok (.aload_n 0, 1) := dk_42 (dk_at dksX3_notes_0 0 rfl rfl)
theorem dX3_notes_1 : decode cX3_notes 1 = .ok (.getfield 51, 3) := dk_180 0 51 (dk_at dksX3_notes_0 1 rfl rfl)
theorem dX3_notes_4 : decode cX3_notes 4 = .ok (.iload_n 1, 1) := dk_27 (dk_at dksX3_notes_0 4 rfl rfl)
theorem dX3_notes_5 : decode cX3_notes 5 = .ok (.baload, 1) := dk_51 (dk_at dksX3_notes_0 5 rfl rfl)
theorem dX3_notes_6 : decode cX3_notes 6 = .ok (.ifCond .eq 16, 3) := dk_153 0 16 (dk_at dksX3_notes_0 6 rfl rfl)
theorem dX3_notes_9 : decode cX3_notes 9 = .ok (.aload_n 0, 1) := dk_42 (dk_at dksX3_notes_0 9 rfl rfl)
theorem dX3_notes_10 : decode cX3_notes 10 = .ok (.getfield 51, 3) := dk_180 0 51 (dk_at dksX3_notes_0 10 rfl rfl)
theorem dX3_notes_13 : decode cX3_notes 13 = .ok (.iload_n 1, 1) := dk_27 (dk_at dksX3_notes_0 13 rfl rfl)
theorem dX3_notes_14 : decode cX3_notes 14 = .ok (.iconst 0, 1) := dk_3 (dk_at dksX3_notes_0 14 rfl rfl)
theorem dX3_notes_15 : decode cX3_notes 15 = .ok (.bastore, 1) := dk_84 (dk_at dksX3_notes_0 15 rfl rfl)
theorem dX3_notes_16 : decode cX3_notes 16 = .ok (.aload_n 0, 1) := dk_42 (dk_at dksX3_notes_0 16 rfl rfl)
theorem dX3_notes_17 : decode cX3_notes 17 = .ok (.iload_n 1, 1) := dk_27 (dk_at dksX3_notes_0 17 rfl rfl)
theorem dX3_notes_18 : decode cX3_notes 18 = .ok (.invokevirtual 180, 3) := dk_182 0 180 (dk_at dksX3_notes_0 18 rfl rfl)
theorem dX3_notes_21 : decode cX3_notes 21 = .ok (.return_, 1) := dk_177 (dk_at dksX3_notes_0 21 rfl rfl)
theorem dX3_notes_22 : decode cX3_notes 22 = .ok (.aload_n 0, 1) := dk_42 (dk_at dksX3_notes_0 22 rfl rfl)
theorem dX3_notes_23 : decode cX3_notes 23 = .ok (.aload_n 0, 1) := dk_42 (dk_at dksX3_notes_0 23 rfl rfl)
theorem dX3_notes_24 : decode cX3_notes 24 = .ok (.getfield 48, 3) := dk_180 0 48 (dk_at dksX3_notes_1 0 rfl rfl)
theorem dX3_notes_27 : decode cX3_notes 27 = .ok (.bipush 8, 2) := dk_16 8 (dk_at dksX3_notes_1 3 rfl rfl)
theorem dX3_notes_29 : decode cX3_notes 29 = .ok (.iload_n 1, 1) := dk_27 (dk_at dksX3_notes_1 5 rfl rfl)
theorem dX3_notes_30 : decode cX3_notes 30 = .ok (.imul, 1) := dk_104 (dk_at dksX3_notes_1 6 rfl rfl)
theorem dX3_notes_31 : decode cX3_notes 31 = .ok (.iaload, 1) := dk_46 (dk_at dksX3_notes_1 7 rfl rfl)
theorem dX3_notes_32 : decode cX3_notes 32 = .ok (.aload_n 0, 1) := dk_42 (dk_at dksX3_notes_1 8 rfl rfl)
theorem dX3_notes_33 : decode cX3_notes 33 = .ok (.getfield 45, 3) := dk_180 0 45 (dk_at dksX3_notes_1 9 rfl rfl)
theorem dX3_notes_36 : decode cX3_notes 36 = .ok (.bipush 8, 2) := dk_16 8 (dk_at dksX3_notes_1 12 rfl rfl)
theorem dX3_notes_38 : decode cX3_notes 38 = .ok (.iload_n 1, 1) := dk_27 (dk_at dksX3_notes_1 14 rfl rfl)
theorem dX3_notes_39 : decode cX3_notes 39 = .ok (.imul, 1) := dk_104 (dk_at dksX3_notes_1 15 rfl rfl)
theorem dX3_notes_40 : decode cX3_notes 40 = .ok (.iaload, 1) := dk_46 (dk_at dksX3_notes_1 16 rfl rfl)
theorem dX3_notes_41 : decode cX3_notes 41 = .ok (.iconst 2, 1) := dk_5 (dk_at dksX3_notes_1 17 rfl rfl)
theorem dX3_notes_42 : decode cX3_notes 42 = .ok (.if_icmp .ne 7, 3) := dk_160 0 7 (dk_at dksX3_notes_1 18 rfl rfl)
theorem dX3_notes_45 : decode cX3_notes 45 = .ok (.iconst 2, 1) := dk_5 (dk_at dksX3_notes_1 21 rfl rfl)
theorem dX3_notes_46 : decode cX3_notes 46 = .ok (.goto 4, 3) := dk_167 0 4 (dk_at dksX3_notes_2 0 rfl rfl)
theorem dX3_notes_49 : decode cX3_notes 49 = .ok (.iconst 1, 1) := dk_4 (dk_at dksX3_notes_2 3 rfl rfl)
theorem dX3_notes_50 : decode cX3_notes 50 = .ok (.invokevirtual 176, 3) := dk_182 0 176 (dk_at dksX3_notes_2 4 rfl rfl)
theorem dX3_notes_53 : decode cX3_notes 53 = .ok (.aload_n 0, 1) := dk_42 (dk_at dksX3_notes_2 7 rfl rfl)
theorem dX3_notes_54 : decode cX3_notes 54 = .ok (.getfield 42, 3) := dk_180 0 42 (dk_at dksX3_notes_2 8 rfl rfl)
theorem dX3_notes_57 : decode cX3_notes 57 = .ok (.iload_n 1, 1) := dk_27 (dk_at dksX3_notes_2 11 rfl rfl)
theorem dX3_notes_58 : decode cX3_notes 58 = .ok (.dup2, 1) := dk_92 (dk_at dksX3_notes_2 12 rfl rfl)
theorem dX3_notes_59 : decode cX3_notes 59 = .ok (.iaload, 1) := dk_46 (dk_at dksX3_notes_2 13 rfl rfl)
theorem dX3_notes_60 : decode cX3_notes 60 = .ok (.iconst 1, 1) := dk_4 (dk_at dksX3_notes_2 14 rfl rfl)
theorem dX3_notes_61 : decode cX3_notes 61 = .ok (.isub, 1) := dk_100 (dk_at dksX3_notes_2 15 rfl rfl)
theorem dX3_notes_62 : decode cX3_notes 62 = .ok (.iastore, 1) := dk_79 (dk_at dksX3_notes_2 16 rfl rfl)
theorem dX3_notes_63 : decode cX3_notes 63 = .ok (.iconst 0, 1) := dk_3 (dk_at dksX3_notes_2 17 rfl rfl)
theorem dX3_notes_64 : decode cX3_notes 64 = .ok (.istore_n 2, 1) := dk_61 (dk_at dksX3_notes_2 18 rfl rfl)
theorem dX3_notes_65 : decode cX3_notes 65 = .ok (.iload_n 2, 1) := dk_28 (dk_at dksX3_notes_2 19 rfl rfl)
theorem dX3_notes_66 : decode cX3_notes 66 = .ok (.aload_n 0, 1) := dk_42 (dk_at dksX3_notes_2 20 rfl rfl)
theorem dX3_notes_67 : decode cX3_notes 67 = .ok (.getfield 42, 3) := dk_180 0 42 (dk_at dksX3_notes_2 21 rfl rfl)
theorem dX3_notes_70 : decode cX3_notes 70 = .ok (.iload_n 1, 1) := dk_27 (dk_at dksX3_notes_3 0 rfl rfl)
theorem dX3_notes_71 : decode cX3_notes 71 = .ok (.iaload, 1) := dk_46 (dk_at dksX3_notes_3 1 rfl rfl)
theorem dX3_notes_72 : decode cX3_notes 72 = .ok (.if_icmp .ge 57, 3) := dk_162 0 57 (dk_at dksX3_notes_3 2 rfl rfl)
theorem dX3_notes_75 : decode cX3_notes 75 = .ok (.aload_n 0, 1) := dk_42 (dk_at dksX3_notes_3 5 rfl rfl)
theorem dX3_notes_76 : decode cX3_notes 76 = .ok (.getfield 45, 3) := dk_180 0 45 (dk_at dksX3_notes_3 6 rfl rfl)
theorem dX3_notes_79 : decode cX3_notes 79 = .ok (.bipush 8, 2) := dk_16 8 (dk_at dksX3_notes_3 9 rfl rfl)
theorem dX3_notes_81 : decode cX3_notes 81 = .ok (.iload_n 1, 1) := dk_27 (dk_at dksX3_notes_3 11 rfl rfl)
theorem dX3_notes_82 : decode cX3_notes 82 = .ok (.imul, 1) := dk_104 (dk_at dksX3_notes_3 12 rfl rfl)
theorem dX3_notes_83 : decode cX3_notes 83 = .ok (.iload_n 2, 1) := dk_28 (dk_at dksX3_notes_3 13 rfl rfl)
theorem dX3_notes_84 : decode cX3_notes 84 = .ok (.iadd, 1) := dk_96 (dk_at dksX3_notes_3 14 rfl rfl)
theorem dX3_notes_85 : decode cX3_notes 85 = .ok (.aload_n 0, 1) := dk_42 (dk_at dksX3_notes_3 15 rfl rfl)
theorem dX3_notes_86 : decode cX3_notes 86 = .ok (.getfield 45, 3) := dk_180 0 45 (dk_at dksX3_notes_3 16 rfl rfl)
theorem dX3_notes_89 : decode cX3_notes 89 = .ok (.bipush 8, 2) := dk_16 8 (dk_at dksX3_notes_3 19 rfl rfl)
theorem dX3_notes_91 : decode cX3_notes 91 = .ok (.iload_n 1, 1) := dk_27 (dk_at dksX3_notes_3 21 rfl rfl)
theorem dX3_notes_92 : decode cX3_notes 92 = .ok (.imul, 1) := dk_104 (dk_at dksX3_notes_3 22 rfl rfl)
theorem dX3_notes_93 : decode cX3_notes 93 = .ok (.iload_n 2, 1) := dk_28 (dk_at dksX3_notes_3 23 rfl rfl)
theorem dX3_notes_94 : decode cX3_notes 94 = .ok (.iadd, 1) := dk_96 (dk_at dksX3_notes_4 0 rfl rfl)
theorem dX3_notes_95 : decode cX3_notes 95 = .ok (.iconst 1, 1) := dk_4 (dk_at dksX3_notes_4 1 rfl rfl)
theorem dX3_notes_96 : decode cX3_notes 96 = .ok (.iadd, 1) := dk_96 (dk_at dksX3_notes_4 2 rfl rfl)
theorem dX3_notes_97 : decode cX3_notes 97 = .ok (.iaload, 1) := dk_46 (dk_at dksX3_notes_4 3 rfl rfl)
theorem dX3_notes_98 : decode cX3_notes 98 = .ok (.iastore, 1) := dk_79 (dk_at dksX3_notes_4 4 rfl rfl)
theorem dX3_notes_99 : decode cX3_notes 99 = .ok (.aload_n 0, 1) := dk_42 (dk_at dksX3_notes_4 5 rfl rfl)
theorem dX3_notes_100 : decode cX3_notes 100 = .ok (.getfield 48, 3) := dk_180 0 48 (dk_at dksX3_notes_4 6 rfl rfl)
theorem dX3_notes_103 : decode cX3_notes 103 = .ok (.bipush 8, 2) := dk_16 8 (dk_at dksX3_notes_4 9 rfl rfl)
theorem dX3_notes_105 : decode cX3_notes 105 = .ok (.iload_n 1, 1) := dk_27 (dk_at dksX3_notes_4 11 rfl rfl)
theorem dX3_notes_106 : decode cX3_notes 106 = .ok (.imul, 1) := dk_104 (dk_at dksX3_notes_4 12 rfl rfl)
theorem dX3_notes_107 : decode cX3_notes 107 = .ok (.iload_n 2, 1) := dk_28 (dk_at dksX3_notes_4 13 rfl rfl)
theorem dX3_notes_108 : decode cX3_notes 108 = .ok (.iadd, 1) := dk_96 (dk_at dksX3_notes_4 14 rfl rfl)
theorem dX3_notes_109 : decode cX3_notes 109 = .ok (.aload_n 0, 1) := dk_42 (dk_at dksX3_notes_4 15 rfl rfl)
theorem dX3_notes_110 : decode cX3_notes 110 = .ok (.getfield 48, 3) := dk_180 0 48 (dk_at dksX3_notes_4 16 rfl rfl)
theorem dX3_notes_113 : decode cX3_notes 113 = .ok (.bipush 8, 2) := dk_16 8 (dk_at dksX3_notes_4 19 rfl rfl)
theorem dX3_notes_115 : decode cX3_notes 115 = .ok (.iload_n 1, 1) := dk_27 (dk_at dksX3_notes_4 21 rfl rfl)
theorem dX3_notes_116 : decode cX3_notes 116 = .ok (.imul, 1) := dk_104 (dk_at dksX3_notes_4 22 rfl rfl)
theorem dX3_notes_117 : decode cX3_notes 117 = .ok (.iload_n 2, 1) := dk_28 (dk_at dksX3_notes_4 23 rfl rfl)
theorem dX3_notes_118 : decode cX3_notes 118 = .ok (.iadd, 1) := dk_96 (dk_at dksX3_notes_5 0 rfl rfl)
theorem dX3_notes_119 : decode cX3_notes 119 = .ok (.iconst 1, 1) := dk_4 (dk_at dksX3_notes_5 1 rfl rfl)
theorem dX3_notes_120 : decode cX3_notes 120 = .ok (.iadd, 1) := dk_96 (dk_at dksX3_notes_5 2 rfl rfl)
theorem dX3_notes_121 : decode cX3_notes 121 = .ok (.iaload, 1) := dk_46 (dk_at dksX3_notes_5 3 rfl rfl)
theorem dX3_notes_122 : decode cX3_notes 122 = .ok (.iastore, 1) := dk_79 (dk_at dksX3_notes_5 4 rfl rfl)
theorem dX3_notes_123 : decode cX3_notes 123 = .ok (.iinc 2 1, 3) := dk_132 2 1 (dk_at dksX3_notes_5 5 rfl rfl)
theorem dX3_notes_126 : decode cX3_notes 126 = .ok (.goto (-61), 3) := dk_167 255 195 (dk_at dksX3_notes_5 8 rfl rfl)
theorem dX3_notes_129 : decode cX3_notes 129 = .ok (.return_, 1) := dk_177 (dk_at dksX3_notes_5 11 rfl rfl)
abbrev cX3_acts : ByteArray := prog_11_method_41_code
def yX3_acts : MethodName := ⟨RX3, "acts", "(I)V"⟩
def dkwX3_acts_8 : List UInt8 := [154, 0, 8, 42, 28, 182, 0, 207, 177]
abbrev dktX3_acts_8 : List UInt8 := dkwX3_acts_8 ++ []
def dkwX3_acts_7 : List UInt8 := [46, 42, 180, 0, 24, 28, 46, 160, 0, 7, 4, 167, 0, 4, 3, 54, 4, 42, 28, 182, 0, 204, 21, 4]
abbrev dktX3_acts_7 : List UInt8 := dkwX3_acts_7 ++ dktX3_acts_8
def dkwX3_acts_6 : List UInt8 := [180, 0, 183, 4, 100, 4, 84, 167, 0, 49, 42, 180, 0, 66, 28, 51, 153, 0, 22, 42, 180, 0, 75, 28]
abbrev dktX3_acts_6 : List UInt8 := dkwX3_acts_6 ++ dktX3_acts_7
def dkwX3_acts_5 : List UInt8 := [167, 0, 79, 42, 180, 0, 33, 28, 51, 153, 0, 24, 42, 28, 4, 182, 0, 176, 42, 180, 0, 97, 42]
abbrev dktX3_acts_5 : List UInt8 := dkwX3_acts_5 ++ dktX3_acts_6
def dkwX3_acts_4 : List UInt8 := [180, 0, 16, 21, 4, 46, 28, 160, 0, 10, 42, 21, 4, 4, 182, 0, 176, 132, 4, 1, 167, 255, 216]
abbrev dktX3_acts_4 : List UInt8 := dkwX3_acts_4 ++ dktX3_acts_5
def dkwX3_acts_3 : List UInt8 := [3, 54, 4, 21, 4, 42, 180, 0, 118, 162, 0, 37, 42, 180, 0, 7, 21, 4, 51, 153, 0, 21, 42]
abbrev dktX3_acts_3 : List UInt8 := dkwX3_acts_3 ++ dktX3_acts_4
def dkwX3_acts_2 : List UInt8 := [167, 0, 149, 42, 180, 0, 13, 28, 51, 153, 0, 64, 42, 28, 182, 0, 204, 42, 180, 0, 75, 28, 3, 79]
abbrev dktX3_acts_2 : List UInt8 := dkwX3_acts_2 ++ dktX3_acts_3
def dkwX3_acts_1 : List UInt8 := [2, 160, 0, 11, 42, 28, 182, 0, 201, 167, 0, 163, 29, 5, 160, 0, 12, 42, 28, 4, 182, 0, 176]
abbrev dktX3_acts_1 : List UInt8 := dkwX3_acts_1 ++ dktX3_acts_2
def dkwX3_acts_0 : List UInt8 := [42, 180, 0, 91, 27, 46, 61, 42, 180, 0, 94, 27, 46, 62, 42, 27, 182, 0, 198, 42, 28, 182, 0, 150]
abbrev dktX3_acts_0 : List UInt8 := dkwX3_acts_0 ++ dktX3_acts_1
theorem dksX3_acts_0 : cX3_acts.data.toList.drop 0 = dktX3_acts_0 := by decide +kernel
theorem dksX3_acts_1 : cX3_acts.data.toList.drop 24 = dktX3_acts_1 := dk_seg dksX3_acts_0 24 rfl rfl
theorem dksX3_acts_2 : cX3_acts.data.toList.drop 47 = dktX3_acts_2 := dk_seg dksX3_acts_1 23 rfl rfl
theorem dksX3_acts_3 : cX3_acts.data.toList.drop 71 = dktX3_acts_3 := dk_seg dksX3_acts_2 24 rfl rfl
theorem dksX3_acts_4 : cX3_acts.data.toList.drop 94 = dktX3_acts_4 := dk_seg dksX3_acts_3 23 rfl rfl
theorem dksX3_acts_5 : cX3_acts.data.toList.drop 117 = dktX3_acts_5 := dk_seg dksX3_acts_4 23 rfl rfl
theorem dksX3_acts_6 : cX3_acts.data.toList.drop 140 = dktX3_acts_6 := dk_seg dksX3_acts_5 23 rfl rfl
theorem dksX3_acts_7 : cX3_acts.data.toList.drop 164 = dktX3_acts_7 := dk_seg dksX3_acts_6 24 rfl rfl
theorem dksX3_acts_8 : cX3_acts.data.toList.drop 188 = dktX3_acts_8 := dk_seg dksX3_acts_7 24 rfl rfl
theorem dX3_acts_0 : decode cX3_acts 0 = .ok (.aload_n 0, 1) := dk_42 (dk_at dksX3_acts_0 0 rfl rfl)
theorem dX3_acts_1 : decode cX3_acts 1 = .ok (.getfield 91, 3) := dk_180 0 91 (dk_at dksX3_acts_0 1 rfl rfl)
theorem dX3_acts_4 : decode cX3_acts 4 = .ok (.iload_n 1, 1) := dk_27 (dk_at dksX3_acts_0 4 rfl rfl)
theorem dX3_acts_5 : decode cX3_acts 5 = .ok (.iaload, 1) := dk_46 (dk_at dksX3_acts_0 5 rfl rfl)
theorem dX3_acts_6 : decode cX3_acts 6 = .ok (.istore_n 2, 1) := dk_61 (dk_at dksX3_acts_0 6 rfl rfl)
theorem dX3_acts_7 : decode cX3_acts 7 = .ok (.aload_n 0, 1) := dk_42 (dk_at dksX3_acts_0 7 rfl rfl)
theorem dX3_acts_8 : decode cX3_acts 8 = .ok (.getfield 94, 3) := dk_180 0 94 (dk_at dksX3_acts_0 8 rfl rfl)
theorem dX3_acts_11 : decode cX3_acts 11 = .ok (.iload_n 1, 1) := dk_27 (dk_at dksX3_acts_0 11 rfl rfl)
theorem dX3_acts_12 : decode cX3_acts 12 = .ok (.iaload, 1) := dk_46 (dk_at dksX3_acts_0 12 rfl rfl)
theorem dX3_acts_13 : decode cX3_acts 13 = .ok (.istore_n 3, 1) := dk_62 (dk_at dksX3_acts_0 13 rfl rfl)
theorem dX3_acts_14 : decode cX3_acts 14 = .ok (.aload_n 0, 1) := dk_42 (dk_at dksX3_acts_0 14 rfl rfl)
theorem dX3_acts_15 : decode cX3_acts 15 = .ok (.iload_n 1, 1) := dk_27 (dk_at dksX3_acts_0 15 rfl rfl)
theorem dX3_acts_16 : decode cX3_acts 16 = .ok (.invokevirtual 198, 3) := dk_182 0 198 (dk_at dksX3_acts_0 16 rfl rfl)
theorem dX3_acts_19 : decode cX3_acts 19 = .ok (.aload_n 0, 1) := dk_42 (dk_at dksX3_acts_0 19 rfl rfl)
theorem dX3_acts_20 : decode cX3_acts 20 = .ok (.iload_n 2, 1) := dk_28 (dk_at dksX3_acts_0 20 rfl rfl)
theorem dX3_acts_21 : decode cX3_acts 21 = .ok (.invokevirtual 150, 3) := dk_182 0 150 (dk_at dksX3_acts_0 21 rfl rfl)
theorem dX3_acts_24 : decode cX3_acts 24 = .ok (.iconst (-1), 1) := dk_2 (dk_at dksX3_acts_1 0 rfl rfl)
theorem dX3_acts_25 : decode cX3_acts 25 = .ok (.if_icmp .ne 11, 3) := dk_160 0 11 (dk_at dksX3_acts_1 1 rfl rfl)
theorem dX3_acts_28 : decode cX3_acts 28 = .ok (.aload_n 0, 1) := dk_42 (dk_at dksX3_acts_1 4 rfl rfl)
theorem dX3_acts_29 : decode cX3_acts 29 = .ok (.iload_n 2, 1) := dk_28 (dk_at dksX3_acts_1 5 rfl rfl)
theorem dX3_acts_30 : decode cX3_acts 30 = .ok (.invokevirtual 201, 3) := dk_182 0 201 (dk_at dksX3_acts_1 6 rfl rfl)
theorem dX3_acts_33 : decode cX3_acts 33 = .ok (.goto 163, 3) := dk_167 0 163 (dk_at dksX3_acts_1 9 rfl rfl)
theorem dX3_acts_36 : decode cX3_acts 36 = .ok (.iload_n 3, 1) := dk_29 (dk_at dksX3_acts_1 12 rfl rfl)
theorem dX3_acts_37 : decode cX3_acts 37 = .ok (.iconst 2, 1) := dk_5 (dk_at dksX3_acts_1 13 rfl rfl)
theorem dX3_acts_38 : decode cX3_acts 38 = .ok (.if_icmp .ne 12, 3) := dk_160 0 12 (dk_at dksX3_acts_1 14 rfl rfl)
theorem dX3_acts_41 : decode cX3_acts 41 = .ok (.aload_n 0, 1) := dk_42 (dk_at dksX3_acts_1 17 rfl rfl)
theorem dX3_acts_42 : decode cX3_acts 42 = .ok (.iload_n 2, 1) := dk_28 (dk_at dksX3_acts_1 18 rfl rfl)
theorem dX3_acts_43 : decode cX3_acts 43 = .ok (.iconst 1, 1) := dk_4 (dk_at dksX3_acts_1 19 rfl rfl)
theorem dX3_acts_44 : decode cX3_acts 44 = .ok (.invokevirtual 176, 3) := dk_182 0 176 (dk_at dksX3_acts_1 20 rfl rfl)
theorem dX3_acts_47 : decode cX3_acts 47 = .ok (.goto 149, 3) := dk_167 0 149 (dk_at dksX3_acts_2 0 rfl rfl)
theorem dX3_acts_50 : decode cX3_acts 50 = .ok (.aload_n 0, 1) := dk_42 (dk_at dksX3_acts_2 3 rfl rfl)
theorem dX3_acts_51 : decode cX3_acts 51 = .ok (.getfield 13, 3) := dk_180 0 13 (dk_at dksX3_acts_2 4 rfl rfl)
theorem dX3_acts_54 : decode cX3_acts 54 = .ok (.iload_n 2, 1) := dk_28 (dk_at dksX3_acts_2 7 rfl rfl)
theorem dX3_acts_55 : decode cX3_acts 55 = .ok (.baload, 1) := dk_51 (dk_at dksX3_acts_2 8 rfl rfl)
theorem dX3_acts_56 : decode cX3_acts 56 = .ok (.ifCond .eq 64, 3) := dk_153 0 64 (dk_at dksX3_acts_2 9 rfl rfl)
theorem dX3_acts_59 : decode cX3_acts 59 = .ok (.aload_n 0, 1) := dk_42 (dk_at dksX3_acts_2 12 rfl rfl)
theorem dX3_acts_60 : decode cX3_acts 60 = .ok (.iload_n 2, 1) := dk_28 (dk_at dksX3_acts_2 13 rfl rfl)
theorem dX3_acts_61 : decode cX3_acts 61 = .ok (.invokevirtual 204, 3) := dk_182 0 204 (dk_at dksX3_acts_2 14 rfl rfl)
theorem dX3_acts_64 : decode cX3_acts 64 = .ok (.aload_n 0, 1) := dk_42 (dk_at dksX3_acts_2 17 rfl rfl)
theorem dX3_acts_65 : decode cX3_acts 65 = .ok (.getfield 75, 3) := dk_180 0 75 (dk_at dksX3_acts_2 18 rfl rfl)
theorem dX3_acts_68 : decode cX3_acts 68 = .ok (.iload_n 2, 1) := dk_28 (dk_at dksX3_acts_2 21 rfl rfl)
theorem dX3_acts_69 : decode cX3_acts 69 = .ok (.iconst 0, 1) := dk_3 (dk_at dksX3_acts_2 22 rfl rfl)
theorem dX3_acts_70 : decode cX3_acts 70 = .ok (.iastore, 1) := dk_79 (dk_at dksX3_acts_2 23 rfl rfl)
theorem dX3_acts_71 : decode cX3_acts 71 = .ok (.iconst 0, 1) := dk_3 (dk_at dksX3_acts_3 0 rfl rfl)
theorem dX3_acts_72 : decode cX3_acts 72 = .ok (.istore 4, 2) := dk_54 4 (dk_at dksX3_acts_3 1 rfl rfl)
theorem dX3_acts_74 : decode cX3_acts 74 = .ok (.iload 4, 2) := dk_21 4 (dk_at dksX3_acts_3 3 rfl rfl)
theorem dX3_acts_76 : decode cX3_acts 76 = .ok (.aload_n 0, 1) := dk_42 (dk_at dksX3_acts_3 5 rfl rfl)
theorem dX3_acts_77 : decode cX3_acts 77 = .ok (.getfield 118, 3) := dk_180 0 118 (dk_at dksX3_acts_3 6 rfl rfl)
theorem dX3_acts_80 : decode cX3_acts 80 = .ok (.if_icmp .ge 37, 3) := dk_162 0 37 (dk_at dksX3_acts_3 9 rfl rfl)
theorem dX3_acts_83 : decode cX3_acts 83 = .ok (.aload_n 0, 1) := dk_42 (dk_at dksX3_acts_3 12 rfl rfl)
theorem dX3_acts_84 : decode cX3_acts 84 = .ok (.getfield 7, 3) := dk_180 0 7 (dk_at dksX3_acts_3 13 rfl rfl)
theorem dX3_acts_87 : decode cX3_acts 87 = .ok (.iload 4, 2) := dk_21 4 (dk_at dksX3_acts_3 16 rfl rfl)
theorem dX3_acts_89 : decode cX3_acts 89 = .ok (.baload, 1) := dk_51 (dk_at dksX3_acts_3 18 rfl rfl)
theorem dX3_acts_90 : decode cX3_acts 90 = .ok (.ifCond .eq 21, 3) := dk_153 0 21 (dk_at dksX3_acts_3 19 rfl rfl)
theorem dX3_acts_93 : decode cX3_acts 93 = .ok (.aload_n 0, 1) := dk_42 (dk_at dksX3_acts_3 22 rfl rfl)
theorem dX3_acts_94 : decode cX3_acts 94 = .ok (.getfield 16, 3) := dk_180 0 16 (dk_at dksX3_acts_4 0 rfl rfl)
theorem dX3_acts_97 : decode cX3_acts 97 = .ok (.iload 4, 2) := dk_21 4 (dk_at dksX3_acts_4 3 rfl rfl)
theorem dX3_acts_99 : decode cX3_acts 99 = .ok (.iaload, 1) := dk_46 (dk_at dksX3_acts_4 5 rfl rfl)
theorem dX3_acts_100 : decode cX3_acts 100 = .ok (.iload_n 2, 1) := dk_28 (dk_at dksX3_acts_4 6 rfl rfl)
theorem dX3_acts_101 : decode cX3_acts 101 = .ok (.if_icmp .ne 10, 3) := dk_160 0 10 (dk_at dksX3_acts_4 7 rfl rfl)
theorem dX3_acts_104 : decode cX3_acts 104 = .ok (.aload_n 0, 1) := dk_42 (dk_at dksX3_acts_4 10 rfl rfl)
theorem dX3_acts_105 : decode cX3_acts 105 = .ok (.iload 4, 2) := dk_21 4 (dk_at dksX3_acts_4 11 rfl rfl)
theorem dX3_acts_107 : decode cX3_acts 107 = .ok (.iconst 1, 1) := dk_4 (dk_at dksX3_acts_4 13 rfl rfl)
theorem dX3_acts_108 : decode cX3_acts 108 = .ok (.invokevirtual 176, 3) := dk_182 0 176 (dk_at dksX3_acts_4 14 rfl rfl)
theorem dX3_acts_111 : decode cX3_acts 111 = .ok (.iinc 4 1, 3) := dk_132 4 1 (dk_at dksX3_acts_4 17 rfl rfl)
theorem dX3_acts_114 : decode cX3_acts 114 = .ok (.goto (-40), 3) := dk_167 255 216 (dk_at dksX3_acts_4 20 rfl rfl)
theorem dX3_acts_117 : decode cX3_acts 117 = .ok (.goto 79, 3) := dk_167 0 79 (dk_at dksX3_acts_5 0 rfl rfl)
theorem dX3_acts_120 : decode cX3_acts 120 = .ok (.aload_n 0, 1) := dk_42 (dk_at dksX3_acts_5 3 rfl rfl)
theorem dX3_acts_121 : decode cX3_acts 121 = .ok (.getfield 33, 3) := dk_180 0 33 (dk_at dksX3_acts_5 4 rfl rfl)
theorem dX3_acts_124 : decode cX3_acts 124 = .ok (.iload_n 2, 1) := dk_28 (dk_at dksX3_acts_5 7 rfl rfl)
theorem dX3_acts_125 : decode cX3_acts 125 = .ok (.baload, 1) := dk_51 (dk_at dksX3_acts_5 8 rfl rfl)
theorem dX3_acts_126 : decode cX3_acts 126 = .ok (.ifCond .eq 24, 3) := dk_153 0 24 (dk_at dksX3_acts_5 9 rfl rfl)
theorem dX3_acts_129 : decode cX3_acts 129 = .ok (.aload_n 0, 1) := dk_42 (dk_at dksX3_acts_5 12 rfl rfl)
theorem dX3_acts_130 : decode cX3_acts 130 = .ok (.iload_n 2, 1) := dk_28 (dk_at dksX3_acts_5 13 rfl rfl)
theorem dX3_acts_131 : decode cX3_acts 131 = .ok (.iconst 1, 1) := dk_4 (dk_at dksX3_acts_5 14 rfl rfl)
theorem dX3_acts_132 : decode cX3_acts 132 = .ok (.invokevirtual 176, 3) := dk_182 0 176 (dk_at dksX3_acts_5 15 rfl rfl)
theorem dX3_acts_135 : decode cX3_acts 135 = .ok (.aload_n 0, 1) := dk_42 (dk_at dksX3_acts_5 18 rfl rfl)
theorem dX3_acts_136 : decode cX3_acts 136 = .ok (.getfield 97, 3) := dk_180 0 97 (dk_at dksX3_acts_5 19 rfl rfl)
theorem dX3_acts_139 : decode cX3_acts 139 = .ok (.aload_n 0, 1) := dk_42 (dk_at dksX3_acts_5 22 rfl rfl)
theorem dX3_acts_140 : decode cX3_acts 140 = .ok (.getfield 183, 3) := dk_180 0 183 (dk_at dksX3_acts_6 0 rfl rfl)
theorem dX3_acts_143 : decode cX3_acts 143 = .ok (.iconst 1, 1) := dk_4 (dk_at dksX3_acts_6 3 rfl rfl)
theorem dX3_acts_144 : decode cX3_acts 144 = .ok (.isub, 1) := dk_100 (dk_at dksX3_acts_6 4 rfl rfl)
theorem dX3_acts_145 : decode cX3_acts 145 = .ok (.iconst 1, 1) := dk_4 (dk_at dksX3_acts_6 5 rfl rfl)
theorem dX3_acts_146 : decode cX3_acts 146 = .ok (.bastore, 1) := dk_84 (dk_at dksX3_acts_6 6 rfl rfl)
theorem dX3_acts_147 : decode cX3_acts 147 = .ok (.goto 49, 3) := dk_167 0 49 (dk_at dksX3_acts_6 7 rfl rfl)
theorem dX3_acts_150 : decode cX3_acts 150 = .ok (.aload_n 0, 1) := dk_42 (dk_at dksX3_acts_6 10 rfl rfl)
theorem dX3_acts_151 : decode cX3_acts 151 = .ok (.getfield 66, 3) := dk_180 0 66 (dk_at dksX3_acts_6 11 rfl rfl)
theorem dX3_acts_154 : decode cX3_acts 154 = .ok (.iload_n 2, 1) := dk_28 (dk_at dksX3_acts_6 14 rfl rfl)
theorem dX3_acts_155 : decode cX3_acts 155 = .ok (.baload, 1) := dk_51 (dk_at dksX3_acts_6 15 rfl rfl)
theorem dX3_acts_156 : decode cX3_acts 156 = .ok (.ifCond .eq 22, 3) := dk_153 0 22 (dk_at dksX3_acts_6 16 rfl rfl)
theorem dX3_acts_159 : decode cX3_acts 159 = .ok (.aload_n 0, 1) := dk_42 (dk_at dksX3_acts_6 19 rfl rfl)
theorem dX3_acts_160 : decode cX3_acts 160 = .ok (.getfield 75, 3) := dk_180 0 75 (dk_at dksX3_acts_6 20 rfl rfl)
theorem dX3_acts_163 : decode cX3_acts 163 = .ok (.iload_n 2, 1) := dk_28 (dk_at dksX3_acts_6 23 rfl rfl)
theorem dX3_acts_164 : decode cX3_acts 164 = .ok (.iaload, 1) := dk_46 (dk_at dksX3_acts_7 0 rfl rfl)
theorem dX3_acts_165 : decode cX3_acts 165 = .ok (.aload_n 0, 1) := dk_42 (dk_at dksX3_acts_7 1 rfl rfl)
theorem dX3_acts_166 : decode cX3_acts 166 = .ok (.getfield 24, 3) := dk_180 0 24 (dk_at dksX3_acts_7 2 rfl rfl)
theorem dX3_acts_169 : decode cX3_acts 169 = .ok (.iload_n 2, 1) := dk_28 (dk_at dksX3_acts_7 5 rfl rfl)
theorem dX3_acts_170 : decode cX3_acts 170 = .ok (.iaload, 1) := dk_46 (dk_at dksX3_acts_7 6 rfl rfl)
theorem dX3_acts_171 : decode cX3_acts 171 = .ok (.if_icmp .ne 7, 3) := dk_160 0 7 (dk_at dksX3_acts_7 7 rfl rfl)
theorem dX3_acts_174 : decode cX3_acts 174 = .ok (.iconst 1, 1) := dk_4 (dk_at dksX3_acts_7 10 rfl rfl)
theorem dX3_acts_175 : decode cX3_acts 175 = .ok (.goto 4, 3) := dk_167 0 4 (dk_at dksX3_acts_7 11 rfl rfl)
theorem dX3_acts_178 : decode cX3_acts 178 = .ok (.iconst 0, 1) := dk_3 (dk_at dksX3_acts_7 14 rfl rfl)
theorem dX3_acts_179 : decode cX3_acts 179 = .ok (.istore 4, 2) := dk_54 4 (dk_at dksX3_acts_7 15 rfl rfl)
theorem dX3_acts_181 : decode cX3_acts 181 = .ok (.aload_n 0, 1) := dk_42 (dk_at dksX3_acts_7 17 rfl rfl)
theorem dX3_acts_182 : decode cX3_acts 182 = .ok (.iload_n 2, 1) := dk_28 (dk_at dksX3_acts_7 18 rfl rfl)
theorem dX3_acts_183 : decode cX3_acts 183 = .ok (.invokevirtual 204, 3) := dk_182 0 204 (dk_at dksX3_acts_7 19 rfl rfl)
theorem dX3_acts_186 : decode cX3_acts 186 = .ok (.iload 4, 2) := dk_21 4 (dk_at dksX3_acts_7 22 rfl rfl)
theorem dX3_acts_188 : decode cX3_acts 188 = .ok (.ifCond .ne 8, 3) := dk_154 0 8 (dk_at dksX3_acts_8 0 rfl rfl)
theorem dX3_acts_191 : decode cX3_acts 191 = .ok (.aload_n 0, 1) := dk_42 (dk_at dksX3_acts_8 3 rfl rfl)
theorem dX3_acts_192 : decode cX3_acts 192 = .ok (.iload_n 2, 1) := dk_28 (dk_at dksX3_acts_8 4 rfl rfl)
theorem dX3_acts_193 : decode cX3_acts 193 = .ok (.invokevirtual 207, 3) := dk_182 0 207 (dk_at dksX3_acts_8 5 rfl rfl)
theorem dX3_acts_196 : decode cX3_acts 196 = .ok (.return_, 1) := dk_177 (dk_at dksX3_acts_8 8 rfl rfl)
abbrev cX3_takesAct : ByteArray := prog_11_method_34_code
def yX3_takesAct : MethodName := ⟨RX3, "takesAct", "(I)V"⟩
def dkwX3_takesAct_2 : List UInt8 := [42, 180, 0, 97, 28, 42, 180, 0, 97, 28, 4, 96, 51, 84, 132, 2, 1, 167, 255, 203, 177]
abbrev dktX3_takesAct_2 : List UInt8 := dkwX3_takesAct_2 ++ []
def dkwX3_takesAct_1 : List UInt8 := [28, 42, 180, 0, 91, 28, 4, 96, 46, 79, 42, 180, 0, 94, 28, 42, 180, 0, 94, 28, 4, 96, 46, 79]
abbrev dktX3_takesAct_1 : List UInt8 := dkwX3_takesAct_1 ++ dktX3_takesAct_2
def dkwX3_takesAct_0 : List UInt8 := [42, 89, 180, 0, 183, 4, 100, 181, 0, 183, 27, 61, 28, 42, 180, 0, 183, 162, 0, 51, 42, 180, 0, 91]
abbrev dktX3_takesAct_0 : List UInt8 := dkwX3_takesAct_0 ++ dktX3_takesAct_1
theorem dksX3_takesAct_0 : cX3_takesAct.data.toList.drop 0 = dktX3_takesAct_0 := by decide +kernel
theorem dksX3_takesAct_1 : cX3_takesAct.data.toList.drop 24 = dktX3_takesAct_1 := dk_seg dksX3_takesAct_0 24 rfl rfl
theorem dksX3_takesAct_2 : cX3_takesAct.data.toList.drop 48 = dktX3_takesAct_2 := dk_seg dksX3_takesAct_1 24 rfl rfl
theorem dX3_takesAct_0 : decode cX3_takesAct 0 = .ok (.aload_n 0, 1) := dk_42 (dk_at dksX3_takesAct_0 0 rfl rfl)
theorem dX3_takesAct_1 : decode cX3_takesAct 1 = .ok (.dup, 1) := dk_89 (dk_at dksX3_takesAct_0 1 rfl rfl)
theorem dX3_takesAct_2 : decode cX3_takesAct 2 = .ok (.getfield 183, 3) := dk_180 0 183 (dk_at dksX3_takesAct_0 2 rfl rfl)
theorem dX3_takesAct_5 : decode cX3_takesAct 5 = .ok (.iconst 1, 1) := dk_4 (dk_at dksX3_takesAct_0 5 rfl rfl)
theorem dX3_takesAct_6 : decode cX3_takesAct 6 = .ok (.isub, 1) := dk_100 (dk_at dksX3_takesAct_0 6 rfl rfl)
theorem dX3_takesAct_7 : decode cX3_takesAct 7 = .ok (.putfield 183, 3) := dk_181 0 183 (dk_at dksX3_takesAct_0 7 rfl rfl)
theorem dX3_takesAct_10 : decode cX3_takesAct 10 = .ok (.iload_n 1, 1) := dk_27 (dk_at dksX3_takesAct_0 10 rfl rfl)
theorem dX3_takesAct_11 : decode cX3_takesAct 11 = .ok (.istore_n 2, 1) := dk_61 (dk_at dksX3_takesAct_0 11 rfl rfl)
theorem dX3_takesAct_12 : decode cX3_takesAct 12 = .ok (.iload_n 2, 1) := dk_28 (dk_at dksX3_takesAct_0 12 rfl rfl)
theorem dX3_takesAct_13 : decode cX3_takesAct 13 = .ok (.aload_n 0, 1) := dk_42 (dk_at dksX3_takesAct_0 13 rfl rfl)
theorem dX3_takesAct_14 : decode cX3_takesAct 14 = .ok (.getfield 183, 3) := dk_180 0 183 (dk_at dksX3_takesAct_0 14 rfl rfl)
theorem dX3_takesAct_17 : decode cX3_takesAct 17 = .ok (.if_icmp .ge 51, 3) := dk_162 0 51 (dk_at dksX3_takesAct_0 17 rfl rfl)
theorem dX3_takesAct_20 : decode cX3_takesAct 20 = .ok (.aload_n 0, 1) := dk_42 (dk_at dksX3_takesAct_0 20 rfl rfl)
theorem dX3_takesAct_21 : decode cX3_takesAct 21 = .ok (.getfield 91, 3) := dk_180 0 91 (dk_at dksX3_takesAct_0 21 rfl rfl)
theorem dX3_takesAct_24 : decode cX3_takesAct 24 = .ok (.iload_n 2, 1) := dk_28 (dk_at dksX3_takesAct_1 0 rfl rfl)
theorem dX3_takesAct_25 : decode cX3_takesAct 25 = .ok (.aload_n 0, 1) := dk_42 (dk_at dksX3_takesAct_1 1 rfl rfl)
theorem dX3_takesAct_26 : decode cX3_takesAct 26 = .ok (.getfield 91, 3) := dk_180 0 91 (dk_at dksX3_takesAct_1 2 rfl rfl)
theorem dX3_takesAct_29 : decode cX3_takesAct 29 = .ok (.iload_n 2, 1) := dk_28 (dk_at dksX3_takesAct_1 5 rfl rfl)
theorem dX3_takesAct_30 : decode cX3_takesAct 30 = .ok (.iconst 1, 1) := dk_4 (dk_at dksX3_takesAct_1 6 rfl rfl)
theorem dX3_takesAct_31 : decode cX3_takesAct 31 = .ok (.iadd, 1) := dk_96 (dk_at dksX3_takesAct_1 7 rfl rfl)
theorem dX3_takesAct_32 : decode cX3_takesAct 32 = .ok (.iaload, 1) := dk_46 (dk_at dksX3_takesAct_1 8 rfl rfl)
theorem dX3_takesAct_33 : decode cX3_takesAct 33 = .ok (.iastore, 1) := dk_79 (dk_at dksX3_takesAct_1 9 rfl rfl)
theorem dX3_takesAct_34 : decode cX3_takesAct 34 = .ok (.aload_n 0, 1) := dk_42 (dk_at dksX3_takesAct_1 10 rfl rfl)
theorem dX3_takesAct_35 : decode cX3_takesAct 35 = .ok (.getfield 94, 3) := dk_180 0 94 (dk_at dksX3_takesAct_1 11 rfl rfl)
theorem dX3_takesAct_38 : decode cX3_takesAct 38 = .ok (.iload_n 2, 1) := dk_28 (dk_at dksX3_takesAct_1 14 rfl rfl)
theorem dX3_takesAct_39 : decode cX3_takesAct 39 = .ok (.aload_n 0, 1) := dk_42 (dk_at dksX3_takesAct_1 15 rfl rfl)
theorem dX3_takesAct_40 : decode cX3_takesAct 40 = .ok (.getfield 94, 3) := dk_180 0 94 (dk_at dksX3_takesAct_1 16 rfl rfl)
theorem dX3_takesAct_43 : decode cX3_takesAct 43 = .ok (.iload_n 2, 1) := dk_28 (dk_at dksX3_takesAct_1 19 rfl rfl)
theorem dX3_takesAct_44 : decode cX3_takesAct 44 = .ok (.iconst 1, 1) := dk_4 (dk_at dksX3_takesAct_1 20 rfl rfl)
theorem dX3_takesAct_45 : decode cX3_takesAct 45 = .ok (.iadd, 1) := dk_96 (dk_at dksX3_takesAct_1 21 rfl rfl)
theorem dX3_takesAct_46 : decode cX3_takesAct 46 = .ok (.iaload, 1) := dk_46 (dk_at dksX3_takesAct_1 22 rfl rfl)
theorem dX3_takesAct_47 : decode cX3_takesAct 47 = .ok (.iastore, 1) := dk_79 (dk_at dksX3_takesAct_1 23 rfl rfl)
theorem dX3_takesAct_48 : decode cX3_takesAct 48 = .ok (.aload_n 0, 1) := dk_42 (dk_at dksX3_takesAct_2 0 rfl rfl)
theorem dX3_takesAct_49 : decode cX3_takesAct 49 = .ok (.getfield 97, 3) := dk_180 0 97 (dk_at dksX3_takesAct_2 1 rfl rfl)
theorem dX3_takesAct_52 : decode cX3_takesAct 52 = .ok (.iload_n 2, 1) := dk_28 (dk_at dksX3_takesAct_2 4 rfl rfl)
theorem dX3_takesAct_53 : decode cX3_takesAct 53 = .ok (.aload_n 0, 1) := dk_42 (dk_at dksX3_takesAct_2 5 rfl rfl)
theorem dX3_takesAct_54 : decode cX3_takesAct 54 = .ok (.getfield 97, 3) := dk_180 0 97 (dk_at dksX3_takesAct_2 6 rfl rfl)
theorem dX3_takesAct_57 : decode cX3_takesAct 57 = .ok (.iload_n 2, 1) := dk_28 (dk_at dksX3_takesAct_2 9 rfl rfl)
theorem dX3_takesAct_58 : decode cX3_takesAct 58 = .ok (.iconst 1, 1) := dk_4 (dk_at dksX3_takesAct_2 10 rfl rfl)
theorem dX3_takesAct_59 : decode cX3_takesAct 59 = .ok (.iadd, 1) := dk_96 (dk_at dksX3_takesAct_2 11 rfl rfl)
theorem dX3_takesAct_60 : decode cX3_takesAct 60 = .ok (.baload, 1) := dk_51 (dk_at dksX3_takesAct_2 12 rfl rfl)
theorem dX3_takesAct_61 : decode cX3_takesAct 61 = .ok (.bastore, 1) := dk_84 (dk_at dksX3_takesAct_2 13 rfl rfl)
theorem dX3_takesAct_62 : decode cX3_takesAct 62 = .ok (.iinc 2 1, 3) := dk_132 2 1 (dk_at dksX3_takesAct_2 14 rfl rfl)
theorem dX3_takesAct_65 : decode cX3_takesAct 65 = .ok (.goto (-53), 3) := dk_167 255 203 (dk_at dksX3_takesAct_2 17 rfl rfl)
theorem dX3_takesAct_68 : decode cX3_takesAct 68 = .ok (.return_, 1) := dk_177 (dk_at dksX3_takesAct_2 20 rfl rfl)
abbrev cX3_forgets : ByteArray := prog_11_method_35_code
def yX3_forgets : MethodName := ⟨RX3, "forgets", "(I)V"⟩
def dkwX3_forgets_4 : List UInt8 := [132, 2, 1, 167, 255, 217, 177]
abbrev dktX3_forgets_4 : List UInt8 := dkwX3_forgets_4 ++ []
def dkwX3_forgets_3 : List UInt8 := [153, 0, 22, 42, 180, 0, 66, 28, 3, 84, 42, 180, 0, 109, 28, 3, 84, 42, 28, 182, 0, 189]
abbrev dktX3_forgets_3 : List UInt8 := dkwX3_forgets_3 ++ dktX3_forgets_4
def dkwX3_forgets_2 : List UInt8 := [132, 2, 1, 167, 255, 211, 3, 61, 28, 42, 180, 0, 118, 162, 0, 37, 42, 180, 0, 112, 28, 51]
abbrev dktX3_forgets_2 : List UInt8 := dkwX3_forgets_2 ++ dktX3_forgets_3
def dkwX3_forgets_1 : List UInt8 := [182, 0, 163, 2, 160, 0, 16, 42, 28, 27, 182, 0, 186, 153, 0, 7, 4, 167, 0, 4, 3, 84]
abbrev dktX3_forgets_1 : List UInt8 := dkwX3_forgets_1 ++ dktX3_forgets_2
def dkwX3_forgets_0 : List UInt8 := [3, 61, 28, 42, 180, 0, 118, 162, 0, 43, 42, 180, 0, 112, 28, 28, 27, 159, 0, 21, 42, 27]
abbrev dktX3_forgets_0 : List UInt8 := dkwX3_forgets_0 ++ dktX3_forgets_1
theorem dksX3_forgets_0 : cX3_forgets.data.toList.drop 0 = dktX3_forgets_0 := by decide +kernel
theorem dksX3_forgets_1 : cX3_forgets.data.toList.drop 22 = dktX3_forgets_1 := dk_seg dksX3_forgets_0 22 rfl rfl
theorem dksX3_forgets_2 : cX3_forgets.data.toList.drop 44 = dktX3_forgets_2 := dk_seg dksX3_forgets_1 22 rfl rfl
theorem dksX3_forgets_3 : cX3_forgets.data.toList.drop 66 = dktX3_forgets_3 := dk_seg dksX3_forgets_2 22 rfl rfl
theorem dksX3_forgets_4 : cX3_forgets.data.toList.drop 88 = dktX3_forgets_4 := dk_seg dksX3_forgets_3 22 rfl rfl
theorem dX3_forgets_0 : decode cX3_forgets 0 = .ok (.iconst 0, 1) := dk_3 (dk_at dksX3_forgets_0 0 rfl rfl)
theorem dX3_forgets_1 : decode cX3_forgets 1 = .ok (.istore_n 2, 1) := dk_61 (dk_at dksX3_forgets_0 1 rfl rfl)
theorem dX3_forgets_2 : decode cX3_forgets 2 = .ok (.iload_n 2, 1) := dk_28 (dk_at dksX3_forgets_0 2 rfl rfl)
theorem dX3_forgets_3 : decode cX3_forgets 3 = .ok (.aload_n 0, 1) := dk_42 (dk_at dksX3_forgets_0 3 rfl rfl)
theorem dX3_forgets_4 : decode cX3_forgets 4 = .ok (.getfield 118, 3) := dk_180 0 118 (dk_at dksX3_forgets_0 4 rfl rfl)
theorem dX3_forgets_7 : decode cX3_forgets 7 = .ok (.if_icmp .ge 43, 3) := dk_162 0 43 (dk_at dksX3_forgets_0 7 rfl rfl)
theorem dX3_forgets_10 : decode cX3_forgets 10 = .ok (.aload_n 0, 1) := dk_42 (dk_at dksX3_forgets_0 10 rfl rfl)
theorem dX3_forgets_11 : decode cX3_forgets 11 = .ok (.getfield 112, 3) := dk_180 0 112 (dk_at dksX3_forgets_0 11 rfl rfl)
theorem dX3_forgets_14 : decode cX3_forgets 14 = .ok (.iload_n 2, 1) := dk_28 (dk_at dksX3_forgets_0 14 rfl rfl)
theorem dX3_forgets_15 : decode cX3_forgets 15 = .ok (.iload_n 2, 1) := dk_28 (dk_at dksX3_forgets_0 15 rfl rfl)
theorem dX3_forgets_16 : decode cX3_forgets 16 = .ok (.iload_n 1, 1) := dk_27 (dk_at dksX3_forgets_0 16 rfl rfl)
theorem dX3_forgets_17 : decode cX3_forgets 17 = .ok (.if_icmp .eq 21, 3) := dk_159 0 21 (dk_at dksX3_forgets_0 17 rfl rfl)
theorem dX3_forgets_20 : decode cX3_forgets 20 = .ok (.aload_n 0, 1) := dk_42 (dk_at dksX3_forgets_0 20 rfl rfl)
theorem dX3_forgets_21 : decode cX3_forgets 21 = .ok (.iload_n 1, 1) := dk_27 (dk_at dksX3_forgets_0 21 rfl rfl)
theorem dX3_forgets_22 : decode cX3_forgets 22 = .ok (.invokevirtual 163, 3) := dk_182 0 163 (dk_at dksX3_forgets_1 0 rfl rfl)
theorem dX3_forgets_25 : decode cX3_forgets 25 = .ok (.iconst (-1), 1) := dk_2 (dk_at dksX3_forgets_1 3 rfl rfl)
theorem dX3_forgets_26 : decode cX3_forgets 26 = .ok (.if_icmp .ne 16, 3) := dk_160 0 16 (dk_at dksX3_forgets_1 4 rfl rfl)
theorem dX3_forgets_29 : decode cX3_forgets 29 = .ok (.aload_n 0, 1) := dk_42 (dk_at dksX3_forgets_1 7 rfl rfl)
theorem dX3_forgets_30 : decode cX3_forgets 30 = .ok (.iload_n 2, 1) := dk_28 (dk_at dksX3_forgets_1 8 rfl rfl)
theorem dX3_forgets_31 : decode cX3_forgets 31 = .ok (.iload_n 1, 1) := dk_27 (dk_at dksX3_forgets_1 9 rfl rfl)
theorem dX3_forgets_32 : decode cX3_forgets 32 = .ok (.invokevirtual 186, 3) := dk_182 0 186 (dk_at dksX3_forgets_1 10 rfl rfl)
theorem dX3_forgets_35 : decode cX3_forgets 35 = .ok (.ifCond .eq 7, 3) := dk_153 0 7 (dk_at dksX3_forgets_1 13 rfl rfl)
theorem dX3_forgets_38 : decode cX3_forgets 38 = .ok (.iconst 1, 1) := dk_4 (dk_at dksX3_forgets_1 16 rfl rfl)
theorem dX3_forgets_39 : decode cX3_forgets 39 = .ok (.goto 4, 3) := dk_167 0 4 (dk_at dksX3_forgets_1 17 rfl rfl)
theorem dX3_forgets_42 : decode cX3_forgets 42 = .ok (.iconst 0, 1) := dk_3 (dk_at dksX3_forgets_1 20 rfl rfl)
theorem dX3_forgets_43 : decode cX3_forgets 43 = .ok (.bastore, 1) := dk_84 (dk_at dksX3_forgets_1 21 rfl rfl)
theorem dX3_forgets_44 : decode cX3_forgets 44 = .ok (.iinc 2 1, 3) := dk_132 2 1 (dk_at dksX3_forgets_2 0 rfl rfl)
theorem dX3_forgets_47 : decode cX3_forgets 47 = .ok (.goto (-45), 3) := dk_167 255 211 (dk_at dksX3_forgets_2 3 rfl rfl)
theorem dX3_forgets_50 : decode cX3_forgets 50 = .ok (.iconst 0, 1) := dk_3 (dk_at dksX3_forgets_2 6 rfl rfl)
theorem dX3_forgets_51 : decode cX3_forgets 51 = .ok (.istore_n 2, 1) := dk_61 (dk_at dksX3_forgets_2 7 rfl rfl)
theorem dX3_forgets_52 : decode cX3_forgets 52 = .ok (.iload_n 2, 1) := dk_28 (dk_at dksX3_forgets_2 8 rfl rfl)
theorem dX3_forgets_53 : decode cX3_forgets 53 = .ok (.aload_n 0, 1) := dk_42 (dk_at dksX3_forgets_2 9 rfl rfl)
theorem dX3_forgets_54 : decode cX3_forgets 54 = .ok (.getfield 118, 3) := dk_180 0 118 (dk_at dksX3_forgets_2 10 rfl rfl)
theorem dX3_forgets_57 : decode cX3_forgets 57 = .ok (.if_icmp .ge 37, 3) := dk_162 0 37 (dk_at dksX3_forgets_2 13 rfl rfl)
theorem dX3_forgets_60 : decode cX3_forgets 60 = .ok (.aload_n 0, 1) := dk_42 (dk_at dksX3_forgets_2 16 rfl rfl)
theorem dX3_forgets_61 : decode cX3_forgets 61 = .ok (.getfield 112, 3) := dk_180 0 112 (dk_at dksX3_forgets_2 17 rfl rfl)
theorem dX3_forgets_64 : decode cX3_forgets 64 = .ok (.iload_n 2, 1) := dk_28 (dk_at dksX3_forgets_2 20 rfl rfl)
theorem dX3_forgets_65 : decode cX3_forgets 65 = .ok (.baload, 1) := dk_51 (dk_at dksX3_forgets_2 21 rfl rfl)
theorem dX3_forgets_66 : decode cX3_forgets 66 = .ok (.ifCond .eq 22, 3) := dk_153 0 22 (dk_at dksX3_forgets_3 0 rfl rfl)
theorem dX3_forgets_69 : decode cX3_forgets 69 = .ok (.aload_n 0, 1) := dk_42 (dk_at dksX3_forgets_3 3 rfl rfl)
theorem dX3_forgets_70 : decode cX3_forgets 70 = .ok (.getfield 66, 3) := dk_180 0 66 (dk_at dksX3_forgets_3 4 rfl rfl)
theorem dX3_forgets_73 : decode cX3_forgets 73 = .ok (.iload_n 2, 1) := dk_28 (dk_at dksX3_forgets_3 7 rfl rfl)
theorem dX3_forgets_74 : decode cX3_forgets 74 = .ok (.iconst 0, 1) := dk_3 (dk_at dksX3_forgets_3 8 rfl rfl)
theorem dX3_forgets_75 : decode cX3_forgets 75 = .ok (.bastore, 1) := dk_84 (dk_at dksX3_forgets_3 9 rfl rfl)
theorem dX3_forgets_76 : decode cX3_forgets 76 = .ok (.aload_n 0, 1) := dk_42 (dk_at dksX3_forgets_3 10 rfl rfl)
theorem dX3_forgets_77 : decode cX3_forgets 77 = .ok (.getfield 109, 3) := dk_180 0 109 (dk_at dksX3_forgets_3 11 rfl rfl)
theorem dX3_forgets_80 : decode cX3_forgets 80 = .ok (.iload_n 2, 1) := dk_28 (dk_at dksX3_forgets_3 14 rfl rfl)
theorem dX3_forgets_81 : decode cX3_forgets 81 = .ok (.iconst 0, 1) := dk_3 (dk_at dksX3_forgets_3 15 rfl rfl)
theorem dX3_forgets_82 : decode cX3_forgets 82 = .ok (.bastore, 1) := dk_84 (dk_at dksX3_forgets_3 16 rfl rfl)
theorem dX3_forgets_83 : decode cX3_forgets 83 = .ok (.aload_n 0, 1) := dk_42 (dk_at dksX3_forgets_3 17 rfl rfl)
theorem dX3_forgets_84 : decode cX3_forgets 84 = .ok (.iload_n 2, 1) := dk_28 (dk_at dksX3_forgets_3 18 rfl rfl)
theorem dX3_forgets_85 : decode cX3_forgets 85 = .ok (.invokevirtual 189, 3) := dk_182 0 189 (dk_at dksX3_forgets_3 19 rfl rfl)
theorem dX3_forgets_88 : decode cX3_forgets 88 = .ok (.iinc 2 1, 3) := dk_132 2 1 (dk_at dksX3_forgets_4 0 rfl rfl)
theorem dX3_forgets_91 : decode cX3_forgets 91 = .ok (.goto (-39), 3) := dk_167 255 217 (dk_at dksX3_forgets_4 3 rfl rfl)
theorem dX3_forgets_94 : decode cX3_forgets 94 = .ok (.return_, 1) := dk_177 (dk_at dksX3_forgets_4 6 rfl rfl)
abbrev cX3_liesBelow : ByteArray := prog_11_method_31_code
def yX3_liesBelow : MethodName := ⟨RX3, "liesBelow", "(II)Z"⟩
def dkwX3_liesBelow_3 : List UInt8 := [132, 4, 1, 167, 255, 205, 3, 172]
abbrev dktX3_liesBelow_3 : List UInt8 := dkwX3_liesBelow_3 ++ []
def dkwX3_liesBelow_2 : List UInt8 := [2, 160, 0, 21, 42, 180, 0, 66, 29, 51, 153, 0, 12, 42, 180, 0, 69, 29, 46, 167, 0, 4, 2, 62]
abbrev dktX3_liesBelow_2 : List UInt8 := dkwX3_liesBelow_2 ++ dktX3_liesBelow_3
def dkwX3_liesBelow_1 : List UInt8 := [21, 4, 16, 60, 162, 0, 50, 29, 2, 159, 0, 45, 29, 28, 160, 0, 5, 4, 172, 42, 29, 182, 0, 163]
abbrev dktX3_liesBelow_1 : List UInt8 := dkwX3_liesBelow_1 ++ dktX3_liesBelow_2
def dkwX3_liesBelow_0 : List UInt8 := [42, 180, 0, 66, 27, 51, 153, 0, 12, 42, 180, 0, 69, 27, 46, 167, 0, 4, 2, 62, 3, 54, 4]
abbrev dktX3_liesBelow_0 : List UInt8 := dkwX3_liesBelow_0 ++ dktX3_liesBelow_1
theorem dksX3_liesBelow_0 : cX3_liesBelow.data.toList.drop 0 = dktX3_liesBelow_0 := by decide +kernel
theorem dksX3_liesBelow_1 : cX3_liesBelow.data.toList.drop 23 = dktX3_liesBelow_1 := dk_seg dksX3_liesBelow_0 23 rfl rfl
theorem dksX3_liesBelow_2 : cX3_liesBelow.data.toList.drop 47 = dktX3_liesBelow_2 := dk_seg dksX3_liesBelow_1 24 rfl rfl
theorem dksX3_liesBelow_3 : cX3_liesBelow.data.toList.drop 71 = dktX3_liesBelow_3 := dk_seg dksX3_liesBelow_2 24 rfl rfl
theorem dX3_liesBelow_0 : decode cX3_liesBelow 0 = .ok (.aload_n 0, 1) := dk_42 (dk_at dksX3_liesBelow_0 0 rfl rfl)
theorem dX3_liesBelow_1 : decode cX3_liesBelow 1 = .ok (.getfield 66, 3) := dk_180 0 66 (dk_at dksX3_liesBelow_0 1 rfl rfl)
theorem dX3_liesBelow_4 : decode cX3_liesBelow 4 = .ok (.iload_n 1, 1) := dk_27 (dk_at dksX3_liesBelow_0 4 rfl rfl)
theorem dX3_liesBelow_5 : decode cX3_liesBelow 5 = .ok (.baload, 1) := dk_51 (dk_at dksX3_liesBelow_0 5 rfl rfl)
theorem dX3_liesBelow_6 : decode cX3_liesBelow 6 = .ok (.ifCond .eq 12, 3) := dk_153 0 12 (dk_at dksX3_liesBelow_0 6 rfl rfl)
theorem dX3_liesBelow_9 : decode cX3_liesBelow 9 = .ok (.aload_n 0, 1) := dk_42 (dk_at dksX3_liesBelow_0 9 rfl rfl)
theorem dX3_liesBelow_10 : decode cX3_liesBelow 10 = .ok (.getfield 69, 3) := dk_180 0 69 (dk_at dksX3_liesBelow_0 10 rfl rfl)
theorem dX3_liesBelow_13 : decode cX3_liesBelow 13 = .ok (.iload_n 1, 1) := dk_27 (dk_at dksX3_liesBelow_0 13 rfl rfl)
theorem dX3_liesBelow_14 : decode cX3_liesBelow 14 = .ok (.iaload, 1) := dk_46 (dk_at dksX3_liesBelow_0 14 rfl rfl)
theorem dX3_liesBelow_15 : decode cX3_liesBelow 15 = .ok (.goto 4, 3) := dk_167 0 4 (dk_at dksX3_liesBelow_0 15 rfl rfl)
theorem dX3_liesBelow_18 : decode cX3_liesBelow 18 = .ok (.iconst (-1), 1) := dk_2 (dk_at dksX3_liesBelow_0 18 rfl rfl)
theorem dX3_liesBelow_19 : decode cX3_liesBelow 19 = .ok (.istore_n 3, 1) := dk_62 (dk_at dksX3_liesBelow_0 19 rfl rfl)
theorem dX3_liesBelow_20 : decode cX3_liesBelow 20 = .ok (.iconst 0, 1) := dk_3 (dk_at dksX3_liesBelow_0 20 rfl rfl)
theorem dX3_liesBelow_21 : decode cX3_liesBelow 21 = .ok (.istore 4, 2) := dk_54 4 (dk_at dksX3_liesBelow_0 21 rfl rfl)
theorem dX3_liesBelow_23 : decode cX3_liesBelow 23 = .ok (.iload 4, 2) := dk_21 4 (dk_at dksX3_liesBelow_1 0 rfl rfl)
theorem dX3_liesBelow_25 : decode cX3_liesBelow 25 = .ok (.bipush 60, 2) := dk_16 60 (dk_at dksX3_liesBelow_1 2 rfl rfl)
theorem dX3_liesBelow_27 : decode cX3_liesBelow 27 = .ok (.if_icmp .ge 50, 3) := dk_162 0 50 (dk_at dksX3_liesBelow_1 4 rfl rfl)
theorem dX3_liesBelow_30 : decode cX3_liesBelow 30 = .ok (.iload_n 3, 1) := dk_29 (dk_at dksX3_liesBelow_1 7 rfl rfl)
theorem dX3_liesBelow_31 : decode cX3_liesBelow 31 = .ok (.iconst (-1), 1) := dk_2 (dk_at dksX3_liesBelow_1 8 rfl rfl)
theorem dX3_liesBelow_32 : decode cX3_liesBelow 32 = .ok (.if_icmp .eq 45, 3) := dk_159 0 45 (dk_at dksX3_liesBelow_1 9 rfl rfl)
theorem dX3_liesBelow_35 : decode cX3_liesBelow 35 = .ok (.iload_n 3, 1) := dk_29 (dk_at dksX3_liesBelow_1 12 rfl rfl)
theorem dX3_liesBelow_36 : decode cX3_liesBelow 36 = .ok (.iload_n 2, 1) := dk_28 (dk_at dksX3_liesBelow_1 13 rfl rfl)
theorem dX3_liesBelow_37 : decode cX3_liesBelow 37 = .ok (.if_icmp .ne 5, 3) := dk_160 0 5 (dk_at dksX3_liesBelow_1 14 rfl rfl)
theorem dX3_liesBelow_40 : decode cX3_liesBelow 40 = .ok (.iconst 1, 1) := dk_4 (dk_at dksX3_liesBelow_1 17 rfl rfl)
theorem dX3_liesBelow_41 : decode cX3_liesBelow 41 = .ok (.ireturn, 1) := dk_172 (dk_at dksX3_liesBelow_1 18 rfl rfl)
theorem dX3_liesBelow_42 : decode cX3_liesBelow 42 = .ok (.aload_n 0, 1) := dk_42 (dk_at dksX3_liesBelow_1 19 rfl rfl)
theorem dX3_liesBelow_43 : decode cX3_liesBelow 43 = .ok (.iload_n 3, 1) := dk_29 (dk_at dksX3_liesBelow_1 20 rfl rfl)
theorem dX3_liesBelow_44 : decode cX3_liesBelow 44 = .ok (.invokevirtual 163, 3) := dk_182 0 163 (dk_at dksX3_liesBelow_1 21 rfl rfl)
theorem dX3_liesBelow_47 : decode cX3_liesBelow 47 = .ok (.iconst (-1), 1) := dk_2 (dk_at dksX3_liesBelow_2 0 rfl rfl)
theorem dX3_liesBelow_48 : decode cX3_liesBelow 48 = .ok (.if_icmp .ne 21, 3) := dk_160 0 21 (dk_at dksX3_liesBelow_2 1 rfl rfl)
theorem dX3_liesBelow_51 : decode cX3_liesBelow 51 = .ok (.aload_n 0, 1) := dk_42 (dk_at dksX3_liesBelow_2 4 rfl rfl)
theorem dX3_liesBelow_52 : decode cX3_liesBelow 52 = .ok (.getfield 66, 3) := dk_180 0 66 (dk_at dksX3_liesBelow_2 5 rfl rfl)
theorem dX3_liesBelow_55 : decode cX3_liesBelow 55 = .ok (.iload_n 3, 1) := dk_29 (dk_at dksX3_liesBelow_2 8 rfl rfl)
theorem dX3_liesBelow_56 : decode cX3_liesBelow 56 = .ok (.baload, 1) := dk_51 (dk_at dksX3_liesBelow_2 9 rfl rfl)
theorem dX3_liesBelow_57 : decode cX3_liesBelow 57 = .ok (.ifCond .eq 12, 3) := dk_153 0 12 (dk_at dksX3_liesBelow_2 10 rfl rfl)
theorem dX3_liesBelow_60 : decode cX3_liesBelow 60 = .ok (.aload_n 0, 1) := dk_42 (dk_at dksX3_liesBelow_2 13 rfl rfl)
theorem dX3_liesBelow_61 : decode cX3_liesBelow 61 = .ok (.getfield 69, 3) := dk_180 0 69 (dk_at dksX3_liesBelow_2 14 rfl rfl)
theorem dX3_liesBelow_64 : decode cX3_liesBelow 64 = .ok (.iload_n 3, 1) := dk_29 (dk_at dksX3_liesBelow_2 17 rfl rfl)
theorem dX3_liesBelow_65 : decode cX3_liesBelow 65 = .ok (.iaload, 1) := dk_46 (dk_at dksX3_liesBelow_2 18 rfl rfl)
theorem dX3_liesBelow_66 : decode cX3_liesBelow 66 = .ok (.goto 4, 3) := dk_167 0 4 (dk_at dksX3_liesBelow_2 19 rfl rfl)
theorem dX3_liesBelow_69 : decode cX3_liesBelow 69 = .ok (.iconst (-1), 1) := dk_2 (dk_at dksX3_liesBelow_2 22 rfl rfl)
theorem dX3_liesBelow_70 : decode cX3_liesBelow 70 = .ok (.istore_n 3, 1) := dk_62 (dk_at dksX3_liesBelow_2 23 rfl rfl)
theorem dX3_liesBelow_71 : decode cX3_liesBelow 71 = .ok (.iinc 4 1, 3) := dk_132 4 1 (dk_at dksX3_liesBelow_3 0 rfl rfl)
theorem dX3_liesBelow_74 : decode cX3_liesBelow 74 = .ok (.goto (-51), 3) := dk_167 255 205 (dk_at dksX3_liesBelow_3 3 rfl rfl)
theorem dX3_liesBelow_77 : decode cX3_liesBelow 77 = .ok (.iconst 0, 1) := dk_3 (dk_at dksX3_liesBelow_3 6 rfl rfl)
theorem dX3_liesBelow_78 : decode cX3_liesBelow 78 = .ok (.ireturn, 1) := dk_172 (dk_at dksX3_liesBelow_3 7 rfl rfl)
abbrev cX3_kills : ByteArray := prog_11_method_36_code
def yX3_kills : MethodName := ⟨RX3, "kills", "(I)V"⟩
def dkwX3_kills_1 : List UInt8 := [42, 180, 0, 103, 28, 46, 27, 160, 0, 7, 4, 167, 0, 4, 3, 84, 132, 2, 1, 167, 255, 215, 177]
abbrev dktX3_kills_1 : List UInt8 := dkwX3_kills_1 ++ []
def dkwX3_kills_0 : List UInt8 := [3, 61, 28, 42, 180, 0, 192, 162, 0, 39, 42, 180, 0, 106, 28, 42, 180, 0, 106, 28, 51, 154, 0, 13]
abbrev dktX3_kills_0 : List UInt8 := dkwX3_kills_0 ++ dktX3_kills_1
theorem dksX3_kills_0 : cX3_kills.data.toList.drop 0 = dktX3_kills_0 := by decide +kernel
theorem dksX3_kills_1 : cX3_kills.data.toList.drop 24 = dktX3_kills_1 := dk_seg dksX3_kills_0 24 rfl rfl
theorem dX3_kills_0 : decode cX3_kills 0 = .ok (.iconst 0, 1) := dk_3 (dk_at dksX3_kills_0 0 rfl rfl)
theorem dX3_kills_1 : decode cX3_kills 1 = .ok (.istore_n 2, 1) := dk_61 (dk_at dksX3_kills_0 1 rfl rfl)
theorem dX3_kills_2 : decode cX3_kills 2 = .ok (.iload_n 2, 1) := dk_28 (dk_at dksX3_kills_0 2 rfl rfl)
theorem dX3_kills_3 : decode cX3_kills 3 = .ok (.aload_n 0, 1) := dk_42 (dk_at dksX3_kills_0 3 rfl rfl)
theorem dX3_kills_4 : decode cX3_kills 4 = .ok (.getfield 192, 3) := dk_180 0 192 (dk_at dksX3_kills_0 4 rfl rfl)
theorem dX3_kills_7 : decode cX3_kills 7 = .ok (.if_icmp .ge 39, 3) := dk_162 0 39 (dk_at dksX3_kills_0 7 rfl rfl)
theorem dX3_kills_10 : decode cX3_kills 10 = .ok (.aload_n 0, 1) := dk_42 (dk_at dksX3_kills_0 10 rfl rfl)
theorem dX3_kills_11 : decode cX3_kills 11 = .ok (.getfield 106, 3) := dk_180 0 106 (dk_at dksX3_kills_0 11 rfl rfl)
theorem dX3_kills_14 : decode cX3_kills 14 = .ok (.iload_n 2, 1) := dk_28 (dk_at dksX3_kills_0 14 rfl rfl)
theorem dX3_kills_15 : decode cX3_kills 15 = .ok (.aload_n 0, 1) := dk_42 (dk_at dksX3_kills_0 15 rfl rfl)
theorem dX3_kills_16 : decode cX3_kills 16 = .ok (.getfield 106, 3) := dk_180 0 106 (dk_at dksX3_kills_0 16 rfl rfl)
theorem dX3_kills_19 : decode cX3_kills 19 = .ok (.iload_n 2, 1) := dk_28 (dk_at dksX3_kills_0 19 rfl rfl)
theorem dX3_kills_20 : decode cX3_kills 20 = .ok (.baload, 1) := dk_51 (dk_at dksX3_kills_0 20 rfl rfl)
theorem dX3_kills_21 : decode cX3_kills 21 = .ok (.ifCond .ne 13, 3) := dk_154 0 13 (dk_at dksX3_kills_0 21 rfl rfl)
theorem dX3_kills_24 : decode cX3_kills 24 = .ok (.aload_n 0, 1) := dk_42 (dk_at dksX3_kills_1 0 rfl rfl)
theorem dX3_kills_25 : decode cX3_kills 25 = .ok (.getfield 103, 3) := dk_180 0 103 (dk_at dksX3_kills_1 1 rfl rfl)
theorem dX3_kills_28 : decode cX3_kills 28 = .ok (.iload_n 2, 1) := dk_28 (dk_at dksX3_kills_1 4 rfl rfl)
theorem dX3_kills_29 : decode cX3_kills 29 = .ok (.iaload, 1) := dk_46 (dk_at dksX3_kills_1 5 rfl rfl)
theorem dX3_kills_30 : decode cX3_kills 30 = .ok (.iload_n 1, 1) := dk_27 (dk_at dksX3_kills_1 6 rfl rfl)
theorem dX3_kills_31 : decode cX3_kills 31 = .ok (.if_icmp .ne 7, 3) := dk_160 0 7 (dk_at dksX3_kills_1 7 rfl rfl)
theorem dX3_kills_34 : decode cX3_kills 34 = .ok (.iconst 1, 1) := dk_4 (dk_at dksX3_kills_1 10 rfl rfl)
theorem dX3_kills_35 : decode cX3_kills 35 = .ok (.goto 4, 3) := dk_167 0 4 (dk_at dksX3_kills_1 11 rfl rfl)
theorem dX3_kills_38 : decode cX3_kills 38 = .ok (.iconst 0, 1) := dk_3 (dk_at dksX3_kills_1 14 rfl rfl)
theorem dX3_kills_39 : decode cX3_kills 39 = .ok (.bastore, 1) := dk_84 (dk_at dksX3_kills_1 15 rfl rfl)
theorem dX3_kills_40 : decode cX3_kills 40 = .ok (.iinc 2 1, 3) := dk_132 2 1 (dk_at dksX3_kills_1 16 rfl rfl)
theorem dX3_kills_43 : decode cX3_kills 43 = .ok (.goto (-41), 3) := dk_167 255 215 (dk_at dksX3_kills_1 19 rfl rfl)
theorem dX3_kills_46 : decode cX3_kills 46 = .ok (.return_, 1) := dk_177 (dk_at dksX3_kills_1 22 rfl rfl)
abbrev cX3_places : ByteArray := prog_11_method_38_code
def yX3_places : MethodName := ⟨RX3, "places", "(I)V"⟩
def dkwX3_places_1 : List UInt8 := [42, 180, 0, 20, 27, 52, 85, 177]
abbrev dktX3_places_1 : List UInt8 := dkwX3_places_1 ++ []
def dkwX3_places_0 : List UInt8 := [42, 180, 0, 66, 27, 4, 84, 42, 180, 0, 69, 27, 42, 180, 0, 16, 27, 46, 79, 42, 180, 0, 72, 27]
abbrev dktX3_places_0 : List UInt8 := dkwX3_places_0 ++ dktX3_places_1
theorem dksX3_places_0 : cX3_places.data.toList.drop 0 = dktX3_places_0 := by decide +kernel
theorem dksX3_places_1 : cX3_places.data.toList.drop 24 = dktX3_places_1 := dk_seg dksX3_places_0 24 rfl rfl
theorem dX3_places_0 : decode cX3_places 0 = .ok (.aload_n 0, 1) := dk_42 (dk_at dksX3_places_0 0 rfl rfl)
theorem dX3_places_1 : decode cX3_places 1 = .ok (.getfield 66, 3) := dk_180 0 66 (dk_at dksX3_places_0 1 rfl rfl)
theorem dX3_places_4 : decode cX3_places 4 = .ok (.iload_n 1, 1) := dk_27 (dk_at dksX3_places_0 4 rfl rfl)
theorem dX3_places_5 : decode cX3_places 5 = .ok (.iconst 1, 1) := dk_4 (dk_at dksX3_places_0 5 rfl rfl)
theorem dX3_places_6 : decode cX3_places 6 = .ok (.bastore, 1) := dk_84 (dk_at dksX3_places_0 6 rfl rfl)
theorem dX3_places_7 : decode cX3_places 7 = .ok (.aload_n 0, 1) := dk_42 (dk_at dksX3_places_0 7 rfl rfl)
theorem dX3_places_8 : decode cX3_places 8 = .ok (.getfield 69, 3) := dk_180 0 69 (dk_at dksX3_places_0 8 rfl rfl)
theorem dX3_places_11 : decode cX3_places 11 = .ok (.iload_n 1, 1) := dk_27 (dk_at dksX3_places_0 11 rfl rfl)
theorem dX3_places_12 : decode cX3_places 12 = .ok (.aload_n 0, 1) := dk_42 (dk_at dksX3_places_0 12 rfl rfl)
theorem dX3_places_13 : decode cX3_places 13 = .ok (.getfield 16, 3) := dk_180 0 16 (dk_at dksX3_places_0 13 rfl rfl)
theorem dX3_places_16 : decode cX3_places 16 = .ok (.iload_n 1, 1) := dk_27 (dk_at dksX3_places_0 16 rfl rfl)
theorem dX3_places_17 : decode cX3_places 17 = .ok (.iaload, 1) := dk_46 (dk_at dksX3_places_0 17 rfl rfl)
theorem dX3_places_18 : decode cX3_places 18 = .ok (.iastore, 1) := dk_79 (dk_at dksX3_places_0 18 rfl rfl)
theorem dX3_places_19 : decode cX3_places 19 = .ok (.aload_n 0, 1) := dk_42 (dk_at dksX3_places_0 19 rfl rfl)
theorem dX3_places_20 : decode cX3_places 20 = .ok (.getfield 72, 3) := dk_180 0 72 (dk_at dksX3_places_0 20 rfl rfl)
theorem dX3_places_23 : decode cX3_places 23 = .ok (.iload_n 1, 1) := dk_27 (dk_at dksX3_places_0 23 rfl rfl)
theorem dX3_places_24 : decode cX3_places 24 = .ok (.aload_n 0, 1) := dk_42 (dk_at dksX3_places_1 0 rfl rfl)
theorem dX3_places_25 : decode cX3_places 25 = .ok (.getfield 20, 3) := dk_180 0 20 (dk_at dksX3_places_1 1 rfl rfl)
theorem dX3_places_28 : decode cX3_places 28 = .ok (.iload_n 1, 1) := dk_27 (dk_at dksX3_places_1 4 rfl rfl)
theorem dX3_places_29 : decode cX3_places 29 = .ok (.caload, 1) := dk_52 (dk_at dksX3_places_1 5 rfl rfl)
theorem dX3_places_30 : decode cX3_places 30 = .ok (.castore, 1) := dk_85 (dk_at dksX3_places_1 6 rfl rfl)
theorem dX3_places_31 : decode cX3_places 31 = .ok (.return_, 1) := dk_177 (dk_at dksX3_places_1 7 rfl rfl)
abbrev cX3_reads : ByteArray := prog_11_method_42_code
def yX3_reads : MethodName := ⟨RX3, "reads", "(I)V"⟩
def dkwX3_reads_3 : List UInt8 := [84, 177]
abbrev dktX3_reads_3 : List UInt8 := dkwX3_reads_3 ++ []
def dkwX3_reads_2 : List UInt8 := [42, 180, 0, 115, 28, 46, 79, 132, 2, 1, 167, 255, 228, 42, 27, 182, 0, 189, 42, 180, 0, 109, 27, 4]
abbrev dktX3_reads_2 : List UInt8 := dkwX3_reads_2 ++ dktX3_reads_3
def dkwX3_reads_1 : List UInt8 := [180, 0, 195, 79, 3, 61, 28, 42, 180, 0, 195, 162, 0, 26, 42, 180, 0, 81, 16, 20, 27, 104, 28, 96]
abbrev dktX3_reads_1 : List UInt8 := dkwX3_reads_1 ++ dktX3_reads_2
def dkwX3_reads_0 : List UInt8 := [42, 27, 182, 0, 210, 42, 180, 0, 75, 27, 42, 180, 0, 24, 27, 46, 79, 42, 180, 0, 78, 27, 42]
abbrev dktX3_reads_0 : List UInt8 := dkwX3_reads_0 ++ dktX3_reads_1
theorem dksX3_reads_0 : cX3_reads.data.toList.drop 0 = dktX3_reads_0 := by decide +kernel
theorem dksX3_reads_1 : cX3_reads.data.toList.drop 23 = dktX3_reads_1 := dk_seg dksX3_reads_0 23 rfl rfl
theorem dksX3_reads_2 : cX3_reads.data.toList.drop 47 = dktX3_reads_2 := dk_seg dksX3_reads_1 24 rfl rfl
theorem dksX3_reads_3 : cX3_reads.data.toList.drop 71 = dktX3_reads_3 := dk_seg dksX3_reads_2 24 rfl rfl
theorem dX3_reads_0 : decode cX3_reads 0 = .ok (.aload_n 0, 1) := dk_42 (dk_at dksX3_reads_0 0 rfl rfl)
theorem dX3_reads_1 : decode cX3_reads 1 = .ok (.iload_n 1, 1) := dk_27 (dk_at dksX3_reads_0 1 rfl rfl)
theorem dX3_reads_2 : decode cX3_reads 2 = .ok (.invokevirtual 210, 3) := dk_182 0 210 (dk_at dksX3_reads_0 2 rfl rfl)
theorem dX3_reads_5 : decode cX3_reads 5 = .ok (.aload_n 0, 1) := dk_42 (dk_at dksX3_reads_0 5 rfl rfl)
theorem dX3_reads_6 : decode cX3_reads 6 = .ok (.getfield 75, 3) := dk_180 0 75 (dk_at dksX3_reads_0 6 rfl rfl)
theorem dX3_reads_9 : decode cX3_reads 9 = .ok (.iload_n 1, 1) := dk_27 (dk_at dksX3_reads_0 9 rfl rfl)
theorem dX3_reads_10 : decode cX3_reads 10 = .ok (.aload_n 0, 1) := dk_42 (dk_at dksX3_reads_0 10 rfl rfl)
theorem dX3_reads_11 : decode cX3_reads 11 = .ok (.getfield 24, 3) := dk_180 0 24 (dk_at dksX3_reads_0 11 rfl rfl)
theorem dX3_reads_14 : decode cX3_reads 14 = .ok (.iload_n 1, 1) := dk_27 (dk_at dksX3_reads_0 14 rfl rfl)
theorem dX3_reads_15 : decode cX3_reads 15 = .ok (.iaload, 1) := dk_46 (dk_at dksX3_reads_0 15 rfl rfl)
theorem dX3_reads_16 : decode cX3_reads 16 = .ok (.iastore, 1) := dk_79 (dk_at dksX3_reads_0 16 rfl rfl)
theorem dX3_reads_17 : decode cX3_reads 17 = .ok (.aload_n 0, 1) := dk_42 (dk_at dksX3_reads_0 17 rfl rfl)
theorem dX3_reads_18 : decode cX3_reads 18 = .ok (.getfield 78, 3) := dk_180 0 78 (dk_at dksX3_reads_0 18 rfl rfl)
theorem dX3_reads_21 : decode cX3_reads 21 = .ok (.iload_n 1, 1) := dk_27 (dk_at dksX3_reads_0 21 rfl rfl)
theorem dX3_reads_22 : decode cX3_reads 22 = .ok (.aload_n 0, 1) := dk_42 (dk_at dksX3_reads_0 22 rfl rfl)
theorem dX3_reads_23 : decode cX3_reads 23 = .ok (.getfield 195, 3) := dk_180 0 195 (dk_at dksX3_reads_1 0 rfl rfl)
theorem dX3_reads_26 : decode cX3_reads 26 = .ok (.iastore, 1) := dk_79 (dk_at dksX3_reads_1 3 rfl rfl)
theorem dX3_reads_27 : decode cX3_reads 27 = .ok (.iconst 0, 1) := dk_3 (dk_at dksX3_reads_1 4 rfl rfl)
theorem dX3_reads_28 : decode cX3_reads 28 = .ok (.istore_n 2, 1) := dk_61 (dk_at dksX3_reads_1 5 rfl rfl)
theorem dX3_reads_29 : decode cX3_reads 29 = .ok (.iload_n 2, 1) := dk_28 (dk_at dksX3_reads_1 6 rfl rfl)
theorem dX3_reads_30 : decode cX3_reads 30 = .ok (.aload_n 0, 1) := dk_42 (dk_at dksX3_reads_1 7 rfl rfl)
theorem dX3_reads_31 : decode cX3_reads 31 = .ok (.getfield 195, 3) := dk_180 0 195 (dk_at dksX3_reads_1 8 rfl rfl)
theorem dX3_reads_34 : decode cX3_reads 34 = .ok (.if_icmp .ge 26, 3) := dk_162 0 26 (dk_at dksX3_reads_1 11 rfl rfl)
theorem dX3_reads_37 : decode cX3_reads 37 = .ok (.aload_n 0, 1) := dk_42 (dk_at dksX3_reads_1 14 rfl rfl)
theorem dX3_reads_38 : decode cX3_reads 38 = .ok (.getfield 81, 3) := dk_180 0 81 (dk_at dksX3_reads_1 15 rfl rfl)
theorem dX3_reads_41 : decode cX3_reads 41 = .ok (.bipush 20, 2) := dk_16 20 (dk_at dksX3_reads_1 18 rfl rfl)
theorem dX3_reads_43 : decode cX3_reads 43 = .ok (.iload_n 1, 1) := dk_27 (dk_at dksX3_reads_1 20 rfl rfl)
theorem dX3_reads_44 : decode cX3_reads 44 = .ok (.imul, 1) := dk_104 (dk_at dksX3_reads_1 21 rfl rfl)
theorem dX3_reads_45 : decode cX3_reads 45 = .ok (.iload_n 2, 1) := dk_28 (dk_at dksX3_reads_1 22 rfl rfl)
theorem dX3_reads_46 : decode cX3_reads 46 = .ok (.iadd, 1) := dk_96 (dk_at dksX3_reads_1 23 rfl rfl)
theorem dX3_reads_47 : decode cX3_reads 47 = .ok (.aload_n 0, 1) := dk_42 (dk_at dksX3_reads_2 0 rfl rfl)
theorem dX3_reads_48 : decode cX3_reads 48 = .ok (.getfield 115, 3) := dk_180 0 115 (dk_at dksX3_reads_2 1 rfl rfl)
theorem dX3_reads_51 : decode cX3_reads 51 = .ok (.iload_n 2, 1) := dk_28 (dk_at dksX3_reads_2 4 rfl rfl)
theorem dX3_reads_52 : decode cX3_reads 52 = .ok (.iaload, 1) := dk_46 (dk_at dksX3_reads_2 5 rfl rfl)
theorem dX3_reads_53 : decode cX3_reads 53 = .ok (.iastore, 1) := dk_79 (dk_at dksX3_reads_2 6 rfl rfl)
theorem dX3_reads_54 : decode cX3_reads 54 = .ok (.iinc 2 1, 3) := dk_132 2 1 (dk_at dksX3_reads_2 7 rfl rfl)
theorem dX3_reads_57 : decode cX3_reads 57 = .ok (.goto (-28), 3) := dk_167 255 228 (dk_at dksX3_reads_2 10 rfl rfl)
theorem dX3_reads_60 : decode cX3_reads 60 = .ok (.aload_n 0, 1) := dk_42 (dk_at dksX3_reads_2 13 rfl rfl)
theorem dX3_reads_61 : decode cX3_reads 61 = .ok (.iload_n 1, 1) := dk_27 (dk_at dksX3_reads_2 14 rfl rfl)
theorem dX3_reads_62 : decode cX3_reads 62 = .ok (.invokevirtual 189, 3) := dk_182 0 189 (dk_at dksX3_reads_2 15 rfl rfl)
theorem dX3_reads_65 : decode cX3_reads 65 = .ok (.aload_n 0, 1) := dk_42 (dk_at dksX3_reads_2 18 rfl rfl)
theorem dX3_reads_66 : decode cX3_reads 66 = .ok (.getfield 109, 3) := dk_180 0 109 (dk_at dksX3_reads_2 19 rfl rfl)
theorem dX3_reads_69 : decode cX3_reads 69 = .ok (.iload_n 1, 1) := dk_27 (dk_at dksX3_reads_2 22 rfl rfl)
theorem dX3_reads_70 : decode cX3_reads 70 = .ok (.iconst 1, 1) := dk_4 (dk_at dksX3_reads_2 23 rfl rfl)
theorem dX3_reads_71 : decode cX3_reads 71 = .ok (.bastore, 1) := dk_84 (dk_at dksX3_reads_3 0 rfl rfl)
theorem dX3_reads_72 : decode cX3_reads 72 = .ok (.return_, 1) := dk_177 (dk_at dksX3_reads_3 1 rfl rfl)
abbrev cX3_takesWords : ByteArray := prog_11_method_37_code
def yX3_takesWords : MethodName := ⟨RX3, "takesWords", "(I)V"⟩
def dkwX3_takesWords_8 : List UInt8 := [21, 4, 158, 0, 7, 2, 167, 0, 4, 3, 96, 54, 4, 132, 5, 1, 167, 255, 154, 177]
abbrev dktX3_takesWords_8 : List UInt8 := dkwX3_takesWords_8 ++ []
def dkwX3_takesWords_7 : List UInt8 := [96, 181, 0, 195, 21, 4, 21, 6, 16, 254, 160, 0, 7, 4, 167, 0, 20, 21, 6, 16, 253, 160, 0, 12]
abbrev dktX3_takesWords_7 : List UInt8 := dkwX3_takesWords_7 ++ dktX3_takesWords_8
def dkwX3_takesWords_6 : List UInt8 := [42, 180, 0, 88, 162, 0, 24, 42, 180, 0, 115, 42, 180, 0, 195, 21, 6, 79, 42, 89, 180, 0, 195, 4]
abbrev dktX3_takesWords_6 : List UInt8 := dkwX3_takesWords_6 ++ dktX3_takesWords_7
def dkwX3_takesWords_5 : List UInt8 := [21, 5, 96, 46, 54, 6, 21, 6, 155, 0, 44, 21, 4, 42, 180, 0, 84, 163, 0, 35, 42, 180, 0, 195]
abbrev dktX3_takesWords_5 : List UInt8 := dkwX3_takesWords_5 ++ dktX3_takesWords_6
def dkwX3_takesWords_4 : List UInt8 := [181, 0, 195, 3, 54, 4, 3, 54, 5, 21, 5, 29, 162, 0, 102, 42, 180, 0, 30, 16, 20, 27, 104]
abbrev dktX3_takesWords_4 : List UInt8 := dkwX3_takesWords_4 ++ dktX3_takesWords_5
def dkwX3_takesWords_3 : List UInt8 := [16, 254, 160, 0, 11, 28, 158, 0, 7, 2, 167, 0, 4, 3, 96, 61, 132, 4, 255, 167, 255, 186, 42, 3]
abbrev dktX3_takesWords_3 : List UInt8 := dkwX3_takesWords_3 ++ dktX3_takesWords_4
def dkwX3_takesWords_2 : List UInt8 := [154, 0, 8, 21, 4, 167, 0, 4, 29, 62, 28, 21, 5, 16, 253, 160, 0, 7, 4, 167, 0, 19, 21, 5]
abbrev dktX3_takesWords_2 : List UInt8 := dkwX3_takesWords_2 ++ dktX3_takesWords_3
def dkwX3_takesWords_1 : List UInt8 := [42, 180, 0, 30, 16, 20, 27, 104, 21, 4, 96, 46, 54, 5, 21, 5, 16, 254, 160, 0, 12, 28]
abbrev dktX3_takesWords_1 : List UInt8 := dkwX3_takesWords_1 ++ dktX3_takesWords_2
def dkwX3_takesWords_0 : List UInt8 := [3, 61, 42, 180, 0, 27, 27, 46, 62, 42, 180, 0, 27, 27, 46, 4, 100, 54, 4, 21, 4, 155, 0, 71]
abbrev dktX3_takesWords_0 : List UInt8 := dkwX3_takesWords_0 ++ dktX3_takesWords_1
theorem dksX3_takesWords_0 : cX3_takesWords.data.toList.drop 0 = dktX3_takesWords_0 := by decide +kernel
theorem dksX3_takesWords_1 : cX3_takesWords.data.toList.drop 24 = dktX3_takesWords_1 := dk_seg dksX3_takesWords_0 24 rfl rfl
theorem dksX3_takesWords_2 : cX3_takesWords.data.toList.drop 46 = dktX3_takesWords_2 := dk_seg dksX3_takesWords_1 22 rfl rfl
theorem dksX3_takesWords_3 : cX3_takesWords.data.toList.drop 70 = dktX3_takesWords_3 := dk_seg dksX3_takesWords_2 24 rfl rfl
theorem dksX3_takesWords_4 : cX3_takesWords.data.toList.drop 94 = dktX3_takesWords_4 := dk_seg dksX3_takesWords_3 24 rfl rfl
theorem dksX3_takesWords_5 : cX3_takesWords.data.toList.drop 117 = dktX3_takesWords_5 := dk_seg dksX3_takesWords_4 23 rfl rfl
theorem dksX3_takesWords_6 : cX3_takesWords.data.toList.drop 141 = dktX3_takesWords_6 := dk_seg dksX3_takesWords_5 24 rfl rfl
theorem dksX3_takesWords_7 : cX3_takesWords.data.toList.drop 165 = dktX3_takesWords_7 := dk_seg dksX3_takesWords_6 24 rfl rfl
theorem dksX3_takesWords_8 : cX3_takesWords.data.toList.drop 189 = dktX3_takesWords_8 := dk_seg dksX3_takesWords_7 24 rfl rfl
theorem dX3_takesWords_0 : decode cX3_takesWords 0 = .ok (.iconst 0, 1) := dk_3 (dk_at dksX3_takesWords_0 0 rfl rfl)
theorem dX3_takesWords_1 : decode cX3_takesWords 1 = .ok (.istore_n 2, 1) := dk_61 (dk_at dksX3_takesWords_0 1 rfl rfl)
theorem dX3_takesWords_2 : decode cX3_takesWords 2 = .ok (.aload_n 0, 1) := dk_42 (dk_at dksX3_takesWords_0 2 rfl rfl)
theorem dX3_takesWords_3 : decode cX3_takesWords 3 = .ok (.getfield 27, 3) := dk_180 0 27 (dk_at dksX3_takesWords_0 3 rfl rfl)
theorem dX3_takesWords_6 : decode cX3_takesWords 6 = .ok (.iload_n 1, 1) := dk_27 (dk_at dksX3_takesWords_0 6 rfl rfl)
theorem dX3_takesWords_7 : decode cX3_takesWords 7 = .ok (.iaload, 1) := dk_46 (dk_at dksX3_takesWords_0 7 rfl rfl)
theorem dX3_takesWords_8 : decode cX3_takesWords 8 = .ok (.istore_n 3, 1) := dk_62 (dk_at dksX3_takesWords_0 8 rfl rfl)
theorem dX3_takesWords_9 : decode cX3_takesWords 9 = .ok (.aload_n 0, 1) := dk_42 (dk_at dksX3_takesWords_0 9 rfl rfl)
theorem dX3_takesWords_10 : decode cX3_takesWords 10 = .ok (.getfield 27, 3) := dk_180 0 27 (dk_at dksX3_takesWords_0 10 rfl rfl)
theorem dX3_takesWords_13 : decode cX3_takesWords 13 = .ok (.iload_n 1, 1) := dk_27 (dk_at dksX3_takesWords_0 13 rfl rfl)
theorem dX3_takesWords_14 : decode cX3_takesWords 14 = .ok (.iaload, 1) := dk_46 (dk_at dksX3_takesWords_0 14 rfl rfl)
theorem dX3_takesWords_15 : decode cX3_takesWords 15 = .ok (.iconst 1, 1) := dk_4 (dk_at dksX3_takesWords_0 15 rfl rfl)
theorem dX3_takesWords_16 : decode cX3_takesWords 16 = .ok (.isub, 1) := dk_100 (dk_at dksX3_takesWords_0 16 rfl rfl)
theorem dX3_takesWords_17 : decode cX3_takesWords 17 = .ok (.istore 4, 2) := dk_54 4 (dk_at dksX3_takesWords_0 17 rfl rfl)
theorem dX3_takesWords_19 : decode cX3_takesWords 19 = .ok (.iload 4, 2) := dk_21 4 (dk_at dksX3_takesWords_0 19 rfl rfl)
theorem dX3_takesWords_21 : decode cX3_takesWords 21 = .ok (.ifCond .lt 71, 3) := dk_155 0 71 (dk_at dksX3_takesWords_0 21 rfl rfl)
theorem dX3_takesWords_24 : decode cX3_takesWords 24 = .ok (.aload_n 0, 1) := dk_42 (dk_at dksX3_takesWords_1 0 rfl rfl)
theorem dX3_takesWords_25 : decode cX3_takesWords 25 = .ok (.getfield 30, 3) := dk_180 0 30 (dk_at dksX3_takesWords_1 1 rfl rfl)
theorem dX3_takesWords_28 : decode cX3_takesWords 28 = .ok (.bipush 20, 2) := dk_16 20 (dk_at dksX3_takesWords_1 4 rfl rfl)
theorem dX3_takesWords_30 : decode cX3_takesWords 30 = .ok (.iload_n 1, 1) := dk_27 (dk_at dksX3_takesWords_1 6 rfl rfl)
theorem dX3_takesWords_31 : decode cX3_takesWords 31 = .ok (.imul, 1) := dk_104 (dk_at dksX3_takesWords_1 7 rfl rfl)
theorem dX3_takesWords_32 : decode cX3_takesWords 32 = .ok (.iload 4, 2) := dk_21 4 (dk_at dksX3_takesWords_1 8 rfl rfl)
theorem dX3_takesWords_34 : decode cX3_takesWords 34 = .ok (.iadd, 1) := dk_96 (dk_at dksX3_takesWords_1 10 rfl rfl)
theorem dX3_takesWords_35 : decode cX3_takesWords 35 = .ok (.iaload, 1) := dk_46 (dk_at dksX3_takesWords_1 11 rfl rfl)
theorem dX3_takesWords_36 : decode cX3_takesWords 36 = .ok (.istore 5, 2) := dk_54 5 (dk_at dksX3_takesWords_1 12 rfl rfl)
theorem dX3_takesWords_38 : decode cX3_takesWords 38 = .ok (.iload 5, 2) := dk_21 5 (dk_at dksX3_takesWords_1 14 rfl rfl)
theorem dX3_takesWords_40 : decode cX3_takesWords 40 = .ok (.bipush (-2), 2) := dk_16 254 (dk_at dksX3_takesWords_1 16 rfl rfl)
theorem dX3_takesWords_42 : decode cX3_takesWords 42 = .ok (.if_icmp .ne 12, 3) := dk_160 0 12 (dk_at dksX3_takesWords_1 18 rfl rfl)
theorem dX3_takesWords_45 : decode cX3_takesWords 45 = .ok (.iload_n 2, 1) := dk_28 (dk_at dksX3_takesWords_1 21 rfl rfl)
theorem dX3_takesWords_46 : decode cX3_takesWords 46 = .ok (.ifCond .ne 8, 3) := dk_154 0 8 (dk_at dksX3_takesWords_2 0 rfl rfl)
theorem dX3_takesWords_49 : decode cX3_takesWords 49 = .ok (.iload 4, 2) := dk_21 4 (dk_at dksX3_takesWords_2 3 rfl rfl)
theorem dX3_takesWords_51 : decode cX3_takesWords 51 = .ok (.goto 4, 3) := dk_167 0 4 (dk_at dksX3_takesWords_2 5 rfl rfl)
theorem dX3_takesWords_54 : decode cX3_takesWords 54 = .ok (.iload_n 3, 1) := dk_29 (dk_at dksX3_takesWords_2 8 rfl rfl)
theorem dX3_takesWords_55 : decode cX3_takesWords 55 = .ok (.istore_n 3, 1) := dk_62 (dk_at dksX3_takesWords_2 9 rfl rfl)
theorem dX3_takesWords_56 : decode cX3_takesWords 56 = .ok (.iload_n 2, 1) := dk_28 (dk_at dksX3_takesWords_2 10 rfl rfl)
theorem dX3_takesWords_57 : decode cX3_takesWords 57 = .ok (.iload 5, 2) := dk_21 5 (dk_at dksX3_takesWords_2 11 rfl rfl)
theorem dX3_takesWords_59 : decode cX3_takesWords 59 = .ok (.bipush (-3), 2) := dk_16 253 (dk_at dksX3_takesWords_2 13 rfl rfl)
theorem dX3_takesWords_61 : decode cX3_takesWords 61 = .ok (.if_icmp .ne 7, 3) := dk_160 0 7 (dk_at dksX3_takesWords_2 15 rfl rfl)
theorem dX3_takesWords_64 : decode cX3_takesWords 64 = .ok (.iconst 1, 1) := dk_4 (dk_at dksX3_takesWords_2 18 rfl rfl)
theorem dX3_takesWords_65 : decode cX3_takesWords 65 = .ok (.goto 19, 3) := dk_167 0 19 (dk_at dksX3_takesWords_2 19 rfl rfl)
theorem dX3_takesWords_68 : decode cX3_takesWords 68 = .ok (.iload 5, 2) := dk_21 5 (dk_at dksX3_takesWords_2 22 rfl rfl)
theorem dX3_takesWords_70 : decode cX3_takesWords 70 = .ok (.bipush (-2), 2) := dk_16 254 (dk_at dksX3_takesWords_3 0 rfl rfl)
theorem dX3_takesWords_72 : decode cX3_takesWords 72 = .ok (.if_icmp .ne 11, 3) := dk_160 0 11 (dk_at dksX3_takesWords_3 2 rfl rfl)
theorem dX3_takesWords_75 : decode cX3_takesWords 75 = .ok (.iload_n 2, 1) := dk_28 (dk_at dksX3_takesWords_3 5 rfl rfl)
theorem dX3_takesWords_76 : decode cX3_takesWords 76 = .ok (.ifCond .le 7, 3) := dk_158 0 7 (dk_at dksX3_takesWords_3 6 rfl rfl)
theorem dX3_takesWords_79 : decode cX3_takesWords 79 = .ok (.iconst (-1), 1) := dk_2 (dk_at dksX3_takesWords_3 9 rfl rfl)
theorem dX3_takesWords_80 : decode cX3_takesWords 80 = .ok (.goto 4, 3) := dk_167 0 4 (dk_at dksX3_takesWords_3 10 rfl rfl)
theorem dX3_takesWords_83 : decode cX3_takesWords 83 = .ok (.iconst 0, 1) := dk_3 (dk_at dksX3_takesWords_3 13 rfl rfl)
theorem dX3_takesWords_84 : decode cX3_takesWords 84 = .ok (.iadd, 1) := dk_96 (dk_at dksX3_takesWords_3 14 rfl rfl)
theorem dX3_takesWords_85 : decode cX3_takesWords 85 = .ok (.istore_n 2, 1) := dk_61 (dk_at dksX3_takesWords_3 15 rfl rfl)
theorem dX3_takesWords_86 : decode cX3_takesWords 86 = .ok (.iinc 4 (-1), 3) := dk_132 4 255 (dk_at dksX3_takesWords_3 16 rfl rfl)
theorem dX3_takesWords_89 : decode cX3_takesWords 89 = .ok (.goto (-70), 3) := dk_167 255 186 (dk_at dksX3_takesWords_3 19 rfl rfl)
theorem dX3_takesWords_92 : decode cX3_takesWords 92 = .ok (.aload_n 0, 1) := dk_42 (dk_at dksX3_takesWords_3 22 rfl rfl)
theorem dX3_takesWords_93 : decode cX3_takesWords 93 = .ok (.iconst 0, 1) := dk_3 (dk_at dksX3_takesWords_3 23 rfl rfl)
theorem dX3_takesWords_94 : decode cX3_takesWords 94 = .ok (.putfield 195, 3) := dk_181 0 195 (dk_at dksX3_takesWords_4 0 rfl rfl)
theorem dX3_takesWords_97 : decode cX3_takesWords 97 = .ok (.iconst 0, 1) := dk_3 (dk_at dksX3_takesWords_4 3 rfl rfl)
theorem dX3_takesWords_98 : decode cX3_takesWords 98 = .ok (.istore 4, 2) := dk_54 4 (dk_at dksX3_takesWords_4 4 rfl rfl)
theorem dX3_takesWords_100 : decode cX3_takesWords 100 = .ok (.iconst 0, 1) := dk_3 (dk_at dksX3_takesWords_4 6 rfl rfl)
theorem dX3_takesWords_101 : decode cX3_takesWords 101 = .ok (.istore 5, 2) := dk_54 5 (dk_at dksX3_takesWords_4 7 rfl rfl)
theorem dX3_takesWords_103 : decode cX3_takesWords 103 = .ok (.iload 5, 2) := dk_21 5 (dk_at dksX3_takesWords_4 9 rfl rfl)
theorem dX3_takesWords_105 : decode cX3_takesWords 105 = .ok (.iload_n 3, 1) := dk_29 (dk_at dksX3_takesWords_4 11 rfl rfl)
theorem dX3_takesWords_106 : decode cX3_takesWords 106 = .ok (.if_icmp .ge 102, 3) := dk_162 0 102 (dk_at dksX3_takesWords_4 12 rfl rfl)
theorem dX3_takesWords_109 : decode cX3_takesWords 109 = .ok (.aload_n 0, 1) := dk_42 (dk_at dksX3_takesWords_4 15 rfl rfl)
theorem dX3_takesWords_110 : decode cX3_takesWords 110 = .ok (.getfield 30, 3) := dk_180 0 30 (dk_at dksX3_takesWords_4 16 rfl rfl)
theorem dX3_takesWords_113 : decode cX3_takesWords 113 = .ok (.bipush 20, 2) := dk_16 20 (dk_at dksX3_takesWords_4 19 rfl rfl)
theorem dX3_takesWords_115 : decode cX3_takesWords 115 = .ok (.iload_n 1, 1) := dk_27 (dk_at dksX3_takesWords_4 21 rfl rfl)
theorem dX3_takesWords_116 : decode cX3_takesWords 116 = .ok (.imul, 1) := dk_104 (dk_at dksX3_takesWords_4 22 rfl rfl)
theorem dX3_takesWords_117 : decode cX3_takesWords 117 = .ok (.iload 5, 2) := dk_21 5 (dk_at dksX3_takesWords_5 0 rfl rfl)
theorem dX3_takesWords_119 : decode cX3_takesWords 119 = .ok (.iadd, 1) := dk_96 (dk_at dksX3_takesWords_5 2 rfl rfl)
theorem dX3_takesWords_120 : decode cX3_takesWords 120 = .ok (.iaload, 1) := dk_46 (dk_at dksX3_takesWords_5 3 rfl rfl)
theorem dX3_takesWords_121 : decode cX3_takesWords 121 = .ok (.istore 6, 2) := dk_54 6 (dk_at dksX3_takesWords_5 4 rfl rfl)
theorem dX3_takesWords_123 : decode cX3_takesWords 123 = .ok (.iload 6, 2) := dk_21 6 (dk_at dksX3_takesWords_5 6 rfl rfl)
theorem dX3_takesWords_125 : decode cX3_takesWords 125 = .ok (.ifCond .lt 44, 3) := dk_155 0 44 (dk_at dksX3_takesWords_5 8 rfl rfl)
theorem dX3_takesWords_128 : decode cX3_takesWords 128 = .ok (.iload 4, 2) := dk_21 4 (dk_at dksX3_takesWords_5 11 rfl rfl)
theorem dX3_takesWords_130 : decode cX3_takesWords 130 = .ok (.aload_n 0, 1) := dk_42 (dk_at dksX3_takesWords_5 13 rfl rfl)
theorem dX3_takesWords_131 : decode cX3_takesWords 131 = .ok (.getfield 84, 3) := dk_180 0 84 (dk_at dksX3_takesWords_5 14 rfl rfl)
theorem dX3_takesWords_134 : decode cX3_takesWords 134 = .ok (.if_icmp .gt 35, 3) := dk_163 0 35 (dk_at dksX3_takesWords_5 17 rfl rfl)
theorem dX3_takesWords_137 : decode cX3_takesWords 137 = .ok (.aload_n 0, 1) := dk_42 (dk_at dksX3_takesWords_5 20 rfl rfl)
theorem dX3_takesWords_138 : decode cX3_takesWords 138 = .ok (.getfield 195, 3) := dk_180 0 195 (dk_at dksX3_takesWords_5 21 rfl rfl)
theorem dX3_takesWords_141 : decode cX3_takesWords 141 = .ok (.aload_n 0, 1) := dk_42 (dk_at dksX3_takesWords_6 0 rfl rfl)
theorem dX3_takesWords_142 : decode cX3_takesWords 142 = .ok (.getfield 88, 3) := dk_180 0 88 (dk_at dksX3_takesWords_6 1 rfl rfl)
theorem dX3_takesWords_145 : decode cX3_takesWords 145 = .ok (.if_icmp .ge 24, 3) := dk_162 0 24 (dk_at dksX3_takesWords_6 4 rfl rfl)
theorem dX3_takesWords_148 : decode cX3_takesWords 148 = .ok (.aload_n 0, 1) := dk_42 (dk_at dksX3_takesWords_6 7 rfl rfl)
theorem dX3_takesWords_149 : decode cX3_takesWords 149 = .ok (.getfield 115, 3) := dk_180 0 115 (dk_at dksX3_takesWords_6 8 rfl rfl)
theorem dX3_takesWords_152 : decode cX3_takesWords 152 = .ok (.aload_n 0, 1) := dk_42 (dk_at dksX3_takesWords_6 11 rfl rfl)
theorem dX3_takesWords_153 : decode cX3_takesWords 153 = .ok (.getfield 195, 3) := dk_180 0 195 (dk_at dksX3_takesWords_6 12 rfl rfl)
theorem dX3_takesWords_156 : decode cX3_takesWords 156 = .ok (.iload 6, 2) := dk_21 6 (dk_at dksX3_takesWords_6 15 rfl rfl)
theorem dX3_takesWords_158 : decode cX3_takesWords 158 = .ok (.iastore, 1) := dk_79 (dk_at dksX3_takesWords_6 17 rfl rfl)
theorem dX3_takesWords_159 : decode cX3_takesWords 159 = .ok (.aload_n 0, 1) := dk_42 (dk_at dksX3_takesWords_6 18 rfl rfl)
theorem dX3_takesWords_160 : decode cX3_takesWords 160 = .ok (.dup, 1) := dk_89 (dk_at dksX3_takesWords_6 19 rfl rfl)
theorem dX3_takesWords_161 : decode cX3_takesWords 161 = .ok (.getfield 195, 3) := dk_180 0 195 (dk_at dksX3_takesWords_6 20 rfl rfl)
theorem dX3_takesWords_164 : decode cX3_takesWords 164 = .ok (.iconst 1, 1) := dk_4 (dk_at dksX3_takesWords_6 23 rfl rfl)
theorem dX3_takesWords_165 : decode cX3_takesWords 165 = .ok (.iadd, 1) := dk_96 (dk_at dksX3_takesWords_7 0 rfl rfl)
theorem dX3_takesWords_166 : decode cX3_takesWords 166 = .ok (.putfield 195, 3) := dk_181 0 195 (dk_at dksX3_takesWords_7 1 rfl rfl)
theorem dX3_takesWords_169 : decode cX3_takesWords 169 = .ok (.iload 4, 2) := dk_21 4 (dk_at dksX3_takesWords_7 4 rfl rfl)
theorem dX3_takesWords_171 : decode cX3_takesWords 171 = .ok (.iload 6, 2) := dk_21 6 (dk_at dksX3_takesWords_7 6 rfl rfl)
theorem dX3_takesWords_173 : decode cX3_takesWords 173 = .ok (.bipush (-2), 2) := dk_16 254 (dk_at dksX3_takesWords_7 8 rfl rfl)
theorem dX3_takesWords_175 : decode cX3_takesWords 175 = .ok (.if_icmp .ne 7, 3) := dk_160 0 7 (dk_at dksX3_takesWords_7 10 rfl rfl)
theorem dX3_takesWords_178 : decode cX3_takesWords 178 = .ok (.iconst 1, 1) := dk_4 (dk_at dksX3_takesWords_7 13 rfl rfl)
theorem dX3_takesWords_179 : decode cX3_takesWords 179 = .ok (.goto 20, 3) := dk_167 0 20 (dk_at dksX3_takesWords_7 14 rfl rfl)
theorem dX3_takesWords_182 : decode cX3_takesWords 182 = .ok (.iload 6, 2) := dk_21 6 (dk_at dksX3_takesWords_7 17 rfl rfl)
theorem dX3_takesWords_184 : decode cX3_takesWords 184 = .ok (.bipush (-3), 2) := dk_16 253 (dk_at dksX3_takesWords_7 19 rfl rfl)
theorem dX3_takesWords_186 : decode cX3_takesWords 186 = .ok (.if_icmp .ne 12, 3) := dk_160 0 12 (dk_at dksX3_takesWords_7 21 rfl rfl)
theorem dX3_takesWords_189 : decode cX3_takesWords 189 = .ok (.iload 4, 2) := dk_21 4 (dk_at dksX3_takesWords_8 0 rfl rfl)
theorem dX3_takesWords_191 : decode cX3_takesWords 191 = .ok (.ifCond .le 7, 3) := dk_158 0 7 (dk_at dksX3_takesWords_8 2 rfl rfl)
theorem dX3_takesWords_194 : decode cX3_takesWords 194 = .ok (.iconst (-1), 1) := dk_2 (dk_at dksX3_takesWords_8 5 rfl rfl)
theorem dX3_takesWords_195 : decode cX3_takesWords 195 = .ok (.goto 4, 3) := dk_167 0 4 (dk_at dksX3_takesWords_8 6 rfl rfl)
theorem dX3_takesWords_198 : decode cX3_takesWords 198 = .ok (.iconst 0, 1) := dk_3 (dk_at dksX3_takesWords_8 9 rfl rfl)
theorem dX3_takesWords_199 : decode cX3_takesWords 199 = .ok (.iadd, 1) := dk_96 (dk_at dksX3_takesWords_8 10 rfl rfl)
theorem dX3_takesWords_200 : decode cX3_takesWords 200 = .ok (.istore 4, 2) := dk_54 4 (dk_at dksX3_takesWords_8 11 rfl rfl)
theorem dX3_takesWords_202 : decode cX3_takesWords 202 = .ok (.iinc 5 1, 3) := dk_132 5 1 (dk_at dksX3_takesWords_8 13 rfl rfl)
theorem dX3_takesWords_205 : decode cX3_takesWords 205 = .ok (.goto (-102), 3) := dk_167 255 154 (dk_at dksX3_takesWords_8 16 rfl rfl)
theorem dX3_takesWords_208 : decode cX3_takesWords 208 = .ok (.return_, 1) := dk_177 (dk_at dksX3_takesWords_8 19 rfl rfl)
abbrev cX3_goesOn : ByteArray := prog_11_method_44_code
def yX3_goesOn : MethodName := ⟨RX3, "goesOn", "(I)V"⟩
def dkwX3_goesOn_10 : List UInt8 := [16, 60, 27, 104, 29, 96, 51, 154, 0, 9, 42, 29, 4, 182, 0, 176, 132, 3, 1, 167, 255, 216, 177]
abbrev dktX3_goesOn_10 : List UInt8 := dkwX3_goesOn_10 ++ []
def dkwX3_goesOn_9 : List UInt8 := [84, 3, 62, 29, 42, 180, 0, 118, 162, 0, 38, 42, 180, 0, 66, 29, 51, 153, 0, 23, 42, 180, 0, 63]
abbrev dktX3_goesOn_9 : List UInt8 := dkwX3_goesOn_9 ++ dktX3_goesOn_10
def dkwX3_goesOn_8 : List UInt8 := [4, 96, 79, 132, 3, 1, 167, 255, 155, 42, 180, 0, 57, 27, 46, 154, 0, 55, 42, 180, 0, 54, 27, 3]
abbrev dktX3_goesOn_8 : List UInt8 := dkwX3_goesOn_8 ++ dktX3_goesOn_9
def dkwX3_goesOn_7 : List UInt8 := [42, 180, 0, 60, 16, 60, 27, 104, 42, 180, 0, 57, 27, 46, 96, 29, 79, 42, 180, 0, 57, 27, 92, 46]
abbrev dktX3_goesOn_7 : List UInt8 := dkwX3_goesOn_7 ++ dktX3_goesOn_8
def dkwX3_goesOn_6 : List UInt8 := [42, 29, 4, 182, 0, 176, 42, 180, 0, 13, 29, 51, 153, 0, 39, 42, 27, 29, 182, 0, 216, 154, 0, 30]
abbrev dktX3_goesOn_6 : List UInt8 := dkwX3_goesOn_6 ++ dktX3_goesOn_7
def dkwX3_goesOn_5 : List UInt8 := [28, 160, 0, 74, 42, 180, 0, 63, 16, 60, 27, 104, 29, 96, 4, 84, 42, 29, 182, 0, 213, 154, 0, 9]
abbrev dktX3_goesOn_5 : List UInt8 := dkwX3_goesOn_5 ++ dktX3_goesOn_6
def dkwX3_goesOn_4 : List UInt8 := [62, 29, 42, 180, 0, 118, 162, 0, 99, 42, 180, 0, 7, 29, 51, 153, 0, 84, 42, 180, 0, 16, 29, 46]
abbrev dktX3_goesOn_4 : List UInt8 := dkwX3_goesOn_4 ++ dktX3_goesOn_5
def dkwX3_goesOn_3 : List UInt8 := [42, 180, 0, 39, 27, 46, 159, 0, 17, 42, 28, 42, 180, 0, 39, 27, 46, 182, 0, 135, 153, 0, 109, 3]
abbrev dktX3_goesOn_3 : List UInt8 := dkwX3_goesOn_3 ++ dktX3_goesOn_4
def dkwX3_goesOn_2 : List UInt8 := [27, 104, 29, 96, 4, 96, 46, 79, 132, 3, 1, 167, 255, 219, 42, 180, 0, 7, 28, 51, 153, 0, 133, 28]
abbrev dktX3_goesOn_2 : List UInt8 := dkwX3_goesOn_2 ++ dktX3_goesOn_3
def dkwX3_goesOn_1 : List UInt8 := [180, 0, 57, 27, 46, 162, 0, 33, 42, 180, 0, 60, 16, 60, 27, 104, 29, 96, 42, 180, 0, 60, 16, 60]
abbrev dktX3_goesOn_1 : List UInt8 := dkwX3_goesOn_1 ++ dktX3_goesOn_2
def dkwX3_goesOn_0 : List UInt8 := [42, 180, 0, 60, 16, 60, 27, 104, 46, 61, 42, 180, 0, 57, 27, 92, 46, 4, 100, 79, 3, 62, 29, 42]
abbrev dktX3_goesOn_0 : List UInt8 := dkwX3_goesOn_0 ++ dktX3_goesOn_1
theorem dksX3_goesOn_0 : cX3_goesOn.data.toList.drop 0 = dktX3_goesOn_0 := by decide +kernel
theorem dksX3_goesOn_1 : cX3_goesOn.data.toList.drop 24 = dktX3_goesOn_1 := dk_seg dksX3_goesOn_0 24 rfl rfl
theorem dksX3_goesOn_2 : cX3_goesOn.data.toList.drop 48 = dktX3_goesOn_2 := dk_seg dksX3_goesOn_1 24 rfl rfl
theorem dksX3_goesOn_3 : cX3_goesOn.data.toList.drop 72 = dktX3_goesOn_3 := dk_seg dksX3_goesOn_2 24 rfl rfl
theorem dksX3_goesOn_4 : cX3_goesOn.data.toList.drop 96 = dktX3_goesOn_4 := dk_seg dksX3_goesOn_3 24 rfl rfl
theorem dksX3_goesOn_5 : cX3_goesOn.data.toList.drop 120 = dktX3_goesOn_5 := dk_seg dksX3_goesOn_4 24 rfl rfl
theorem dksX3_goesOn_6 : cX3_goesOn.data.toList.drop 144 = dktX3_goesOn_6 := dk_seg dksX3_goesOn_5 24 rfl rfl
theorem dksX3_goesOn_7 : cX3_goesOn.data.toList.drop 168 = dktX3_goesOn_7 := dk_seg dksX3_goesOn_6 24 rfl rfl
theorem dksX3_goesOn_8 : cX3_goesOn.data.toList.drop 192 = dktX3_goesOn_8 := dk_seg dksX3_goesOn_7 24 rfl rfl
theorem dksX3_goesOn_9 : cX3_goesOn.data.toList.drop 216 = dktX3_goesOn_9 := dk_seg dksX3_goesOn_8 24 rfl rfl
theorem dksX3_goesOn_10 : cX3_goesOn.data.toList.drop 240 = dktX3_goesOn_10 := dk_seg dksX3_goesOn_9 24 rfl rfl
theorem dX3_goesOn_0 : decode cX3_goesOn 0 = .ok (.aload_n 0, 1) := dk_42 (dk_at dksX3_goesOn_0 0 rfl rfl)
theorem dX3_goesOn_1 : decode cX3_goesOn 1 = .ok (.getfield 60, 3) := dk_180 0 60 (dk_at dksX3_goesOn_0 1 rfl rfl)
theorem dX3_goesOn_4 : decode cX3_goesOn 4 = .ok (.bipush 60, 2) := dk_16 60 (dk_at dksX3_goesOn_0 4 rfl rfl)
theorem dX3_goesOn_6 : decode cX3_goesOn 6 = .ok (.iload_n 1, 1) := dk_27 (dk_at dksX3_goesOn_0 6 rfl rfl)
theorem dX3_goesOn_7 : decode cX3_goesOn 7 = .ok (.imul, 1) := dk_104 (dk_at dksX3_goesOn_0 7 rfl rfl)
theorem dX3_goesOn_8 : decode cX3_goesOn 8 = .ok (.iaload, 1) := dk_46 (dk_at dksX3_goesOn_0 8 rfl rfl)
theorem dX3_goesOn_9 : decode cX3_goesOn 9 = .ok (.istore_n 2, 1) := dk_61 (dk_at dksX3_goesOn_0 9 rfl rfl)
theorem dX3_goesOn_10 : decode cX3_goesOn 10 = .ok (.aload_n 0, 1) := dk_42 (dk_at dksX3_goesOn_0 10 rfl rfl)
theorem dX3_goesOn_11 : decode cX3_goesOn 11 = .ok (.getfield 57, 3) := dk_180 0 57 (dk_at dksX3_goesOn_0 11 rfl rfl)
theorem dX3_goesOn_14 : decode cX3_goesOn 14 = .ok (.iload_n 1, 1) := dk_27 (dk_at dksX3_goesOn_0 14 rfl rfl)
theorem dX3_goesOn_15 : decode cX3_goesOn 15 = .ok (.dup2, 1) := dk_92 (dk_at dksX3_goesOn_0 15 rfl rfl)
theorem dX3_goesOn_16 : decode cX3_goesOn 16 = .ok (.iaload, 1) := dk_46 (dk_at dksX3_goesOn_0 16 rfl rfl)
theorem dX3_goesOn_17 : decode cX3_goesOn 17 = .ok (.iconst 1, 1) := dk_4 (dk_at dksX3_goesOn_0 17 rfl rfl)
theorem dX3_goesOn_18 : decode cX3_goesOn 18 = .ok (.isub, 1) := dk_100 (dk_at dksX3_goesOn_0 18 rfl rfl)
theorem dX3_goesOn_19 : decode cX3_goesOn 19 = .ok (.iastore, 1) := dk_79 (dk_at dksX3_goesOn_0 19 rfl rfl)
theorem dX3_goesOn_20 : decode cX3_goesOn 20 = .ok (.iconst 0, 1) := dk_3 (dk_at dksX3_goesOn_0 20 rfl rfl)
theorem dX3_goesOn_21 : decode cX3_goesOn 21 = .ok (.istore_n 3, 1) := dk_62 (dk_at dksX3_goesOn_0 21 rfl rfl)
theorem dX3_goesOn_22 : decode cX3_goesOn 22 = .ok (.iload_n 3, 1) := dk_29 (dk_at dksX3_goesOn_0 22 rfl rfl)
theorem dX3_goesOn_23 : decode cX3_goesOn 23 = .ok (.aload_n 0, 1) := dk_42 (dk_at dksX3_goesOn_0 23 rfl rfl)
theorem dX3_goesOn_24 : decode cX3_goesOn 24 = .ok (.getfield 57, 3) := dk_180 0 57 (dk_at dksX3_goesOn_1 0 rfl rfl)
theorem dX3_goesOn_27 : decode cX3_goesOn 27 = .ok (.iload_n 1, 1) := dk_27 (dk_at dksX3_goesOn_1 3 rfl rfl)
theorem dX3_goesOn_28 : decode cX3_goesOn 28 = .ok (.iaload, 1) := dk_46 (dk_at dksX3_goesOn_1 4 rfl rfl)
theorem dX3_goesOn_29 : decode cX3_goesOn 29 = .ok (.if_icmp .ge 33, 3) := dk_162 0 33 (dk_at dksX3_goesOn_1 5 rfl rfl)
theorem dX3_goesOn_32 : decode cX3_goesOn 32 = .ok (.aload_n 0, 1) := dk_42 (dk_at dksX3_goesOn_1 8 rfl rfl)
theorem dX3_goesOn_33 : decode cX3_goesOn 33 = .ok (.getfield 60, 3) := dk_180 0 60 (dk_at dksX3_goesOn_1 9 rfl rfl)
theorem dX3_goesOn_36 : decode cX3_goesOn 36 = .ok (.bipush 60, 2) := dk_16 60 (dk_at dksX3_goesOn_1 12 rfl rfl)
theorem dX3_goesOn_38 : decode cX3_goesOn 38 = .ok (.iload_n 1, 1) := dk_27 (dk_at dksX3_goesOn_1 14 rfl rfl)
theorem dX3_goesOn_39 : decode cX3_goesOn 39 = .ok (.imul, 1) := dk_104 (dk_at dksX3_goesOn_1 15 rfl rfl)
theorem dX3_goesOn_40 : decode cX3_goesOn 40 = .ok (.iload_n 3, 1) := dk_29 (dk_at dksX3_goesOn_1 16 rfl rfl)
theorem dX3_goesOn_41 : decode cX3_goesOn 41 = .ok (.iadd, 1) := dk_96 (dk_at dksX3_goesOn_1 17 rfl rfl)
theorem dX3_goesOn_42 : decode cX3_goesOn 42 = .ok (.aload_n 0, 1) := dk_42 (dk_at dksX3_goesOn_1 18 rfl rfl)
theorem dX3_goesOn_43 : decode cX3_goesOn 43 = .ok (.getfield 60, 3) := dk_180 0 60 (dk_at dksX3_goesOn_1 19 rfl rfl)
theorem dX3_goesOn_46 : decode cX3_goesOn 46 = .ok (.bipush 60, 2) := dk_16 60 (dk_at dksX3_goesOn_1 22 rfl rfl)
theorem dX3_goesOn_48 : decode cX3_goesOn 48 = .ok (.iload_n 1, 1) := dk_27 (dk_at dksX3_goesOn_2 0 rfl rfl)
theorem dX3_goesOn_49 : decode cX3_goesOn 49 = .ok (.imul, 1) := dk_104 (dk_at dksX3_goesOn_2 1 rfl rfl)
theorem dX3_goesOn_50 : decode cX3_goesOn 50 = .ok (.iload_n 3, 1) := dk_29 (dk_at dksX3_goesOn_2 2 rfl rfl)
theorem dX3_goesOn_51 : decode cX3_goesOn 51 = .ok (.iadd, 1) := dk_96 (dk_at dksX3_goesOn_2 3 rfl rfl)
theorem dX3_goesOn_52 : decode cX3_goesOn 52 = .ok (.iconst 1, 1) := dk_4 (dk_at dksX3_goesOn_2 4 rfl rfl)
theorem dX3_goesOn_53 : decode cX3_goesOn 53 = .ok (.iadd, 1) := dk_96 (dk_at dksX3_goesOn_2 5 rfl rfl)
theorem dX3_goesOn_54 : decode cX3_goesOn 54 = .ok (.iaload, 1) := dk_46 (dk_at dksX3_goesOn_2 6 rfl rfl)
theorem dX3_goesOn_55 : decode cX3_goesOn 55 = .ok (.iastore, 1) := dk_79 (dk_at dksX3_goesOn_2 7 rfl rfl)
theorem dX3_goesOn_56 : decode cX3_goesOn 56 = .ok (.iinc 3 1, 3) := dk_132 3 1 (dk_at dksX3_goesOn_2 8 rfl rfl)
theorem dX3_goesOn_59 : decode cX3_goesOn 59 = .ok (.goto (-37), 3) := dk_167 255 219 (dk_at dksX3_goesOn_2 11 rfl rfl)
theorem dX3_goesOn_62 : decode cX3_goesOn 62 = .ok (.aload_n 0, 1) := dk_42 (dk_at dksX3_goesOn_2 14 rfl rfl)
theorem dX3_goesOn_63 : decode cX3_goesOn 63 = .ok (.getfield 7, 3) := dk_180 0 7 (dk_at dksX3_goesOn_2 15 rfl rfl)
theorem dX3_goesOn_66 : decode cX3_goesOn 66 = .ok (.iload_n 2, 1) := dk_28 (dk_at dksX3_goesOn_2 18 rfl rfl)
theorem dX3_goesOn_67 : decode cX3_goesOn 67 = .ok (.baload, 1) := dk_51 (dk_at dksX3_goesOn_2 19 rfl rfl)
theorem dX3_goesOn_68 : decode cX3_goesOn 68 = .ok (.ifCond .eq 133, 3) := dk_153 0 133 (dk_at dksX3_goesOn_2 20 rfl rfl)
theorem dX3_goesOn_71 : decode cX3_goesOn 71 = .ok (.iload_n 2, 1) := dk_28 (dk_at dksX3_goesOn_2 23 rfl rfl)
theorem dX3_goesOn_72 : decode cX3_goesOn 72 = .ok (.aload_n 0, 1) := dk_42 (dk_at dksX3_goesOn_3 0 rfl rfl)
theorem dX3_goesOn_73 : decode cX3_goesOn 73 = .ok (.getfield 39, 3) := dk_180 0 39 (dk_at dksX3_goesOn_3 1 rfl rfl)
theorem dX3_goesOn_76 : decode cX3_goesOn 76 = .ok (.iload_n 1, 1) := dk_27 (dk_at dksX3_goesOn_3 4 rfl rfl)
theorem dX3_goesOn_77 : decode cX3_goesOn 77 = .ok (.iaload, 1) := dk_46 (dk_at dksX3_goesOn_3 5 rfl rfl)
theorem dX3_goesOn_78 : decode cX3_goesOn 78 = .ok (.if_icmp .eq 17, 3) := dk_159 0 17 (dk_at dksX3_goesOn_3 6 rfl rfl)
theorem dX3_goesOn_81 : decode cX3_goesOn 81 = .ok (.aload_n 0, 1) := dk_42 (dk_at dksX3_goesOn_3 9 rfl rfl)
theorem dX3_goesOn_82 : decode cX3_goesOn 82 = .ok (.iload_n 2, 1) := dk_28 (dk_at dksX3_goesOn_3 10 rfl rfl)
theorem dX3_goesOn_83 : decode cX3_goesOn 83 = .ok (.aload_n 0, 1) := dk_42 (dk_at dksX3_goesOn_3 11 rfl rfl)
theorem dX3_goesOn_84 : decode cX3_goesOn 84 = .ok (.getfield 39, 3) := dk_180 0 39 (dk_at dksX3_goesOn_3 12 rfl rfl)
theorem dX3_goesOn_87 : decode cX3_goesOn 87 = .ok (.iload_n 1, 1) := dk_27 (dk_at dksX3_goesOn_3 15 rfl rfl)
theorem dX3_goesOn_88 : decode cX3_goesOn 88 = .ok (.iaload, 1) := dk_46 (dk_at dksX3_goesOn_3 16 rfl rfl)
theorem dX3_goesOn_89 : decode cX3_goesOn 89 = .ok (.invokevirtual 135, 3) := dk_182 0 135 (dk_at dksX3_goesOn_3 17 rfl rfl)
theorem dX3_goesOn_92 : decode cX3_goesOn 92 = .ok (.ifCond .eq 109, 3) := dk_153 0 109 (dk_at dksX3_goesOn_3 20 rfl rfl)
theorem dX3_goesOn_95 : decode cX3_goesOn 95 = .ok (.iconst 0, 1) := dk_3 (dk_at dksX3_goesOn_3 23 rfl rfl)
theorem dX3_goesOn_96 : decode cX3_goesOn 96 = .ok (.istore_n 3, 1) := dk_62 (dk_at dksX3_goesOn_4 0 rfl rfl)
theorem dX3_goesOn_97 : decode cX3_goesOn 97 = .ok (.iload_n 3, 1) := dk_29 (dk_at dksX3_goesOn_4 1 rfl rfl)
theorem dX3_goesOn_98 : decode cX3_goesOn 98 = .ok (.aload_n 0, 1) := dk_42 (dk_at dksX3_goesOn_4 2 rfl rfl)
theorem dX3_goesOn_99 : decode cX3_goesOn 99 = .ok (.getfield 118, 3) := dk_180 0 118 (dk_at dksX3_goesOn_4 3 rfl rfl)
theorem dX3_goesOn_102 : decode cX3_goesOn 102 = .ok (.if_icmp .ge 99, 3) := dk_162 0 99 (dk_at dksX3_goesOn_4 6 rfl rfl)
theorem dX3_goesOn_105 : decode cX3_goesOn 105 = .ok (.aload_n 0, 1) := dk_42 (dk_at dksX3_goesOn_4 9 rfl rfl)
theorem dX3_goesOn_106 : decode cX3_goesOn 106 = .ok (.getfield 7, 3) := dk_180 0 7 (dk_at dksX3_goesOn_4 10 rfl rfl)
theorem dX3_goesOn_109 : decode cX3_goesOn 109 = .ok (.iload_n 3, 1) := dk_29 (dk_at dksX3_goesOn_4 13 rfl rfl)
theorem dX3_goesOn_110 : decode cX3_goesOn 110 = .ok (.baload, 1) := dk_51 (dk_at dksX3_goesOn_4 14 rfl rfl)
theorem dX3_goesOn_111 : decode cX3_goesOn 111 = .ok (.ifCond .eq 84, 3) := dk_153 0 84 (dk_at dksX3_goesOn_4 15 rfl rfl)
theorem dX3_goesOn_114 : decode cX3_goesOn 114 = .ok (.aload_n 0, 1) := dk_42 (dk_at dksX3_goesOn_4 18 rfl rfl)
theorem dX3_goesOn_115 : decode cX3_goesOn 115 = .ok (.getfield 16, 3) := dk_180 0 16 (dk_at dksX3_goesOn_4 19 rfl rfl)
theorem dX3_goesOn_118 : decode cX3_goesOn 118 = .ok (.iload_n 3, 1) := dk_29 (dk_at dksX3_goesOn_4 22 rfl rfl)
theorem dX3_goesOn_119 : decode cX3_goesOn 119 = .ok (.iaload, 1) := dk_46 (dk_at dksX3_goesOn_4 23 rfl rfl)
theorem dX3_goesOn_120 : decode cX3_goesOn 120 = .ok (.iload_n 2, 1) := dk_28 (dk_at dksX3_goesOn_5 0 rfl rfl)
theorem dX3_goesOn_121 : decode cX3_goesOn 121 = .ok (.if_icmp .ne 74, 3) := dk_160 0 74 (dk_at dksX3_goesOn_5 1 rfl rfl)
theorem dX3_goesOn_124 : decode cX3_goesOn 124 = .ok (.aload_n 0, 1) := dk_42 (dk_at dksX3_goesOn_5 4 rfl rfl)
theorem dX3_goesOn_125 : decode cX3_goesOn 125 = .ok (.getfield 63, 3) := dk_180 0 63 (dk_at dksX3_goesOn_5 5 rfl rfl)
theorem dX3_goesOn_128 : decode cX3_goesOn 128 = .ok (.bipush 60, 2) := dk_16 60 (dk_at dksX3_goesOn_5 8 rfl rfl)
theorem dX3_goesOn_130 : decode cX3_goesOn 130 = .ok (.iload_n 1, 1) := dk_27 (dk_at dksX3_goesOn_5 10 rfl rfl)
theorem dX3_goesOn_131 : decode cX3_goesOn 131 = .ok (.imul, 1) := dk_104 (dk_at dksX3_goesOn_5 11 rfl rfl)
theorem dX3_goesOn_132 : decode cX3_goesOn 132 = .ok (.iload_n 3, 1) := dk_29 (dk_at dksX3_goesOn_5 12 rfl rfl)
theorem dX3_goesOn_133 : decode cX3_goesOn 133 = .ok (.iadd, 1) := dk_96 (dk_at dksX3_goesOn_5 13 rfl rfl)
theorem dX3_goesOn_134 : decode cX3_goesOn 134 = .ok (.iconst 1, 1) := dk_4 (dk_at dksX3_goesOn_5 14 rfl rfl)
theorem dX3_goesOn_135 : decode cX3_goesOn 135 = .ok (.bastore, 1) := dk_84 (dk_at dksX3_goesOn_5 15 rfl rfl)
theorem dX3_goesOn_136 : decode cX3_goesOn 136 = .ok (.aload_n 0, 1) := dk_42 (dk_at dksX3_goesOn_5 16 rfl rfl)
theorem dX3_goesOn_137 : decode cX3_goesOn 137 = .ok (.iload_n 3, 1) := dk_29 (dk_at dksX3_goesOn_5 17 rfl rfl)
theorem dX3_goesOn_138 : decode cX3_goesOn 138 = .ok (.invokevirtual 213, 3) := dk_182 0 213 (dk_at dksX3_goesOn_5 18 rfl rfl)
theorem dX3_goesOn_141 : decode cX3_goesOn 141 = .ok (.ifCond .ne 9, 3) := dk_154 0 9 (dk_at dksX3_goesOn_5 21 rfl rfl)
theorem dX3_goesOn_144 : decode cX3_goesOn 144 = .ok (.aload_n 0, 1) := dk_42 (dk_at dksX3_goesOn_6 0 rfl rfl)
theorem dX3_goesOn_145 : decode cX3_goesOn 145 = .ok (.iload_n 3, 1) := dk_29 (dk_at dksX3_goesOn_6 1 rfl rfl)
theorem dX3_goesOn_146 : decode cX3_goesOn 146 = .ok (.iconst 1, 1) := dk_4 (dk_at dksX3_goesOn_6 2 rfl rfl)
theorem dX3_goesOn_147 : decode cX3_goesOn 147 = .ok (.invokevirtual 176, 3) := dk_182 0 176 (dk_at dksX3_goesOn_6 3 rfl rfl)
theorem dX3_goesOn_150 : decode cX3_goesOn 150 = .ok (.aload_n 0, 1) := dk_42 (dk_at dksX3_goesOn_6 6 rfl rfl)
theorem dX3_goesOn_151 : decode cX3_goesOn 151 = .ok (.getfield 13, 3) := dk_180 0 13 (dk_at dksX3_goesOn_6 7 rfl rfl)
theorem dX3_goesOn_154 : decode cX3_goesOn 154 = .ok (.iload_n 3, 1) := dk_29 (dk_at dksX3_goesOn_6 10 rfl rfl)
theorem dX3_goesOn_155 : decode cX3_goesOn 155 = .ok (.baload, 1) := dk_51 (dk_at dksX3_goesOn_6 11 rfl rfl)
theorem dX3_goesOn_156 : decode cX3_goesOn 156 = .ok (.ifCond .eq 39, 3) := dk_153 0 39 (dk_at dksX3_goesOn_6 12 rfl rfl)
theorem dX3_goesOn_159 : decode cX3_goesOn 159 = .ok (.aload_n 0, 1) := dk_42 (dk_at dksX3_goesOn_6 15 rfl rfl)
theorem dX3_goesOn_160 : decode cX3_goesOn 160 = .ok (.iload_n 1, 1) := dk_27 (dk_at dksX3_goesOn_6 16 rfl rfl)
theorem dX3_goesOn_161 : decode cX3_goesOn 161 = .ok (.iload_n 3, 1) := dk_29 (dk_at dksX3_goesOn_6 17 rfl rfl)
theorem dX3_goesOn_162 : decode cX3_goesOn 162 = .ok (.invokevirtual 216, 3) := dk_182 0 216 (dk_at dksX3_goesOn_6 18 rfl rfl)
theorem dX3_goesOn_165 : decode cX3_goesOn 165 = .ok (.ifCond .ne 30, 3) := dk_154 0 30 (dk_at dksX3_goesOn_6 21 rfl rfl)
theorem dX3_goesOn_168 : decode cX3_goesOn 168 = .ok (.aload_n 0, 1) := dk_42 (dk_at dksX3_goesOn_7 0 rfl rfl)
theorem dX3_goesOn_169 : decode cX3_goesOn 169 = .ok (.getfield 60, 3) := dk_180 0 60 (dk_at dksX3_goesOn_7 1 rfl rfl)
theorem dX3_goesOn_172 : decode cX3_goesOn 172 = .ok (.bipush 60, 2) := dk_16 60 (dk_at dksX3_goesOn_7 4 rfl rfl)
theorem dX3_goesOn_174 : decode cX3_goesOn 174 = .ok (.iload_n 1, 1) := dk_27 (dk_at dksX3_goesOn_7 6 rfl rfl)
theorem dX3_goesOn_175 : decode cX3_goesOn 175 = .ok (.imul, 1) := dk_104 (dk_at dksX3_goesOn_7 7 rfl rfl)
theorem dX3_goesOn_176 : decode cX3_goesOn 176 = .ok (.aload_n 0, 1) := dk_42 (dk_at dksX3_goesOn_7 8 rfl rfl)
theorem dX3_goesOn_177 : decode cX3_goesOn 177 = .ok (.getfield 57, 3) := dk_180 0 57 (dk_at dksX3_goesOn_7 9 rfl rfl)
theorem dX3_goesOn_180 : decode cX3_goesOn 180 = .ok (.iload_n 1, 1) := dk_27 (dk_at dksX3_goesOn_7 12 rfl rfl)
theorem dX3_goesOn_181 : decode cX3_goesOn 181 = .ok (.iaload, 1) := dk_46 (dk_at dksX3_goesOn_7 13 rfl rfl)
theorem dX3_goesOn_182 : decode cX3_goesOn 182 = .ok (.iadd, 1) := dk_96 (dk_at dksX3_goesOn_7 14 rfl rfl)
theorem dX3_goesOn_183 : decode cX3_goesOn 183 = .ok (.iload_n 3, 1) := dk_29 (dk_at dksX3_goesOn_7 15 rfl rfl)
theorem dX3_goesOn_184 : decode cX3_goesOn 184 = .ok (.iastore, 1) := dk_79 (dk_at dksX3_goesOn_7 16 rfl rfl)
theorem dX3_goesOn_185 : decode cX3_goesOn 185 = .ok (.aload_n 0, 1) := dk_42 (dk_at dksX3_goesOn_7 17 rfl rfl)
theorem dX3_goesOn_186 : decode cX3_goesOn 186 = .ok (.getfield 57, 3) := dk_180 0 57 (dk_at dksX3_goesOn_7 18 rfl rfl)
theorem dX3_goesOn_189 : decode cX3_goesOn 189 = .ok (.iload_n 1, 1) := dk_27 (dk_at dksX3_goesOn_7 21 rfl rfl)
theorem dX3_goesOn_190 : decode cX3_goesOn 190 = .ok (.dup2, 1) := dk_92 (dk_at dksX3_goesOn_7 22 rfl rfl)
theorem dX3_goesOn_191 : decode cX3_goesOn 191 = .ok (.iaload, 1) := dk_46 (dk_at dksX3_goesOn_7 23 rfl rfl)
theorem dX3_goesOn_192 : decode cX3_goesOn 192 = .ok (.iconst 1, 1) := dk_4 (dk_at dksX3_goesOn_8 0 rfl rfl)
theorem dX3_goesOn_193 : decode cX3_goesOn 193 = .ok (.iadd, 1) := dk_96 (dk_at dksX3_goesOn_8 1 rfl rfl)
theorem dX3_goesOn_194 : decode cX3_goesOn 194 = .ok (.iastore, 1) := dk_79 (dk_at dksX3_goesOn_8 2 rfl rfl)
theorem dX3_goesOn_195 : decode cX3_goesOn 195 = .ok (.iinc 3 1, 3) := dk_132 3 1 (dk_at dksX3_goesOn_8 3 rfl rfl)
theorem dX3_goesOn_198 : decode cX3_goesOn 198 = .ok (.goto (-101), 3) := dk_167 255 155 (dk_at dksX3_goesOn_8 6 rfl rfl)
theorem dX3_goesOn_201 : decode cX3_goesOn 201 = .ok (.aload_n 0, 1) := dk_42 (dk_at dksX3_goesOn_8 9 rfl rfl)
theorem dX3_goesOn_202 : decode cX3_goesOn 202 = .ok (.getfield 57, 3) := dk_180 0 57 (dk_at dksX3_goesOn_8 10 rfl rfl)
theorem dX3_goesOn_205 : decode cX3_goesOn 205 = .ok (.iload_n 1, 1) := dk_27 (dk_at dksX3_goesOn_8 13 rfl rfl)
theorem dX3_goesOn_206 : decode cX3_goesOn 206 = .ok (.iaload, 1) := dk_46 (dk_at dksX3_goesOn_8 14 rfl rfl)
theorem dX3_goesOn_207 : decode cX3_goesOn 207 = .ok (.ifCond .ne 55, 3) := dk_154 0 55 (dk_at dksX3_goesOn_8 15 rfl rfl)
theorem dX3_goesOn_210 : decode cX3_goesOn 210 = .ok (.aload_n 0, 1) := dk_42 (dk_at dksX3_goesOn_8 18 rfl rfl)
theorem dX3_goesOn_211 : decode cX3_goesOn 211 = .ok (.getfield 54, 3) := dk_180 0 54 (dk_at dksX3_goesOn_8 19 rfl rfl)
theorem dX3_goesOn_214 : decode cX3_goesOn 214 = .ok (.iload_n 1, 1) := dk_27 (dk_at dksX3_goesOn_8 22 rfl rfl)
theorem dX3_goesOn_215 : decode cX3_goesOn 215 = .ok (.iconst 0, 1) := dk_3 (dk_at dksX3_goesOn_8 23 rfl rfl)
theorem dX3_goesOn_216 : decode cX3_goesOn 216 = .ok (.bastore, 1) := dk_84 (dk_at dksX3_goesOn_9 0 rfl rfl)
theorem dX3_goesOn_217 : decode cX3_goesOn 217 = .ok (.iconst 0, 1) := dk_3 (dk_at dksX3_goesOn_9 1 rfl rfl)
theorem dX3_goesOn_218 : decode cX3_goesOn 218 = .ok (.istore_n 3, 1) := dk_62 (dk_at dksX3_goesOn_9 2 rfl rfl)
theorem dX3_goesOn_219 : decode cX3_goesOn 219 = .ok (.iload_n 3, 1) := dk_29 (dk_at dksX3_goesOn_9 3 rfl rfl)
theorem dX3_goesOn_220 : decode cX3_goesOn 220 = .ok (.aload_n 0, 1) := dk_42 (dk_at dksX3_goesOn_9 4 rfl rfl)
theorem dX3_goesOn_221 : decode cX3_goesOn 221 = .ok (.getfield 118, 3) := dk_180 0 118 (dk_at dksX3_goesOn_9 5 rfl rfl)
theorem dX3_goesOn_224 : decode cX3_goesOn 224 = .ok (.if_icmp .ge 38, 3) := dk_162 0 38 (dk_at dksX3_goesOn_9 8 rfl rfl)
theorem dX3_goesOn_227 : decode cX3_goesOn 227 = .ok (.aload_n 0, 1) := dk_42 (dk_at dksX3_goesOn_9 11 rfl rfl)
theorem dX3_goesOn_228 : decode cX3_goesOn 228 = .ok (.getfield 66, 3) := dk_180 0 66 (dk_at dksX3_goesOn_9 12 rfl rfl)
theorem dX3_goesOn_231 : decode cX3_goesOn 231 = .ok (.iload_n 3, 1) := dk_29 (dk_at dksX3_goesOn_9 15 rfl rfl)
theorem dX3_goesOn_232 : decode cX3_goesOn 232 = .ok (.baload, 1) := dk_51 (dk_at dksX3_goesOn_9 16 rfl rfl)
theorem dX3_goesOn_233 : decode cX3_goesOn 233 = .ok (.ifCond .eq 23, 3) := dk_153 0 23 (dk_at dksX3_goesOn_9 17 rfl rfl)
theorem dX3_goesOn_236 : decode cX3_goesOn 236 = .ok (.aload_n 0, 1) := dk_42 (dk_at dksX3_goesOn_9 20 rfl rfl)
theorem dX3_goesOn_237 : decode cX3_goesOn 237 = .ok (.getfield 63, 3) := dk_180 0 63 (dk_at dksX3_goesOn_9 21 rfl rfl)
theorem dX3_goesOn_240 : decode cX3_goesOn 240 = .ok (.bipush 60, 2) := dk_16 60 (dk_at dksX3_goesOn_10 0 rfl rfl)
theorem dX3_goesOn_242 : decode cX3_goesOn 242 = .ok (.iload_n 1, 1) := dk_27 (dk_at dksX3_goesOn_10 2 rfl rfl)
theorem dX3_goesOn_243 : decode cX3_goesOn 243 = .ok (.imul, 1) := dk_104 (dk_at dksX3_goesOn_10 3 rfl rfl)
theorem dX3_goesOn_244 : decode cX3_goesOn 244 = .ok (.iload_n 3, 1) := dk_29 (dk_at dksX3_goesOn_10 4 rfl rfl)
theorem dX3_goesOn_245 : decode cX3_goesOn 245 = .ok (.iadd, 1) := dk_96 (dk_at dksX3_goesOn_10 5 rfl rfl)
theorem dX3_goesOn_246 : decode cX3_goesOn 246 = .ok (.baload, 1) := dk_51 (dk_at dksX3_goesOn_10 6 rfl rfl)
theorem dX3_goesOn_247 : decode cX3_goesOn 247 = .ok (.ifCond .ne 9, 3) := dk_154 0 9 (dk_at dksX3_goesOn_10 7 rfl rfl)
theorem dX3_goesOn_250 : decode cX3_goesOn 250 = .ok (.aload_n 0, 1) := dk_42 (dk_at dksX3_goesOn_10 10 rfl rfl)
theorem dX3_goesOn_251 : decode cX3_goesOn 251 = .ok (.iload_n 3, 1) := dk_29 (dk_at dksX3_goesOn_10 11 rfl rfl)
theorem dX3_goesOn_252 : decode cX3_goesOn 252 = .ok (.iconst 1, 1) := dk_4 (dk_at dksX3_goesOn_10 12 rfl rfl)
theorem dX3_goesOn_253 : decode cX3_goesOn 253 = .ok (.invokevirtual 176, 3) := dk_182 0 176 (dk_at dksX3_goesOn_10 13 rfl rfl)
theorem dX3_goesOn_256 : decode cX3_goesOn 256 = .ok (.iinc 3 1, 3) := dk_132 3 1 (dk_at dksX3_goesOn_10 16 rfl rfl)
theorem dX3_goesOn_259 : decode cX3_goesOn 259 = .ok (.goto (-40), 3) := dk_167 255 216 (dk_at dksX3_goesOn_10 19 rfl rfl)
theorem dX3_goesOn_262 : decode cX3_goesOn 262 = .ok (.return_, 1) := dk_177 (dk_at dksX3_goesOn_10 22 rfl rfl)
abbrev cX3_isKnown : ByteArray := prog_11_method_39_code
def yX3_isKnown : MethodName := ⟨RX3, "isKnown", "(I)Z"⟩
def dkwX3_isKnown_2 : List UInt8 := [42, 180, 0, 75, 27, 46, 42, 180, 0, 24, 27, 46, 160, 0, 7, 4, 167, 0, 4, 3, 172]
abbrev dktX3_isKnown_2 : List UInt8 := dkwX3_isKnown_2 ++ []
def dkwX3_isKnown_1 : List UInt8 := [42, 180, 0, 72, 27, 52, 42, 180, 0, 20, 27, 52, 160, 0, 31, 42, 180, 0, 13, 27, 51, 154, 0, 18]
abbrev dktX3_isKnown_1 : List UInt8 := dkwX3_isKnown_1 ++ dktX3_isKnown_2
def dkwX3_isKnown_0 : List UInt8 := [42, 180, 0, 66, 27, 51, 153, 0, 61, 42, 180, 0, 69, 27, 46, 42, 180, 0, 16, 27, 46, 160, 0, 46]
abbrev dktX3_isKnown_0 : List UInt8 := dkwX3_isKnown_0 ++ dktX3_isKnown_1
theorem dksX3_isKnown_0 : cX3_isKnown.data.toList.drop 0 = dktX3_isKnown_0 := by decide +kernel
theorem dksX3_isKnown_1 : cX3_isKnown.data.toList.drop 24 = dktX3_isKnown_1 := dk_seg dksX3_isKnown_0 24 rfl rfl
theorem dksX3_isKnown_2 : cX3_isKnown.data.toList.drop 48 = dktX3_isKnown_2 := dk_seg dksX3_isKnown_1 24 rfl rfl
theorem dX3_isKnown_0 : decode cX3_isKnown 0 = .ok (.aload_n 0, 1) := dk_42 (dk_at dksX3_isKnown_0 0 rfl rfl)
theorem dX3_isKnown_1 : decode cX3_isKnown 1 = .ok (.getfield 66, 3) := dk_180 0 66 (dk_at dksX3_isKnown_0 1 rfl rfl)
theorem dX3_isKnown_4 : decode cX3_isKnown 4 = .ok (.iload_n 1, 1) := dk_27 (dk_at dksX3_isKnown_0 4 rfl rfl)
theorem dX3_isKnown_5 : decode cX3_isKnown 5 = .ok (.baload, 1) := dk_51 (dk_at dksX3_isKnown_0 5 rfl rfl)
theorem dX3_isKnown_6 : decode cX3_isKnown 6 = .ok (.ifCond .eq 61, 3) := dk_153 0 61 (dk_at dksX3_isKnown_0 6 rfl rfl)
theorem dX3_isKnown_9 : decode cX3_isKnown 9 = .ok (.aload_n 0, 1) := dk_42 (dk_at dksX3_isKnown_0 9 rfl rfl)
theorem dX3_isKnown_10 : decode cX3_isKnown 10 = .ok (.getfield 69, 3) := dk_180 0 69 (dk_at dksX3_isKnown_0 10 rfl rfl)
theorem dX3_isKnown_13 : decode cX3_isKnown 13 = .ok (.iload_n 1, 1) := dk_27 (dk_at dksX3_isKnown_0 13 rfl rfl)
theorem dX3_isKnown_14 : decode cX3_isKnown 14 = .ok (.iaload, 1) := dk_46 (dk_at dksX3_isKnown_0 14 rfl rfl)
theorem dX3_isKnown_15 : decode cX3_isKnown 15 = .ok (.aload_n 0, 1) := dk_42 (dk_at dksX3_isKnown_0 15 rfl rfl)
theorem dX3_isKnown_16 : decode cX3_isKnown 16 = .ok (.getfield 16, 3) := dk_180 0 16 (dk_at dksX3_isKnown_0 16 rfl rfl)
theorem dX3_isKnown_19 : decode cX3_isKnown 19 = .ok (.iload_n 1, 1) := dk_27 (dk_at dksX3_isKnown_0 19 rfl rfl)
theorem dX3_isKnown_20 : decode cX3_isKnown 20 = .ok (.iaload, 1) := dk_46 (dk_at dksX3_isKnown_0 20 rfl rfl)
theorem dX3_isKnown_21 : decode cX3_isKnown 21 = .ok (.if_icmp .ne 46, 3) := dk_160 0 46 (dk_at dksX3_isKnown_0 21 rfl rfl)
theorem dX3_isKnown_24 : decode cX3_isKnown 24 = .ok (.aload_n 0, 1) := dk_42 (dk_at dksX3_isKnown_1 0 rfl rfl)
theorem dX3_isKnown_25 : decode cX3_isKnown 25 = .ok (.getfield 72, 3) := dk_180 0 72 (dk_at dksX3_isKnown_1 1 rfl rfl)
theorem dX3_isKnown_28 : decode cX3_isKnown 28 = .ok (.iload_n 1, 1) := dk_27 (dk_at dksX3_isKnown_1 4 rfl rfl)
theorem dX3_isKnown_29 : decode cX3_isKnown 29 = .ok (.caload, 1) := dk_52 (dk_at dksX3_isKnown_1 5 rfl rfl)
theorem dX3_isKnown_30 : decode cX3_isKnown 30 = .ok (.aload_n 0, 1) := dk_42 (dk_at dksX3_isKnown_1 6 rfl rfl)
theorem dX3_isKnown_31 : decode cX3_isKnown 31 = .ok (.getfield 20, 3) := dk_180 0 20 (dk_at dksX3_isKnown_1 7 rfl rfl)
theorem dX3_isKnown_34 : decode cX3_isKnown 34 = .ok (.iload_n 1, 1) := dk_27 (dk_at dksX3_isKnown_1 10 rfl rfl)
theorem dX3_isKnown_35 : decode cX3_isKnown 35 = .ok (.caload, 1) := dk_52 (dk_at dksX3_isKnown_1 11 rfl rfl)
theorem dX3_isKnown_36 : decode cX3_isKnown 36 = .ok (.if_icmp .ne 31, 3) := dk_160 0 31 (dk_at dksX3_isKnown_1 12 rfl rfl)
theorem dX3_isKnown_39 : decode cX3_isKnown 39 = .ok (.aload_n 0, 1) := dk_42 (dk_at dksX3_isKnown_1 15 rfl rfl)
theorem dX3_isKnown_40 : decode cX3_isKnown 40 = .ok (.getfield 13, 3) := dk_180 0 13 (dk_at dksX3_isKnown_1 16 rfl rfl)
theorem dX3_isKnown_43 : decode cX3_isKnown 43 = .ok (.iload_n 1, 1) := dk_27 (dk_at dksX3_isKnown_1 19 rfl rfl)
theorem dX3_isKnown_44 : decode cX3_isKnown 44 = .ok (.baload, 1) := dk_51 (dk_at dksX3_isKnown_1 20 rfl rfl)
theorem dX3_isKnown_45 : decode cX3_isKnown 45 = .ok (.ifCond .ne 18, 3) := dk_154 0 18 (dk_at dksX3_isKnown_1 21 rfl rfl)
theorem dX3_isKnown_48 : decode cX3_isKnown 48 = .ok (.aload_n 0, 1) := dk_42 (dk_at dksX3_isKnown_2 0 rfl rfl)
theorem dX3_isKnown_49 : decode cX3_isKnown 49 = .ok (.getfield 75, 3) := dk_180 0 75 (dk_at dksX3_isKnown_2 1 rfl rfl)
theorem dX3_isKnown_52 : decode cX3_isKnown 52 = .ok (.iload_n 1, 1) := dk_27 (dk_at dksX3_isKnown_2 4 rfl rfl)
theorem dX3_isKnown_53 : decode cX3_isKnown 53 = .ok (.iaload, 1) := dk_46 (dk_at dksX3_isKnown_2 5 rfl rfl)
theorem dX3_isKnown_54 : decode cX3_isKnown 54 = .ok (.aload_n 0, 1) := dk_42 (dk_at dksX3_isKnown_2 6 rfl rfl)
theorem dX3_isKnown_55 : decode cX3_isKnown 55 = .ok (.getfield 24, 3) := dk_180 0 24 (dk_at dksX3_isKnown_2 7 rfl rfl)
theorem dX3_isKnown_58 : decode cX3_isKnown 58 = .ok (.iload_n 1, 1) := dk_27 (dk_at dksX3_isKnown_2 10 rfl rfl)
theorem dX3_isKnown_59 : decode cX3_isKnown 59 = .ok (.iaload, 1) := dk_46 (dk_at dksX3_isKnown_2 11 rfl rfl)
theorem dX3_isKnown_60 : decode cX3_isKnown 60 = .ok (.if_icmp .ne 7, 3) := dk_160 0 7 (dk_at dksX3_isKnown_2 12 rfl rfl)
theorem dX3_isKnown_63 : decode cX3_isKnown 63 = .ok (.iconst 1, 1) := dk_4 (dk_at dksX3_isKnown_2 15 rfl rfl)
theorem dX3_isKnown_64 : decode cX3_isKnown 64 = .ok (.goto 4, 3) := dk_167 0 4 (dk_at dksX3_isKnown_2 16 rfl rfl)
theorem dX3_isKnown_67 : decode cX3_isKnown 67 = .ok (.iconst 0, 1) := dk_3 (dk_at dksX3_isKnown_2 19 rfl rfl)
theorem dX3_isKnown_68 : decode cX3_isKnown 68 = .ok (.ireturn, 1) := dk_172 (dk_at dksX3_isKnown_2 20 rfl rfl)
abbrev cX3_isWaiting : ByteArray := prog_11_method_43_code
def yX3_isWaiting : MethodName := ⟨RX3, "isWaiting", "(II)Z"⟩
def dkwX3_isWaiting_2 : List UInt8 := [29, 172]
abbrev dktX3_isWaiting_2 : List UInt8 := dkwX3_isWaiting_2 ++ []
def dkwX3_isWaiting_1 : List UInt8 := [16, 60, 27, 104, 21, 4, 96, 46, 28, 160, 0, 7, 4, 167, 0, 4, 3, 62, 132, 4, 1, 167, 255, 216]
abbrev dktX3_isWaiting_1 : List UInt8 := dkwX3_isWaiting_1 ++ dktX3_isWaiting_2
def dkwX3_isWaiting_0 : List UInt8 := [3, 62, 3, 54, 4, 21, 4, 42, 180, 0, 57, 27, 46, 162, 0, 35, 29, 154, 0, 19, 42, 180, 0, 60]
abbrev dktX3_isWaiting_0 : List UInt8 := dkwX3_isWaiting_0 ++ dktX3_isWaiting_1
theorem dksX3_isWaiting_0 : cX3_isWaiting.data.toList.drop 0 = dktX3_isWaiting_0 := by decide +kernel
theorem dksX3_isWaiting_1 : cX3_isWaiting.data.toList.drop 24 = dktX3_isWaiting_1 := dk_seg dksX3_isWaiting_0 24 rfl rfl
theorem dksX3_isWaiting_2 : cX3_isWaiting.data.toList.drop 48 = dktX3_isWaiting_2 := dk_seg dksX3_isWaiting_1 24 rfl rfl
theorem dX3_isWaiting_0 : decode cX3_isWaiting 0 = .ok (.iconst 0, 1) := dk_3 (dk_at dksX3_isWaiting_0 0 rfl rfl)
theorem dX3_isWaiting_1 : decode cX3_isWaiting 1 = .ok (.istore_n 3, 1) := dk_62 (dk_at dksX3_isWaiting_0 1 rfl rfl)
theorem dX3_isWaiting_2 : decode cX3_isWaiting 2 = .ok (.iconst 0, 1) := dk_3 (dk_at dksX3_isWaiting_0 2 rfl rfl)
theorem dX3_isWaiting_3 : decode cX3_isWaiting 3 = .ok (.istore 4, 2) := dk_54 4 (dk_at dksX3_isWaiting_0 3 rfl rfl)
theorem dX3_isWaiting_5 : decode cX3_isWaiting 5 = .ok (.iload 4, 2) := dk_21 4 (dk_at dksX3_isWaiting_0 5 rfl rfl)
theorem dX3_isWaiting_7 : decode cX3_isWaiting 7 = .ok (.aload_n 0, 1) := dk_42 (dk_at dksX3_isWaiting_0 7 rfl rfl)
theorem dX3_isWaiting_8 : decode cX3_isWaiting 8 = .ok (.getfield 57, 3) := dk_180 0 57 (dk_at dksX3_isWaiting_0 8 rfl rfl)
theorem dX3_isWaiting_11 : decode cX3_isWaiting 11 = .ok (.iload_n 1, 1) := dk_27 (dk_at dksX3_isWaiting_0 11 rfl rfl)
theorem dX3_isWaiting_12 : decode cX3_isWaiting 12 = .ok (.iaload, 1) := dk_46 (dk_at dksX3_isWaiting_0 12 rfl rfl)
theorem dX3_isWaiting_13 : decode cX3_isWaiting 13 = .ok (.if_icmp .ge 35, 3) := dk_162 0 35 (dk_at dksX3_isWaiting_0 13 rfl rfl)
theorem dX3_isWaiting_16 : decode cX3_isWaiting 16 = .ok (.iload_n 3, 1) := dk_29 (dk_at dksX3_isWaiting_0 16 rfl rfl)
theorem dX3_isWaiting_17 : decode cX3_isWaiting 17 = .ok (.ifCond .ne 19, 3) := dk_154 0 19 (dk_at dksX3_isWaiting_0 17 rfl rfl)
theorem dX3_isWaiting_20 : decode cX3_isWaiting 20 = .ok (.aload_n 0, 1) := dk_42 (dk_at dksX3_isWaiting_0 20 rfl rfl)
theorem dX3_isWaiting_21 : decode cX3_isWaiting 21 = .ok (.getfield 60, 3) := dk_180 0 60 (dk_at dksX3_isWaiting_0 21 rfl rfl)
theorem dX3_isWaiting_24 : decode cX3_isWaiting 24 = .ok (.bipush 60, 2) := dk_16 60 (dk_at dksX3_isWaiting_1 0 rfl rfl)
theorem dX3_isWaiting_26 : decode cX3_isWaiting 26 = .ok (.iload_n 1, 1) := dk_27 (dk_at dksX3_isWaiting_1 2 rfl rfl)
theorem dX3_isWaiting_27 : decode cX3_isWaiting 27 = .ok (.imul, 1) := dk_104 (dk_at dksX3_isWaiting_1 3 rfl rfl)
theorem dX3_isWaiting_28 : decode cX3_isWaiting 28 = .ok (.iload 4, 2) := dk_21 4 (dk_at dksX3_isWaiting_1 4 rfl rfl)
theorem dX3_isWaiting_30 : decode cX3_isWaiting 30 = .ok (.iadd, 1) := dk_96 (dk_at dksX3_isWaiting_1 6 rfl rfl)
theorem dX3_isWaiting_31 : decode cX3_isWaiting 31 = .ok (.iaload, 1) := dk_46 (dk_at dksX3_isWaiting_1 7 rfl rfl)
theorem dX3_isWaiting_32 : decode cX3_isWaiting 32 = .ok (.iload_n 2, 1) := dk_28 (dk_at dksX3_isWaiting_1 8 rfl rfl)
theorem dX3_isWaiting_33 : decode cX3_isWaiting 33 = .ok (.if_icmp .ne 7, 3) := dk_160 0 7 (dk_at dksX3_isWaiting_1 9 rfl rfl)
theorem dX3_isWaiting_36 : decode cX3_isWaiting 36 = .ok (.iconst 1, 1) := dk_4 (dk_at dksX3_isWaiting_1 12 rfl rfl)
theorem dX3_isWaiting_37 : decode cX3_isWaiting 37 = .ok (.goto 4, 3) := dk_167 0 4 (dk_at dksX3_isWaiting_1 13 rfl rfl)
theorem dX3_isWaiting_40 : decode cX3_isWaiting 40 = .ok (.iconst 0, 1) := dk_3 (dk_at dksX3_isWaiting_1 16 rfl rfl)
theorem dX3_isWaiting_41 : decode cX3_isWaiting 41 = .ok (.istore_n 3, 1) := dk_62 (dk_at dksX3_isWaiting_1 17 rfl rfl)
theorem dX3_isWaiting_42 : decode cX3_isWaiting 42 = .ok (.iinc 4 1, 3) := dk_132 4 1 (dk_at dksX3_isWaiting_1 18 rfl rfl)
theorem dX3_isWaiting_45 : decode cX3_isWaiting 45 = .ok (.goto (-40), 3) := dk_167 255 216 (dk_at dksX3_isWaiting_1 21 rfl rfl)
theorem dX3_isWaiting_48 : decode cX3_isWaiting 48 = .ok (.iload_n 3, 1) := dk_29 (dk_at dksX3_isWaiting_2 0 rfl rfl)
theorem dX3_isWaiting_49 : decode cX3_isWaiting 49 = .ok (.ireturn, 1) := dk_172 (dk_at dksX3_isWaiting_2 1 rfl rfl)
abbrev cX3_indexes : ByteArray := prog_11_method_63_code
def yX3_indexes : MethodName := ⟨RX3, "indexes", "()V"⟩
def dkwX3_indexes_9 : List UInt8 := [167, 255, 204, 42, 28, 182, 1, 15, 42, 28, 4, 96, 182, 1, 15, 42, 28, 182, 1, 18, 167, 255, 172, 177]
abbrev dktX3_indexes_9 : List UInt8 := dkwX3_indexes_9 ++ []
def dkwX3_indexes_8 : List UInt8 := [182, 1, 11, 42, 28, 4, 96, 3, 182, 1, 11, 96, 162, 0, 7, 29, 167, 0, 4, 28, 61, 132, 3, 1]
abbrev dktX3_indexes_8 : List UInt8 := dkwX3_indexes_8 ++ dktX3_indexes_9
def dkwX3_indexes_7 : List UInt8 := [180, 1, 8, 162, 0, 48, 42, 29, 3, 182, 1, 11, 42, 29, 4, 96, 3, 182, 1, 11, 96, 42, 28, 3]
abbrev dktX3_indexes_7 : List UInt8 := dkwX3_indexes_7 ++ dktX3_indexes_8
def dkwX3_indexes_6 : List UInt8 := [132, 2, 255, 167, 255, 224, 42, 180, 1, 8, 6, 164, 0, 82, 3, 61, 4, 62, 29, 4, 96, 42]
abbrev dktX3_indexes_6 : List UInt8 := dkwX3_indexes_6 ++ dktX3_indexes_7
def dkwX3_indexes_5 : List UInt8 := [182, 1, 11, 42, 28, 4, 182, 1, 11, 160, 0, 13, 42, 28, 182, 1, 15, 42, 28, 182, 1, 18]
abbrev dktX3_indexes_5 : List UInt8 := dkwX3_indexes_5 ++ dktX3_indexes_6
def dkwX3_indexes_4 : List UInt8 := [167, 0, 4, 3, 96, 181, 1, 8, 42, 180, 1, 8, 4, 100, 61, 28, 155, 0, 34, 42, 28, 3]
abbrev dktX3_indexes_4 : List UInt8 := dkwX3_indexes_4 ++ dktX3_indexes_5
def dkwX3_indexes_3 : List UInt8 := [180, 0, 109, 28, 3, 84, 132, 2, 1, 167, 255, 184, 42, 89, 180, 1, 8, 27, 153, 0, 7, 4]
abbrev dktX3_indexes_3 : List UInt8 := dkwX3_indexes_3 ++ dktX3_indexes_4
def dkwX3_indexes_2 : List UInt8 := [180, 0, 106, 42, 180, 0, 192, 3, 84, 42, 89, 180, 0, 192, 4, 96, 181, 0, 192, 4, 60, 42]
abbrev dktX3_indexes_2 : List UInt8 := dkwX3_indexes_2 ++ dktX3_indexes_3
def dkwX3_indexes_1 : List UInt8 := [180, 0, 100, 42, 180, 0, 192, 42, 180, 1, 8, 79, 42, 180, 0, 103, 42, 180, 0, 192, 28, 79, 42]
abbrev dktX3_indexes_1 : List UInt8 := dkwX3_indexes_1 ++ dktX3_indexes_2
def dkwX3_indexes_0 : List UInt8 := [3, 60, 3, 61, 28, 42, 180, 0, 118, 162, 0, 70, 42, 180, 0, 109, 28, 51, 153, 0, 55, 42]
abbrev dktX3_indexes_0 : List UInt8 := dkwX3_indexes_0 ++ dktX3_indexes_1
theorem dksX3_indexes_0 : cX3_indexes.data.toList.drop 0 = dktX3_indexes_0 := by decide +kernel
theorem dksX3_indexes_1 : cX3_indexes.data.toList.drop 22 = dktX3_indexes_1 := dk_seg dksX3_indexes_0 22 rfl rfl
theorem dksX3_indexes_2 : cX3_indexes.data.toList.drop 45 = dktX3_indexes_2 := dk_seg dksX3_indexes_1 23 rfl rfl
theorem dksX3_indexes_3 : cX3_indexes.data.toList.drop 67 = dktX3_indexes_3 := dk_seg dksX3_indexes_2 22 rfl rfl
theorem dksX3_indexes_4 : cX3_indexes.data.toList.drop 89 = dktX3_indexes_4 := dk_seg dksX3_indexes_3 22 rfl rfl
theorem dksX3_indexes_5 : cX3_indexes.data.toList.drop 111 = dktX3_indexes_5 := dk_seg dksX3_indexes_4 22 rfl rfl
theorem dksX3_indexes_6 : cX3_indexes.data.toList.drop 133 = dktX3_indexes_6 := dk_seg dksX3_indexes_5 22 rfl rfl
theorem dksX3_indexes_7 : cX3_indexes.data.toList.drop 155 = dktX3_indexes_7 := dk_seg dksX3_indexes_6 22 rfl rfl
theorem dksX3_indexes_8 : cX3_indexes.data.toList.drop 179 = dktX3_indexes_8 := dk_seg dksX3_indexes_7 24 rfl rfl
theorem dksX3_indexes_9 : cX3_indexes.data.toList.drop 203 = dktX3_indexes_9 := dk_seg dksX3_indexes_8 24 rfl rfl
theorem dX3_indexes_0 : decode cX3_indexes 0 = .ok (.iconst 0, 1) := dk_3 (dk_at dksX3_indexes_0 0 rfl rfl)
theorem dX3_indexes_1 : decode cX3_indexes 1 = .ok (.istore_n 1, 1) := dk_60 (dk_at dksX3_indexes_0 1 rfl rfl)
theorem dX3_indexes_2 : decode cX3_indexes 2 = .ok (.iconst 0, 1) := dk_3 (dk_at dksX3_indexes_0 2 rfl rfl)
theorem dX3_indexes_3 : decode cX3_indexes 3 = .ok (.istore_n 2, 1) := dk_61 (dk_at dksX3_indexes_0 3 rfl rfl)
theorem dX3_indexes_4 : decode cX3_indexes 4 = .ok (.iload_n 2, 1) := dk_28 (dk_at dksX3_indexes_0 4 rfl rfl)
theorem dX3_indexes_5 : decode cX3_indexes 5 = .ok (.aload_n 0, 1) := dk_42 (dk_at dksX3_indexes_0 5 rfl rfl)
theorem dX3_indexes_6 : decode cX3_indexes 6 = .ok (.getfield 118, 3) := dk_180 0 118 (dk_at dksX3_indexes_0 6 rfl rfl)
theorem dX3_indexes_9 : decode cX3_indexes 9 = .ok (.if_icmp .ge 70, 3) := dk_162 0 70 (dk_at dksX3_indexes_0 9 rfl rfl)
theorem dX3_indexes_12 : decode cX3_indexes 12 = .ok (.aload_n 0, 1) := dk_42 (dk_at dksX3_indexes_0 12 rfl rfl)
theorem dX3_indexes_13 : decode cX3_indexes 13 = .ok (.getfield 109, 3) := dk_180 0 109 (dk_at dksX3_indexes_0 13 rfl rfl)
theorem dX3_indexes_16 : decode cX3_indexes 16 = .ok (.iload_n 2, 1) := dk_28 (dk_at dksX3_indexes_0 16 rfl rfl)
theorem dX3_indexes_17 : decode cX3_indexes 17 = .ok (.baload, 1) := dk_51 (dk_at dksX3_indexes_0 17 rfl rfl)
theorem dX3_indexes_18 : decode cX3_indexes 18 = .ok (.ifCond .eq 55, 3) := dk_153 0 55 (dk_at dksX3_indexes_0 18 rfl rfl)
theorem dX3_indexes_21 : decode cX3_indexes 21 = .ok (.aload_n 0, 1) := dk_42 (dk_at dksX3_indexes_0 21 rfl rfl)
theorem dX3_indexes_22 : decode cX3_indexes 22 = .ok (.getfield 100, 3) := dk_180 0 100 (dk_at dksX3_indexes_1 0 rfl rfl)
theorem dX3_indexes_25 : decode cX3_indexes 25 = .ok (.aload_n 0, 1) := dk_42 (dk_at dksX3_indexes_1 3 rfl rfl)
theorem dX3_indexes_26 : decode cX3_indexes 26 = .ok (.getfield 192, 3) := dk_180 0 192 (dk_at dksX3_indexes_1 4 rfl rfl)
theorem dX3_indexes_29 : decode cX3_indexes 29 = .ok (.aload_n 0, 1) := dk_42 (dk_at dksX3_indexes_1 7 rfl rfl)
theorem dX3_indexes_30 : decode cX3_indexes 30 = .ok (.getfield 264, 3) := dk_180 1 8 (dk_at dksX3_indexes_1 8 rfl rfl)
theorem dX3_indexes_33 : decode cX3_indexes 33 = .ok (.iastore, 1) := dk_79 (dk_at dksX3_indexes_1 11 rfl rfl)
theorem dX3_indexes_34 : decode cX3_indexes 34 = .ok (.aload_n 0, 1) := dk_42 (dk_at dksX3_indexes_1 12 rfl rfl)
theorem dX3_indexes_35 : decode cX3_indexes 35 = .ok (.getfield 103, 3) := dk_180 0 103 (dk_at dksX3_indexes_1 13 rfl rfl)
theorem dX3_indexes_38 : decode cX3_indexes 38 = .ok (.aload_n 0, 1) := dk_42 (dk_at dksX3_indexes_1 16 rfl rfl)
theorem dX3_indexes_39 : decode cX3_indexes 39 = .ok (.getfield 192, 3) := dk_180 0 192 (dk_at dksX3_indexes_1 17 rfl rfl)
theorem dX3_indexes_42 : decode cX3_indexes 42 = .ok (.iload_n 2, 1) := dk_28 (dk_at dksX3_indexes_1 20 rfl rfl)
theorem dX3_indexes_43 : decode cX3_indexes 43 = .ok (.iastore, 1) := dk_79 (dk_at dksX3_indexes_1 21 rfl rfl)
theorem dX3_indexes_44 : decode cX3_indexes 44 = .ok (.aload_n 0, 1) := dk_42 (dk_at dksX3_indexes_1 22 rfl rfl)
theorem dX3_indexes_45 : decode cX3_indexes 45 = .ok (.getfield 106, 3) := dk_180 0 106 (dk_at dksX3_indexes_2 0 rfl rfl)
theorem dX3_indexes_48 : decode cX3_indexes 48 = .ok (.aload_n 0, 1) := dk_42 (dk_at dksX3_indexes_2 3 rfl rfl)
theorem dX3_indexes_49 : decode cX3_indexes 49 = .ok (.getfield 192, 3) := dk_180 0 192 (dk_at dksX3_indexes_2 4 rfl rfl)
theorem dX3_indexes_52 : decode cX3_indexes 52 = .ok (.iconst 0, 1) := dk_3 (dk_at dksX3_indexes_2 7 rfl rfl)
theorem dX3_indexes_53 : decode cX3_indexes 53 = .ok (.bastore, 1) := dk_84 (dk_at dksX3_indexes_2 8 rfl rfl)
theorem dX3_indexes_54 : decode cX3_indexes 54 = .ok (.aload_n 0, 1) := dk_42 (dk_at dksX3_indexes_2 9 rfl rfl)
theorem dX3_indexes_55 : decode cX3_indexes 55 = .ok (.dup, 1) := dk_89 (dk_at dksX3_indexes_2 10 rfl rfl)
theorem dX3_indexes_56 : decode cX3_indexes 56 = .ok (.getfield 192, 3) := dk_180 0 192 (dk_at dksX3_indexes_2 11 rfl rfl)
theorem dX3_indexes_59 : decode cX3_indexes 59 = .ok (.iconst 1, 1) := dk_4 (dk_at dksX3_indexes_2 14 rfl rfl)
theorem dX3_indexes_60 : decode cX3_indexes 60 = .ok (.iadd, 1) := dk_96 (dk_at dksX3_indexes_2 15 rfl rfl)
theorem dX3_indexes_61 : decode cX3_indexes 61 = .ok (.putfield 192, 3) := dk_181 0 192 (dk_at dksX3_indexes_2 16 rfl rfl)
theorem dX3_indexes_64 : decode cX3_indexes 64 = .ok (.iconst 1, 1) := dk_4 (dk_at dksX3_indexes_2 19 rfl rfl)
theorem dX3_indexes_65 : decode cX3_indexes 65 = .ok (.istore_n 1, 1) := dk_60 (dk_at dksX3_indexes_2 20 rfl rfl)
theorem dX3_indexes_66 : decode cX3_indexes 66 = .ok (.aload_n 0, 1) := dk_42 (dk_at dksX3_indexes_2 21 rfl rfl)
theorem dX3_indexes_67 : decode cX3_indexes 67 = .ok (.getfield 109, 3) := dk_180 0 109 (dk_at dksX3_indexes_3 0 rfl rfl)
theorem dX3_indexes_70 : decode cX3_indexes 70 = .ok (.iload_n 2, 1) := dk_28 (dk_at dksX3_indexes_3 3 rfl rfl)
theorem dX3_indexes_71 : decode cX3_indexes 71 = .ok (.iconst 0, 1) := dk_3 (dk_at dksX3_indexes_3 4 rfl rfl)
theorem dX3_indexes_72 : decode cX3_indexes 72 = .ok (.bastore, 1) := dk_84 (dk_at dksX3_indexes_3 5 rfl rfl)
theorem dX3_indexes_73 : decode cX3_indexes 73 = .ok (.iinc 2 1, 3) := dk_132 2 1 (dk_at dksX3_indexes_3 6 rfl rfl)
theorem dX3_indexes_76 : decode cX3_indexes 76 = .ok (.goto (-72), 3) := dk_167 255 184 (dk_at dksX3_indexes_3 9 rfl rfl)
theorem dX3_indexes_79 : decode cX3_indexes 79 = .ok (.aload_n 0, 1) := dk_42 (dk_at dksX3_indexes_3 12 rfl rfl)
theorem dX3_indexes_80 : decode cX3_indexes 80 = .ok (.dup, 1) := dk_89 (dk_at dksX3_indexes_3 13 rfl rfl)
theorem dX3_indexes_81 : decode cX3_indexes 81 = .ok (.getfield 264, 3) := dk_180 1 8 (dk_at dksX3_indexes_3 14 rfl rfl)
theorem dX3_indexes_84 : decode cX3_indexes 84 = .ok (.iload_n 1, 1) := dk_27 (dk_at dksX3_indexes_3 17 rfl rfl)
theorem dX3_indexes_85 : decode cX3_indexes 85 = .ok (.ifCond .eq 7, 3) := dk_153 0 7 (dk_at dksX3_indexes_3 18 rfl rfl)
theorem dX3_indexes_88 : decode cX3_indexes 88 = .ok (.iconst 1, 1) := dk_4 (dk_at dksX3_indexes_3 21 rfl rfl)
theorem dX3_indexes_89 : decode cX3_indexes 89 = .ok (.goto 4, 3) := dk_167 0 4 (dk_at dksX3_indexes_4 0 rfl rfl)
theorem dX3_indexes_92 : decode cX3_indexes 92 = .ok (.iconst 0, 1) := dk_3 (dk_at dksX3_indexes_4 3 rfl rfl)
theorem dX3_indexes_93 : decode cX3_indexes 93 = .ok (.iadd, 1) := dk_96 (dk_at dksX3_indexes_4 4 rfl rfl)
theorem dX3_indexes_94 : decode cX3_indexes 94 = .ok (.putfield 264, 3) := dk_181 1 8 (dk_at dksX3_indexes_4 5 rfl rfl)
theorem dX3_indexes_97 : decode cX3_indexes 97 = .ok (.aload_n 0, 1) := dk_42 (dk_at dksX3_indexes_4 8 rfl rfl)
theorem dX3_indexes_98 : decode cX3_indexes 98 = .ok (.getfield 264, 3) := dk_180 1 8 (dk_at dksX3_indexes_4 9 rfl rfl)
theorem dX3_indexes_101 : decode cX3_indexes 101 = .ok (.iconst 1, 1) := dk_4 (dk_at dksX3_indexes_4 12 rfl rfl)
theorem dX3_indexes_102 : decode cX3_indexes 102 = .ok (.isub, 1) := dk_100 (dk_at dksX3_indexes_4 13 rfl rfl)
theorem dX3_indexes_103 : decode cX3_indexes 103 = .ok (.istore_n 2, 1) := dk_61 (dk_at dksX3_indexes_4 14 rfl rfl)
theorem dX3_indexes_104 : decode cX3_indexes 104 = .ok (.iload_n 2, 1) := dk_28 (dk_at dksX3_indexes_4 15 rfl rfl)
theorem dX3_indexes_105 : decode cX3_indexes 105 = .ok (.ifCond .lt 34, 3) := dk_155 0 34 (dk_at dksX3_indexes_4 16 rfl rfl)
theorem dX3_indexes_108 : decode cX3_indexes 108 = .ok (.aload_n 0, 1) := dk_42 (dk_at dksX3_indexes_4 19 rfl rfl)
theorem dX3_indexes_109 : decode cX3_indexes 109 = .ok (.iload_n 2, 1) := dk_28 (dk_at dksX3_indexes_4 20 rfl rfl)
theorem dX3_indexes_110 : decode cX3_indexes 110 = .ok (.iconst 0, 1) := dk_3 (dk_at dksX3_indexes_4 21 rfl rfl)
theorem dX3_indexes_111 : decode cX3_indexes 111 = .ok (.invokevirtual 267, 3) := dk_182 1 11 (dk_at dksX3_indexes_5 0 rfl rfl)
theorem dX3_indexes_114 : decode cX3_indexes 114 = .ok (.aload_n 0, 1) := dk_42 (dk_at dksX3_indexes_5 3 rfl rfl)
theorem dX3_indexes_115 : decode cX3_indexes 115 = .ok (.iload_n 2, 1) := dk_28 (dk_at dksX3_indexes_5 4 rfl rfl)
theorem dX3_indexes_116 : decode cX3_indexes 116 = .ok (.iconst 1, 1) := dk_4 (dk_at dksX3_indexes_5 5 rfl rfl)
theorem dX3_indexes_117 : decode cX3_indexes 117 = .ok (.invokevirtual 267, 3) := dk_182 1 11 (dk_at dksX3_indexes_5 6 rfl rfl)
theorem dX3_indexes_120 : decode cX3_indexes 120 = .ok (.if_icmp .ne 13, 3) := dk_160 0 13 (dk_at dksX3_indexes_5 9 rfl rfl)
theorem dX3_indexes_123 : decode cX3_indexes 123 = .ok (.aload_n 0, 1) := dk_42 (dk_at dksX3_indexes_5 12 rfl rfl)
theorem dX3_indexes_124 : decode cX3_indexes 124 = .ok (.iload_n 2, 1) := dk_28 (dk_at dksX3_indexes_5 13 rfl rfl)
theorem dX3_indexes_125 : decode cX3_indexes 125 = .ok (.invokevirtual 271, 3) := dk_182 1 15 (dk_at dksX3_indexes_5 14 rfl rfl)
theorem dX3_indexes_128 : decode cX3_indexes 128 = .ok (.aload_n 0, 1) := dk_42 (dk_at dksX3_indexes_5 17 rfl rfl)
theorem dX3_indexes_129 : decode cX3_indexes 129 = .ok (.iload_n 2, 1) := dk_28 (dk_at dksX3_indexes_5 18 rfl rfl)
theorem dX3_indexes_130 : decode cX3_indexes 130 = .ok (.invokevirtual 274, 3) := dk_182 1 18 (dk_at dksX3_indexes_5 19 rfl rfl)
theorem dX3_indexes_133 : decode cX3_indexes 133 = .ok (.iinc 2 (-1), 3) := dk_132 2 255 (dk_at dksX3_indexes_6 0 rfl rfl)
theorem dX3_indexes_136 : decode cX3_indexes 136 = .ok (.goto (-32), 3) := dk_167 255 224 (dk_at dksX3_indexes_6 3 rfl rfl)
theorem dX3_indexes_139 : decode cX3_indexes 139 = .ok (.aload_n 0, 1) := dk_42 (dk_at dksX3_indexes_6 6 rfl rfl)
theorem dX3_indexes_140 : decode cX3_indexes 140 = .ok (.getfield 264, 3) := dk_180 1 8 (dk_at dksX3_indexes_6 7 rfl rfl)
theorem dX3_indexes_143 : decode cX3_indexes 143 = .ok (.iconst 3, 1) := dk_6 (dk_at dksX3_indexes_6 10 rfl rfl)
theorem dX3_indexes_144 : decode cX3_indexes 144 = .ok (.if_icmp .le 82, 3) := dk_164 0 82 (dk_at dksX3_indexes_6 11 rfl rfl)
theorem dX3_indexes_147 : decode cX3_indexes 147 = .ok (.iconst 0, 1) := dk_3 (dk_at dksX3_indexes_6 14 rfl rfl)
theorem dX3_indexes_148 : decode cX3_indexes 148 = .ok (.istore_n 2, 1) := dk_61 (dk_at dksX3_indexes_6 15 rfl rfl)
theorem dX3_indexes_149 : decode cX3_indexes 149 = .ok (.iconst 1, 1) := dk_4 (dk_at dksX3_indexes_6 16 rfl rfl)
theorem dX3_indexes_150 : decode cX3_indexes 150 = .ok (.istore_n 3, 1) := dk_62 (dk_at dksX3_indexes_6 17 rfl rfl)
theorem dX3_indexes_151 : decode cX3_indexes 151 = .ok (.iload_n 3, 1) := dk_29 (dk_at dksX3_indexes_6 18 rfl rfl)
theorem dX3_indexes_152 : decode cX3_indexes 152 = .ok (.iconst 1, 1) := dk_4 (dk_at dksX3_indexes_6 19 rfl rfl)
theorem dX3_indexes_153 : decode cX3_indexes 153 = .ok (.iadd, 1) := dk_96 (dk_at dksX3_indexes_6 20 rfl rfl)
theorem dX3_indexes_154 : decode cX3_indexes 154 = .ok (.aload_n 0, 1) := dk_42 (dk_at dksX3_indexes_6 21 rfl rfl)
theorem dX3_indexes_155 : decode cX3_indexes 155 = .ok (.getfield 264, 3) := dk_180 1 8 (dk_at dksX3_indexes_7 0 rfl rfl)
theorem dX3_indexes_158 : decode cX3_indexes 158 = .ok (.if_icmp .ge 48, 3) := dk_162 0 48 (dk_at dksX3_indexes_7 3 rfl rfl)
theorem dX3_indexes_161 : decode cX3_indexes 161 = .ok (.aload_n 0, 1) := dk_42 (dk_at dksX3_indexes_7 6 rfl rfl)
theorem dX3_indexes_162 : decode cX3_indexes 162 = .ok (.iload_n 3, 1) := dk_29 (dk_at dksX3_indexes_7 7 rfl rfl)
theorem dX3_indexes_163 : decode cX3_indexes 163 = .ok (.iconst 0, 1) := dk_3 (dk_at dksX3_indexes_7 8 rfl rfl)
theorem dX3_indexes_164 : decode cX3_indexes 164 = .ok (.invokevirtual 267, 3) := dk_182 1 11 (dk_at dksX3_indexes_7 9 rfl rfl)
theorem dX3_indexes_167 : decode cX3_indexes 167 = .ok (.aload_n 0, 1) := dk_42 (dk_at dksX3_indexes_7 12 rfl rfl)
theorem dX3_indexes_168 : decode cX3_indexes 168 = .ok (.iload_n 3, 1) := dk_29 (dk_at dksX3_indexes_7 13 rfl rfl)
theorem dX3_indexes_169 : decode cX3_indexes 169 = .ok (.iconst 1, 1) := dk_4 (dk_at dksX3_indexes_7 14 rfl rfl)
theorem dX3_indexes_170 : decode cX3_indexes 170 = .ok (.iadd, 1) := dk_96 (dk_at dksX3_indexes_7 15 rfl rfl)
theorem dX3_indexes_171 : decode cX3_indexes 171 = .ok (.iconst 0, 1) := dk_3 (dk_at dksX3_indexes_7 16 rfl rfl)
theorem dX3_indexes_172 : decode cX3_indexes 172 = .ok (.invokevirtual 267, 3) := dk_182 1 11 (dk_at dksX3_indexes_7 17 rfl rfl)
theorem dX3_indexes_175 : decode cX3_indexes 175 = .ok (.iadd, 1) := dk_96 (dk_at dksX3_indexes_7 20 rfl rfl)
theorem dX3_indexes_176 : decode cX3_indexes 176 = .ok (.aload_n 0, 1) := dk_42 (dk_at dksX3_indexes_7 21 rfl rfl)
theorem dX3_indexes_177 : decode cX3_indexes 177 = .ok (.iload_n 2, 1) := dk_28 (dk_at dksX3_indexes_7 22 rfl rfl)
theorem dX3_indexes_178 : decode cX3_indexes 178 = .ok (.iconst 0, 1) := dk_3 (dk_at dksX3_indexes_7 23 rfl rfl)
theorem dX3_indexes_179 : decode cX3_indexes 179 = .ok (.invokevirtual 267, 3) := dk_182 1 11 (dk_at dksX3_indexes_8 0 rfl rfl)
theorem dX3_indexes_182 : decode cX3_indexes 182 = .ok (.aload_n 0, 1) := dk_42 (dk_at dksX3_indexes_8 3 rfl rfl)
theorem dX3_indexes_183 : decode cX3_indexes 183 = .ok (.iload_n 2, 1) := dk_28 (dk_at dksX3_indexes_8 4 rfl rfl)
theorem dX3_indexes_184 : decode cX3_indexes 184 = .ok (.iconst 1, 1) := dk_4 (dk_at dksX3_indexes_8 5 rfl rfl)
theorem dX3_indexes_185 : decode cX3_indexes 185 = .ok (.iadd, 1) := dk_96 (dk_at dksX3_indexes_8 6 rfl rfl)
theorem dX3_indexes_186 : decode cX3_indexes 186 = .ok (.iconst 0, 1) := dk_3 (dk_at dksX3_indexes_8 7 rfl rfl)
theorem dX3_indexes_187 : decode cX3_indexes 187 = .ok (.invokevirtual 267, 3) := dk_182 1 11 (dk_at dksX3_indexes_8 8 rfl rfl)
theorem dX3_indexes_190 : decode cX3_indexes 190 = .ok (.iadd, 1) := dk_96 (dk_at dksX3_indexes_8 11 rfl rfl)
theorem dX3_indexes_191 : decode cX3_indexes 191 = .ok (.if_icmp .ge 7, 3) := dk_162 0 7 (dk_at dksX3_indexes_8 12 rfl rfl)
theorem dX3_indexes_194 : decode cX3_indexes 194 = .ok (.iload_n 3, 1) := dk_29 (dk_at dksX3_indexes_8 15 rfl rfl)
theorem dX3_indexes_195 : decode cX3_indexes 195 = .ok (.goto 4, 3) := dk_167 0 4 (dk_at dksX3_indexes_8 16 rfl rfl)
theorem dX3_indexes_198 : decode cX3_indexes 198 = .ok (.iload_n 2, 1) := dk_28 (dk_at dksX3_indexes_8 19 rfl rfl)
theorem dX3_indexes_199 : decode cX3_indexes 199 = .ok (.istore_n 2, 1) := dk_61 (dk_at dksX3_indexes_8 20 rfl rfl)
theorem dX3_indexes_200 : decode cX3_indexes 200 = .ok (.iinc 3 1, 3) := dk_132 3 1 (dk_at dksX3_indexes_8 21 rfl rfl)
theorem dX3_indexes_203 : decode cX3_indexes 203 = .ok (.goto (-52), 3) := dk_167 255 204 (dk_at dksX3_indexes_9 0 rfl rfl)
theorem dX3_indexes_206 : decode cX3_indexes 206 = .ok (.aload_n 0, 1) := dk_42 (dk_at dksX3_indexes_9 3 rfl rfl)
theorem dX3_indexes_207 : decode cX3_indexes 207 = .ok (.iload_n 2, 1) := dk_28 (dk_at dksX3_indexes_9 4 rfl rfl)
theorem dX3_indexes_208 : decode cX3_indexes 208 = .ok (.invokevirtual 271, 3) := dk_182 1 15 (dk_at dksX3_indexes_9 5 rfl rfl)
theorem dX3_indexes_211 : decode cX3_indexes 211 = .ok (.aload_n 0, 1) := dk_42 (dk_at dksX3_indexes_9 8 rfl rfl)
theorem dX3_indexes_212 : decode cX3_indexes 212 = .ok (.iload_n 2, 1) := dk_28 (dk_at dksX3_indexes_9 9 rfl rfl)
theorem dX3_indexes_213 : decode cX3_indexes 213 = .ok (.iconst 1, 1) := dk_4 (dk_at dksX3_indexes_9 10 rfl rfl)
theorem dX3_indexes_214 : decode cX3_indexes 214 = .ok (.iadd, 1) := dk_96 (dk_at dksX3_indexes_9 11 rfl rfl)
theorem dX3_indexes_215 : decode cX3_indexes 215 = .ok (.invokevirtual 271, 3) := dk_182 1 15 (dk_at dksX3_indexes_9 12 rfl rfl)
theorem dX3_indexes_218 : decode cX3_indexes 218 = .ok (.aload_n 0, 1) := dk_42 (dk_at dksX3_indexes_9 15 rfl rfl)
theorem dX3_indexes_219 : decode cX3_indexes 219 = .ok (.iload_n 2, 1) := dk_28 (dk_at dksX3_indexes_9 16 rfl rfl)
theorem dX3_indexes_220 : decode cX3_indexes 220 = .ok (.invokevirtual 274, 3) := dk_182 1 18 (dk_at dksX3_indexes_9 17 rfl rfl)
theorem dX3_indexes_223 : decode cX3_indexes 223 = .ok (.goto (-84), 3) := dk_167 255 172 (dk_at dksX3_indexes_9 20 rfl rfl)
theorem dX3_indexes_226 : decode cX3_indexes 226 = .ok (.return_, 1) := dk_177 (dk_at dksX3_indexes_9 23 rfl rfl)
abbrev cX3_count : ByteArray := prog_11_method_59_code
def yX3_count : MethodName := ⟨RX3, "count", "(IZ)I"⟩
def dkwX3_count_2 : List UInt8 := [132, 4, 1, 167, 255, 211, 29, 172]
abbrev dktX3_count_2 : List UInt8 := dkwX3_count_2 ++ []
def dkwX3_count_1 : List UInt8 := [160, 0, 21, 42, 180, 0, 106, 21, 4, 51, 154, 0, 7, 28, 154, 0, 7, 4, 167, 0, 4, 3, 96, 62]
abbrev dktX3_count_1 : List UInt8 := dkwX3_count_1 ++ dktX3_count_2
def dkwX3_count_0 : List UInt8 := [3, 62, 3, 54, 4, 21, 4, 42, 180, 0, 192, 162, 0, 42, 29, 42, 180, 0, 100, 21, 4, 46, 27]
abbrev dktX3_count_0 : List UInt8 := dkwX3_count_0 ++ dktX3_count_1
theorem dksX3_count_0 : cX3_count.data.toList.drop 0 = dktX3_count_0 := by decide +kernel
theorem dksX3_count_1 : cX3_count.data.toList.drop 23 = dktX3_count_1 := dk_seg dksX3_count_0 23 rfl rfl
theorem dksX3_count_2 : cX3_count.data.toList.drop 47 = dktX3_count_2 := dk_seg dksX3_count_1 24 rfl rfl
theorem dX3_count_0 : decode cX3_count 0 = .ok (.iconst 0, 1) := dk_3 (dk_at dksX3_count_0 0 rfl rfl)
theorem dX3_count_1 : decode cX3_count 1 = .ok (.istore_n 3, 1) := dk_62 (dk_at dksX3_count_0 1 rfl rfl)
theorem dX3_count_2 : decode cX3_count 2 = .ok (.iconst 0, 1) := dk_3 (dk_at dksX3_count_0 2 rfl rfl)
theorem dX3_count_3 : decode cX3_count 3 = .ok (.istore 4, 2) := dk_54 4 (dk_at dksX3_count_0 3 rfl rfl)
theorem dX3_count_5 : decode cX3_count 5 = .ok (.iload 4, 2) := dk_21 4 (dk_at dksX3_count_0 5 rfl rfl)
theorem dX3_count_7 : decode cX3_count 7 = .ok (.aload_n 0, 1) := dk_42 (dk_at dksX3_count_0 7 rfl rfl)
theorem dX3_count_8 : decode cX3_count 8 = .ok (.getfield 192, 3) := dk_180 0 192 (dk_at dksX3_count_0 8 rfl rfl)
theorem dX3_count_11 : decode cX3_count 11 = .ok (.if_icmp .ge 42, 3) := dk_162 0 42 (dk_at dksX3_count_0 11 rfl rfl)
theorem dX3_count_14 : decode cX3_count 14 = .ok (.iload_n 3, 1) := dk_29 (dk_at dksX3_count_0 14 rfl rfl)
theorem dX3_count_15 : decode cX3_count 15 = .ok (.aload_n 0, 1) := dk_42 (dk_at dksX3_count_0 15 rfl rfl)
theorem dX3_count_16 : decode cX3_count 16 = .ok (.getfield 100, 3) := dk_180 0 100 (dk_at dksX3_count_0 16 rfl rfl)
theorem dX3_count_19 : decode cX3_count 19 = .ok (.iload 4, 2) := dk_21 4 (dk_at dksX3_count_0 19 rfl rfl)
theorem dX3_count_21 : decode cX3_count 21 = .ok (.iaload, 1) := dk_46 (dk_at dksX3_count_0 21 rfl rfl)
theorem dX3_count_22 : decode cX3_count 22 = .ok (.iload_n 1, 1) := dk_27 (dk_at dksX3_count_0 22 rfl rfl)
theorem dX3_count_23 : decode cX3_count 23 = .ok (.if_icmp .ne 21, 3) := dk_160 0 21 (dk_at dksX3_count_1 0 rfl rfl)
theorem dX3_count_26 : decode cX3_count 26 = .ok (.aload_n 0, 1) := dk_42 (dk_at dksX3_count_1 3 rfl rfl)
theorem dX3_count_27 : decode cX3_count 27 = .ok (.getfield 106, 3) := dk_180 0 106 (dk_at dksX3_count_1 4 rfl rfl)
theorem dX3_count_30 : decode cX3_count 30 = .ok (.iload 4, 2) := dk_21 4 (dk_at dksX3_count_1 7 rfl rfl)
theorem dX3_count_32 : decode cX3_count 32 = .ok (.baload, 1) := dk_51 (dk_at dksX3_count_1 9 rfl rfl)
theorem dX3_count_33 : decode cX3_count 33 = .ok (.ifCond .ne 7, 3) := dk_154 0 7 (dk_at dksX3_count_1 10 rfl rfl)
theorem dX3_count_36 : decode cX3_count 36 = .ok (.iload_n 2, 1) := dk_28 (dk_at dksX3_count_1 13 rfl rfl)
theorem dX3_count_37 : decode cX3_count 37 = .ok (.ifCond .ne 7, 3) := dk_154 0 7 (dk_at dksX3_count_1 14 rfl rfl)
theorem dX3_count_40 : decode cX3_count 40 = .ok (.iconst 1, 1) := dk_4 (dk_at dksX3_count_1 17 rfl rfl)
theorem dX3_count_41 : decode cX3_count 41 = .ok (.goto 4, 3) := dk_167 0 4 (dk_at dksX3_count_1 18 rfl rfl)
theorem dX3_count_44 : decode cX3_count 44 = .ok (.iconst 0, 1) := dk_3 (dk_at dksX3_count_1 21 rfl rfl)
theorem dX3_count_45 : decode cX3_count 45 = .ok (.iadd, 1) := dk_96 (dk_at dksX3_count_1 22 rfl rfl)
theorem dX3_count_46 : decode cX3_count 46 = .ok (.istore_n 3, 1) := dk_62 (dk_at dksX3_count_1 23 rfl rfl)
theorem dX3_count_47 : decode cX3_count 47 = .ok (.iinc 4 1, 3) := dk_132 4 1 (dk_at dksX3_count_2 0 rfl rfl)
theorem dX3_count_50 : decode cX3_count 50 = .ok (.goto (-45), 3) := dk_167 255 211 (dk_at dksX3_count_2 3 rfl rfl)
theorem dX3_count_53 : decode cX3_count 53 = .ok (.iload_n 3, 1) := dk_29 (dk_at dksX3_count_2 6 rfl rfl)
theorem dX3_count_54 : decode cX3_count 54 = .ok (.ireturn, 1) := dk_172 (dk_at dksX3_count_2 7 rfl rfl)
abbrev cX3_cleans : ByteArray := prog_11_method_61_code
def yX3_cleans : MethodName := ⟨RX3, "cleans", "(I)V"⟩
def dkwX3_cleans_1 : List UInt8 := [180, 0, 106, 28, 51, 153, 0, 8, 42, 28, 182, 1, 5, 132, 2, 255, 167, 255, 225, 177]
abbrev dktX3_cleans_1 : List UInt8 := dkwX3_cleans_1 ++ []
def dkwX3_cleans_0 : List UInt8 := [42, 180, 0, 192, 4, 100, 61, 28, 155, 0, 33, 42, 180, 0, 100, 28, 46, 27, 160, 0, 17, 42]
abbrev dktX3_cleans_0 : List UInt8 := dkwX3_cleans_0 ++ dktX3_cleans_1
theorem dksX3_cleans_0 : cX3_cleans.data.toList.drop 0 = dktX3_cleans_0 := by decide +kernel
theorem dksX3_cleans_1 : cX3_cleans.data.toList.drop 22 = dktX3_cleans_1 := dk_seg dksX3_cleans_0 22 rfl rfl
theorem dX3_cleans_0 : decode cX3_cleans 0 = .ok (.aload_n 0, 1) := dk_42 (dk_at dksX3_cleans_0 0 rfl rfl)
theorem dX3_cleans_1 : decode cX3_cleans 1 = .ok (.getfield 192, 3) := dk_180 0 192 (dk_at dksX3_cleans_0 1 rfl rfl)
theorem dX3_cleans_4 : decode cX3_cleans 4 = .ok (.iconst 1, 1) := dk_4 (dk_at dksX3_cleans_0 4 rfl rfl)
theorem dX3_cleans_5 : decode cX3_cleans 5 = .ok (.isub, 1) := dk_100 (dk_at dksX3_cleans_0 5 rfl rfl)
theorem dX3_cleans_6 : decode cX3_cleans 6 = .ok (.istore_n 2, 1) := dk_61 (dk_at dksX3_cleans_0 6 rfl rfl)
theorem dX3_cleans_7 : decode cX3_cleans 7 = .ok (.iload_n 2, 1) := dk_28 (dk_at dksX3_cleans_0 7 rfl rfl)
theorem dX3_cleans_8 : decode cX3_cleans 8 = .ok (.ifCond .lt 33, 3) := dk_155 0 33 (dk_at dksX3_cleans_0 8 rfl rfl)
theorem dX3_cleans_11 : decode cX3_cleans 11 = .ok (.aload_n 0, 1) := dk_42 (dk_at dksX3_cleans_0 11 rfl rfl)
theorem dX3_cleans_12 : decode cX3_cleans 12 = .ok (.getfield 100, 3) := dk_180 0 100 (dk_at dksX3_cleans_0 12 rfl rfl)
theorem dX3_cleans_15 : decode cX3_cleans 15 = .ok (.iload_n 2, 1) := dk_28 (dk_at dksX3_cleans_0 15 rfl rfl)
theorem dX3_cleans_16 : decode cX3_cleans 16 = .ok (.iaload, 1) := dk_46 (dk_at dksX3_cleans_0 16 rfl rfl)
theorem dX3_cleans_17 : decode cX3_cleans 17 = .ok (.iload_n 1, 1) := dk_27 (dk_at dksX3_cleans_0 17 rfl rfl)
theorem dX3_cleans_18 : decode cX3_cleans 18 = .ok (.if_icmp .ne 17, 3) := dk_160 0 17 (dk_at dksX3_cleans_0 18 rfl rfl)
theorem dX3_cleans_21 : decode cX3_cleans 21 = .ok (.aload_n 0, 1) := dk_42 (dk_at dksX3_cleans_0 21 rfl rfl)
theorem dX3_cleans_22 : decode cX3_cleans 22 = .ok (.getfield 106, 3) := dk_180 0 106 (dk_at dksX3_cleans_1 0 rfl rfl)
theorem dX3_cleans_25 : decode cX3_cleans 25 = .ok (.iload_n 2, 1) := dk_28 (dk_at dksX3_cleans_1 3 rfl rfl)
theorem dX3_cleans_26 : decode cX3_cleans 26 = .ok (.baload, 1) := dk_51 (dk_at dksX3_cleans_1 4 rfl rfl)
theorem dX3_cleans_27 : decode cX3_cleans 27 = .ok (.ifCond .eq 8, 3) := dk_153 0 8 (dk_at dksX3_cleans_1 5 rfl rfl)
theorem dX3_cleans_30 : decode cX3_cleans 30 = .ok (.aload_n 0, 1) := dk_42 (dk_at dksX3_cleans_1 8 rfl rfl)
theorem dX3_cleans_31 : decode cX3_cleans 31 = .ok (.iload_n 2, 1) := dk_28 (dk_at dksX3_cleans_1 9 rfl rfl)
theorem dX3_cleans_32 : decode cX3_cleans 32 = .ok (.invokevirtual 261, 3) := dk_182 1 5 (dk_at dksX3_cleans_1 10 rfl rfl)
theorem dX3_cleans_35 : decode cX3_cleans 35 = .ok (.iinc 2 (-1), 3) := dk_132 2 255 (dk_at dksX3_cleans_1 13 rfl rfl)
theorem dX3_cleans_38 : decode cX3_cleans 38 = .ok (.goto (-31), 3) := dk_167 255 225 (dk_at dksX3_cleans_1 16 rfl rfl)
theorem dX3_cleans_41 : decode cX3_cleans 41 = .ok (.return_, 1) := dk_177 (dk_at dksX3_cleans_1 19 rfl rfl)
abbrev cX3_takesPlace : ByteArray := prog_11_method_60_code
def yX3_takesPlace : MethodName := ⟨RX3, "takesPlace", "(I)V"⟩
def dkwX3_takesPlace_2 : List UInt8 := [42, 180, 0, 106, 28, 42, 180, 0, 106, 28, 4, 96, 51, 84, 132, 2, 1, 167, 255, 203, 177]
abbrev dktX3_takesPlace_2 : List UInt8 := dkwX3_takesPlace_2 ++ []
def dkwX3_takesPlace_1 : List UInt8 := [28, 42, 180, 0, 100, 28, 4, 96, 46, 79, 42, 180, 0, 103, 28, 42, 180, 0, 103, 28, 4, 96, 46, 79]
abbrev dktX3_takesPlace_1 : List UInt8 := dkwX3_takesPlace_1 ++ dktX3_takesPlace_2
def dkwX3_takesPlace_0 : List UInt8 := [42, 89, 180, 0, 192, 4, 100, 181, 0, 192, 27, 61, 28, 42, 180, 0, 192, 162, 0, 51, 42, 180, 0, 100]
abbrev dktX3_takesPlace_0 : List UInt8 := dkwX3_takesPlace_0 ++ dktX3_takesPlace_1
theorem dksX3_takesPlace_0 : cX3_takesPlace.data.toList.drop 0 = dktX3_takesPlace_0 := by decide +kernel
theorem dksX3_takesPlace_1 : cX3_takesPlace.data.toList.drop 24 = dktX3_takesPlace_1 := dk_seg dksX3_takesPlace_0 24 rfl rfl
theorem dksX3_takesPlace_2 : cX3_takesPlace.data.toList.drop 48 = dktX3_takesPlace_2 := dk_seg dksX3_takesPlace_1 24 rfl rfl
theorem dX3_takesPlace_0 : decode cX3_takesPlace 0 = .ok (.aload_n 0, 1) := dk_42 (dk_at dksX3_takesPlace_0 0 rfl rfl)
theorem dX3_takesPlace_1 : decode cX3_takesPlace 1 = .ok (.dup, 1) := dk_89 (dk_at dksX3_takesPlace_0 1 rfl rfl)
theorem dX3_takesPlace_2 : decode cX3_takesPlace 2 = .ok (.getfield 192, 3) := dk_180 0 192 (dk_at dksX3_takesPlace_0 2 rfl rfl)
theorem dX3_takesPlace_5 : decode cX3_takesPlace 5 = .ok (.iconst 1, 1) := dk_4 (dk_at dksX3_takesPlace_0 5 rfl rfl)
theorem dX3_takesPlace_6 : decode cX3_takesPlace 6 = .ok (.isub, 1) := dk_100 (dk_at dksX3_takesPlace_0 6 rfl rfl)
theorem dX3_takesPlace_7 : decode cX3_takesPlace 7 = .ok (.putfield 192, 3) := dk_181 0 192 (dk_at dksX3_takesPlace_0 7 rfl rfl)
theorem dX3_takesPlace_10 : decode cX3_takesPlace 10 = .ok (.iload_n 1, 1) := dk_27 (dk_at dksX3_takesPlace_0 10 rfl rfl)
theorem dX3_takesPlace_11 : decode cX3_takesPlace 11 = .ok (.istore_n 2, 1) := dk_61 (dk_at dksX3_takesPlace_0 11 rfl rfl)
theorem dX3_takesPlace_12 : decode cX3_takesPlace 12 = .ok (.iload_n 2, 1) := dk_28 (dk_at dksX3_takesPlace_0 12 rfl rfl)
theorem dX3_takesPlace_13 : decode cX3_takesPlace 13 = .ok (.aload_n 0, 1) := dk_42 (dk_at dksX3_takesPlace_0 13 rfl rfl)
theorem dX3_takesPlace_14 : decode cX3_takesPlace 14 = .ok (.getfield 192, 3) := dk_180 0 192 (dk_at dksX3_takesPlace_0 14 rfl rfl)
theorem dX3_takesPlace_17 : decode cX3_takesPlace 17 = .ok (.if_icmp .ge 51, 3) := dk_162 0 51 (dk_at dksX3_takesPlace_0 17 rfl rfl)
theorem dX3_takesPlace_20 : decode cX3_takesPlace 20 = .ok (.aload_n 0, 1) := dk_42 (dk_at dksX3_takesPlace_0 20 rfl rfl)
theorem dX3_takesPlace_21 : decode cX3_takesPlace 21 = .ok (.getfield 100, 3) := dk_180 0 100 (dk_at dksX3_takesPlace_0 21 rfl rfl)
theorem dX3_takesPlace_24 : decode cX3_takesPlace 24 = .ok (.iload_n 2, 1) := dk_28 (dk_at dksX3_takesPlace_1 0 rfl rfl)
theorem dX3_takesPlace_25 : decode cX3_takesPlace 25 = .ok (.aload_n 0, 1) := dk_42 (dk_at dksX3_takesPlace_1 1 rfl rfl)
theorem dX3_takesPlace_26 : decode cX3_takesPlace 26 = .ok (.getfield 100, 3) := dk_180 0 100 (dk_at dksX3_takesPlace_1 2 rfl rfl)
theorem dX3_takesPlace_29 : decode cX3_takesPlace 29 = .ok (.iload_n 2, 1) := dk_28 (dk_at dksX3_takesPlace_1 5 rfl rfl)
theorem dX3_takesPlace_30 : decode cX3_takesPlace 30 = .ok (.iconst 1, 1) := dk_4 (dk_at dksX3_takesPlace_1 6 rfl rfl)
theorem dX3_takesPlace_31 : decode cX3_takesPlace 31 = .ok (.iadd, 1) := dk_96 (dk_at dksX3_takesPlace_1 7 rfl rfl)
theorem dX3_takesPlace_32 : decode cX3_takesPlace 32 = .ok (.iaload, 1) := dk_46 (dk_at dksX3_takesPlace_1 8 rfl rfl)
theorem dX3_takesPlace_33 : decode cX3_takesPlace 33 = .ok (.iastore, 1) := dk_79 (dk_at dksX3_takesPlace_1 9 rfl rfl)
theorem dX3_takesPlace_34 : decode cX3_takesPlace 34 = .ok (.aload_n 0, 1) := dk_42 (dk_at dksX3_takesPlace_1 10 rfl rfl)
theorem dX3_takesPlace_35 : decode cX3_takesPlace 35 = .ok (.getfield 103, 3) := dk_180 0 103 (dk_at dksX3_takesPlace_1 11 rfl rfl)
theorem dX3_takesPlace_38 : decode cX3_takesPlace 38 = .ok (.iload_n 2, 1) := dk_28 (dk_at dksX3_takesPlace_1 14 rfl rfl)
theorem dX3_takesPlace_39 : decode cX3_takesPlace 39 = .ok (.aload_n 0, 1) := dk_42 (dk_at dksX3_takesPlace_1 15 rfl rfl)
theorem dX3_takesPlace_40 : decode cX3_takesPlace 40 = .ok (.getfield 103, 3) := dk_180 0 103 (dk_at dksX3_takesPlace_1 16 rfl rfl)
theorem dX3_takesPlace_43 : decode cX3_takesPlace 43 = .ok (.iload_n 2, 1) := dk_28 (dk_at dksX3_takesPlace_1 19 rfl rfl)
theorem dX3_takesPlace_44 : decode cX3_takesPlace 44 = .ok (.iconst 1, 1) := dk_4 (dk_at dksX3_takesPlace_1 20 rfl rfl)
theorem dX3_takesPlace_45 : decode cX3_takesPlace 45 = .ok (.iadd, 1) := dk_96 (dk_at dksX3_takesPlace_1 21 rfl rfl)
theorem dX3_takesPlace_46 : decode cX3_takesPlace 46 = .ok (.iaload, 1) := dk_46 (dk_at dksX3_takesPlace_1 22 rfl rfl)
theorem dX3_takesPlace_47 : decode cX3_takesPlace 47 = .ok (.iastore, 1) := dk_79 (dk_at dksX3_takesPlace_1 23 rfl rfl)
theorem dX3_takesPlace_48 : decode cX3_takesPlace 48 = .ok (.aload_n 0, 1) := dk_42 (dk_at dksX3_takesPlace_2 0 rfl rfl)
theorem dX3_takesPlace_49 : decode cX3_takesPlace 49 = .ok (.getfield 106, 3) := dk_180 0 106 (dk_at dksX3_takesPlace_2 1 rfl rfl)
theorem dX3_takesPlace_52 : decode cX3_takesPlace 52 = .ok (.iload_n 2, 1) := dk_28 (dk_at dksX3_takesPlace_2 4 rfl rfl)
theorem dX3_takesPlace_53 : decode cX3_takesPlace 53 = .ok (.aload_n 0, 1) := dk_42 (dk_at dksX3_takesPlace_2 5 rfl rfl)
theorem dX3_takesPlace_54 : decode cX3_takesPlace 54 = .ok (.getfield 106, 3) := dk_180 0 106 (dk_at dksX3_takesPlace_2 6 rfl rfl)
theorem dX3_takesPlace_57 : decode cX3_takesPlace 57 = .ok (.iload_n 2, 1) := dk_28 (dk_at dksX3_takesPlace_2 9 rfl rfl)
theorem dX3_takesPlace_58 : decode cX3_takesPlace 58 = .ok (.iconst 1, 1) := dk_4 (dk_at dksX3_takesPlace_2 10 rfl rfl)
theorem dX3_takesPlace_59 : decode cX3_takesPlace 59 = .ok (.iadd, 1) := dk_96 (dk_at dksX3_takesPlace_2 11 rfl rfl)
theorem dX3_takesPlace_60 : decode cX3_takesPlace 60 = .ok (.baload, 1) := dk_51 (dk_at dksX3_takesPlace_2 12 rfl rfl)
theorem dX3_takesPlace_61 : decode cX3_takesPlace 61 = .ok (.bastore, 1) := dk_84 (dk_at dksX3_takesPlace_2 13 rfl rfl)
theorem dX3_takesPlace_62 : decode cX3_takesPlace 62 = .ok (.iinc 2 1, 3) := dk_132 2 1 (dk_at dksX3_takesPlace_2 14 rfl rfl)
theorem dX3_takesPlace_65 : decode cX3_takesPlace 65 = .ok (.goto (-53), 3) := dk_167 255 203 (dk_at dksX3_takesPlace_2 17 rfl rfl)
theorem dX3_takesPlace_68 : decode cX3_takesPlace 68 = .ok (.return_, 1) := dk_177 (dk_at dksX3_takesPlace_2 20 rfl rfl)
abbrev cX3_joins : ByteArray := prog_11_method_62_code
def yX3_joins : MethodName := ⟨RX3, "joins", "(I)V"⟩
def dkwX3_joins_2 : List UInt8 := [167, 255, 221, 177]
abbrev dktX3_joins_2 : List UInt8 := dkwX3_joins_2 ++ []
def dkwX3_joins_1 : List UInt8 := [28, 92, 46, 42, 180, 0, 100, 28, 46, 27, 164, 0, 7, 4, 167, 0, 4, 3, 100, 79, 132, 2, 1]
abbrev dktX3_joins_1 : List UInt8 := dkwX3_joins_1 ++ dktX3_joins_2
def dkwX3_joins_0 : List UInt8 := [42, 89, 180, 1, 8, 4, 100, 181, 1, 8, 3, 61, 28, 42, 180, 0, 192, 162, 0, 33, 42, 180, 0, 100]
abbrev dktX3_joins_0 : List UInt8 := dkwX3_joins_0 ++ dktX3_joins_1
theorem dksX3_joins_0 : cX3_joins.data.toList.drop 0 = dktX3_joins_0 := by decide +kernel
theorem dksX3_joins_1 : cX3_joins.data.toList.drop 24 = dktX3_joins_1 := dk_seg dksX3_joins_0 24 rfl rfl
theorem dksX3_joins_2 : cX3_joins.data.toList.drop 47 = dktX3_joins_2 := dk_seg dksX3_joins_1 23 rfl rfl
theorem dX3_joins_0 : decode cX3_joins 0 = .ok (.aload_n 0, 1) := dk_42 (dk_at dksX3_joins_0 0 rfl rfl)
theorem dX3_joins_1 : decode cX3_joins 1 = .ok (.dup, 1) := dk_89 (dk_at dksX3_joins_0 1 rfl rfl)
theorem dX3_joins_2 : decode cX3_joins 2 = .ok (.getfield 264, 3) := dk_180 1 8 (dk_at dksX3_joins_0 2 rfl rfl)
theorem dX3_joins_5 : decode cX3_joins 5 = .ok (.iconst 1, 1) := dk_4 (dk_at dksX3_joins_0 5 rfl rfl)
theorem dX3_joins_6 : decode cX3_joins 6 = .ok (.isub, 1) := dk_100 (dk_at dksX3_joins_0 6 rfl rfl)
theorem dX3_joins_7 : decode cX3_joins 7 = .ok (.putfield 264, 3) := dk_181 1 8 (dk_at dksX3_joins_0 7 rfl rfl)
theorem dX3_joins_10 : decode cX3_joins 10 = .ok (.iconst 0, 1) := dk_3 (dk_at dksX3_joins_0 10 rfl rfl)
theorem dX3_joins_11 : decode cX3_joins 11 = .ok (.istore_n 2, 1) := dk_61 (dk_at dksX3_joins_0 11 rfl rfl)
theorem dX3_joins_12 : decode cX3_joins 12 = .ok (.iload_n 2, 1) := dk_28 (dk_at dksX3_joins_0 12 rfl rfl)
theorem dX3_joins_13 : decode cX3_joins 13 = .ok (.aload_n 0, 1) := dk_42 (dk_at dksX3_joins_0 13 rfl rfl)
theorem dX3_joins_14 : decode cX3_joins 14 = .ok (.getfield 192, 3) := dk_180 0 192 (dk_at dksX3_joins_0 14 rfl rfl)
theorem dX3_joins_17 : decode cX3_joins 17 = .ok (.if_icmp .ge 33, 3) := dk_162 0 33 (dk_at dksX3_joins_0 17 rfl rfl)
theorem dX3_joins_20 : decode cX3_joins 20 = .ok (.aload_n 0, 1) := dk_42 (dk_at dksX3_joins_0 20 rfl rfl)
theorem dX3_joins_21 : decode cX3_joins 21 = .ok (.getfield 100, 3) := dk_180 0 100 (dk_at dksX3_joins_0 21 rfl rfl)
theorem dX3_joins_24 : decode cX3_joins 24 = .ok (.iload_n 2, 1) := dk_28 (dk_at dksX3_joins_1 0 rfl rfl)
theorem dX3_joins_25 : decode cX3_joins 25 = .ok (.dup2, 1) := dk_92 (dk_at dksX3_joins_1 1 rfl rfl)
theorem dX3_joins_26 : decode cX3_joins 26 = .ok (.iaload, 1) := dk_46 (dk_at dksX3_joins_1 2 rfl rfl)
theorem dX3_joins_27 : decode cX3_joins 27 = .ok (.aload_n 0, 1) := dk_42 (dk_at dksX3_joins_1 3 rfl rfl)
theorem dX3_joins_28 : decode cX3_joins 28 = .ok (.getfield 100, 3) := dk_180 0 100 (dk_at dksX3_joins_1 4 rfl rfl)
theorem dX3_joins_31 : decode cX3_joins 31 = .ok (.iload_n 2, 1) := dk_28 (dk_at dksX3_joins_1 7 rfl rfl)
theorem dX3_joins_32 : decode cX3_joins 32 = .ok (.iaload, 1) := dk_46 (dk_at dksX3_joins_1 8 rfl rfl)
theorem dX3_joins_33 : decode cX3_joins 33 = .ok (.iload_n 1, 1) := dk_27 (dk_at dksX3_joins_1 9 rfl rfl)
theorem dX3_joins_34 : decode cX3_joins 34 = .ok (.if_icmp .le 7, 3) := dk_164 0 7 (dk_at dksX3_joins_1 10 rfl rfl)
theorem dX3_joins_37 : decode cX3_joins 37 = .ok (.iconst 1, 1) := dk_4 (dk_at dksX3_joins_1 13 rfl rfl)
theorem dX3_joins_38 : decode cX3_joins 38 = .ok (.goto 4, 3) := dk_167 0 4 (dk_at dksX3_joins_1 14 rfl rfl)
theorem dX3_joins_41 : decode cX3_joins 41 = .ok (.iconst 0, 1) := dk_3 (dk_at dksX3_joins_1 17 rfl rfl)
theorem dX3_joins_42 : decode cX3_joins 42 = .ok (.isub, 1) := dk_100 (dk_at dksX3_joins_1 18 rfl rfl)
theorem dX3_joins_43 : decode cX3_joins 43 = .ok (.iastore, 1) := dk_79 (dk_at dksX3_joins_1 19 rfl rfl)
theorem dX3_joins_44 : decode cX3_joins 44 = .ok (.iinc 2 1, 3) := dk_132 2 1 (dk_at dksX3_joins_1 20 rfl rfl)
theorem dX3_joins_47 : decode cX3_joins 47 = .ok (.goto (-35), 3) := dk_167 255 221 (dk_at dksX3_joins_2 0 rfl rfl)
theorem dX3_joins_50 : decode cX3_joins 50 = .ok (.return_, 1) := dk_177 (dk_at dksX3_joins_2 3 rfl rfl)
abbrev cX3_crawl : ByteArray := prog_11_method_53_code
def yX3_crawl : MethodName := ⟨RX3, "crawl", "(I)I"⟩
def dkwX3_crawl_3 : List UInt8 := [29, 172]
abbrev dktX3_crawl_3 : List UInt8 := dkwX3_crawl_3 ++ []
def dkwX3_crawl_2 : List UInt8 := [29, 42, 180, 0, 54, 21, 4, 51, 153, 0, 7, 4, 167, 0, 4, 3, 96, 62, 132, 4, 1, 167, 255, 226]
abbrev dktX3_crawl_2 : List UInt8 := dkwX3_crawl_2 ++ dktX3_crawl_3
def dkwX3_crawl_1 : List UInt8 := [158, 0, 5, 3, 172, 42, 28, 182, 0, 180, 3, 62, 3, 54, 4, 21, 4, 42, 180, 0, 132, 162, 0, 27]
abbrev dktX3_crawl_1 : List UInt8 := dkwX3_crawl_1 ++ dktX3_crawl_2
def dkwX3_crawl_0 : List UInt8 := [42, 27, 182, 0, 163, 61, 42, 28, 2, 160, 0, 7, 4, 167, 0, 4, 3, 181, 0, 121, 42, 180, 0, 121]
abbrev dktX3_crawl_0 : List UInt8 := dkwX3_crawl_0 ++ dktX3_crawl_1
theorem dksX3_crawl_0 : cX3_crawl.data.toList.drop 0 = dktX3_crawl_0 := by decide +kernel
theorem dksX3_crawl_1 : cX3_crawl.data.toList.drop 24 = dktX3_crawl_1 := dk_seg dksX3_crawl_0 24 rfl rfl
theorem dksX3_crawl_2 : cX3_crawl.data.toList.drop 48 = dktX3_crawl_2 := dk_seg dksX3_crawl_1 24 rfl rfl
theorem dksX3_crawl_3 : cX3_crawl.data.toList.drop 72 = dktX3_crawl_3 := dk_seg dksX3_crawl_2 24 rfl rfl
theorem dX3_crawl_0 : decode cX3_crawl 0 = .ok (.aload_n 0, 1) := dk_42 (dk_at dksX3_crawl_0 0 rfl rfl)
theorem dX3_crawl_1 : decode cX3_crawl 1 = .ok (.iload_n 1, 1) := dk_27 (dk_at dksX3_crawl_0 1 rfl rfl)
theorem dX3_crawl_2 : decode cX3_crawl 2 = .ok (.invokevirtual 163, 3) := dk_182 0 163 (dk_at dksX3_crawl_0 2 rfl rfl)
theorem dX3_crawl_5 : decode cX3_crawl 5 = .ok (.istore_n 2, 1) := dk_61 (dk_at dksX3_crawl_0 5 rfl rfl)
theorem dX3_crawl_6 : decode cX3_crawl 6 = .ok (.aload_n 0, 1) := dk_42 (dk_at dksX3_crawl_0 6 rfl rfl)
theorem dX3_crawl_7 : decode cX3_crawl 7 = .ok (.iload_n 2, 1) := dk_28 (dk_at dksX3_crawl_0 7 rfl rfl)
theorem dX3_crawl_8 : decode cX3_crawl 8 = .ok (.iconst (-1), 1) := dk_2 (dk_at dksX3_crawl_0 8 rfl rfl)
theorem dX3_crawl_9 : decode cX3_crawl 9 = .ok (.if_icmp .ne 7, 3) := dk_160 0 7 (dk_at dksX3_crawl_0 9 rfl rfl)
theorem dX3_crawl_12 : decode cX3_crawl 12 = .ok (.iconst 1, 1) := dk_4 (dk_at dksX3_crawl_0 12 rfl rfl)
theorem dX3_crawl_13 : decode cX3_crawl 13 = .ok (.goto 4, 3) := dk_167 0 4 (dk_at dksX3_crawl_0 13 rfl rfl)
theorem dX3_crawl_16 : decode cX3_crawl 16 = .ok (.iconst 0, 1) := dk_3 (dk_at dksX3_crawl_0 16 rfl rfl)
theorem dX3_crawl_17 : decode cX3_crawl 17 = .ok (.putfield 121, 3) := dk_181 0 121 (dk_at dksX3_crawl_0 17 rfl rfl)
theorem dX3_crawl_20 : decode cX3_crawl 20 = .ok (.aload_n 0, 1) := dk_42 (dk_at dksX3_crawl_0 20 rfl rfl)
theorem dX3_crawl_21 : decode cX3_crawl 21 = .ok (.getfield 121, 3) := dk_180 0 121 (dk_at dksX3_crawl_0 21 rfl rfl)
theorem dX3_crawl_24 : decode cX3_crawl 24 = .ok (.ifCond .le 5, 3) := dk_158 0 5 (dk_at dksX3_crawl_1 0 rfl rfl)
theorem dX3_crawl_27 : decode cX3_crawl 27 = .ok (.iconst 0, 1) := dk_3 (dk_at dksX3_crawl_1 3 rfl rfl)
theorem dX3_crawl_28 : decode cX3_crawl 28 = .ok (.ireturn, 1) := dk_172 (dk_at dksX3_crawl_1 4 rfl rfl)
theorem dX3_crawl_29 : decode cX3_crawl 29 = .ok (.aload_n 0, 1) := dk_42 (dk_at dksX3_crawl_1 5 rfl rfl)
theorem dX3_crawl_30 : decode cX3_crawl 30 = .ok (.iload_n 2, 1) := dk_28 (dk_at dksX3_crawl_1 6 rfl rfl)
theorem dX3_crawl_31 : decode cX3_crawl 31 = .ok (.invokevirtual 180, 3) := dk_182 0 180 (dk_at dksX3_crawl_1 7 rfl rfl)
theorem dX3_crawl_34 : decode cX3_crawl 34 = .ok (.iconst 0, 1) := dk_3 (dk_at dksX3_crawl_1 10 rfl rfl)
theorem dX3_crawl_35 : decode cX3_crawl 35 = .ok (.istore_n 3, 1) := dk_62 (dk_at dksX3_crawl_1 11 rfl rfl)
theorem dX3_crawl_36 : decode cX3_crawl 36 = .ok (.iconst 0, 1) := dk_3 (dk_at dksX3_crawl_1 12 rfl rfl)
theorem dX3_crawl_37 : decode cX3_crawl 37 = .ok (.istore 4, 2) := dk_54 4 (dk_at dksX3_crawl_1 13 rfl rfl)
theorem dX3_crawl_39 : decode cX3_crawl 39 = .ok (.iload 4, 2) := dk_21 4 (dk_at dksX3_crawl_1 15 rfl rfl)
theorem dX3_crawl_41 : decode cX3_crawl 41 = .ok (.aload_n 0, 1) := dk_42 (dk_at dksX3_crawl_1 17 rfl rfl)
theorem dX3_crawl_42 : decode cX3_crawl 42 = .ok (.getfield 132, 3) := dk_180 0 132 (dk_at dksX3_crawl_1 18 rfl rfl)
theorem dX3_crawl_45 : decode cX3_crawl 45 = .ok (.if_icmp .ge 27, 3) := dk_162 0 27 (dk_at dksX3_crawl_1 21 rfl rfl)
theorem dX3_crawl_48 : decode cX3_crawl 48 = .ok (.iload_n 3, 1) := dk_29 (dk_at dksX3_crawl_2 0 rfl rfl)
theorem dX3_crawl_49 : decode cX3_crawl 49 = .ok (.aload_n 0, 1) := dk_42 (dk_at dksX3_crawl_2 1 rfl rfl)
theorem dX3_crawl_50 : decode cX3_crawl 50 = .ok (.getfield 54, 3) := dk_180 0 54 (dk_at dksX3_crawl_2 2 rfl rfl)
theorem dX3_crawl_53 : decode cX3_crawl 53 = .ok (.iload 4, 2) := dk_21 4 (dk_at dksX3_crawl_2 5 rfl rfl)
theorem dX3_crawl_55 : decode cX3_crawl 55 = .ok (.baload, 1) := dk_51 (dk_at dksX3_crawl_2 7 rfl rfl)
theorem dX3_crawl_56 : decode cX3_crawl 56 = .ok (.ifCond .eq 7, 3) := dk_153 0 7 (dk_at dksX3_crawl_2 8 rfl rfl)
theorem dX3_crawl_59 : decode cX3_crawl 59 = .ok (.iconst 1, 1) := dk_4 (dk_at dksX3_crawl_2 11 rfl rfl)
theorem dX3_crawl_60 : decode cX3_crawl 60 = .ok (.goto 4, 3) := dk_167 0 4 (dk_at dksX3_crawl_2 12 rfl rfl)
theorem dX3_crawl_63 : decode cX3_crawl 63 = .ok (.iconst 0, 1) := dk_3 (dk_at dksX3_crawl_2 15 rfl rfl)
theorem dX3_crawl_64 : decode cX3_crawl 64 = .ok (.iadd, 1) := dk_96 (dk_at dksX3_crawl_2 16 rfl rfl)
theorem dX3_crawl_65 : decode cX3_crawl 65 = .ok (.istore_n 3, 1) := dk_62 (dk_at dksX3_crawl_2 17 rfl rfl)
theorem dX3_crawl_66 : decode cX3_crawl 66 = .ok (.iinc 4 1, 3) := dk_132 4 1 (dk_at dksX3_crawl_2 18 rfl rfl)
theorem dX3_crawl_69 : decode cX3_crawl 69 = .ok (.goto (-30), 3) := dk_167 255 226 (dk_at dksX3_crawl_2 21 rfl rfl)
theorem dX3_crawl_72 : decode cX3_crawl 72 = .ok (.iload_n 3, 1) := dk_29 (dk_at dksX3_crawl_3 0 rfl rfl)
theorem dX3_crawl_73 : decode cX3_crawl 73 = .ok (.ireturn, 1) := dk_172 (dk_at dksX3_crawl_3 1 rfl rfl)
abbrev cX3_acts_2 : ByteArray := prog_11_method_54_code
def yX3_acts_2 : MethodName := ⟨RX3, "acts", "()I"⟩
def dkwX3_acts_2_0 : List UInt8 := [42, 3, 181, 0, 121, 42, 180, 0, 183, 172]
abbrev dktX3_acts_2_0 : List UInt8 := dkwX3_acts_2_0 ++ []
theorem dksX3_acts_2_0 : cX3_acts_2.data.toList.drop 0 = dktX3_acts_2_0 := by decide +kernel
theorem dX3_acts_2_0 : decode cX3_acts_2 0 = .ok (.aload_n 0, 1) := dk_42 (dk_at dksX3_acts_2_0 0 rfl rfl)
theorem dX3_acts_2_1 : decode cX3_acts_2 1 = .ok (.iconst 0, 1) := dk_3 (dk_at dksX3_acts_2_0 1 rfl rfl)
theorem dX3_acts_2_2 : decode cX3_acts_2 2 = .ok (.putfield 121, 3) := dk_181 0 121 (dk_at dksX3_acts_2_0 2 rfl rfl)
theorem dX3_acts_2_5 : decode cX3_acts_2 5 = .ok (.aload_n 0, 1) := dk_42 (dk_at dksX3_acts_2_0 5 rfl rfl)
theorem dX3_acts_2_6 : decode cX3_acts_2 6 = .ok (.getfield 183, 3) := dk_180 0 183 (dk_at dksX3_acts_2_0 6 rfl rfl)
theorem dX3_acts_2_9 : decode cX3_acts_2 9 = .ok (.ireturn, 1) := dk_172 (dk_at dksX3_acts_2_0 9 rfl rfl)
abbrev cX3_isQuiet : ByteArray := prog_11_method_55_code
def yX3_isQuiet : MethodName := ⟨RX3, "isQuiet", "()Z"⟩
def dkwX3_isQuiet_1 : List UInt8 := [2, 160, 0, 7, 4, 167, 0, 4, 3, 172]
abbrev dktX3_isQuiet_1 : List UInt8 := dkwX3_isQuiet_1 ++ []
def dkwX3_isQuiet_0 : List UInt8 := [42, 3, 181, 0, 121, 42, 180, 0, 183, 154, 0, 23, 42, 182, 0, 219, 2, 160, 0, 15, 42, 182, 0, 226]
abbrev dktX3_isQuiet_0 : List UInt8 := dkwX3_isQuiet_0 ++ dktX3_isQuiet_1
theorem dksX3_isQuiet_0 : cX3_isQuiet.data.toList.drop 0 = dktX3_isQuiet_0 := by decide +kernel
theorem dksX3_isQuiet_1 : cX3_isQuiet.data.toList.drop 24 = dktX3_isQuiet_1 := dk_seg dksX3_isQuiet_0 24 rfl rfl
theorem dX3_isQuiet_0 : decode cX3_isQuiet 0 = .ok (.aload_n 0, 1) := dk_42 (dk_at dksX3_isQuiet_0 0 rfl rfl)
theorem dX3_isQuiet_1 : decode cX3_isQuiet 1 = .ok (.iconst 0, 1) := dk_3 (dk_at dksX3_isQuiet_0 1 rfl rfl)
theorem dX3_isQuiet_2 : decode cX3_isQuiet 2 = .ok (.putfield 121, 3) := dk_181 0 121 (dk_at dksX3_isQuiet_0 2 rfl rfl)
theorem dX3_isQuiet_5 : decode cX3_isQuiet 5 = .ok (.aload_n 0, 1) := dk_42 (dk_at dksX3_isQuiet_0 5 rfl rfl)
theorem dX3_isQuiet_6 : decode cX3_isQuiet 6 = .ok (.getfield 183, 3) := dk_180 0 183 (dk_at dksX3_isQuiet_0 6 rfl rfl)
theorem dX3_isQuiet_9 : decode cX3_isQuiet 9 = .ok (.ifCond .ne 23, 3) := dk_154 0 23 (dk_at dksX3_isQuiet_0 9 rfl rfl)
theorem dX3_isQuiet_12 : decode cX3_isQuiet 12 = .ok (.aload_n 0, 1) := dk_42 (dk_at dksX3_isQuiet_0 12 rfl rfl)
theorem dX3_isQuiet_13 : decode cX3_isQuiet 13 = .ok (.invokevirtual 219, 3) := dk_182 0 219 (dk_at dksX3_isQuiet_0 13 rfl rfl)
theorem dX3_isQuiet_16 : decode cX3_isQuiet 16 = .ok (.iconst (-1), 1) := dk_2 (dk_at dksX3_isQuiet_0 16 rfl rfl)
theorem dX3_isQuiet_17 : decode cX3_isQuiet 17 = .ok (.if_icmp .ne 15, 3) := dk_160 0 15 (dk_at dksX3_isQuiet_0 17 rfl rfl)
theorem dX3_isQuiet_20 : decode cX3_isQuiet 20 = .ok (.aload_n 0, 1) := dk_42 (dk_at dksX3_isQuiet_0 20 rfl rfl)
theorem dX3_isQuiet_21 : decode cX3_isQuiet 21 = .ok (.invokevirtual 226, 3) := dk_182 0 226 (dk_at dksX3_isQuiet_0 21 rfl rfl)
theorem dX3_isQuiet_24 : decode cX3_isQuiet 24 = .ok (.iconst (-1), 1) := dk_2 (dk_at dksX3_isQuiet_1 0 rfl rfl)
theorem dX3_isQuiet_25 : decode cX3_isQuiet 25 = .ok (.if_icmp .ne 7, 3) := dk_160 0 7 (dk_at dksX3_isQuiet_1 1 rfl rfl)
theorem dX3_isQuiet_28 : decode cX3_isQuiet 28 = .ok (.iconst 1, 1) := dk_4 (dk_at dksX3_isQuiet_1 4 rfl rfl)
theorem dX3_isQuiet_29 : decode cX3_isQuiet 29 = .ok (.goto 4, 3) := dk_167 0 4 (dk_at dksX3_isQuiet_1 5 rfl rfl)
theorem dX3_isQuiet_32 : decode cX3_isQuiet 32 = .ok (.iconst 0, 1) := dk_3 (dk_at dksX3_isQuiet_1 8 rfl rfl)
theorem dX3_isQuiet_33 : decode cX3_isQuiet 33 = .ok (.ireturn, 1) := dk_172 (dk_at dksX3_isQuiet_1 9 rfl rfl)
abbrev cX3_entries : ByteArray := prog_11_method_56_code
def yX3_entries : MethodName := ⟨RX3, "entries", "()I"⟩
def dkwX3_entries_1 : List UInt8 := [153, 0, 7, 4, 167, 0, 4, 3, 96, 60, 132, 2, 1, 167, 255, 228, 27, 172]
abbrev dktX3_entries_1 : List UInt8 := dkwX3_entries_1 ++ []
def dkwX3_entries_0 : List UInt8 := [42, 3, 181, 0, 121, 3, 60, 3, 61, 28, 42, 180, 0, 118, 162, 0, 26, 27, 42, 180, 0, 66, 28, 51]
abbrev dktX3_entries_0 : List UInt8 := dkwX3_entries_0 ++ dktX3_entries_1
theorem dksX3_entries_0 : cX3_entries.data.toList.drop 0 = dktX3_entries_0 := by decide +kernel
theorem dksX3_entries_1 : cX3_entries.data.toList.drop 24 = dktX3_entries_1 := dk_seg dksX3_entries_0 24 rfl rfl
theorem dX3_entries_0 : decode cX3_entries 0 = .ok (.aload_n 0, 1) := dk_42 (dk_at dksX3_entries_0 0 rfl rfl)
theorem dX3_entries_1 : decode cX3_entries 1 = .ok (.iconst 0, 1) := dk_3 (dk_at dksX3_entries_0 1 rfl rfl)
theorem dX3_entries_2 : decode cX3_entries 2 = .ok (.putfield 121, 3) := dk_181 0 121 (dk_at dksX3_entries_0 2 rfl rfl)
theorem dX3_entries_5 : decode cX3_entries 5 = .ok (.iconst 0, 1) := dk_3 (dk_at dksX3_entries_0 5 rfl rfl)
theorem dX3_entries_6 : decode cX3_entries 6 = .ok (.istore_n 1, 1) := dk_60 (dk_at dksX3_entries_0 6 rfl rfl)
theorem dX3_entries_7 : decode cX3_entries 7 = .ok (.iconst 0, 1) := dk_3 (dk_at dksX3_entries_0 7 rfl rfl)
theorem dX3_entries_8 : decode cX3_entries 8 = .ok (.istore_n 2, 1) := dk_61 (dk_at dksX3_entries_0 8 rfl rfl)
theorem dX3_entries_9 : decode cX3_entries 9 = .ok (.iload_n 2, 1) := dk_28 (dk_at dksX3_entries_0 9 rfl rfl)
theorem dX3_entries_10 : decode cX3_entries 10 = .ok (.aload_n 0, 1) := dk_42 (dk_at dksX3_entries_0 10 rfl rfl)
theorem dX3_entries_11 : decode cX3_entries 11 = .ok (.getfield 118, 3) := dk_180 0 118 (dk_at dksX3_entries_0 11 rfl rfl)
theorem dX3_entries_14 : decode cX3_entries 14 = .ok (.if_icmp .ge 26, 3) := dk_162 0 26 (dk_at dksX3_entries_0 14 rfl rfl)
theorem dX3_entries_17 : decode cX3_entries 17 = .ok (.iload_n 1, 1) := dk_27 (dk_at dksX3_entries_0 17 rfl rfl)
theorem dX3_entries_18 : decode cX3_entries 18 = .ok (.aload_n 0, 1) := dk_42 (dk_at dksX3_entries_0 18 rfl rfl)
theorem dX3_entries_19 : decode cX3_entries 19 = .ok (.getfield 66, 3) := dk_180 0 66 (dk_at dksX3_entries_0 19 rfl rfl)
theorem dX3_entries_22 : decode cX3_entries 22 = .ok (.iload_n 2, 1) := dk_28 (dk_at dksX3_entries_0 22 rfl rfl)
theorem dX3_entries_23 : decode cX3_entries 23 = .ok (.baload, 1) := dk_51 (dk_at dksX3_entries_0 23 rfl rfl)
theorem dX3_entries_24 : decode cX3_entries 24 = .ok (.ifCond .eq 7, 3) := dk_153 0 7 (dk_at dksX3_entries_1 0 rfl rfl)
theorem dX3_entries_27 : decode cX3_entries 27 = .ok (.iconst 1, 1) := dk_4 (dk_at dksX3_entries_1 3 rfl rfl)
theorem dX3_entries_28 : decode cX3_entries 28 = .ok (.goto 4, 3) := dk_167 0 4 (dk_at dksX3_entries_1 4 rfl rfl)
theorem dX3_entries_31 : decode cX3_entries 31 = .ok (.iconst 0, 1) := dk_3 (dk_at dksX3_entries_1 7 rfl rfl)
theorem dX3_entries_32 : decode cX3_entries 32 = .ok (.iadd, 1) := dk_96 (dk_at dksX3_entries_1 8 rfl rfl)
theorem dX3_entries_33 : decode cX3_entries 33 = .ok (.istore_n 1, 1) := dk_60 (dk_at dksX3_entries_1 9 rfl rfl)
theorem dX3_entries_34 : decode cX3_entries 34 = .ok (.iinc 2 1, 3) := dk_132 2 1 (dk_at dksX3_entries_1 10 rfl rfl)
theorem dX3_entries_37 : decode cX3_entries 37 = .ok (.goto (-28), 3) := dk_167 255 228 (dk_at dksX3_entries_1 13 rfl rfl)
theorem dX3_entries_40 : decode cX3_entries 40 = .ok (.iload_n 1, 1) := dk_27 (dk_at dksX3_entries_1 16 rfl rfl)
theorem dX3_entries_41 : decode cX3_entries 41 = .ok (.ireturn, 1) := dk_172 (dk_at dksX3_entries_1 17 rfl rfl)
abbrev cX3_edition : ByteArray := prog_11_method_57_code
def yX3_edition : MethodName := ⟨RX3, "edition", "(I)I"⟩
def dkwX3_edition_2 : List UInt8 := [46, 167, 0, 4, 2, 172]
abbrev dktX3_edition_2 : List UInt8 := dkwX3_edition_2 ++ []
def dkwX3_edition_1 : List UInt8 := [180, 0, 121, 158, 0, 7, 3, 167, 0, 22, 42, 180, 0, 66, 27, 51, 153, 0, 12, 42, 180, 0, 75, 27]
abbrev dktX3_edition_1 : List UInt8 := dkwX3_edition_1 ++ dktX3_edition_2
def dkwX3_edition_0 : List UInt8 := [42, 27, 3, 42, 180, 0, 118, 4, 100, 184, 0, 124, 153, 0, 7, 3, 167, 0, 4, 4, 181, 0, 121, 42]
abbrev dktX3_edition_0 : List UInt8 := dkwX3_edition_0 ++ dktX3_edition_1
theorem dksX3_edition_0 : cX3_edition.data.toList.drop 0 = dktX3_edition_0 := by decide +kernel
theorem dksX3_edition_1 : cX3_edition.data.toList.drop 24 = dktX3_edition_1 := dk_seg dksX3_edition_0 24 rfl rfl
theorem dksX3_edition_2 : cX3_edition.data.toList.drop 48 = dktX3_edition_2 := dk_seg dksX3_edition_1 24 rfl rfl
theorem dX3_edition_0 : decode cX3_edition 0 = .ok (.aload_n 0, 1) := dk_42 (dk_at dksX3_edition_0 0 rfl rfl)
theorem dX3_edition_1 : decode cX3_edition 1 = .ok (.iload_n 1, 1) := dk_27 (dk_at dksX3_edition_0 1 rfl rfl)
theorem dX3_edition_2 : decode cX3_edition 2 = .ok (.iconst 0, 1) := dk_3 (dk_at dksX3_edition_0 2 rfl rfl)
theorem dX3_edition_3 : decode cX3_edition 3 = .ok (.aload_n 0, 1) := dk_42 (dk_at dksX3_edition_0 3 rfl rfl)
theorem dX3_edition_4 : decode cX3_edition 4 = .ok (.getfield 118, 3) := dk_180 0 118 (dk_at dksX3_edition_0 4 rfl rfl)
theorem dX3_edition_7 : decode cX3_edition 7 = .ok (.iconst 1, 1) := dk_4 (dk_at dksX3_edition_0 7 rfl rfl)
theorem dX3_edition_8 : decode cX3_edition 8 = .ok (.isub, 1) := dk_100 (dk_at dksX3_edition_0 8 rfl rfl)
theorem dX3_edition_9 : decode cX3_edition 9 = .ok (.invokestatic 124, 3) := dk_184 0 124 (dk_at dksX3_edition_0 9 rfl rfl)
theorem dX3_edition_12 : decode cX3_edition 12 = .ok (.ifCond .eq 7, 3) := dk_153 0 7 (dk_at dksX3_edition_0 12 rfl rfl)
theorem dX3_edition_15 : decode cX3_edition 15 = .ok (.iconst 0, 1) := dk_3 (dk_at dksX3_edition_0 15 rfl rfl)
theorem dX3_edition_16 : decode cX3_edition 16 = .ok (.goto 4, 3) := dk_167 0 4 (dk_at dksX3_edition_0 16 rfl rfl)
theorem dX3_edition_19 : decode cX3_edition 19 = .ok (.iconst 1, 1) := dk_4 (dk_at dksX3_edition_0 19 rfl rfl)
theorem dX3_edition_20 : decode cX3_edition 20 = .ok (.putfield 121, 3) := dk_181 0 121 (dk_at dksX3_edition_0 20 rfl rfl)
theorem dX3_edition_23 : decode cX3_edition 23 = .ok (.aload_n 0, 1) := dk_42 (dk_at dksX3_edition_0 23 rfl rfl)
theorem dX3_edition_24 : decode cX3_edition 24 = .ok (.getfield 121, 3) := dk_180 0 121 (dk_at dksX3_edition_1 0 rfl rfl)
theorem dX3_edition_27 : decode cX3_edition 27 = .ok (.ifCond .le 7, 3) := dk_158 0 7 (dk_at dksX3_edition_1 3 rfl rfl)
theorem dX3_edition_30 : decode cX3_edition 30 = .ok (.iconst 0, 1) := dk_3 (dk_at dksX3_edition_1 6 rfl rfl)
theorem dX3_edition_31 : decode cX3_edition 31 = .ok (.goto 22, 3) := dk_167 0 22 (dk_at dksX3_edition_1 7 rfl rfl)
theorem dX3_edition_34 : decode cX3_edition 34 = .ok (.aload_n 0, 1) := dk_42 (dk_at dksX3_edition_1 10 rfl rfl)
theorem dX3_edition_35 : decode cX3_edition 35 = .ok (.getfield 66, 3) := dk_180 0 66 (dk_at dksX3_edition_1 11 rfl rfl)
theorem dX3_edition_38 : decode cX3_edition 38 = .ok (.iload_n 1, 1) := dk_27 (dk_at dksX3_edition_1 14 rfl rfl)
theorem dX3_edition_39 : decode cX3_edition 39 = .ok (.baload, 1) := dk_51 (dk_at dksX3_edition_1 15 rfl rfl)
theorem dX3_edition_40 : decode cX3_edition 40 = .ok (.ifCond .eq 12, 3) := dk_153 0 12 (dk_at dksX3_edition_1 16 rfl rfl)
theorem dX3_edition_43 : decode cX3_edition 43 = .ok (.aload_n 0, 1) := dk_42 (dk_at dksX3_edition_1 19 rfl rfl)
theorem dX3_edition_44 : decode cX3_edition 44 = .ok (.getfield 75, 3) := dk_180 0 75 (dk_at dksX3_edition_1 20 rfl rfl)
theorem dX3_edition_47 : decode cX3_edition 47 = .ok (.iload_n 1, 1) := dk_27 (dk_at dksX3_edition_1 23 rfl rfl)
theorem dX3_edition_48 : decode cX3_edition 48 = .ok (.iaload, 1) := dk_46 (dk_at dksX3_edition_2 0 rfl rfl)
theorem dX3_edition_49 : decode cX3_edition 49 = .ok (.goto 4, 3) := dk_167 0 4 (dk_at dksX3_edition_2 1 rfl rfl)
theorem dX3_edition_52 : decode cX3_edition 52 = .ok (.iconst (-1), 1) := dk_2 (dk_at dksX3_edition_2 4 rfl rfl)
theorem dX3_edition_53 : decode cX3_edition 53 = .ok (.ireturn, 1) := dk_172 (dk_at dksX3_edition_2 5 rfl rfl)
abbrev cX3_stale : ByteArray := prog_11_method_58_code
def yX3_stale : MethodName := ⟨RX3, "stale", "()I"⟩
def dkwX3_stale_3 : List UInt8 := [29, 154, 0, 7, 4, 167, 0, 4, 3, 96, 60, 132, 2, 1, 167, 255, 180, 27, 172]
abbrev dktX3_stale_3 : List UInt8 := dkwX3_stale_3 ++ []
def dkwX3_stale_2 : List UInt8 := [28, 182, 0, 213, 154, 0, 7, 4, 167, 0, 4, 3, 96, 60, 27, 42, 180, 0, 66, 28, 51, 153, 0, 11]
abbrev dktX3_stale_2 : List UInt8 := dkwX3_stale_2 ++ dktX3_stale_3
def dkwX3_stale_1 : List UInt8 := [159, 0, 7, 4, 167, 0, 4, 3, 62, 27, 29, 153, 0, 24, 42, 180, 0, 13, 28, 51, 154, 0, 15, 42]
abbrev dktX3_stale_1 : List UInt8 := dkwX3_stale_1 ++ dktX3_stale_2
def dkwX3_stale_0 : List UInt8 := [42, 3, 181, 0, 121, 3, 60, 3, 61, 28, 42, 180, 0, 118, 162, 0, 74, 42, 28, 182, 0, 150, 2]
abbrev dktX3_stale_0 : List UInt8 := dkwX3_stale_0 ++ dktX3_stale_1
theorem dksX3_stale_0 : cX3_stale.data.toList.drop 0 = dktX3_stale_0 := by decide +kernel
theorem dksX3_stale_1 : cX3_stale.data.toList.drop 23 = dktX3_stale_1 := dk_seg dksX3_stale_0 23 rfl rfl
theorem dksX3_stale_2 : cX3_stale.data.toList.drop 47 = dktX3_stale_2 := dk_seg dksX3_stale_1 24 rfl rfl
theorem dksX3_stale_3 : cX3_stale.data.toList.drop 71 = dktX3_stale_3 := dk_seg dksX3_stale_2 24 rfl rfl
theorem dX3_stale_0 : decode cX3_stale 0 = .ok (.aload_n 0, 1) := dk_42 (dk_at dksX3_stale_0 0 rfl rfl)
theorem dX3_stale_1 : decode cX3_stale 1 = .ok (.iconst 0, 1) := dk_3 (dk_at dksX3_stale_0 1 rfl rfl)
theorem dX3_stale_2 : decode cX3_stale 2 = .ok (.putfield 121, 3) := dk_181 0 121 (dk_at dksX3_stale_0 2 rfl rfl)
theorem dX3_stale_5 : decode cX3_stale 5 = .ok (.iconst 0, 1) := dk_3 (dk_at dksX3_stale_0 5 rfl rfl)
theorem dX3_stale_6 : decode cX3_stale 6 = .ok (.istore_n 1, 1) := dk_60 (dk_at dksX3_stale_0 6 rfl rfl)
theorem dX3_stale_7 : decode cX3_stale 7 = .ok (.iconst 0, 1) := dk_3 (dk_at dksX3_stale_0 7 rfl rfl)
theorem dX3_stale_8 : decode cX3_stale 8 = .ok (.istore_n 2, 1) := dk_61 (dk_at dksX3_stale_0 8 rfl rfl)
theorem dX3_stale_9 : decode cX3_stale 9 = .ok (.iload_n 2, 1) := dk_28 (dk_at dksX3_stale_0 9 rfl rfl)
theorem dX3_stale_10 : decode cX3_stale 10 = .ok (.aload_n 0, 1) := dk_42 (dk_at dksX3_stale_0 10 rfl rfl)
theorem dX3_stale_11 : decode cX3_stale 11 = .ok (.getfield 118, 3) := dk_180 0 118 (dk_at dksX3_stale_0 11 rfl rfl)
theorem dX3_stale_14 : decode cX3_stale 14 = .ok (.if_icmp .ge 74, 3) := dk_162 0 74 (dk_at dksX3_stale_0 14 rfl rfl)
theorem dX3_stale_17 : decode cX3_stale 17 = .ok (.aload_n 0, 1) := dk_42 (dk_at dksX3_stale_0 17 rfl rfl)
theorem dX3_stale_18 : decode cX3_stale 18 = .ok (.iload_n 2, 1) := dk_28 (dk_at dksX3_stale_0 18 rfl rfl)
theorem dX3_stale_19 : decode cX3_stale 19 = .ok (.invokevirtual 150, 3) := dk_182 0 150 (dk_at dksX3_stale_0 19 rfl rfl)
theorem dX3_stale_22 : decode cX3_stale 22 = .ok (.iconst (-1), 1) := dk_2 (dk_at dksX3_stale_0 22 rfl rfl)
theorem dX3_stale_23 : decode cX3_stale 23 = .ok (.if_icmp .eq 7, 3) := dk_159 0 7 (dk_at dksX3_stale_1 0 rfl rfl)
theorem dX3_stale_26 : decode cX3_stale 26 = .ok (.iconst 1, 1) := dk_4 (dk_at dksX3_stale_1 3 rfl rfl)
theorem dX3_stale_27 : decode cX3_stale 27 = .ok (.goto 4, 3) := dk_167 0 4 (dk_at dksX3_stale_1 4 rfl rfl)
theorem dX3_stale_30 : decode cX3_stale 30 = .ok (.iconst 0, 1) := dk_3 (dk_at dksX3_stale_1 7 rfl rfl)
theorem dX3_stale_31 : decode cX3_stale 31 = .ok (.istore_n 3, 1) := dk_62 (dk_at dksX3_stale_1 8 rfl rfl)
theorem dX3_stale_32 : decode cX3_stale 32 = .ok (.iload_n 1, 1) := dk_27 (dk_at dksX3_stale_1 9 rfl rfl)
theorem dX3_stale_33 : decode cX3_stale 33 = .ok (.iload_n 3, 1) := dk_29 (dk_at dksX3_stale_1 10 rfl rfl)
theorem dX3_stale_34 : decode cX3_stale 34 = .ok (.ifCond .eq 24, 3) := dk_153 0 24 (dk_at dksX3_stale_1 11 rfl rfl)
theorem dX3_stale_37 : decode cX3_stale 37 = .ok (.aload_n 0, 1) := dk_42 (dk_at dksX3_stale_1 14 rfl rfl)
theorem dX3_stale_38 : decode cX3_stale 38 = .ok (.getfield 13, 3) := dk_180 0 13 (dk_at dksX3_stale_1 15 rfl rfl)
theorem dX3_stale_41 : decode cX3_stale 41 = .ok (.iload_n 2, 1) := dk_28 (dk_at dksX3_stale_1 18 rfl rfl)
theorem dX3_stale_42 : decode cX3_stale 42 = .ok (.baload, 1) := dk_51 (dk_at dksX3_stale_1 19 rfl rfl)
theorem dX3_stale_43 : decode cX3_stale 43 = .ok (.ifCond .ne 15, 3) := dk_154 0 15 (dk_at dksX3_stale_1 20 rfl rfl)
theorem dX3_stale_46 : decode cX3_stale 46 = .ok (.aload_n 0, 1) := dk_42 (dk_at dksX3_stale_1 23 rfl rfl)
theorem dX3_stale_47 : decode cX3_stale 47 = .ok (.iload_n 2, 1) := dk_28 (dk_at dksX3_stale_2 0 rfl rfl)
theorem dX3_stale_48 : decode cX3_stale 48 = .ok (.invokevirtual 213, 3) := dk_182 0 213 (dk_at dksX3_stale_2 1 rfl rfl)
theorem dX3_stale_51 : decode cX3_stale 51 = .ok (.ifCond .ne 7, 3) := dk_154 0 7 (dk_at dksX3_stale_2 4 rfl rfl)
theorem dX3_stale_54 : decode cX3_stale 54 = .ok (.iconst 1, 1) := dk_4 (dk_at dksX3_stale_2 7 rfl rfl)
theorem dX3_stale_55 : decode cX3_stale 55 = .ok (.goto 4, 3) := dk_167 0 4 (dk_at dksX3_stale_2 8 rfl rfl)
theorem dX3_stale_58 : decode cX3_stale 58 = .ok (.iconst 0, 1) := dk_3 (dk_at dksX3_stale_2 11 rfl rfl)
theorem dX3_stale_59 : decode cX3_stale 59 = .ok (.iadd, 1) := dk_96 (dk_at dksX3_stale_2 12 rfl rfl)
theorem dX3_stale_60 : decode cX3_stale 60 = .ok (.istore_n 1, 1) := dk_60 (dk_at dksX3_stale_2 13 rfl rfl)
theorem dX3_stale_61 : decode cX3_stale 61 = .ok (.iload_n 1, 1) := dk_27 (dk_at dksX3_stale_2 14 rfl rfl)
theorem dX3_stale_62 : decode cX3_stale 62 = .ok (.aload_n 0, 1) := dk_42 (dk_at dksX3_stale_2 15 rfl rfl)
theorem dX3_stale_63 : decode cX3_stale 63 = .ok (.getfield 66, 3) := dk_180 0 66 (dk_at dksX3_stale_2 16 rfl rfl)
theorem dX3_stale_66 : decode cX3_stale 66 = .ok (.iload_n 2, 1) := dk_28 (dk_at dksX3_stale_2 19 rfl rfl)
theorem dX3_stale_67 : decode cX3_stale 67 = .ok (.baload, 1) := dk_51 (dk_at dksX3_stale_2 20 rfl rfl)
theorem dX3_stale_68 : decode cX3_stale 68 = .ok (.ifCond .eq 11, 3) := dk_153 0 11 (dk_at dksX3_stale_2 21 rfl rfl)
theorem dX3_stale_71 : decode cX3_stale 71 = .ok (.iload_n 3, 1) := dk_29 (dk_at dksX3_stale_3 0 rfl rfl)
theorem dX3_stale_72 : decode cX3_stale 72 = .ok (.ifCond .ne 7, 3) := dk_154 0 7 (dk_at dksX3_stale_3 1 rfl rfl)
theorem dX3_stale_75 : decode cX3_stale 75 = .ok (.iconst 1, 1) := dk_4 (dk_at dksX3_stale_3 4 rfl rfl)
theorem dX3_stale_76 : decode cX3_stale 76 = .ok (.goto 4, 3) := dk_167 0 4 (dk_at dksX3_stale_3 5 rfl rfl)
theorem dX3_stale_79 : decode cX3_stale 79 = .ok (.iconst 0, 1) := dk_3 (dk_at dksX3_stale_3 8 rfl rfl)
theorem dX3_stale_80 : decode cX3_stale 80 = .ok (.iadd, 1) := dk_96 (dk_at dksX3_stale_3 9 rfl rfl)
theorem dX3_stale_81 : decode cX3_stale 81 = .ok (.istore_n 1, 1) := dk_60 (dk_at dksX3_stale_3 10 rfl rfl)
theorem dX3_stale_82 : decode cX3_stale 82 = .ok (.iinc 2 1, 3) := dk_132 2 1 (dk_at dksX3_stale_3 11 rfl rfl)
theorem dX3_stale_85 : decode cX3_stale 85 = .ok (.goto (-76), 3) := dk_167 255 180 (dk_at dksX3_stale_3 14 rfl rfl)
theorem dX3_stale_88 : decode cX3_stale 88 = .ok (.iload_n 1, 1) := dk_27 (dk_at dksX3_stale_3 17 rfl rfl)
theorem dX3_stale_89 : decode cX3_stale 89 = .ok (.ireturn, 1) := dk_172 (dk_at dksX3_stale_3 18 rfl rfl)
abbrev cX3_segments : ByteArray := prog_11_method_64_code
def yX3_segments : MethodName := ⟨RX3, "segments", "()I"⟩
def dkwX3_segments_0 : List UInt8 := [42, 3, 181, 0, 121, 42, 180, 1, 8, 172]
abbrev dktX3_segments_0 : List UInt8 := dkwX3_segments_0 ++ []
theorem dksX3_segments_0 : cX3_segments.data.toList.drop 0 = dktX3_segments_0 := by decide +kernel
theorem dX3_segments_0 : decode cX3_segments 0 = .ok (.aload_n 0, 1) := dk_42 (dk_at dksX3_segments_0 0 rfl rfl)
theorem dX3_segments_1 : decode cX3_segments 1 = .ok (.iconst 0, 1) := dk_3 (dk_at dksX3_segments_0 1 rfl rfl)
theorem dX3_segments_2 : decode cX3_segments 2 = .ok (.putfield 121, 3) := dk_181 0 121 (dk_at dksX3_segments_0 2 rfl rfl)
theorem dX3_segments_5 : decode cX3_segments 5 = .ok (.aload_n 0, 1) := dk_42 (dk_at dksX3_segments_0 5 rfl rfl)
theorem dX3_segments_6 : decode cX3_segments 6 = .ok (.getfield 264, 3) := dk_180 1 8 (dk_at dksX3_segments_0 6 rfl rfl)
theorem dX3_segments_9 : decode cX3_segments 9 = .ok (.ireturn, 1) := dk_172 (dk_at dksX3_segments_0 9 rfl rfl)
abbrev cX3_dead : ByteArray := prog_11_method_65_code
def yX3_dead : MethodName := ⟨RX3, "dead", "()I"⟩
def dkwX3_dead_1 : List UInt8 := [153, 0, 7, 4, 167, 0, 4, 3, 96, 60, 132, 2, 1, 167, 255, 228, 27, 172]
abbrev dktX3_dead_1 : List UInt8 := dkwX3_dead_1 ++ []
def dkwX3_dead_0 : List UInt8 := [42, 3, 181, 0, 121, 3, 60, 3, 61, 28, 42, 180, 0, 192, 162, 0, 26, 27, 42, 180, 0, 106, 28, 51]
abbrev dktX3_dead_0 : List UInt8 := dkwX3_dead_0 ++ dktX3_dead_1
theorem dksX3_dead_0 : cX3_dead.data.toList.drop 0 = dktX3_dead_0 := by decide +kernel
theorem dksX3_dead_1 : cX3_dead.data.toList.drop 24 = dktX3_dead_1 := dk_seg dksX3_dead_0 24 rfl rfl
theorem dX3_dead_0 : decode cX3_dead 0 = .ok (.aload_n 0, 1) := dk_42 (dk_at dksX3_dead_0 0 rfl rfl)
theorem dX3_dead_1 : decode cX3_dead 1 = .ok (.iconst 0, 1) := dk_3 (dk_at dksX3_dead_0 1 rfl rfl)
theorem dX3_dead_2 : decode cX3_dead 2 = .ok (.putfield 121, 3) := dk_181 0 121 (dk_at dksX3_dead_0 2 rfl rfl)
theorem dX3_dead_5 : decode cX3_dead 5 = .ok (.iconst 0, 1) := dk_3 (dk_at dksX3_dead_0 5 rfl rfl)
theorem dX3_dead_6 : decode cX3_dead 6 = .ok (.istore_n 1, 1) := dk_60 (dk_at dksX3_dead_0 6 rfl rfl)
theorem dX3_dead_7 : decode cX3_dead 7 = .ok (.iconst 0, 1) := dk_3 (dk_at dksX3_dead_0 7 rfl rfl)
theorem dX3_dead_8 : decode cX3_dead 8 = .ok (.istore_n 2, 1) := dk_61 (dk_at dksX3_dead_0 8 rfl rfl)
theorem dX3_dead_9 : decode cX3_dead 9 = .ok (.iload_n 2, 1) := dk_28 (dk_at dksX3_dead_0 9 rfl rfl)
theorem dX3_dead_10 : decode cX3_dead 10 = .ok (.aload_n 0, 1) := dk_42 (dk_at dksX3_dead_0 10 rfl rfl)
theorem dX3_dead_11 : decode cX3_dead 11 = .ok (.getfield 192, 3) := dk_180 0 192 (dk_at dksX3_dead_0 11 rfl rfl)
theorem dX3_dead_14 : decode cX3_dead 14 = .ok (.if_icmp .ge 26, 3) := dk_162 0 26 (dk_at dksX3_dead_0 14 rfl rfl)
theorem dX3_dead_17 : decode cX3_dead 17 = .ok (.iload_n 1, 1) := dk_27 (dk_at dksX3_dead_0 17 rfl rfl)
theorem dX3_dead_18 : decode cX3_dead 18 = .ok (.aload_n 0, 1) := dk_42 (dk_at dksX3_dead_0 18 rfl rfl)
theorem dX3_dead_19 : decode cX3_dead 19 = .ok (.getfield 106, 3) := dk_180 0 106 (dk_at dksX3_dead_0 19 rfl rfl)
theorem dX3_dead_22 : decode cX3_dead 22 = .ok (.iload_n 2, 1) := dk_28 (dk_at dksX3_dead_0 22 rfl rfl)
theorem dX3_dead_23 : decode cX3_dead 23 = .ok (.baload, 1) := dk_51 (dk_at dksX3_dead_0 23 rfl rfl)
theorem dX3_dead_24 : decode cX3_dead 24 = .ok (.ifCond .eq 7, 3) := dk_153 0 7 (dk_at dksX3_dead_1 0 rfl rfl)
theorem dX3_dead_27 : decode cX3_dead 27 = .ok (.iconst 1, 1) := dk_4 (dk_at dksX3_dead_1 3 rfl rfl)
theorem dX3_dead_28 : decode cX3_dead 28 = .ok (.goto 4, 3) := dk_167 0 4 (dk_at dksX3_dead_1 4 rfl rfl)
theorem dX3_dead_31 : decode cX3_dead 31 = .ok (.iconst 0, 1) := dk_3 (dk_at dksX3_dead_1 7 rfl rfl)
theorem dX3_dead_32 : decode cX3_dead 32 = .ok (.iadd, 1) := dk_96 (dk_at dksX3_dead_1 8 rfl rfl)
theorem dX3_dead_33 : decode cX3_dead 33 = .ok (.istore_n 1, 1) := dk_60 (dk_at dksX3_dead_1 9 rfl rfl)
theorem dX3_dead_34 : decode cX3_dead 34 = .ok (.iinc 2 1, 3) := dk_132 2 1 (dk_at dksX3_dead_1 10 rfl rfl)
theorem dX3_dead_37 : decode cX3_dead 37 = .ok (.goto (-28), 3) := dk_167 255 228 (dk_at dksX3_dead_1 13 rfl rfl)
theorem dX3_dead_40 : decode cX3_dead 40 = .ok (.iload_n 1, 1) := dk_27 (dk_at dksX3_dead_1 16 rfl rfl)
theorem dX3_dead_41 : decode cX3_dead 41 = .ok (.ireturn, 1) := dk_172 (dk_at dksX3_dead_1 17 rfl rfl)
abbrev cX3_answers : ByteArray := prog_11_method_72_code
def yX3_answers : MethodName := ⟨RX3, "answers", "(IIII)I"⟩
def dkwX3_answers_2 : List UInt8 := [4, 167, 0, 4, 3, 96, 54, 6, 132, 7, 1, 167, 255, 215, 21, 6, 172]
abbrev dktX3_answers_2 : List UInt8 := dkwX3_answers_2 ++ []
def dkwX3_answers_1 : List UInt8 := [162, 0, 38, 21, 5, 153, 0, 33, 21, 6, 42, 21, 7, 27, 28, 29, 21, 4, 182, 1, 35, 153, 0, 7]
abbrev dktX3_answers_1 : List UInt8 := dkwX3_answers_1 ++ dktX3_answers_2
def dkwX3_answers_0 : List UInt8 := [42, 27, 28, 29, 21, 4, 182, 1, 31, 54, 5, 3, 54, 6, 3, 54, 7, 21, 7, 42, 180, 0, 118]
abbrev dktX3_answers_0 : List UInt8 := dkwX3_answers_0 ++ dktX3_answers_1
theorem dksX3_answers_0 : cX3_answers.data.toList.drop 0 = dktX3_answers_0 := by decide +kernel
theorem dksX3_answers_1 : cX3_answers.data.toList.drop 23 = dktX3_answers_1 := dk_seg dksX3_answers_0 23 rfl rfl
theorem dksX3_answers_2 : cX3_answers.data.toList.drop 47 = dktX3_answers_2 := dk_seg dksX3_answers_1 24 rfl rfl
theorem dX3_answers_0 : decode cX3_answers 0 = .ok (.aload_n 0, 1) := dk_42 (dk_at dksX3_answers_0 0 rfl rfl)
theorem dX3_answers_1 : decode cX3_answers 1 = .ok (.iload_n 1, 1) := dk_27 (dk_at dksX3_answers_0 1 rfl rfl)
theorem dX3_answers_2 : decode cX3_answers 2 = .ok (.iload_n 2, 1) := dk_28 (dk_at dksX3_answers_0 2 rfl rfl)
theorem dX3_answers_3 : decode cX3_answers 3 = .ok (.iload_n 3, 1) := dk_29 (dk_at dksX3_answers_0 3 rfl rfl)
theorem dX3_answers_4 : decode cX3_answers 4 = .ok (.iload 4, 2) := dk_21 4 (dk_at dksX3_answers_0 4 rfl rfl)
theorem dX3_answers_6 : decode cX3_answers 6 = .ok (.invokevirtual 287, 3) := dk_182 1 31 (dk_at dksX3_answers_0 6 rfl rfl)
theorem dX3_answers_9 : decode cX3_answers 9 = .ok (.istore 5, 2) := dk_54 5 (dk_at dksX3_answers_0 9 rfl rfl)
theorem dX3_answers_11 : decode cX3_answers 11 = .ok (.iconst 0, 1) := dk_3 (dk_at dksX3_answers_0 11 rfl rfl)
theorem dX3_answers_12 : decode cX3_answers 12 = .ok (.istore 6, 2) := dk_54 6 (dk_at dksX3_answers_0 12 rfl rfl)
theorem dX3_answers_14 : decode cX3_answers 14 = .ok (.iconst 0, 1) := dk_3 (dk_at dksX3_answers_0 14 rfl rfl)
theorem dX3_answers_15 : decode cX3_answers 15 = .ok (.istore 7, 2) := dk_54 7 (dk_at dksX3_answers_0 15 rfl rfl)
theorem dX3_answers_17 : decode cX3_answers 17 = .ok (.iload 7, 2) := dk_21 7 (dk_at dksX3_answers_0 17 rfl rfl)
theorem dX3_answers_19 : decode cX3_answers 19 = .ok (.aload_n 0, 1) := dk_42 (dk_at dksX3_answers_0 19 rfl rfl)
theorem dX3_answers_20 : decode cX3_answers 20 = .ok (.getfield 118, 3) := dk_180 0 118 (dk_at dksX3_answers_0 20 rfl rfl)
theorem dX3_answers_23 : decode cX3_answers 23 = .ok (.if_icmp .ge 38, 3) := dk_162 0 38 (dk_at dksX3_answers_1 0 rfl rfl)
theorem dX3_answers_26 : decode cX3_answers 26 = .ok (.iload 5, 2) := dk_21 5 (dk_at dksX3_answers_1 3 rfl rfl)
theorem dX3_answers_28 : decode cX3_answers 28 = .ok (.ifCond .eq 33, 3) := dk_153 0 33 (dk_at dksX3_answers_1 5 rfl rfl)
theorem dX3_answers_31 : decode cX3_answers 31 = .ok (.iload 6, 2) := dk_21 6 (dk_at dksX3_answers_1 8 rfl rfl)
theorem dX3_answers_33 : decode cX3_answers 33 = .ok (.aload_n 0, 1) := dk_42 (dk_at dksX3_answers_1 10 rfl rfl)
theorem dX3_answers_34 : decode cX3_answers 34 = .ok (.iload 7, 2) := dk_21 7 (dk_at dksX3_answers_1 11 rfl rfl)
theorem dX3_answers_36 : decode cX3_answers 36 = .ok (.iload_n 1, 1) := dk_27 (dk_at dksX3_answers_1 13 rfl rfl)
theorem dX3_answers_37 : decode cX3_answers 37 = .ok (.iload_n 2, 1) := dk_28 (dk_at dksX3_answers_1 14 rfl rfl)
theorem dX3_answers_38 : decode cX3_answers 38 = .ok (.iload_n 3, 1) := dk_29 (dk_at dksX3_answers_1 15 rfl rfl)
theorem dX3_answers_39 : decode cX3_answers 39 = .ok (.iload 4, 2) := dk_21 4 (dk_at dksX3_answers_1 16 rfl rfl)
theorem dX3_answers_41 : decode cX3_answers 41 = .ok (.invokevirtual 291, 3) := dk_182 1 35 (dk_at dksX3_answers_1 18 rfl rfl)
theorem dX3_answers_44 : decode cX3_answers 44 = .ok (.ifCond .eq 7, 3) := dk_153 0 7 (dk_at dksX3_answers_1 21 rfl rfl)
theorem dX3_answers_47 : decode cX3_answers 47 = .ok (.iconst 1, 1) := dk_4 (dk_at dksX3_answers_2 0 rfl rfl)
theorem dX3_answers_48 : decode cX3_answers 48 = .ok (.goto 4, 3) := dk_167 0 4 (dk_at dksX3_answers_2 1 rfl rfl)
theorem dX3_answers_51 : decode cX3_answers 51 = .ok (.iconst 0, 1) := dk_3 (dk_at dksX3_answers_2 4 rfl rfl)
theorem dX3_answers_52 : decode cX3_answers 52 = .ok (.iadd, 1) := dk_96 (dk_at dksX3_answers_2 5 rfl rfl)
theorem dX3_answers_53 : decode cX3_answers 53 = .ok (.istore 6, 2) := dk_54 6 (dk_at dksX3_answers_2 6 rfl rfl)
theorem dX3_answers_55 : decode cX3_answers 55 = .ok (.iinc 7 1, 3) := dk_132 7 1 (dk_at dksX3_answers_2 8 rfl rfl)
theorem dX3_answers_58 : decode cX3_answers 58 = .ok (.goto (-41), 3) := dk_167 255 215 (dk_at dksX3_answers_2 11 rfl rfl)
theorem dX3_answers_61 : decode cX3_answers 61 = .ok (.iload 6, 2) := dk_21 6 (dk_at dksX3_answers_2 14 rfl rfl)
theorem dX3_answers_63 : decode cX3_answers 63 = .ok (.ireturn, 1) := dk_172 (dk_at dksX3_answers_2 16 rfl rfl)
abbrev cX3_canAsk : ByteArray := prog_11_method_71_code
def yX3_canAsk : MethodName := ⟨RX3, "canAsk", "(IIII)Z"⟩
def dkwX3_canAsk_2 : List UInt8 := [153, 0, 7, 3, 167, 0, 4, 5, 181, 0, 121, 42, 180, 0, 121, 154, 0, 7, 4, 167, 0, 4, 3, 172]
abbrev dktX3_canAsk_2 : List UInt8 := dkwX3_canAsk_2 ++ []
def dkwX3_canAsk_1 : List UInt8 := [4, 167, 0, 4, 3, 54, 5, 42, 21, 5, 154, 0, 7, 4, 167, 0, 17, 42, 28, 29, 182, 1, 28]
abbrev dktX3_canAsk_1 : List UInt8 := dkwX3_canAsk_1 ++ dktX3_canAsk_2
def dkwX3_canAsk_0 : List UInt8 := [27, 3, 6, 184, 0, 124, 153, 0, 22, 21, 4, 2, 42, 180, 0, 118, 4, 100, 184, 0, 124, 153, 0, 7]
abbrev dktX3_canAsk_0 : List UInt8 := dkwX3_canAsk_0 ++ dktX3_canAsk_1
theorem dksX3_canAsk_0 : cX3_canAsk.data.toList.drop 0 = dktX3_canAsk_0 := by decide +kernel
theorem dksX3_canAsk_1 : cX3_canAsk.data.toList.drop 24 = dktX3_canAsk_1 := dk_seg dksX3_canAsk_0 24 rfl rfl
theorem dksX3_canAsk_2 : cX3_canAsk.data.toList.drop 47 = dktX3_canAsk_2 := dk_seg dksX3_canAsk_1 23 rfl rfl
theorem dX3_canAsk_0 : decode cX3_canAsk 0 = .ok (.iload_n 1, 1) := dk_27 (dk_at dksX3_canAsk_0 0 rfl rfl)
theorem dX3_canAsk_1 : decode cX3_canAsk 1 = .ok (.iconst 0, 1) := dk_3 (dk_at dksX3_canAsk_0 1 rfl rfl)
theorem dX3_canAsk_2 : decode cX3_canAsk 2 = .ok (.iconst 3, 1) := dk_6 (dk_at dksX3_canAsk_0 2 rfl rfl)
theorem dX3_canAsk_3 : decode cX3_canAsk 3 = .ok (.invokestatic 124, 3) := dk_184 0 124 (dk_at dksX3_canAsk_0 3 rfl rfl)
theorem dX3_canAsk_6 : decode cX3_canAsk 6 = .ok (.ifCond .eq 22, 3) := dk_153 0 22 (dk_at dksX3_canAsk_0 6 rfl rfl)
theorem dX3_canAsk_9 : decode cX3_canAsk 9 = .ok (.iload 4, 2) := dk_21 4 (dk_at dksX3_canAsk_0 9 rfl rfl)
theorem dX3_canAsk_11 : decode cX3_canAsk 11 = .ok (.iconst (-1), 1) := dk_2 (dk_at dksX3_canAsk_0 11 rfl rfl)
theorem dX3_canAsk_12 : decode cX3_canAsk 12 = .ok (.aload_n 0, 1) := dk_42 (dk_at dksX3_canAsk_0 12 rfl rfl)
theorem dX3_canAsk_13 : decode cX3_canAsk 13 = .ok (.getfield 118, 3) := dk_180 0 118 (dk_at dksX3_canAsk_0 13 rfl rfl)
theorem dX3_canAsk_16 : decode cX3_canAsk 16 = .ok (.iconst 1, 1) := dk_4 (dk_at dksX3_canAsk_0 16 rfl rfl)
theorem dX3_canAsk_17 : decode cX3_canAsk 17 = .ok (.isub, 1) := dk_100 (dk_at dksX3_canAsk_0 17 rfl rfl)
theorem dX3_canAsk_18 : decode cX3_canAsk 18 = .ok (.invokestatic 124, 3) := dk_184 0 124 (dk_at dksX3_canAsk_0 18 rfl rfl)
theorem dX3_canAsk_21 : decode cX3_canAsk 21 = .ok (.ifCond .eq 7, 3) := dk_153 0 7 (dk_at dksX3_canAsk_0 21 rfl rfl)
theorem dX3_canAsk_24 : decode cX3_canAsk 24 = .ok (.iconst 1, 1) := dk_4 (dk_at dksX3_canAsk_1 0 rfl rfl)
theorem dX3_canAsk_25 : decode cX3_canAsk 25 = .ok (.goto 4, 3) := dk_167 0 4 (dk_at dksX3_canAsk_1 1 rfl rfl)
theorem dX3_canAsk_28 : decode cX3_canAsk 28 = .ok (.iconst 0, 1) := dk_3 (dk_at dksX3_canAsk_1 4 rfl rfl)
theorem dX3_canAsk_29 : decode cX3_canAsk 29 = .ok (.istore 5, 2) := dk_54 5 (dk_at dksX3_canAsk_1 5 rfl rfl)
theorem dX3_canAsk_31 : decode cX3_canAsk 31 = .ok (.aload_n 0, 1) := dk_42 (dk_at dksX3_canAsk_1 7 rfl rfl)
theorem dX3_canAsk_32 : decode cX3_canAsk 32 = .ok (.iload 5, 2) := dk_21 5 (dk_at dksX3_canAsk_1 8 rfl rfl)
theorem dX3_canAsk_34 : decode cX3_canAsk 34 = .ok (.ifCond .ne 7, 3) := dk_154 0 7 (dk_at dksX3_canAsk_1 10 rfl rfl)
theorem dX3_canAsk_37 : decode cX3_canAsk 37 = .ok (.iconst 1, 1) := dk_4 (dk_at dksX3_canAsk_1 13 rfl rfl)
theorem dX3_canAsk_38 : decode cX3_canAsk 38 = .ok (.goto 17, 3) := dk_167 0 17 (dk_at dksX3_canAsk_1 14 rfl rfl)
theorem dX3_canAsk_41 : decode cX3_canAsk 41 = .ok (.aload_n 0, 1) := dk_42 (dk_at dksX3_canAsk_1 17 rfl rfl)
theorem dX3_canAsk_42 : decode cX3_canAsk 42 = .ok (.iload_n 2, 1) := dk_28 (dk_at dksX3_canAsk_1 18 rfl rfl)
theorem dX3_canAsk_43 : decode cX3_canAsk 43 = .ok (.iload_n 3, 1) := dk_29 (dk_at dksX3_canAsk_1 19 rfl rfl)
theorem dX3_canAsk_44 : decode cX3_canAsk 44 = .ok (.invokevirtual 284, 3) := dk_182 1 28 (dk_at dksX3_canAsk_1 20 rfl rfl)
theorem dX3_canAsk_47 : decode cX3_canAsk 47 = .ok (.ifCond .eq 7, 3) := dk_153 0 7 (dk_at dksX3_canAsk_2 0 rfl rfl)
theorem dX3_canAsk_50 : decode cX3_canAsk 50 = .ok (.iconst 0, 1) := dk_3 (dk_at dksX3_canAsk_2 3 rfl rfl)
theorem dX3_canAsk_51 : decode cX3_canAsk 51 = .ok (.goto 4, 3) := dk_167 0 4 (dk_at dksX3_canAsk_2 4 rfl rfl)
theorem dX3_canAsk_54 : decode cX3_canAsk 54 = .ok (.iconst 2, 1) := dk_5 (dk_at dksX3_canAsk_2 7 rfl rfl)
theorem dX3_canAsk_55 : decode cX3_canAsk 55 = .ok (.putfield 121, 3) := dk_181 0 121 (dk_at dksX3_canAsk_2 8 rfl rfl)
theorem dX3_canAsk_58 : decode cX3_canAsk 58 = .ok (.aload_n 0, 1) := dk_42 (dk_at dksX3_canAsk_2 11 rfl rfl)
theorem dX3_canAsk_59 : decode cX3_canAsk 59 = .ok (.getfield 121, 3) := dk_180 0 121 (dk_at dksX3_canAsk_2 12 rfl rfl)
theorem dX3_canAsk_62 : decode cX3_canAsk 62 = .ok (.ifCond .ne 7, 3) := dk_154 0 7 (dk_at dksX3_canAsk_2 15 rfl rfl)
theorem dX3_canAsk_65 : decode cX3_canAsk 65 = .ok (.iconst 1, 1) := dk_4 (dk_at dksX3_canAsk_2 18 rfl rfl)
theorem dX3_canAsk_66 : decode cX3_canAsk 66 = .ok (.goto 4, 3) := dk_167 0 4 (dk_at dksX3_canAsk_2 19 rfl rfl)
theorem dX3_canAsk_69 : decode cX3_canAsk 69 = .ok (.iconst 0, 1) := dk_3 (dk_at dksX3_canAsk_2 22 rfl rfl)
theorem dX3_canAsk_70 : decode cX3_canAsk 70 = .ok (.ireturn, 1) := dk_172 (dk_at dksX3_canAsk_2 23 rfl rfl)
abbrev cX3_areWords : ByteArray := prog_11_method_66_code
def yX3_areWords : MethodName := ⟨RX3, "areWords", "(II)Z"⟩
def dkwX3_areWords_1 : List UInt8 := [3, 172]
abbrev dktX3_areWords_1 : List UInt8 := dkwX3_areWords_1 ++ []
def dkwX3_areWords_0 : List UInt8 := [27, 3, 16, 99, 184, 0, 124, 153, 0, 17, 28, 2, 16, 99, 184, 0, 124, 153, 0, 7, 4, 167, 0, 4]
abbrev dktX3_areWords_0 : List UInt8 := dkwX3_areWords_0 ++ dktX3_areWords_1
theorem dksX3_areWords_0 : cX3_areWords.data.toList.drop 0 = dktX3_areWords_0 := by decide +kernel
theorem dksX3_areWords_1 : cX3_areWords.data.toList.drop 24 = dktX3_areWords_1 := dk_seg dksX3_areWords_0 24 rfl rfl
theorem dX3_areWords_0 : decode cX3_areWords 0 = .ok (.iload_n 1, 1) := dk_27 (dk_at dksX3_areWords_0 0 rfl rfl)
theorem dX3_areWords_1 : decode cX3_areWords 1 = .ok (.iconst 0, 1) := dk_3 (dk_at dksX3_areWords_0 1 rfl rfl)
theorem dX3_areWords_2 : decode cX3_areWords 2 = .ok (.bipush 99, 2) := dk_16 99 (dk_at dksX3_areWords_0 2 rfl rfl)
theorem dX3_areWords_4 : decode cX3_areWords 4 = .ok (.invokestatic 124, 3) := dk_184 0 124 (dk_at dksX3_areWords_0 4 rfl rfl)
theorem dX3_areWords_7 : decode cX3_areWords 7 = .ok (.ifCond .eq 17, 3) := dk_153 0 17 (dk_at dksX3_areWords_0 7 rfl rfl)
theorem dX3_areWords_10 : decode cX3_areWords 10 = .ok (.iload_n 2, 1) := dk_28 (dk_at dksX3_areWords_0 10 rfl rfl)
theorem dX3_areWords_11 : decode cX3_areWords 11 = .ok (.iconst (-1), 1) := dk_2 (dk_at dksX3_areWords_0 11 rfl rfl)
theorem dX3_areWords_12 : decode cX3_areWords 12 = .ok (.bipush 99, 2) := dk_16 99 (dk_at dksX3_areWords_0 12 rfl rfl)
theorem dX3_areWords_14 : decode cX3_areWords 14 = .ok (.invokestatic 124, 3) := dk_184 0 124 (dk_at dksX3_areWords_0 14 rfl rfl)
theorem dX3_areWords_17 : decode cX3_areWords 17 = .ok (.ifCond .eq 7, 3) := dk_153 0 7 (dk_at dksX3_areWords_0 17 rfl rfl)
theorem dX3_areWords_20 : decode cX3_areWords 20 = .ok (.iconst 1, 1) := dk_4 (dk_at dksX3_areWords_0 20 rfl rfl)
theorem dX3_areWords_21 : decode cX3_areWords 21 = .ok (.goto 4, 3) := dk_167 0 4 (dk_at dksX3_areWords_0 21 rfl rfl)
theorem dX3_areWords_24 : decode cX3_areWords 24 = .ok (.iconst 0, 1) := dk_3 (dk_at dksX3_areWords_1 0 rfl rfl)
theorem dX3_areWords_25 : decode cX3_areWords 25 = .ok (.ireturn, 1) := dk_172 (dk_at dksX3_areWords_1 1 rfl rfl)
abbrev cX3_isAnswer : ByteArray := prog_11_method_70_code
def yX3_isAnswer : MethodName := ⟨RX3, "isAnswer", "(IIIII)Z"⟩
def dkwX3_isAnswer_2 : List UInt8 := [167, 0, 4, 3, 172]
abbrev dktX3_isAnswer_2 : List UInt8 := dkwX3_isAnswer_2 ++ []
def dkwX3_isAnswer_1 : List UInt8 := [159, 0, 13, 42, 27, 21, 5, 182, 0, 186, 153, 0, 16, 42, 28, 27, 182, 0, 173, 153, 0, 7, 4]
abbrev dktX3_isAnswer_1 : List UInt8 := dkwX3_isAnswer_1 ++ dktX3_isAnswer_2
def dkwX3_isAnswer_0 : List UInt8 := [42, 180, 0, 7, 27, 51, 153, 0, 43, 42, 27, 29, 21, 4, 182, 1, 25, 153, 0, 32, 21, 5, 2]
abbrev dktX3_isAnswer_0 : List UInt8 := dkwX3_isAnswer_0 ++ dktX3_isAnswer_1
theorem dksX3_isAnswer_0 : cX3_isAnswer.data.toList.drop 0 = dktX3_isAnswer_0 := by decide +kernel
theorem dksX3_isAnswer_1 : cX3_isAnswer.data.toList.drop 23 = dktX3_isAnswer_1 := dk_seg dksX3_isAnswer_0 23 rfl rfl
theorem dksX3_isAnswer_2 : cX3_isAnswer.data.toList.drop 46 = dktX3_isAnswer_2 := dk_seg dksX3_isAnswer_1 23 rfl rfl
theorem dX3_isAnswer_0 : decode cX3_isAnswer 0 = .ok (.aload_n 0, 1) := dk_42 (dk_at dksX3_isAnswer_0 0 rfl rfl)
theorem dX3_isAnswer_1 : decode cX3_isAnswer 1 = .ok (.getfield 7, 3) := dk_180 0 7 (dk_at dksX3_isAnswer_0 1 rfl rfl)
theorem dX3_isAnswer_4 : decode cX3_isAnswer 4 = .ok (.iload_n 1, 1) := dk_27 (dk_at dksX3_isAnswer_0 4 rfl rfl)
theorem dX3_isAnswer_5 : decode cX3_isAnswer 5 = .ok (.baload, 1) := dk_51 (dk_at dksX3_isAnswer_0 5 rfl rfl)
theorem dX3_isAnswer_6 : decode cX3_isAnswer 6 = .ok (.ifCond .eq 43, 3) := dk_153 0 43 (dk_at dksX3_isAnswer_0 6 rfl rfl)
theorem dX3_isAnswer_9 : decode cX3_isAnswer 9 = .ok (.aload_n 0, 1) := dk_42 (dk_at dksX3_isAnswer_0 9 rfl rfl)
theorem dX3_isAnswer_10 : decode cX3_isAnswer 10 = .ok (.iload_n 1, 1) := dk_27 (dk_at dksX3_isAnswer_0 10 rfl rfl)
theorem dX3_isAnswer_11 : decode cX3_isAnswer 11 = .ok (.iload_n 3, 1) := dk_29 (dk_at dksX3_isAnswer_0 11 rfl rfl)
theorem dX3_isAnswer_12 : decode cX3_isAnswer 12 = .ok (.iload 4, 2) := dk_21 4 (dk_at dksX3_isAnswer_0 12 rfl rfl)
theorem dX3_isAnswer_14 : decode cX3_isAnswer 14 = .ok (.invokevirtual 281, 3) := dk_182 1 25 (dk_at dksX3_isAnswer_0 14 rfl rfl)
theorem dX3_isAnswer_17 : decode cX3_isAnswer 17 = .ok (.ifCond .eq 32, 3) := dk_153 0 32 (dk_at dksX3_isAnswer_0 17 rfl rfl)
theorem dX3_isAnswer_20 : decode cX3_isAnswer 20 = .ok (.iload 5, 2) := dk_21 5 (dk_at dksX3_isAnswer_0 20 rfl rfl)
theorem dX3_isAnswer_22 : decode cX3_isAnswer 22 = .ok (.iconst (-1), 1) := dk_2 (dk_at dksX3_isAnswer_0 22 rfl rfl)
theorem dX3_isAnswer_23 : decode cX3_isAnswer 23 = .ok (.if_icmp .eq 13, 3) := dk_159 0 13 (dk_at dksX3_isAnswer_1 0 rfl rfl)
theorem dX3_isAnswer_26 : decode cX3_isAnswer 26 = .ok (.aload_n 0, 1) := dk_42 (dk_at dksX3_isAnswer_1 3 rfl rfl)
theorem dX3_isAnswer_27 : decode cX3_isAnswer 27 = .ok (.iload_n 1, 1) := dk_27 (dk_at dksX3_isAnswer_1 4 rfl rfl)
theorem dX3_isAnswer_28 : decode cX3_isAnswer 28 = .ok (.iload 5, 2) := dk_21 5 (dk_at dksX3_isAnswer_1 5 rfl rfl)
theorem dX3_isAnswer_30 : decode cX3_isAnswer 30 = .ok (.invokevirtual 186, 3) := dk_182 0 186 (dk_at dksX3_isAnswer_1 7 rfl rfl)
theorem dX3_isAnswer_33 : decode cX3_isAnswer 33 = .ok (.ifCond .eq 16, 3) := dk_153 0 16 (dk_at dksX3_isAnswer_1 10 rfl rfl)
theorem dX3_isAnswer_36 : decode cX3_isAnswer 36 = .ok (.aload_n 0, 1) := dk_42 (dk_at dksX3_isAnswer_1 13 rfl rfl)
theorem dX3_isAnswer_37 : decode cX3_isAnswer 37 = .ok (.iload_n 2, 1) := dk_28 (dk_at dksX3_isAnswer_1 14 rfl rfl)
theorem dX3_isAnswer_38 : decode cX3_isAnswer 38 = .ok (.iload_n 1, 1) := dk_27 (dk_at dksX3_isAnswer_1 15 rfl rfl)
theorem dX3_isAnswer_39 : decode cX3_isAnswer 39 = .ok (.invokevirtual 173, 3) := dk_182 0 173 (dk_at dksX3_isAnswer_1 16 rfl rfl)
theorem dX3_isAnswer_42 : decode cX3_isAnswer 42 = .ok (.ifCond .eq 7, 3) := dk_153 0 7 (dk_at dksX3_isAnswer_1 19 rfl rfl)
theorem dX3_isAnswer_45 : decode cX3_isAnswer 45 = .ok (.iconst 1, 1) := dk_4 (dk_at dksX3_isAnswer_1 22 rfl rfl)
theorem dX3_isAnswer_46 : decode cX3_isAnswer 46 = .ok (.goto 4, 3) := dk_167 0 4 (dk_at dksX3_isAnswer_2 0 rfl rfl)
theorem dX3_isAnswer_49 : decode cX3_isAnswer 49 = .ok (.iconst 0, 1) := dk_3 (dk_at dksX3_isAnswer_2 3 rfl rfl)
theorem dX3_isAnswer_50 : decode cX3_isAnswer 50 = .ok (.ireturn, 1) := dk_172 (dk_at dksX3_isAnswer_2 4 rfl rfl)
abbrev cX3_has : ByteArray := prog_11_method_68_code
def yX3_has : MethodName := ⟨RX3, "has", "(III)Z"⟩
def dkwX3_has_1 : List UInt8 := [158, 0, 21, 29, 2, 159, 0, 12, 42, 27, 29, 182, 1, 21, 158, 0, 7, 4, 167, 0, 4, 3, 172]
abbrev dktX3_has_1 : List UInt8 := dkwX3_has_1 ++ []
def dkwX3_has_0 : List UInt8 := [42, 180, 0, 66, 27, 51, 153, 0, 39, 42, 180, 0, 13, 27, 51, 154, 0, 30, 42, 27, 28, 182, 1, 21]
abbrev dktX3_has_0 : List UInt8 := dkwX3_has_0 ++ dktX3_has_1
theorem dksX3_has_0 : cX3_has.data.toList.drop 0 = dktX3_has_0 := by decide +kernel
theorem dksX3_has_1 : cX3_has.data.toList.drop 24 = dktX3_has_1 := dk_seg dksX3_has_0 24 rfl rfl
theorem dX3_has_0 : decode cX3_has 0 = .ok (.aload_n 0, 1) := dk_42 (dk_at dksX3_has_0 0 rfl rfl)
theorem dX3_has_1 : decode cX3_has 1 = .ok (.getfield 66, 3) := dk_180 0 66 (dk_at dksX3_has_0 1 rfl rfl)
theorem dX3_has_4 : decode cX3_has 4 = .ok (.iload_n 1, 1) := dk_27 (dk_at dksX3_has_0 4 rfl rfl)
theorem dX3_has_5 : decode cX3_has 5 = .ok (.baload, 1) := dk_51 (dk_at dksX3_has_0 5 rfl rfl)
theorem dX3_has_6 : decode cX3_has 6 = .ok (.ifCond .eq 39, 3) := dk_153 0 39 (dk_at dksX3_has_0 6 rfl rfl)
theorem dX3_has_9 : decode cX3_has 9 = .ok (.aload_n 0, 1) := dk_42 (dk_at dksX3_has_0 9 rfl rfl)
theorem dX3_has_10 : decode cX3_has 10 = .ok (.getfield 13, 3) := dk_180 0 13 (dk_at dksX3_has_0 10 rfl rfl)
theorem dX3_has_13 : decode cX3_has 13 = .ok (.iload_n 1, 1) := dk_27 (dk_at dksX3_has_0 13 rfl rfl)
theorem dX3_has_14 : decode cX3_has 14 = .ok (.baload, 1) := dk_51 (dk_at dksX3_has_0 14 rfl rfl)
theorem dX3_has_15 : decode cX3_has 15 = .ok (.ifCond .ne 30, 3) := dk_154 0 30 (dk_at dksX3_has_0 15 rfl rfl)
theorem dX3_has_18 : decode cX3_has 18 = .ok (.aload_n 0, 1) := dk_42 (dk_at dksX3_has_0 18 rfl rfl)
theorem dX3_has_19 : decode cX3_has 19 = .ok (.iload_n 1, 1) := dk_27 (dk_at dksX3_has_0 19 rfl rfl)
theorem dX3_has_20 : decode cX3_has 20 = .ok (.iload_n 2, 1) := dk_28 (dk_at dksX3_has_0 20 rfl rfl)
theorem dX3_has_21 : decode cX3_has 21 = .ok (.invokevirtual 277, 3) := dk_182 1 21 (dk_at dksX3_has_0 21 rfl rfl)
theorem dX3_has_24 : decode cX3_has 24 = .ok (.ifCond .le 21, 3) := dk_158 0 21 (dk_at dksX3_has_1 0 rfl rfl)
theorem dX3_has_27 : decode cX3_has 27 = .ok (.iload_n 3, 1) := dk_29 (dk_at dksX3_has_1 3 rfl rfl)
theorem dX3_has_28 : decode cX3_has 28 = .ok (.iconst (-1), 1) := dk_2 (dk_at dksX3_has_1 4 rfl rfl)
theorem dX3_has_29 : decode cX3_has 29 = .ok (.if_icmp .eq 12, 3) := dk_159 0 12 (dk_at dksX3_has_1 5 rfl rfl)
theorem dX3_has_32 : decode cX3_has 32 = .ok (.aload_n 0, 1) := dk_42 (dk_at dksX3_has_1 8 rfl rfl)
theorem dX3_has_33 : decode cX3_has 33 = .ok (.iload_n 1, 1) := dk_27 (dk_at dksX3_has_1 9 rfl rfl)
theorem dX3_has_34 : decode cX3_has 34 = .ok (.iload_n 3, 1) := dk_29 (dk_at dksX3_has_1 10 rfl rfl)
theorem dX3_has_35 : decode cX3_has 35 = .ok (.invokevirtual 277, 3) := dk_182 1 21 (dk_at dksX3_has_1 11 rfl rfl)
theorem dX3_has_38 : decode cX3_has 38 = .ok (.ifCond .le 7, 3) := dk_158 0 7 (dk_at dksX3_has_1 14 rfl rfl)
theorem dX3_has_41 : decode cX3_has 41 = .ok (.iconst 1, 1) := dk_4 (dk_at dksX3_has_1 17 rfl rfl)
theorem dX3_has_42 : decode cX3_has 42 = .ok (.goto 4, 3) := dk_167 0 4 (dk_at dksX3_has_1 18 rfl rfl)
theorem dX3_has_45 : decode cX3_has 45 = .ok (.iconst 0, 1) := dk_3 (dk_at dksX3_has_1 21 rfl rfl)
theorem dX3_has_46 : decode cX3_has 46 = .ok (.ireturn, 1) := dk_172 (dk_at dksX3_has_1 22 rfl rfl)
abbrev cX3_often : ByteArray := prog_11_method_67_code
def yX3_often : MethodName := ⟨RX3, "often", "(II)I"⟩
def dkwX3_often_1 : List UInt8 := [104, 21, 4, 96, 46, 28, 160, 0, 7, 4, 167, 0, 4, 3, 96, 62, 132, 4, 1, 167, 255, 218, 29, 172]
abbrev dktX3_often_1 : List UInt8 := dkwX3_often_1 ++ []
def dkwX3_often_0 : List UInt8 := [3, 62, 3, 54, 4, 21, 4, 42, 180, 0, 78, 27, 46, 162, 0, 33, 29, 42, 180, 0, 81, 16, 20, 27]
abbrev dktX3_often_0 : List UInt8 := dkwX3_often_0 ++ dktX3_often_1
theorem dksX3_often_0 : cX3_often.data.toList.drop 0 = dktX3_often_0 := by decide +kernel
theorem dksX3_often_1 : cX3_often.data.toList.drop 24 = dktX3_often_1 := dk_seg dksX3_often_0 24 rfl rfl
theorem dX3_often_0 : decode cX3_often 0 = .ok (.iconst 0, 1) := dk_3 (dk_at dksX3_often_0 0 rfl rfl)
theorem dX3_often_1 : decode cX3_often 1 = .ok (.istore_n 3, 1) := dk_62 (dk_at dksX3_often_0 1 rfl rfl)
theorem dX3_often_2 : decode cX3_often 2 = .ok (.iconst 0, 1) := dk_3 (dk_at dksX3_often_0 2 rfl rfl)
theorem dX3_often_3 : decode cX3_often 3 = .ok (.istore 4, 2) := dk_54 4 (dk_at dksX3_often_0 3 rfl rfl)
theorem dX3_often_5 : decode cX3_often 5 = .ok (.iload 4, 2) := dk_21 4 (dk_at dksX3_often_0 5 rfl rfl)
theorem dX3_often_7 : decode cX3_often 7 = .ok (.aload_n 0, 1) := dk_42 (dk_at dksX3_often_0 7 rfl rfl)
theorem dX3_often_8 : decode cX3_often 8 = .ok (.getfield 78, 3) := dk_180 0 78 (dk_at dksX3_often_0 8 rfl rfl)
theorem dX3_often_11 : decode cX3_often 11 = .ok (.iload_n 1, 1) := dk_27 (dk_at dksX3_often_0 11 rfl rfl)
theorem dX3_often_12 : decode cX3_often 12 = .ok (.iaload, 1) := dk_46 (dk_at dksX3_often_0 12 rfl rfl)
theorem dX3_often_13 : decode cX3_often 13 = .ok (.if_icmp .ge 33, 3) := dk_162 0 33 (dk_at dksX3_often_0 13 rfl rfl)
theorem dX3_often_16 : decode cX3_often 16 = .ok (.iload_n 3, 1) := dk_29 (dk_at dksX3_often_0 16 rfl rfl)
theorem dX3_often_17 : decode cX3_often 17 = .ok (.aload_n 0, 1) := dk_42 (dk_at dksX3_often_0 17 rfl rfl)
theorem dX3_often_18 : decode cX3_often 18 = .ok (.getfield 81, 3) := dk_180 0 81 (dk_at dksX3_often_0 18 rfl rfl)
theorem dX3_often_21 : decode cX3_often 21 = .ok (.bipush 20, 2) := dk_16 20 (dk_at dksX3_often_0 21 rfl rfl)
theorem dX3_often_23 : decode cX3_often 23 = .ok (.iload_n 1, 1) := dk_27 (dk_at dksX3_often_0 23 rfl rfl)
theorem dX3_often_24 : decode cX3_often 24 = .ok (.imul, 1) := dk_104 (dk_at dksX3_often_1 0 rfl rfl)
theorem dX3_often_25 : decode cX3_often 25 = .ok (.iload 4, 2) := dk_21 4 (dk_at dksX3_often_1 1 rfl rfl)
theorem dX3_often_27 : decode cX3_often 27 = .ok (.iadd, 1) := dk_96 (dk_at dksX3_often_1 3 rfl rfl)
theorem dX3_often_28 : decode cX3_often 28 = .ok (.iaload, 1) := dk_46 (dk_at dksX3_often_1 4 rfl rfl)
theorem dX3_often_29 : decode cX3_often 29 = .ok (.iload_n 2, 1) := dk_28 (dk_at dksX3_often_1 5 rfl rfl)
theorem dX3_often_30 : decode cX3_often 30 = .ok (.if_icmp .ne 7, 3) := dk_160 0 7 (dk_at dksX3_often_1 6 rfl rfl)
theorem dX3_often_33 : decode cX3_often 33 = .ok (.iconst 1, 1) := dk_4 (dk_at dksX3_often_1 9 rfl rfl)
theorem dX3_often_34 : decode cX3_often 34 = .ok (.goto 4, 3) := dk_167 0 4 (dk_at dksX3_often_1 10 rfl rfl)
theorem dX3_often_37 : decode cX3_often 37 = .ok (.iconst 0, 1) := dk_3 (dk_at dksX3_often_1 13 rfl rfl)
theorem dX3_often_38 : decode cX3_often 38 = .ok (.iadd, 1) := dk_96 (dk_at dksX3_often_1 14 rfl rfl)
theorem dX3_often_39 : decode cX3_often 39 = .ok (.istore_n 3, 1) := dk_62 (dk_at dksX3_often_1 15 rfl rfl)
theorem dX3_often_40 : decode cX3_often 40 = .ok (.iinc 4 1, 3) := dk_132 4 1 (dk_at dksX3_often_1 16 rfl rfl)
theorem dX3_often_43 : decode cX3_often 43 = .ok (.goto (-38), 3) := dk_167 255 218 (dk_at dksX3_often_1 19 rfl rfl)
theorem dX3_often_46 : decode cX3_often 46 = .ok (.iload_n 3, 1) := dk_29 (dk_at dksX3_often_1 22 rfl rfl)
theorem dX3_often_47 : decode cX3_often 47 = .ok (.ireturn, 1) := dk_172 (dk_at dksX3_often_1 23 rfl rfl)
abbrev cX3_answersAnew : ByteArray := prog_11_method_73_code
def yX3_answersAnew : MethodName := ⟨RX3, "answersAnew", "(IIII)I"⟩
def dkwX3_answersAnew_10 : List UInt8 := [172]
abbrev dktX3_answersAnew_10 : List UInt8 := dkwX3_answersAnew_10 ++ []
def dkwX3_answersAnew_9 : List UInt8 := [153, 0, 12, 21, 11, 153, 0, 7, 4, 167, 0, 4, 3, 96, 54, 6, 132, 7, 1, 167, 255, 43, 21, 6]
abbrev dktX3_answersAnew_9 : List UInt8 := dkwX3_answersAnew_9 ++ dktX3_answersAnew_10
def dkwX3_answersAnew_8 : List UInt8 := [21, 12, 46, 29, 160, 0, 7, 4, 167, 0, 4, 3, 54, 11, 132, 12, 1, 167, 255, 198, 21, 6, 21, 10]
abbrev dktX3_answersAnew_8 : List UInt8 := dkwX3_answersAnew_8 ++ dktX3_answersAnew_9
def dkwX3_answersAnew_7 : List UInt8 := [21, 12, 46, 28, 160, 0, 7, 4, 167, 0, 4, 3, 54, 10, 21, 11, 154, 0, 14, 42, 180, 0, 115]
abbrev dktX3_answersAnew_7 : List UInt8 := dkwX3_answersAnew_7 ++ dktX3_answersAnew_8
def dkwX3_answersAnew_6 : List UInt8 := [3, 54, 11, 3, 54, 12, 21, 12, 42, 180, 0, 195, 162, 0, 55, 21, 10, 154, 0, 14, 42, 180, 0, 115]
abbrev dktX3_answersAnew_6 : List UInt8 := dkwX3_answersAnew_6 ++ dktX3_answersAnew_7
def dkwX3_answersAnew_5 : List UInt8 := [182, 0, 173, 153, 0, 108, 42, 21, 7, 182, 0, 210, 3, 54, 10, 29, 2, 160, 0, 7, 4, 167, 0, 4]
abbrev dktX3_answersAnew_5 : List UInt8 := dkwX3_answersAnew_5 ++ dktX3_answersAnew_6
def dkwX3_answersAnew_4 : List UInt8 := [46, 182, 0, 135, 153, 0, 7, 4, 167, 0, 4, 3, 54, 9, 21, 9, 153, 0, 118, 42, 27, 21, 7]
abbrev dktX3_answersAnew_4 : List UInt8 := dkwX3_answersAnew_4 ++ dktX3_answersAnew_5
def dkwX3_answersAnew_3 : List UInt8 := [153, 0, 35, 21, 4, 42, 180, 0, 39, 21, 8, 46, 159, 0, 19, 42, 21, 4, 42, 180, 0, 39, 21, 8]
abbrev dktX3_answersAnew_3 : List UInt8 := dkwX3_answersAnew_3 ++ dktX3_answersAnew_4
def dkwX3_answersAnew_2 : List UInt8 := [180, 0, 13, 21, 7, 51, 154, 0, 52, 21, 4, 2, 159, 0, 42, 42, 21, 7, 21, 4, 182, 0, 135]
abbrev dktX3_answersAnew_2 : List UInt8 := dkwX3_answersAnew_2 ++ dktX3_answersAnew_3
def dkwX3_answersAnew_1 : List UInt8 := [162, 0, 210, 21, 5, 153, 0, 205, 42, 21, 7, 182, 0, 150, 54, 8, 21, 8, 2, 159, 0, 62, 42]
abbrev dktX3_answersAnew_1 : List UInt8 := dkwX3_answersAnew_1 ++ dktX3_answersAnew_2
def dkwX3_answersAnew_0 : List UInt8 := [42, 27, 28, 29, 21, 4, 182, 1, 31, 54, 5, 3, 54, 6, 3, 54, 7, 21, 7, 42, 180, 0, 118]
abbrev dktX3_answersAnew_0 : List UInt8 := dkwX3_answersAnew_0 ++ dktX3_answersAnew_1
theorem dksX3_answersAnew_0 : cX3_answersAnew.data.toList.drop 0 = dktX3_answersAnew_0 := by decide +kernel
theorem dksX3_answersAnew_1 : cX3_answersAnew.data.toList.drop 23 = dktX3_answersAnew_1 := dk_seg dksX3_answersAnew_0 23 rfl rfl
theorem dksX3_answersAnew_2 : cX3_answersAnew.data.toList.drop 46 = dktX3_answersAnew_2 := dk_seg dksX3_answersAnew_1 23 rfl rfl
theorem dksX3_answersAnew_3 : cX3_answersAnew.data.toList.drop 69 = dktX3_answersAnew_3 := dk_seg dksX3_answersAnew_2 23 rfl rfl
theorem dksX3_answersAnew_4 : cX3_answersAnew.data.toList.drop 93 = dktX3_answersAnew_4 := dk_seg dksX3_answersAnew_3 24 rfl rfl
theorem dksX3_answersAnew_5 : cX3_answersAnew.data.toList.drop 116 = dktX3_answersAnew_5 := dk_seg dksX3_answersAnew_4 23 rfl rfl
theorem dksX3_answersAnew_6 : cX3_answersAnew.data.toList.drop 140 = dktX3_answersAnew_6 := dk_seg dksX3_answersAnew_5 24 rfl rfl
theorem dksX3_answersAnew_7 : cX3_answersAnew.data.toList.drop 164 = dktX3_answersAnew_7 := dk_seg dksX3_answersAnew_6 24 rfl rfl
theorem dksX3_answersAnew_8 : cX3_answersAnew.data.toList.drop 187 = dktX3_answersAnew_8 := dk_seg dksX3_answersAnew_7 23 rfl rfl
theorem dksX3_answersAnew_9 : cX3_answersAnew.data.toList.drop 211 = dktX3_answersAnew_9 := dk_seg dksX3_answersAnew_8 24 rfl rfl
theorem dksX3_answersAnew_10 : cX3_answersAnew.data.toList.drop 235 = dktX3_answersAnew_10 := dk_seg dksX3_answersAnew_9 24 rfl rfl
theorem dX3_answersAnew_0 : decode cX3_answersAnew 0 = .ok (.aload_n 0, 1) := dk_42 (dk_at dksX3_answersAnew_0 0 rfl rfl)
theorem dX3_answersAnew_1 : decode cX3_answersAnew 1 = .ok (.iload_n 1, 1) := dk_27 (dk_at dksX3_answersAnew_0 1 rfl rfl)
theorem dX3_answersAnew_2 : decode cX3_answersAnew 2 = .ok (.iload_n 2, 1) := dk_28 (dk_at dksX3_answersAnew_0 2 rfl rfl)
theorem dX3_answersAnew_3 : decode cX3_answersAnew 3 = .ok (.iload_n 3, 1) := dk_29 (dk_at dksX3_answersAnew_0 3 rfl rfl)
theorem dX3_answersAnew_4 : decode cX3_answersAnew 4 = .ok (.iload 4, 2) := dk_21 4 (dk_at dksX3_answersAnew_0 4 rfl rfl)
theorem dX3_answersAnew_6 : decode cX3_answersAnew 6 = .ok (.invokevirtual 287, 3) := dk_182 1 31 (dk_at dksX3_answersAnew_0 6 rfl rfl)
theorem dX3_answersAnew_9 : decode cX3_answersAnew 9 = .ok (.istore 5, 2) := dk_54 5 (dk_at dksX3_answersAnew_0 9 rfl rfl)
theorem dX3_answersAnew_11 : decode cX3_answersAnew 11 = .ok (.iconst 0, 1) := dk_3 (dk_at dksX3_answersAnew_0 11 rfl rfl)
theorem dX3_answersAnew_12 : decode cX3_answersAnew 12 = .ok (.istore 6, 2) := dk_54 6 (dk_at dksX3_answersAnew_0 12 rfl rfl)
theorem dX3_answersAnew_14 : decode cX3_answersAnew 14 = .ok (.iconst 0, 1) := dk_3 (dk_at dksX3_answersAnew_0 14 rfl rfl)
theorem dX3_answersAnew_15 : decode cX3_answersAnew 15 = .ok (.istore 7, 2) := dk_54 7 (dk_at dksX3_answersAnew_0 15 rfl rfl)
theorem dX3_answersAnew_17 : decode cX3_answersAnew 17 = .ok (.iload 7, 2) := dk_21 7 (dk_at dksX3_answersAnew_0 17 rfl rfl)
theorem dX3_answersAnew_19 : decode cX3_answersAnew 19 = .ok (.aload_n 0, 1) := dk_42 (dk_at dksX3_answersAnew_0 19 rfl rfl)
theorem dX3_answersAnew_20 : decode cX3_answersAnew 20 = .ok (.getfield 118, 3) := dk_180 0 118 (dk_at dksX3_answersAnew_0 20 rfl rfl)
theorem dX3_answersAnew_23 : decode cX3_answersAnew 23 = .ok (.if_icmp .ge 210, 3) := dk_162 0 210 (dk_at dksX3_answersAnew_1 0 rfl rfl)
theorem dX3_answersAnew_26 : decode cX3_answersAnew 26 = .ok (.iload 5, 2) := dk_21 5 (dk_at dksX3_answersAnew_1 3 rfl rfl)
theorem dX3_answersAnew_28 : decode cX3_answersAnew 28 = .ok (.ifCond .eq 205, 3) := dk_153 0 205 (dk_at dksX3_answersAnew_1 5 rfl rfl)
theorem dX3_answersAnew_31 : decode cX3_answersAnew 31 = .ok (.aload_n 0, 1) := dk_42 (dk_at dksX3_answersAnew_1 8 rfl rfl)
theorem dX3_answersAnew_32 : decode cX3_answersAnew 32 = .ok (.iload 7, 2) := dk_21 7 (dk_at dksX3_answersAnew_1 9 rfl rfl)
theorem dX3_answersAnew_34 : decode cX3_answersAnew 34 = .ok (.invokevirtual 150, 3) := dk_182 0 150 (dk_at dksX3_answersAnew_1 11 rfl rfl)
theorem dX3_answersAnew_37 : decode cX3_answersAnew 37 = .ok (.istore 8, 2) := dk_54 8 (dk_at dksX3_answersAnew_1 14 rfl rfl)
theorem dX3_answersAnew_39 : decode cX3_answersAnew 39 = .ok (.iload 8, 2) := dk_21 8 (dk_at dksX3_answersAnew_1 16 rfl rfl)
theorem dX3_answersAnew_41 : decode cX3_answersAnew 41 = .ok (.iconst (-1), 1) := dk_2 (dk_at dksX3_answersAnew_1 18 rfl rfl)
theorem dX3_answersAnew_42 : decode cX3_answersAnew 42 = .ok (.if_icmp .eq 62, 3) := dk_159 0 62 (dk_at dksX3_answersAnew_1 19 rfl rfl)
theorem dX3_answersAnew_45 : decode cX3_answersAnew 45 = .ok (.aload_n 0, 1) := dk_42 (dk_at dksX3_answersAnew_1 22 rfl rfl)
theorem dX3_answersAnew_46 : decode cX3_answersAnew 46 = .ok (.getfield 13, 3) := dk_180 0 13 (dk_at dksX3_answersAnew_2 0 rfl rfl)
theorem dX3_answersAnew_49 : decode cX3_answersAnew 49 = .ok (.iload 7, 2) := dk_21 7 (dk_at dksX3_answersAnew_2 3 rfl rfl)
theorem dX3_answersAnew_51 : decode cX3_answersAnew 51 = .ok (.baload, 1) := dk_51 (dk_at dksX3_answersAnew_2 5 rfl rfl)
theorem dX3_answersAnew_52 : decode cX3_answersAnew 52 = .ok (.ifCond .ne 52, 3) := dk_154 0 52 (dk_at dksX3_answersAnew_2 6 rfl rfl)
theorem dX3_answersAnew_55 : decode cX3_answersAnew 55 = .ok (.iload 4, 2) := dk_21 4 (dk_at dksX3_answersAnew_2 9 rfl rfl)
theorem dX3_answersAnew_57 : decode cX3_answersAnew 57 = .ok (.iconst (-1), 1) := dk_2 (dk_at dksX3_answersAnew_2 11 rfl rfl)
theorem dX3_answersAnew_58 : decode cX3_answersAnew 58 = .ok (.if_icmp .eq 42, 3) := dk_159 0 42 (dk_at dksX3_answersAnew_2 12 rfl rfl)
theorem dX3_answersAnew_61 : decode cX3_answersAnew 61 = .ok (.aload_n 0, 1) := dk_42 (dk_at dksX3_answersAnew_2 15 rfl rfl)
theorem dX3_answersAnew_62 : decode cX3_answersAnew 62 = .ok (.iload 7, 2) := dk_21 7 (dk_at dksX3_answersAnew_2 16 rfl rfl)
theorem dX3_answersAnew_64 : decode cX3_answersAnew 64 = .ok (.iload 4, 2) := dk_21 4 (dk_at dksX3_answersAnew_2 18 rfl rfl)
theorem dX3_answersAnew_66 : decode cX3_answersAnew 66 = .ok (.invokevirtual 135, 3) := dk_182 0 135 (dk_at dksX3_answersAnew_2 20 rfl rfl)
theorem dX3_answersAnew_69 : decode cX3_answersAnew 69 = .ok (.ifCond .eq 35, 3) := dk_153 0 35 (dk_at dksX3_answersAnew_3 0 rfl rfl)
theorem dX3_answersAnew_72 : decode cX3_answersAnew 72 = .ok (.iload 4, 2) := dk_21 4 (dk_at dksX3_answersAnew_3 3 rfl rfl)
theorem dX3_answersAnew_74 : decode cX3_answersAnew 74 = .ok (.aload_n 0, 1) := dk_42 (dk_at dksX3_answersAnew_3 5 rfl rfl)
theorem dX3_answersAnew_75 : decode cX3_answersAnew 75 = .ok (.getfield 39, 3) := dk_180 0 39 (dk_at dksX3_answersAnew_3 6 rfl rfl)
theorem dX3_answersAnew_78 : decode cX3_answersAnew 78 = .ok (.iload 8, 2) := dk_21 8 (dk_at dksX3_answersAnew_3 9 rfl rfl)
theorem dX3_answersAnew_80 : decode cX3_answersAnew 80 = .ok (.iaload, 1) := dk_46 (dk_at dksX3_answersAnew_3 11 rfl rfl)
theorem dX3_answersAnew_81 : decode cX3_answersAnew 81 = .ok (.if_icmp .eq 19, 3) := dk_159 0 19 (dk_at dksX3_answersAnew_3 12 rfl rfl)
theorem dX3_answersAnew_84 : decode cX3_answersAnew 84 = .ok (.aload_n 0, 1) := dk_42 (dk_at dksX3_answersAnew_3 15 rfl rfl)
theorem dX3_answersAnew_85 : decode cX3_answersAnew 85 = .ok (.iload 4, 2) := dk_21 4 (dk_at dksX3_answersAnew_3 16 rfl rfl)
theorem dX3_answersAnew_87 : decode cX3_answersAnew 87 = .ok (.aload_n 0, 1) := dk_42 (dk_at dksX3_answersAnew_3 18 rfl rfl)
theorem dX3_answersAnew_88 : decode cX3_answersAnew 88 = .ok (.getfield 39, 3) := dk_180 0 39 (dk_at dksX3_answersAnew_3 19 rfl rfl)
theorem dX3_answersAnew_91 : decode cX3_answersAnew 91 = .ok (.iload 8, 2) := dk_21 8 (dk_at dksX3_answersAnew_3 22 rfl rfl)
theorem dX3_answersAnew_93 : decode cX3_answersAnew 93 = .ok (.iaload, 1) := dk_46 (dk_at dksX3_answersAnew_4 0 rfl rfl)
theorem dX3_answersAnew_94 : decode cX3_answersAnew 94 = .ok (.invokevirtual 135, 3) := dk_182 0 135 (dk_at dksX3_answersAnew_4 1 rfl rfl)
theorem dX3_answersAnew_97 : decode cX3_answersAnew 97 = .ok (.ifCond .eq 7, 3) := dk_153 0 7 (dk_at dksX3_answersAnew_4 4 rfl rfl)
theorem dX3_answersAnew_100 : decode cX3_answersAnew 100 = .ok (.iconst 1, 1) := dk_4 (dk_at dksX3_answersAnew_4 7 rfl rfl)
theorem dX3_answersAnew_101 : decode cX3_answersAnew 101 = .ok (.goto 4, 3) := dk_167 0 4 (dk_at dksX3_answersAnew_4 8 rfl rfl)
theorem dX3_answersAnew_104 : decode cX3_answersAnew 104 = .ok (.iconst 0, 1) := dk_3 (dk_at dksX3_answersAnew_4 11 rfl rfl)
theorem dX3_answersAnew_105 : decode cX3_answersAnew 105 = .ok (.istore 9, 2) := dk_54 9 (dk_at dksX3_answersAnew_4 12 rfl rfl)
theorem dX3_answersAnew_107 : decode cX3_answersAnew 107 = .ok (.iload 9, 2) := dk_21 9 (dk_at dksX3_answersAnew_4 14 rfl rfl)
theorem dX3_answersAnew_109 : decode cX3_answersAnew 109 = .ok (.ifCond .eq 118, 3) := dk_153 0 118 (dk_at dksX3_answersAnew_4 16 rfl rfl)
theorem dX3_answersAnew_112 : decode cX3_answersAnew 112 = .ok (.aload_n 0, 1) := dk_42 (dk_at dksX3_answersAnew_4 19 rfl rfl)
theorem dX3_answersAnew_113 : decode cX3_answersAnew 113 = .ok (.iload_n 1, 1) := dk_27 (dk_at dksX3_answersAnew_4 20 rfl rfl)
theorem dX3_answersAnew_114 : decode cX3_answersAnew 114 = .ok (.iload 7, 2) := dk_21 7 (dk_at dksX3_answersAnew_4 21 rfl rfl)
theorem dX3_answersAnew_116 : decode cX3_answersAnew 116 = .ok (.invokevirtual 173, 3) := dk_182 0 173 (dk_at dksX3_answersAnew_5 0 rfl rfl)
theorem dX3_answersAnew_119 : decode cX3_answersAnew 119 = .ok (.ifCond .eq 108, 3) := dk_153 0 108 (dk_at dksX3_answersAnew_5 3 rfl rfl)
theorem dX3_answersAnew_122 : decode cX3_answersAnew 122 = .ok (.aload_n 0, 1) := dk_42 (dk_at dksX3_answersAnew_5 6 rfl rfl)
theorem dX3_answersAnew_123 : decode cX3_answersAnew 123 = .ok (.iload 7, 2) := dk_21 7 (dk_at dksX3_answersAnew_5 7 rfl rfl)
theorem dX3_answersAnew_125 : decode cX3_answersAnew 125 = .ok (.invokevirtual 210, 3) := dk_182 0 210 (dk_at dksX3_answersAnew_5 9 rfl rfl)
theorem dX3_answersAnew_128 : decode cX3_answersAnew 128 = .ok (.iconst 0, 1) := dk_3 (dk_at dksX3_answersAnew_5 12 rfl rfl)
theorem dX3_answersAnew_129 : decode cX3_answersAnew 129 = .ok (.istore 10, 2) := dk_54 10 (dk_at dksX3_answersAnew_5 13 rfl rfl)
theorem dX3_answersAnew_131 : decode cX3_answersAnew 131 = .ok (.iload_n 3, 1) := dk_29 (dk_at dksX3_answersAnew_5 15 rfl rfl)
theorem dX3_answersAnew_132 : decode cX3_answersAnew 132 = .ok (.iconst (-1), 1) := dk_2 (dk_at dksX3_answersAnew_5 16 rfl rfl)
theorem dX3_answersAnew_133 : decode cX3_answersAnew 133 = .ok (.if_icmp .ne 7, 3) := dk_160 0 7 (dk_at dksX3_answersAnew_5 17 rfl rfl)
theorem dX3_answersAnew_136 : decode cX3_answersAnew 136 = .ok (.iconst 1, 1) := dk_4 (dk_at dksX3_answersAnew_5 20 rfl rfl)
theorem dX3_answersAnew_137 : decode cX3_answersAnew 137 = .ok (.goto 4, 3) := dk_167 0 4 (dk_at dksX3_answersAnew_5 21 rfl rfl)
theorem dX3_answersAnew_140 : decode cX3_answersAnew 140 = .ok (.iconst 0, 1) := dk_3 (dk_at dksX3_answersAnew_6 0 rfl rfl)
theorem dX3_answersAnew_141 : decode cX3_answersAnew 141 = .ok (.istore 11, 2) := dk_54 11 (dk_at dksX3_answersAnew_6 1 rfl rfl)
theorem dX3_answersAnew_143 : decode cX3_answersAnew 143 = .ok (.iconst 0, 1) := dk_3 (dk_at dksX3_answersAnew_6 3 rfl rfl)
theorem dX3_answersAnew_144 : decode cX3_answersAnew 144 = .ok (.istore 12, 2) := dk_54 12 (dk_at dksX3_answersAnew_6 4 rfl rfl)
theorem dX3_answersAnew_146 : decode cX3_answersAnew 146 = .ok (.iload 12, 2) := dk_21 12 (dk_at dksX3_answersAnew_6 6 rfl rfl)
theorem dX3_answersAnew_148 : decode cX3_answersAnew 148 = .ok (.aload_n 0, 1) := dk_42 (dk_at dksX3_answersAnew_6 8 rfl rfl)
theorem dX3_answersAnew_149 : decode cX3_answersAnew 149 = .ok (.getfield 195, 3) := dk_180 0 195 (dk_at dksX3_answersAnew_6 9 rfl rfl)
theorem dX3_answersAnew_152 : decode cX3_answersAnew 152 = .ok (.if_icmp .ge 55, 3) := dk_162 0 55 (dk_at dksX3_answersAnew_6 12 rfl rfl)
theorem dX3_answersAnew_155 : decode cX3_answersAnew 155 = .ok (.iload 10, 2) := dk_21 10 (dk_at dksX3_answersAnew_6 15 rfl rfl)
theorem dX3_answersAnew_157 : decode cX3_answersAnew 157 = .ok (.ifCond .ne 14, 3) := dk_154 0 14 (dk_at dksX3_answersAnew_6 17 rfl rfl)
theorem dX3_answersAnew_160 : decode cX3_answersAnew 160 = .ok (.aload_n 0, 1) := dk_42 (dk_at dksX3_answersAnew_6 20 rfl rfl)
theorem dX3_answersAnew_161 : decode cX3_answersAnew 161 = .ok (.getfield 115, 3) := dk_180 0 115 (dk_at dksX3_answersAnew_6 21 rfl rfl)
theorem dX3_answersAnew_164 : decode cX3_answersAnew 164 = .ok (.iload 12, 2) := dk_21 12 (dk_at dksX3_answersAnew_7 0 rfl rfl)
theorem dX3_answersAnew_166 : decode cX3_answersAnew 166 = .ok (.iaload, 1) := dk_46 (dk_at dksX3_answersAnew_7 2 rfl rfl)
theorem dX3_answersAnew_167 : decode cX3_answersAnew 167 = .ok (.iload_n 2, 1) := dk_28 (dk_at dksX3_answersAnew_7 3 rfl rfl)
theorem dX3_answersAnew_168 : decode cX3_answersAnew 168 = .ok (.if_icmp .ne 7, 3) := dk_160 0 7 (dk_at dksX3_answersAnew_7 4 rfl rfl)
theorem dX3_answersAnew_171 : decode cX3_answersAnew 171 = .ok (.iconst 1, 1) := dk_4 (dk_at dksX3_answersAnew_7 7 rfl rfl)
theorem dX3_answersAnew_172 : decode cX3_answersAnew 172 = .ok (.goto 4, 3) := dk_167 0 4 (dk_at dksX3_answersAnew_7 8 rfl rfl)
theorem dX3_answersAnew_175 : decode cX3_answersAnew 175 = .ok (.iconst 0, 1) := dk_3 (dk_at dksX3_answersAnew_7 11 rfl rfl)
theorem dX3_answersAnew_176 : decode cX3_answersAnew 176 = .ok (.istore 10, 2) := dk_54 10 (dk_at dksX3_answersAnew_7 12 rfl rfl)
theorem dX3_answersAnew_178 : decode cX3_answersAnew 178 = .ok (.iload 11, 2) := dk_21 11 (dk_at dksX3_answersAnew_7 14 rfl rfl)
theorem dX3_answersAnew_180 : decode cX3_answersAnew 180 = .ok (.ifCond .ne 14, 3) := dk_154 0 14 (dk_at dksX3_answersAnew_7 16 rfl rfl)
theorem dX3_answersAnew_183 : decode cX3_answersAnew 183 = .ok (.aload_n 0, 1) := dk_42 (dk_at dksX3_answersAnew_7 19 rfl rfl)
theorem dX3_answersAnew_184 : decode cX3_answersAnew 184 = .ok (.getfield 115, 3) := dk_180 0 115 (dk_at dksX3_answersAnew_7 20 rfl rfl)
theorem dX3_answersAnew_187 : decode cX3_answersAnew 187 = .ok (.iload 12, 2) := dk_21 12 (dk_at dksX3_answersAnew_8 0 rfl rfl)
theorem dX3_answersAnew_189 : decode cX3_answersAnew 189 = .ok (.iaload, 1) := dk_46 (dk_at dksX3_answersAnew_8 2 rfl rfl)
theorem dX3_answersAnew_190 : decode cX3_answersAnew 190 = .ok (.iload_n 3, 1) := dk_29 (dk_at dksX3_answersAnew_8 3 rfl rfl)
theorem dX3_answersAnew_191 : decode cX3_answersAnew 191 = .ok (.if_icmp .ne 7, 3) := dk_160 0 7 (dk_at dksX3_answersAnew_8 4 rfl rfl)
theorem dX3_answersAnew_194 : decode cX3_answersAnew 194 = .ok (.iconst 1, 1) := dk_4 (dk_at dksX3_answersAnew_8 7 rfl rfl)
theorem dX3_answersAnew_195 : decode cX3_answersAnew 195 = .ok (.goto 4, 3) := dk_167 0 4 (dk_at dksX3_answersAnew_8 8 rfl rfl)
theorem dX3_answersAnew_198 : decode cX3_answersAnew 198 = .ok (.iconst 0, 1) := dk_3 (dk_at dksX3_answersAnew_8 11 rfl rfl)
theorem dX3_answersAnew_199 : decode cX3_answersAnew 199 = .ok (.istore 11, 2) := dk_54 11 (dk_at dksX3_answersAnew_8 12 rfl rfl)
theorem dX3_answersAnew_201 : decode cX3_answersAnew 201 = .ok (.iinc 12 1, 3) := dk_132 12 1 (dk_at dksX3_answersAnew_8 14 rfl rfl)
theorem dX3_answersAnew_204 : decode cX3_answersAnew 204 = .ok (.goto (-58), 3) := dk_167 255 198 (dk_at dksX3_answersAnew_8 17 rfl rfl)
theorem dX3_answersAnew_207 : decode cX3_answersAnew 207 = .ok (.iload 6, 2) := dk_21 6 (dk_at dksX3_answersAnew_8 20 rfl rfl)
theorem dX3_answersAnew_209 : decode cX3_answersAnew 209 = .ok (.iload 10, 2) := dk_21 10 (dk_at dksX3_answersAnew_8 22 rfl rfl)
theorem dX3_answersAnew_211 : decode cX3_answersAnew 211 = .ok (.ifCond .eq 12, 3) := dk_153 0 12 (dk_at dksX3_answersAnew_9 0 rfl rfl)
theorem dX3_answersAnew_214 : decode cX3_answersAnew 214 = .ok (.iload 11, 2) := dk_21 11 (dk_at dksX3_answersAnew_9 3 rfl rfl)
theorem dX3_answersAnew_216 : decode cX3_answersAnew 216 = .ok (.ifCond .eq 7, 3) := dk_153 0 7 (dk_at dksX3_answersAnew_9 5 rfl rfl)
theorem dX3_answersAnew_219 : decode cX3_answersAnew 219 = .ok (.iconst 1, 1) := dk_4 (dk_at dksX3_answersAnew_9 8 rfl rfl)
theorem dX3_answersAnew_220 : decode cX3_answersAnew 220 = .ok (.goto 4, 3) := dk_167 0 4 (dk_at dksX3_answersAnew_9 9 rfl rfl)
theorem dX3_answersAnew_223 : decode cX3_answersAnew 223 = .ok (.iconst 0, 1) := dk_3 (dk_at dksX3_answersAnew_9 12 rfl rfl)
theorem dX3_answersAnew_224 : decode cX3_answersAnew 224 = .ok (.iadd, 1) := dk_96 (dk_at dksX3_answersAnew_9 13 rfl rfl)
theorem dX3_answersAnew_225 : decode cX3_answersAnew 225 = .ok (.istore 6, 2) := dk_54 6 (dk_at dksX3_answersAnew_9 14 rfl rfl)
theorem dX3_answersAnew_227 : decode cX3_answersAnew 227 = .ok (.iinc 7 1, 3) := dk_132 7 1 (dk_at dksX3_answersAnew_9 16 rfl rfl)
theorem dX3_answersAnew_230 : decode cX3_answersAnew 230 = .ok (.goto (-213), 3) := dk_167 255 43 (dk_at dksX3_answersAnew_9 19 rfl rfl)
theorem dX3_answersAnew_233 : decode cX3_answersAnew 233 = .ok (.iload 6, 2) := dk_21 6 (dk_at dksX3_answersAnew_9 22 rfl rfl)
theorem dX3_answersAnew_235 : decode cX3_answersAnew 235 = .ok (.ireturn, 1) := dk_172 (dk_at dksX3_answersAnew_10 0 rfl rfl)
abbrev cX3_answer : ByteArray := prog_11_method_74_code
def yX3_answer : MethodName := ⟨RX3, "answer", "(IIII)I"⟩
def dkwX3_answer_8 : List UInt8 := [172, 132, 5, 1, 167, 255, 109, 42, 4, 182, 0, 142, 172]
abbrev dktX3_answer_8 : List UInt8 := dkwX3_answer_8 ++ []
def dkwX3_answer_7 : List UInt8 := [96, 54, 6, 132, 8, 1, 167, 255, 169, 21, 6, 21, 4, 160, 0, 12, 16, 100, 21, 7, 104, 21, 5, 96]
abbrev dktX3_answer_7 : List UInt8 := dkwX3_answer_7 ++ dktX3_answer_8
def dkwX3_answer_6 : List UInt8 := [21, 8, 28, 29, 182, 1, 39, 21, 7, 160, 0, 14, 21, 8, 21, 5, 162, 0, 7, 4, 167, 0, 4, 3]
abbrev dktX3_answer_6 : List UInt8 := dkwX3_answer_6 ++ dktX3_answer_7
def dkwX3_answer_5 : List UInt8 := [3, 54, 9, 21, 6, 21, 9, 153, 0, 40, 42, 21, 8, 28, 29, 182, 1, 39, 21, 7, 163, 0, 23, 42]
abbrev dktX3_answer_5 : List UInt8 := dkwX3_answer_5 ++ dktX3_answer_6
def dkwX3_answer_4 : List UInt8 := [21, 8, 21, 5, 159, 0, 20, 42, 21, 8, 27, 28, 29, 2, 182, 1, 35, 153, 0, 7, 4, 167, 0, 4]
abbrev dktX3_answer_4 : List UInt8 := dkwX3_answer_4 ++ dktX3_answer_5
def dkwX3_answer_3 : List UInt8 := [54, 6, 42, 21, 5, 28, 29, 182, 1, 39, 54, 7, 3, 54, 8, 21, 8, 42, 180, 0, 118, 162, 0, 84]
abbrev dktX3_answer_3 : List UInt8 := dkwX3_answer_3 ++ dktX3_answer_4
def dkwX3_answer_2 : List UInt8 := [21, 5, 42, 180, 0, 118, 162, 0, 144, 42, 21, 5, 27, 28, 29, 2, 182, 1, 35, 153, 0, 125, 3]
abbrev dktX3_answer_2 : List UInt8 := dkwX3_answer_2 ++ dktX3_answer_3
def dkwX3_answer_1 : List UInt8 := [153, 0, 7, 3, 167, 0, 4, 5, 181, 0, 121, 42, 180, 0, 121, 158, 0, 5, 3, 172, 3, 54, 5]
abbrev dktX3_answer_1 : List UInt8 := dkwX3_answer_1 ++ dktX3_answer_2
def dkwX3_answer_0 : List UInt8 := [27, 3, 6, 184, 0, 124, 154, 0, 9, 42, 4, 182, 0, 142, 172, 42, 42, 28, 29, 182, 1, 28]
abbrev dktX3_answer_0 : List UInt8 := dkwX3_answer_0 ++ dktX3_answer_1
theorem dksX3_answer_0 : cX3_answer.data.toList.drop 0 = dktX3_answer_0 := by decide +kernel
theorem dksX3_answer_1 : cX3_answer.data.toList.drop 22 = dktX3_answer_1 := dk_seg dksX3_answer_0 22 rfl rfl
theorem dksX3_answer_2 : cX3_answer.data.toList.drop 45 = dktX3_answer_2 := dk_seg dksX3_answer_1 23 rfl rfl
theorem dksX3_answer_3 : cX3_answer.data.toList.drop 68 = dktX3_answer_3 := dk_seg dksX3_answer_2 23 rfl rfl
theorem dksX3_answer_4 : cX3_answer.data.toList.drop 92 = dktX3_answer_4 := dk_seg dksX3_answer_3 24 rfl rfl
theorem dksX3_answer_5 : cX3_answer.data.toList.drop 116 = dktX3_answer_5 := dk_seg dksX3_answer_4 24 rfl rfl
theorem dksX3_answer_6 : cX3_answer.data.toList.drop 140 = dktX3_answer_6 := dk_seg dksX3_answer_5 24 rfl rfl
theorem dksX3_answer_7 : cX3_answer.data.toList.drop 164 = dktX3_answer_7 := dk_seg dksX3_answer_6 24 rfl rfl
theorem dksX3_answer_8 : cX3_answer.data.toList.drop 188 = dktX3_answer_8 := dk_seg dksX3_answer_7 24 rfl rfl
theorem dX3_answer_0 : decode cX3_answer 0 = .ok (.iload_n 1, 1) := dk_27 (dk_at dksX3_answer_0 0 rfl rfl)
theorem dX3_answer_1 : decode cX3_answer 1 = .ok (.iconst 0, 1) := dk_3 (dk_at dksX3_answer_0 1 rfl rfl)
theorem dX3_answer_2 : decode cX3_answer 2 = .ok (.iconst 3, 1) := dk_6 (dk_at dksX3_answer_0 2 rfl rfl)
theorem dX3_answer_3 : decode cX3_answer 3 = .ok (.invokestatic 124, 3) := dk_184 0 124 (dk_at dksX3_answer_0 3 rfl rfl)
theorem dX3_answer_6 : decode cX3_answer 6 = .ok (.ifCond .ne 9, 3) := dk_154 0 9 (dk_at dksX3_answer_0 6 rfl rfl)
theorem dX3_answer_9 : decode cX3_answer 9 = .ok (.aload_n 0, 1) := dk_42 (dk_at dksX3_answer_0 9 rfl rfl)
theorem dX3_answer_10 : decode cX3_answer 10 = .ok (.iconst 1, 1) := dk_4 (dk_at dksX3_answer_0 10 rfl rfl)
theorem dX3_answer_11 : decode cX3_answer 11 = .ok (.invokevirtual 142, 3) := dk_182 0 142 (dk_at dksX3_answer_0 11 rfl rfl)
theorem dX3_answer_14 : decode cX3_answer 14 = .ok (.ireturn, 1) := dk_172 (dk_at dksX3_answer_0 14 rfl rfl)
theorem dX3_answer_15 : decode cX3_answer 15 = .ok (.aload_n 0, 1) := dk_42 (dk_at dksX3_answer_0 15 rfl rfl)
theorem dX3_answer_16 : decode cX3_answer 16 = .ok (.aload_n 0, 1) := dk_42 (dk_at dksX3_answer_0 16 rfl rfl)
theorem dX3_answer_17 : decode cX3_answer 17 = .ok (.iload_n 2, 1) := dk_28 (dk_at dksX3_answer_0 17 rfl rfl)
theorem dX3_answer_18 : decode cX3_answer 18 = .ok (.iload_n 3, 1) := dk_29 (dk_at dksX3_answer_0 18 rfl rfl)
theorem dX3_answer_19 : decode cX3_answer 19 = .ok (.invokevirtual 284, 3) := dk_182 1 28 (dk_at dksX3_answer_0 19 rfl rfl)
theorem dX3_answer_22 : decode cX3_answer 22 = .ok (.ifCond .eq 7, 3) := dk_153 0 7 (dk_at dksX3_answer_1 0 rfl rfl)
theorem dX3_answer_25 : decode cX3_answer 25 = .ok (.iconst 0, 1) := dk_3 (dk_at dksX3_answer_1 3 rfl rfl)
theorem dX3_answer_26 : decode cX3_answer 26 = .ok (.goto 4, 3) := dk_167 0 4 (dk_at dksX3_answer_1 4 rfl rfl)
theorem dX3_answer_29 : decode cX3_answer 29 = .ok (.iconst 2, 1) := dk_5 (dk_at dksX3_answer_1 7 rfl rfl)
theorem dX3_answer_30 : decode cX3_answer 30 = .ok (.putfield 121, 3) := dk_181 0 121 (dk_at dksX3_answer_1 8 rfl rfl)
theorem dX3_answer_33 : decode cX3_answer 33 = .ok (.aload_n 0, 1) := dk_42 (dk_at dksX3_answer_1 11 rfl rfl)
theorem dX3_answer_34 : decode cX3_answer 34 = .ok (.getfield 121, 3) := dk_180 0 121 (dk_at dksX3_answer_1 12 rfl rfl)
theorem dX3_answer_37 : decode cX3_answer 37 = .ok (.ifCond .le 5, 3) := dk_158 0 5 (dk_at dksX3_answer_1 15 rfl rfl)
theorem dX3_answer_40 : decode cX3_answer 40 = .ok (.iconst 0, 1) := dk_3 (dk_at dksX3_answer_1 18 rfl rfl)
theorem dX3_answer_41 : decode cX3_answer 41 = .ok (.ireturn, 1) := dk_172 (dk_at dksX3_answer_1 19 rfl rfl)
theorem dX3_answer_42 : decode cX3_answer 42 = .ok (.iconst 0, 1) := dk_3 (dk_at dksX3_answer_1 20 rfl rfl)
theorem dX3_answer_43 : decode cX3_answer 43 = .ok (.istore 5, 2) := dk_54 5 (dk_at dksX3_answer_1 21 rfl rfl)
theorem dX3_answer_45 : decode cX3_answer 45 = .ok (.iload 5, 2) := dk_21 5 (dk_at dksX3_answer_2 0 rfl rfl)
theorem dX3_answer_47 : decode cX3_answer 47 = .ok (.aload_n 0, 1) := dk_42 (dk_at dksX3_answer_2 2 rfl rfl)
theorem dX3_answer_48 : decode cX3_answer 48 = .ok (.getfield 118, 3) := dk_180 0 118 (dk_at dksX3_answer_2 3 rfl rfl)
theorem dX3_answer_51 : decode cX3_answer 51 = .ok (.if_icmp .ge 144, 3) := dk_162 0 144 (dk_at dksX3_answer_2 6 rfl rfl)
theorem dX3_answer_54 : decode cX3_answer 54 = .ok (.aload_n 0, 1) := dk_42 (dk_at dksX3_answer_2 9 rfl rfl)
theorem dX3_answer_55 : decode cX3_answer 55 = .ok (.iload 5, 2) := dk_21 5 (dk_at dksX3_answer_2 10 rfl rfl)
theorem dX3_answer_57 : decode cX3_answer 57 = .ok (.iload_n 1, 1) := dk_27 (dk_at dksX3_answer_2 12 rfl rfl)
theorem dX3_answer_58 : decode cX3_answer 58 = .ok (.iload_n 2, 1) := dk_28 (dk_at dksX3_answer_2 13 rfl rfl)
theorem dX3_answer_59 : decode cX3_answer 59 = .ok (.iload_n 3, 1) := dk_29 (dk_at dksX3_answer_2 14 rfl rfl)
theorem dX3_answer_60 : decode cX3_answer 60 = .ok (.iconst (-1), 1) := dk_2 (dk_at dksX3_answer_2 15 rfl rfl)
theorem dX3_answer_61 : decode cX3_answer 61 = .ok (.invokevirtual 291, 3) := dk_182 1 35 (dk_at dksX3_answer_2 16 rfl rfl)
theorem dX3_answer_64 : decode cX3_answer 64 = .ok (.ifCond .eq 125, 3) := dk_153 0 125 (dk_at dksX3_answer_2 19 rfl rfl)
theorem dX3_answer_67 : decode cX3_answer 67 = .ok (.iconst 0, 1) := dk_3 (dk_at dksX3_answer_2 22 rfl rfl)
theorem dX3_answer_68 : decode cX3_answer 68 = .ok (.istore 6, 2) := dk_54 6 (dk_at dksX3_answer_3 0 rfl rfl)
theorem dX3_answer_70 : decode cX3_answer 70 = .ok (.aload_n 0, 1) := dk_42 (dk_at dksX3_answer_3 2 rfl rfl)
theorem dX3_answer_71 : decode cX3_answer 71 = .ok (.iload 5, 2) := dk_21 5 (dk_at dksX3_answer_3 3 rfl rfl)
theorem dX3_answer_73 : decode cX3_answer 73 = .ok (.iload_n 2, 1) := dk_28 (dk_at dksX3_answer_3 5 rfl rfl)
theorem dX3_answer_74 : decode cX3_answer 74 = .ok (.iload_n 3, 1) := dk_29 (dk_at dksX3_answer_3 6 rfl rfl)
theorem dX3_answer_75 : decode cX3_answer 75 = .ok (.invokevirtual 295, 3) := dk_182 1 39 (dk_at dksX3_answer_3 7 rfl rfl)
theorem dX3_answer_78 : decode cX3_answer 78 = .ok (.istore 7, 2) := dk_54 7 (dk_at dksX3_answer_3 10 rfl rfl)
theorem dX3_answer_80 : decode cX3_answer 80 = .ok (.iconst 0, 1) := dk_3 (dk_at dksX3_answer_3 12 rfl rfl)
theorem dX3_answer_81 : decode cX3_answer 81 = .ok (.istore 8, 2) := dk_54 8 (dk_at dksX3_answer_3 13 rfl rfl)
theorem dX3_answer_83 : decode cX3_answer 83 = .ok (.iload 8, 2) := dk_21 8 (dk_at dksX3_answer_3 15 rfl rfl)
theorem dX3_answer_85 : decode cX3_answer 85 = .ok (.aload_n 0, 1) := dk_42 (dk_at dksX3_answer_3 17 rfl rfl)
theorem dX3_answer_86 : decode cX3_answer 86 = .ok (.getfield 118, 3) := dk_180 0 118 (dk_at dksX3_answer_3 18 rfl rfl)
theorem dX3_answer_89 : decode cX3_answer 89 = .ok (.if_icmp .ge 84, 3) := dk_162 0 84 (dk_at dksX3_answer_3 21 rfl rfl)
theorem dX3_answer_92 : decode cX3_answer 92 = .ok (.iload 8, 2) := dk_21 8 (dk_at dksX3_answer_4 0 rfl rfl)
theorem dX3_answer_94 : decode cX3_answer 94 = .ok (.iload 5, 2) := dk_21 5 (dk_at dksX3_answer_4 2 rfl rfl)
theorem dX3_answer_96 : decode cX3_answer 96 = .ok (.if_icmp .eq 20, 3) := dk_159 0 20 (dk_at dksX3_answer_4 4 rfl rfl)
theorem dX3_answer_99 : decode cX3_answer 99 = .ok (.aload_n 0, 1) := dk_42 (dk_at dksX3_answer_4 7 rfl rfl)
theorem dX3_answer_100 : decode cX3_answer 100 = .ok (.iload 8, 2) := dk_21 8 (dk_at dksX3_answer_4 8 rfl rfl)
theorem dX3_answer_102 : decode cX3_answer 102 = .ok (.iload_n 1, 1) := dk_27 (dk_at dksX3_answer_4 10 rfl rfl)
theorem dX3_answer_103 : decode cX3_answer 103 = .ok (.iload_n 2, 1) := dk_28 (dk_at dksX3_answer_4 11 rfl rfl)
theorem dX3_answer_104 : decode cX3_answer 104 = .ok (.iload_n 3, 1) := dk_29 (dk_at dksX3_answer_4 12 rfl rfl)
theorem dX3_answer_105 : decode cX3_answer 105 = .ok (.iconst (-1), 1) := dk_2 (dk_at dksX3_answer_4 13 rfl rfl)
theorem dX3_answer_106 : decode cX3_answer 106 = .ok (.invokevirtual 291, 3) := dk_182 1 35 (dk_at dksX3_answer_4 14 rfl rfl)
theorem dX3_answer_109 : decode cX3_answer 109 = .ok (.ifCond .eq 7, 3) := dk_153 0 7 (dk_at dksX3_answer_4 17 rfl rfl)
theorem dX3_answer_112 : decode cX3_answer 112 = .ok (.iconst 1, 1) := dk_4 (dk_at dksX3_answer_4 20 rfl rfl)
theorem dX3_answer_113 : decode cX3_answer 113 = .ok (.goto 4, 3) := dk_167 0 4 (dk_at dksX3_answer_4 21 rfl rfl)
theorem dX3_answer_116 : decode cX3_answer 116 = .ok (.iconst 0, 1) := dk_3 (dk_at dksX3_answer_5 0 rfl rfl)
theorem dX3_answer_117 : decode cX3_answer 117 = .ok (.istore 9, 2) := dk_54 9 (dk_at dksX3_answer_5 1 rfl rfl)
theorem dX3_answer_119 : decode cX3_answer 119 = .ok (.iload 6, 2) := dk_21 6 (dk_at dksX3_answer_5 3 rfl rfl)
theorem dX3_answer_121 : decode cX3_answer 121 = .ok (.iload 9, 2) := dk_21 9 (dk_at dksX3_answer_5 5 rfl rfl)
theorem dX3_answer_123 : decode cX3_answer 123 = .ok (.ifCond .eq 40, 3) := dk_153 0 40 (dk_at dksX3_answer_5 7 rfl rfl)
theorem dX3_answer_126 : decode cX3_answer 126 = .ok (.aload_n 0, 1) := dk_42 (dk_at dksX3_answer_5 10 rfl rfl)
theorem dX3_answer_127 : decode cX3_answer 127 = .ok (.iload 8, 2) := dk_21 8 (dk_at dksX3_answer_5 11 rfl rfl)
theorem dX3_answer_129 : decode cX3_answer 129 = .ok (.iload_n 2, 1) := dk_28 (dk_at dksX3_answer_5 13 rfl rfl)
theorem dX3_answer_130 : decode cX3_answer 130 = .ok (.iload_n 3, 1) := dk_29 (dk_at dksX3_answer_5 14 rfl rfl)
theorem dX3_answer_131 : decode cX3_answer 131 = .ok (.invokevirtual 295, 3) := dk_182 1 39 (dk_at dksX3_answer_5 15 rfl rfl)
theorem dX3_answer_134 : decode cX3_answer 134 = .ok (.iload 7, 2) := dk_21 7 (dk_at dksX3_answer_5 18 rfl rfl)
theorem dX3_answer_136 : decode cX3_answer 136 = .ok (.if_icmp .gt 23, 3) := dk_163 0 23 (dk_at dksX3_answer_5 20 rfl rfl)
theorem dX3_answer_139 : decode cX3_answer 139 = .ok (.aload_n 0, 1) := dk_42 (dk_at dksX3_answer_5 23 rfl rfl)
theorem dX3_answer_140 : decode cX3_answer 140 = .ok (.iload 8, 2) := dk_21 8 (dk_at dksX3_answer_6 0 rfl rfl)
theorem dX3_answer_142 : decode cX3_answer 142 = .ok (.iload_n 2, 1) := dk_28 (dk_at dksX3_answer_6 2 rfl rfl)
theorem dX3_answer_143 : decode cX3_answer 143 = .ok (.iload_n 3, 1) := dk_29 (dk_at dksX3_answer_6 3 rfl rfl)
theorem dX3_answer_144 : decode cX3_answer 144 = .ok (.invokevirtual 295, 3) := dk_182 1 39 (dk_at dksX3_answer_6 4 rfl rfl)
theorem dX3_answer_147 : decode cX3_answer 147 = .ok (.iload 7, 2) := dk_21 7 (dk_at dksX3_answer_6 7 rfl rfl)
theorem dX3_answer_149 : decode cX3_answer 149 = .ok (.if_icmp .ne 14, 3) := dk_160 0 14 (dk_at dksX3_answer_6 9 rfl rfl)
theorem dX3_answer_152 : decode cX3_answer 152 = .ok (.iload 8, 2) := dk_21 8 (dk_at dksX3_answer_6 12 rfl rfl)
theorem dX3_answer_154 : decode cX3_answer 154 = .ok (.iload 5, 2) := dk_21 5 (dk_at dksX3_answer_6 14 rfl rfl)
theorem dX3_answer_156 : decode cX3_answer 156 = .ok (.if_icmp .ge 7, 3) := dk_162 0 7 (dk_at dksX3_answer_6 16 rfl rfl)
theorem dX3_answer_159 : decode cX3_answer 159 = .ok (.iconst 1, 1) := dk_4 (dk_at dksX3_answer_6 19 rfl rfl)
theorem dX3_answer_160 : decode cX3_answer 160 = .ok (.goto 4, 3) := dk_167 0 4 (dk_at dksX3_answer_6 20 rfl rfl)
theorem dX3_answer_163 : decode cX3_answer 163 = .ok (.iconst 0, 1) := dk_3 (dk_at dksX3_answer_6 23 rfl rfl)
theorem dX3_answer_164 : decode cX3_answer 164 = .ok (.iadd, 1) := dk_96 (dk_at dksX3_answer_7 0 rfl rfl)
theorem dX3_answer_165 : decode cX3_answer 165 = .ok (.istore 6, 2) := dk_54 6 (dk_at dksX3_answer_7 1 rfl rfl)
theorem dX3_answer_167 : decode cX3_answer 167 = .ok (.iinc 8 1, 3) := dk_132 8 1 (dk_at dksX3_answer_7 3 rfl rfl)
theorem dX3_answer_170 : decode cX3_answer 170 = .ok (.goto (-87), 3) := dk_167 255 169 (dk_at dksX3_answer_7 6 rfl rfl)
theorem dX3_answer_173 : decode cX3_answer 173 = .ok (.iload 6, 2) := dk_21 6 (dk_at dksX3_answer_7 9 rfl rfl)
theorem dX3_answer_175 : decode cX3_answer 175 = .ok (.iload 4, 2) := dk_21 4 (dk_at dksX3_answer_7 11 rfl rfl)
theorem dX3_answer_177 : decode cX3_answer 177 = .ok (.if_icmp .ne 12, 3) := dk_160 0 12 (dk_at dksX3_answer_7 13 rfl rfl)
theorem dX3_answer_180 : decode cX3_answer 180 = .ok (.bipush 100, 2) := dk_16 100 (dk_at dksX3_answer_7 16 rfl rfl)
theorem dX3_answer_182 : decode cX3_answer 182 = .ok (.iload 7, 2) := dk_21 7 (dk_at dksX3_answer_7 18 rfl rfl)
theorem dX3_answer_184 : decode cX3_answer 184 = .ok (.imul, 1) := dk_104 (dk_at dksX3_answer_7 20 rfl rfl)
theorem dX3_answer_185 : decode cX3_answer 185 = .ok (.iload 5, 2) := dk_21 5 (dk_at dksX3_answer_7 21 rfl rfl)
theorem dX3_answer_187 : decode cX3_answer 187 = .ok (.iadd, 1) := dk_96 (dk_at dksX3_answer_7 23 rfl rfl)
theorem dX3_answer_188 : decode cX3_answer 188 = .ok (.ireturn, 1) := dk_172 (dk_at dksX3_answer_8 0 rfl rfl)
theorem dX3_answer_189 : decode cX3_answer 189 = .ok (.iinc 5 1, 3) := dk_132 5 1 (dk_at dksX3_answer_8 1 rfl rfl)
theorem dX3_answer_192 : decode cX3_answer 192 = .ok (.goto (-147), 3) := dk_167 255 109 (dk_at dksX3_answer_8 4 rfl rfl)
theorem dX3_answer_195 : decode cX3_answer 195 = .ok (.aload_n 0, 1) := dk_42 (dk_at dksX3_answer_8 7 rfl rfl)
theorem dX3_answer_196 : decode cX3_answer 196 = .ok (.iconst 1, 1) := dk_4 (dk_at dksX3_answer_8 8 rfl rfl)
theorem dX3_answer_197 : decode cX3_answer 197 = .ok (.invokevirtual 142, 3) := dk_182 0 142 (dk_at dksX3_answer_8 9 rfl rfl)
theorem dX3_answer_200 : decode cX3_answer 200 = .ok (.ireturn, 1) := dk_172 (dk_at dksX3_answer_8 12 rfl rfl)
abbrev cX3_score : ByteArray := prog_11_method_69_code
def yX3_score : MethodName := ⟨RX3, "score", "(III)I"⟩
def dkwX3_score_4 : List UInt8 := [21, 5, 153, 0, 11, 21, 4, 16, 10, 96, 167, 0, 5, 21, 4, 172]
abbrev dktX3_score_4 : List UInt8 := dkwX3_score_4 ++ []
def dkwX3_score_3 : List UInt8 := [21, 6, 96, 4, 96, 46, 29, 160, 0, 7, 4, 167, 0, 4, 3, 54, 5, 132, 6, 1, 167, 255, 194]
abbrev dktX3_score_3 : List UInt8 := dkwX3_score_3 ++ dktX3_score_4
def dkwX3_score_2 : List UInt8 := [42, 180, 0, 81, 16, 20, 27, 104, 21, 6, 96, 46, 28, 160, 0, 25, 42, 180, 0, 81, 16, 20, 27, 104]
abbrev dktX3_score_2 : List UInt8 := dkwX3_score_2 ++ dktX3_score_3
def dkwX3_score_1 : List UInt8 := [3, 54, 5, 3, 54, 6, 21, 6, 4, 96, 42, 180, 0, 78, 27, 46, 162, 0, 55, 21, 5, 154, 0, 37]
abbrev dktX3_score_1 : List UInt8 := dkwX3_score_1 ++ dktX3_score_2
def dkwX3_score_0 : List UInt8 := [42, 27, 28, 182, 1, 21, 29, 2, 160, 0, 7, 3, 167, 0, 9, 42, 27, 29, 182, 1, 21, 96, 54, 4]
abbrev dktX3_score_0 : List UInt8 := dkwX3_score_0 ++ dktX3_score_1
theorem dksX3_score_0 : cX3_score.data.toList.drop 0 = dktX3_score_0 := by decide +kernel
theorem dksX3_score_1 : cX3_score.data.toList.drop 24 = dktX3_score_1 := dk_seg dksX3_score_0 24 rfl rfl
theorem dksX3_score_2 : cX3_score.data.toList.drop 48 = dktX3_score_2 := dk_seg dksX3_score_1 24 rfl rfl
theorem dksX3_score_3 : cX3_score.data.toList.drop 72 = dktX3_score_3 := dk_seg dksX3_score_2 24 rfl rfl
theorem dksX3_score_4 : cX3_score.data.toList.drop 95 = dktX3_score_4 := dk_seg dksX3_score_3 23 rfl rfl
theorem dX3_score_0 : decode cX3_score 0 = .ok (.aload_n 0, 1) := dk_42 (dk_at dksX3_score_0 0 rfl rfl)
theorem dX3_score_1 : decode cX3_score 1 = .ok (.iload_n 1, 1) := dk_27 (dk_at dksX3_score_0 1 rfl rfl)
theorem dX3_score_2 : decode cX3_score 2 = .ok (.iload_n 2, 1) := dk_28 (dk_at dksX3_score_0 2 rfl rfl)
theorem dX3_score_3 : decode cX3_score 3 = .ok (.invokevirtual 277, 3) := dk_182 1 21 (dk_at dksX3_score_0 3 rfl rfl)
theorem dX3_score_6 : decode cX3_score 6 = .ok (.iload_n 3, 1) := dk_29 (dk_at dksX3_score_0 6 rfl rfl)
theorem dX3_score_7 : decode cX3_score 7 = .ok (.iconst (-1), 1) := dk_2 (dk_at dksX3_score_0 7 rfl rfl)
theorem dX3_score_8 : decode cX3_score 8 = .ok (.if_icmp .ne 7, 3) := dk_160 0 7 (dk_at dksX3_score_0 8 rfl rfl)
theorem dX3_score_11 : decode cX3_score 11 = .ok (.iconst 0, 1) := dk_3 (dk_at dksX3_score_0 11 rfl rfl)
theorem dX3_score_12 : decode cX3_score 12 = .ok (.goto 9, 3) := dk_167 0 9 (dk_at dksX3_score_0 12 rfl rfl)
theorem dX3_score_15 : decode cX3_score 15 = .ok (.aload_n 0, 1) := dk_42 (dk_at dksX3_score_0 15 rfl rfl)
theorem dX3_score_16 : decode cX3_score 16 = .ok (.iload_n 1, 1) := dk_27 (dk_at dksX3_score_0 16 rfl rfl)
theorem dX3_score_17 : decode cX3_score 17 = .ok (.iload_n 3, 1) := dk_29 (dk_at dksX3_score_0 17 rfl rfl)
theorem dX3_score_18 : decode cX3_score 18 = .ok (.invokevirtual 277, 3) := dk_182 1 21 (dk_at dksX3_score_0 18 rfl rfl)
theorem dX3_score_21 : decode cX3_score 21 = .ok (.iadd, 1) := dk_96 (dk_at dksX3_score_0 21 rfl rfl)
theorem dX3_score_22 : decode cX3_score 22 = .ok (.istore 4, 2) := dk_54 4 (dk_at dksX3_score_0 22 rfl rfl)
theorem dX3_score_24 : decode cX3_score 24 = .ok (.iconst 0, 1) := dk_3 (dk_at dksX3_score_1 0 rfl rfl)
theorem dX3_score_25 : decode cX3_score 25 = .ok (.istore 5, 2) := dk_54 5 (dk_at dksX3_score_1 1 rfl rfl)
theorem dX3_score_27 : decode cX3_score 27 = .ok (.iconst 0, 1) := dk_3 (dk_at dksX3_score_1 3 rfl rfl)
theorem dX3_score_28 : decode cX3_score 28 = .ok (.istore 6, 2) := dk_54 6 (dk_at dksX3_score_1 4 rfl rfl)
theorem dX3_score_30 : decode cX3_score 30 = .ok (.iload 6, 2) := dk_21 6 (dk_at dksX3_score_1 6 rfl rfl)
theorem dX3_score_32 : decode cX3_score 32 = .ok (.iconst 1, 1) := dk_4 (dk_at dksX3_score_1 8 rfl rfl)
theorem dX3_score_33 : decode cX3_score 33 = .ok (.iadd, 1) := dk_96 (dk_at dksX3_score_1 9 rfl rfl)
theorem dX3_score_34 : decode cX3_score 34 = .ok (.aload_n 0, 1) := dk_42 (dk_at dksX3_score_1 10 rfl rfl)
theorem dX3_score_35 : decode cX3_score 35 = .ok (.getfield 78, 3) := dk_180 0 78 (dk_at dksX3_score_1 11 rfl rfl)
theorem dX3_score_38 : decode cX3_score 38 = .ok (.iload_n 1, 1) := dk_27 (dk_at dksX3_score_1 14 rfl rfl)
theorem dX3_score_39 : decode cX3_score 39 = .ok (.iaload, 1) := dk_46 (dk_at dksX3_score_1 15 rfl rfl)
theorem dX3_score_40 : decode cX3_score 40 = .ok (.if_icmp .ge 55, 3) := dk_162 0 55 (dk_at dksX3_score_1 16 rfl rfl)
theorem dX3_score_43 : decode cX3_score 43 = .ok (.iload 5, 2) := dk_21 5 (dk_at dksX3_score_1 19 rfl rfl)
theorem dX3_score_45 : decode cX3_score 45 = .ok (.ifCond .ne 37, 3) := dk_154 0 37 (dk_at dksX3_score_1 21 rfl rfl)
theorem dX3_score_48 : decode cX3_score 48 = .ok (.aload_n 0, 1) := dk_42 (dk_at dksX3_score_2 0 rfl rfl)
theorem dX3_score_49 : decode cX3_score 49 = .ok (.getfield 81, 3) := dk_180 0 81 (dk_at dksX3_score_2 1 rfl rfl)
theorem dX3_score_52 : decode cX3_score 52 = .ok (.bipush 20, 2) := dk_16 20 (dk_at dksX3_score_2 4 rfl rfl)
theorem dX3_score_54 : decode cX3_score 54 = .ok (.iload_n 1, 1) := dk_27 (dk_at dksX3_score_2 6 rfl rfl)
theorem dX3_score_55 : decode cX3_score 55 = .ok (.imul, 1) := dk_104 (dk_at dksX3_score_2 7 rfl rfl)
theorem dX3_score_56 : decode cX3_score 56 = .ok (.iload 6, 2) := dk_21 6 (dk_at dksX3_score_2 8 rfl rfl)
theorem dX3_score_58 : decode cX3_score 58 = .ok (.iadd, 1) := dk_96 (dk_at dksX3_score_2 10 rfl rfl)
theorem dX3_score_59 : decode cX3_score 59 = .ok (.iaload, 1) := dk_46 (dk_at dksX3_score_2 11 rfl rfl)
theorem dX3_score_60 : decode cX3_score 60 = .ok (.iload_n 2, 1) := dk_28 (dk_at dksX3_score_2 12 rfl rfl)
theorem dX3_score_61 : decode cX3_score 61 = .ok (.if_icmp .ne 25, 3) := dk_160 0 25 (dk_at dksX3_score_2 13 rfl rfl)
theorem dX3_score_64 : decode cX3_score 64 = .ok (.aload_n 0, 1) := dk_42 (dk_at dksX3_score_2 16 rfl rfl)
theorem dX3_score_65 : decode cX3_score 65 = .ok (.getfield 81, 3) := dk_180 0 81 (dk_at dksX3_score_2 17 rfl rfl)
theorem dX3_score_68 : decode cX3_score 68 = .ok (.bipush 20, 2) := dk_16 20 (dk_at dksX3_score_2 20 rfl rfl)
theorem dX3_score_70 : decode cX3_score 70 = .ok (.iload_n 1, 1) := dk_27 (dk_at dksX3_score_2 22 rfl rfl)
theorem dX3_score_71 : decode cX3_score 71 = .ok (.imul, 1) := dk_104 (dk_at dksX3_score_2 23 rfl rfl)
theorem dX3_score_72 : decode cX3_score 72 = .ok (.iload 6, 2) := dk_21 6 (dk_at dksX3_score_3 0 rfl rfl)
theorem dX3_score_74 : decode cX3_score 74 = .ok (.iadd, 1) := dk_96 (dk_at dksX3_score_3 2 rfl rfl)
theorem dX3_score_75 : decode cX3_score 75 = .ok (.iconst 1, 1) := dk_4 (dk_at dksX3_score_3 3 rfl rfl)
theorem dX3_score_76 : decode cX3_score 76 = .ok (.iadd, 1) := dk_96 (dk_at dksX3_score_3 4 rfl rfl)
theorem dX3_score_77 : decode cX3_score 77 = .ok (.iaload, 1) := dk_46 (dk_at dksX3_score_3 5 rfl rfl)
theorem dX3_score_78 : decode cX3_score 78 = .ok (.iload_n 3, 1) := dk_29 (dk_at dksX3_score_3 6 rfl rfl)
theorem dX3_score_79 : decode cX3_score 79 = .ok (.if_icmp .ne 7, 3) := dk_160 0 7 (dk_at dksX3_score_3 7 rfl rfl)
theorem dX3_score_82 : decode cX3_score 82 = .ok (.iconst 1, 1) := dk_4 (dk_at dksX3_score_3 10 rfl rfl)
theorem dX3_score_83 : decode cX3_score 83 = .ok (.goto 4, 3) := dk_167 0 4 (dk_at dksX3_score_3 11 rfl rfl)
theorem dX3_score_86 : decode cX3_score 86 = .ok (.iconst 0, 1) := dk_3 (dk_at dksX3_score_3 14 rfl rfl)
theorem dX3_score_87 : decode cX3_score 87 = .ok (.istore 5, 2) := dk_54 5 (dk_at dksX3_score_3 15 rfl rfl)
theorem dX3_score_89 : decode cX3_score 89 = .ok (.iinc 6 1, 3) := dk_132 6 1 (dk_at dksX3_score_3 17 rfl rfl)
theorem dX3_score_92 : decode cX3_score 92 = .ok (.goto (-62), 3) := dk_167 255 194 (dk_at dksX3_score_3 20 rfl rfl)
theorem dX3_score_95 : decode cX3_score 95 = .ok (.iload 5, 2) := dk_21 5 (dk_at dksX3_score_4 0 rfl rfl)
theorem dX3_score_97 : decode cX3_score 97 = .ok (.ifCond .eq 11, 3) := dk_153 0 11 (dk_at dksX3_score_4 2 rfl rfl)
theorem dX3_score_100 : decode cX3_score 100 = .ok (.iload 4, 2) := dk_21 4 (dk_at dksX3_score_4 5 rfl rfl)
theorem dX3_score_102 : decode cX3_score 102 = .ok (.bipush 10, 2) := dk_16 10 (dk_at dksX3_score_4 7 rfl rfl)
theorem dX3_score_104 : decode cX3_score 104 = .ok (.iadd, 1) := dk_96 (dk_at dksX3_score_4 9 rfl rfl)
theorem dX3_score_105 : decode cX3_score 105 = .ok (.goto 5, 3) := dk_167 0 5 (dk_at dksX3_score_4 10 rfl rfl)
theorem dX3_score_108 : decode cX3_score 108 = .ok (.iload 4, 2) := dk_21 4 (dk_at dksX3_score_4 13 rfl rfl)
theorem dX3_score_110 : decode cX3_score 110 = .ok (.ireturn, 1) := dk_172 (dk_at dksX3_score_4 15 rfl rfl)
abbrev cX3_closest : ByteArray := prog_11_method_75_code
def yX3_closest : MethodName := ⟨RX3, "closest", "(IIII)I"⟩
def dkwX3_closest_9 : List UInt8 := [132, 7, 1, 167, 255, 142, 21, 5, 172]
abbrev dktX3_closest_9 : List UInt8 := dkwX3_closest_9 ++ []
def dkwX3_closest_8 : List UInt8 := [112, 184, 1, 43, 153, 0, 13, 16, 100, 21, 7, 104, 21, 8, 96, 54, 5, 132, 8, 1, 167, 255, 158]
abbrev dktX3_closest_8 : List UInt8 := dkwX3_closest_8 ++ dktX3_closest_9
def dkwX3_closest_7 : List UInt8 := [21, 9, 153, 0, 39, 21, 5, 2, 159, 0, 23, 21, 7, 21, 8, 21, 5, 16, 100, 108, 21, 5, 16, 100]
abbrev dktX3_closest_7 : List UInt8 := dkwX3_closest_7 ++ dktX3_closest_8
def dkwX3_closest_6 : List UInt8 := [180, 0, 81, 16, 20, 28, 104, 21, 8, 96, 46, 21, 4, 160, 0, 7, 4, 167, 0, 4, 3, 54, 9]
abbrev dktX3_closest_6 : List UInt8 := dkwX3_closest_6 ++ dktX3_closest_7
def dkwX3_closest_5 : List UInt8 := [21, 8, 159, 0, 40, 42, 180, 0, 81, 16, 20, 28, 104, 21, 7, 96, 46, 29, 160, 0, 24, 42]
abbrev dktX3_closest_5 : List UInt8 := dkwX3_closest_5 ++ dktX3_closest_6
def dkwX3_closest_4 : List UInt8 := [54, 6, 3, 54, 7, 21, 7, 21, 6, 162, 0, 113, 3, 54, 8, 21, 8, 21, 6, 162, 0, 97, 21, 7]
abbrev dktX3_closest_4 : List UInt8 := dkwX3_closest_4 ++ dktX3_closest_5
def dkwX3_closest_3 : List UInt8 := [172, 2, 54, 5, 42, 180, 0, 66, 28, 51, 153, 0, 12, 42, 180, 0, 78, 28, 46, 167, 0, 4, 3]
abbrev dktX3_closest_3 : List UInt8 := dkwX3_closest_3 ++ dktX3_closest_4
def dkwX3_closest_2 : List UInt8 := [16, 99, 184, 0, 124, 153, 0, 7, 3, 167, 0, 4, 5, 181, 0, 121, 42, 180, 0, 121, 158, 0, 5, 3]
abbrev dktX3_closest_2 : List UInt8 := dkwX3_closest_2 ++ dktX3_closest_3
def dkwX3_closest_1 : List UInt8 := [154, 0, 9, 42, 4, 182, 0, 142, 172, 42, 29, 3, 16, 99, 184, 0, 124, 153, 0, 18, 21, 4, 3]
abbrev dktX3_closest_1 : List UInt8 := dkwX3_closest_1 ++ dktX3_closest_2
def dkwX3_closest_0 : List UInt8 := [27, 3, 6, 184, 0, 124, 153, 0, 20, 42, 28, 182, 0, 157, 153, 0, 12, 42, 27, 28, 182, 0, 173]
abbrev dktX3_closest_0 : List UInt8 := dkwX3_closest_0 ++ dktX3_closest_1
theorem dksX3_closest_0 : cX3_closest.data.toList.drop 0 = dktX3_closest_0 := by decide +kernel
theorem dksX3_closest_1 : cX3_closest.data.toList.drop 23 = dktX3_closest_1 := dk_seg dksX3_closest_0 23 rfl rfl
theorem dksX3_closest_2 : cX3_closest.data.toList.drop 46 = dktX3_closest_2 := dk_seg dksX3_closest_1 23 rfl rfl
theorem dksX3_closest_3 : cX3_closest.data.toList.drop 70 = dktX3_closest_3 := dk_seg dksX3_closest_2 24 rfl rfl
theorem dksX3_closest_4 : cX3_closest.data.toList.drop 93 = dktX3_closest_4 := dk_seg dksX3_closest_3 23 rfl rfl
theorem dksX3_closest_5 : cX3_closest.data.toList.drop 117 = dktX3_closest_5 := dk_seg dksX3_closest_4 24 rfl rfl
theorem dksX3_closest_6 : cX3_closest.data.toList.drop 139 = dktX3_closest_6 := dk_seg dksX3_closest_5 22 rfl rfl
theorem dksX3_closest_7 : cX3_closest.data.toList.drop 162 = dktX3_closest_7 := dk_seg dksX3_closest_6 23 rfl rfl
theorem dksX3_closest_8 : cX3_closest.data.toList.drop 186 = dktX3_closest_8 := dk_seg dksX3_closest_7 24 rfl rfl
theorem dksX3_closest_9 : cX3_closest.data.toList.drop 209 = dktX3_closest_9 := dk_seg dksX3_closest_8 23 rfl rfl
theorem dX3_closest_0 : decode cX3_closest 0 = .ok (.iload_n 1, 1) := dk_27 (dk_at dksX3_closest_0 0 rfl rfl)
theorem dX3_closest_1 : decode cX3_closest 1 = .ok (.iconst 0, 1) := dk_3 (dk_at dksX3_closest_0 1 rfl rfl)
theorem dX3_closest_2 : decode cX3_closest 2 = .ok (.iconst 3, 1) := dk_6 (dk_at dksX3_closest_0 2 rfl rfl)
theorem dX3_closest_3 : decode cX3_closest 3 = .ok (.invokestatic 124, 3) := dk_184 0 124 (dk_at dksX3_closest_0 3 rfl rfl)
theorem dX3_closest_6 : decode cX3_closest 6 = .ok (.ifCond .eq 20, 3) := dk_153 0 20 (dk_at dksX3_closest_0 6 rfl rfl)
theorem dX3_closest_9 : decode cX3_closest 9 = .ok (.aload_n 0, 1) := dk_42 (dk_at dksX3_closest_0 9 rfl rfl)
theorem dX3_closest_10 : decode cX3_closest 10 = .ok (.iload_n 2, 1) := dk_28 (dk_at dksX3_closest_0 10 rfl rfl)
theorem dX3_closest_11 : decode cX3_closest 11 = .ok (.invokevirtual 157, 3) := dk_182 0 157 (dk_at dksX3_closest_0 11 rfl rfl)
theorem dX3_closest_14 : decode cX3_closest 14 = .ok (.ifCond .eq 12, 3) := dk_153 0 12 (dk_at dksX3_closest_0 14 rfl rfl)
theorem dX3_closest_17 : decode cX3_closest 17 = .ok (.aload_n 0, 1) := dk_42 (dk_at dksX3_closest_0 17 rfl rfl)
theorem dX3_closest_18 : decode cX3_closest 18 = .ok (.iload_n 1, 1) := dk_27 (dk_at dksX3_closest_0 18 rfl rfl)
theorem dX3_closest_19 : decode cX3_closest 19 = .ok (.iload_n 2, 1) := dk_28 (dk_at dksX3_closest_0 19 rfl rfl)
theorem dX3_closest_20 : decode cX3_closest 20 = .ok (.invokevirtual 173, 3) := dk_182 0 173 (dk_at dksX3_closest_0 20 rfl rfl)
theorem dX3_closest_23 : decode cX3_closest 23 = .ok (.ifCond .ne 9, 3) := dk_154 0 9 (dk_at dksX3_closest_1 0 rfl rfl)
theorem dX3_closest_26 : decode cX3_closest 26 = .ok (.aload_n 0, 1) := dk_42 (dk_at dksX3_closest_1 3 rfl rfl)
theorem dX3_closest_27 : decode cX3_closest 27 = .ok (.iconst 1, 1) := dk_4 (dk_at dksX3_closest_1 4 rfl rfl)
theorem dX3_closest_28 : decode cX3_closest 28 = .ok (.invokevirtual 142, 3) := dk_182 0 142 (dk_at dksX3_closest_1 5 rfl rfl)
theorem dX3_closest_31 : decode cX3_closest 31 = .ok (.ireturn, 1) := dk_172 (dk_at dksX3_closest_1 8 rfl rfl)
theorem dX3_closest_32 : decode cX3_closest 32 = .ok (.aload_n 0, 1) := dk_42 (dk_at dksX3_closest_1 9 rfl rfl)
theorem dX3_closest_33 : decode cX3_closest 33 = .ok (.iload_n 3, 1) := dk_29 (dk_at dksX3_closest_1 10 rfl rfl)
theorem dX3_closest_34 : decode cX3_closest 34 = .ok (.iconst 0, 1) := dk_3 (dk_at dksX3_closest_1 11 rfl rfl)
theorem dX3_closest_35 : decode cX3_closest 35 = .ok (.bipush 99, 2) := dk_16 99 (dk_at dksX3_closest_1 12 rfl rfl)
theorem dX3_closest_37 : decode cX3_closest 37 = .ok (.invokestatic 124, 3) := dk_184 0 124 (dk_at dksX3_closest_1 14 rfl rfl)
theorem dX3_closest_40 : decode cX3_closest 40 = .ok (.ifCond .eq 18, 3) := dk_153 0 18 (dk_at dksX3_closest_1 17 rfl rfl)
theorem dX3_closest_43 : decode cX3_closest 43 = .ok (.iload 4, 2) := dk_21 4 (dk_at dksX3_closest_1 20 rfl rfl)
theorem dX3_closest_45 : decode cX3_closest 45 = .ok (.iconst 0, 1) := dk_3 (dk_at dksX3_closest_1 22 rfl rfl)
theorem dX3_closest_46 : decode cX3_closest 46 = .ok (.bipush 99, 2) := dk_16 99 (dk_at dksX3_closest_2 0 rfl rfl)
theorem dX3_closest_48 : decode cX3_closest 48 = .ok (.invokestatic 124, 3) := dk_184 0 124 (dk_at dksX3_closest_2 2 rfl rfl)
theorem dX3_closest_51 : decode cX3_closest 51 = .ok (.ifCond .eq 7, 3) := dk_153 0 7 (dk_at dksX3_closest_2 5 rfl rfl)
theorem dX3_closest_54 : decode cX3_closest 54 = .ok (.iconst 0, 1) := dk_3 (dk_at dksX3_closest_2 8 rfl rfl)
theorem dX3_closest_55 : decode cX3_closest 55 = .ok (.goto 4, 3) := dk_167 0 4 (dk_at dksX3_closest_2 9 rfl rfl)
theorem dX3_closest_58 : decode cX3_closest 58 = .ok (.iconst 2, 1) := dk_5 (dk_at dksX3_closest_2 12 rfl rfl)
theorem dX3_closest_59 : decode cX3_closest 59 = .ok (.putfield 121, 3) := dk_181 0 121 (dk_at dksX3_closest_2 13 rfl rfl)
theorem dX3_closest_62 : decode cX3_closest 62 = .ok (.aload_n 0, 1) := dk_42 (dk_at dksX3_closest_2 16 rfl rfl)
theorem dX3_closest_63 : decode cX3_closest 63 = .ok (.getfield 121, 3) := dk_180 0 121 (dk_at dksX3_closest_2 17 rfl rfl)
theorem dX3_closest_66 : decode cX3_closest 66 = .ok (.ifCond .le 5, 3) := dk_158 0 5 (dk_at dksX3_closest_2 20 rfl rfl)
theorem dX3_closest_69 : decode cX3_closest 69 = .ok (.iconst 0, 1) := dk_3 (dk_at dksX3_closest_2 23 rfl rfl)
theorem dX3_closest_70 : decode cX3_closest 70 = .ok (.ireturn, 1) := dk_172 (dk_at dksX3_closest_3 0 rfl rfl)
theorem dX3_closest_71 : decode cX3_closest 71 = .ok (.iconst (-1), 1) := dk_2 (dk_at dksX3_closest_3 1 rfl rfl)
theorem dX3_closest_72 : decode cX3_closest 72 = .ok (.istore 5, 2) := dk_54 5 (dk_at dksX3_closest_3 2 rfl rfl)
theorem dX3_closest_74 : decode cX3_closest 74 = .ok (.aload_n 0, 1) := dk_42 (dk_at dksX3_closest_3 4 rfl rfl)
theorem dX3_closest_75 : decode cX3_closest 75 = .ok (.getfield 66, 3) := dk_180 0 66 (dk_at dksX3_closest_3 5 rfl rfl)
theorem dX3_closest_78 : decode cX3_closest 78 = .ok (.iload_n 2, 1) := dk_28 (dk_at dksX3_closest_3 8 rfl rfl)
theorem dX3_closest_79 : decode cX3_closest 79 = .ok (.baload, 1) := dk_51 (dk_at dksX3_closest_3 9 rfl rfl)
theorem dX3_closest_80 : decode cX3_closest 80 = .ok (.ifCond .eq 12, 3) := dk_153 0 12 (dk_at dksX3_closest_3 10 rfl rfl)
theorem dX3_closest_83 : decode cX3_closest 83 = .ok (.aload_n 0, 1) := dk_42 (dk_at dksX3_closest_3 13 rfl rfl)
theorem dX3_closest_84 : decode cX3_closest 84 = .ok (.getfield 78, 3) := dk_180 0 78 (dk_at dksX3_closest_3 14 rfl rfl)
theorem dX3_closest_87 : decode cX3_closest 87 = .ok (.iload_n 2, 1) := dk_28 (dk_at dksX3_closest_3 17 rfl rfl)
theorem dX3_closest_88 : decode cX3_closest 88 = .ok (.iaload, 1) := dk_46 (dk_at dksX3_closest_3 18 rfl rfl)
theorem dX3_closest_89 : decode cX3_closest 89 = .ok (.goto 4, 3) := dk_167 0 4 (dk_at dksX3_closest_3 19 rfl rfl)
theorem dX3_closest_92 : decode cX3_closest 92 = .ok (.iconst 0, 1) := dk_3 (dk_at dksX3_closest_3 22 rfl rfl)
theorem dX3_closest_93 : decode cX3_closest 93 = .ok (.istore 6, 2) := dk_54 6 (dk_at dksX3_closest_4 0 rfl rfl)
theorem dX3_closest_95 : decode cX3_closest 95 = .ok (.iconst 0, 1) := dk_3 (dk_at dksX3_closest_4 2 rfl rfl)
theorem dX3_closest_96 : decode cX3_closest 96 = .ok (.istore 7, 2) := dk_54 7 (dk_at dksX3_closest_4 3 rfl rfl)
theorem dX3_closest_98 : decode cX3_closest 98 = .ok (.iload 7, 2) := dk_21 7 (dk_at dksX3_closest_4 5 rfl rfl)
theorem dX3_closest_100 : decode cX3_closest 100 = .ok (.iload 6, 2) := dk_21 6 (dk_at dksX3_closest_4 7 rfl rfl)
theorem dX3_closest_102 : decode cX3_closest 102 = .ok (.if_icmp .ge 113, 3) := dk_162 0 113 (dk_at dksX3_closest_4 9 rfl rfl)
theorem dX3_closest_105 : decode cX3_closest 105 = .ok (.iconst 0, 1) := dk_3 (dk_at dksX3_closest_4 12 rfl rfl)
theorem dX3_closest_106 : decode cX3_closest 106 = .ok (.istore 8, 2) := dk_54 8 (dk_at dksX3_closest_4 13 rfl rfl)
theorem dX3_closest_108 : decode cX3_closest 108 = .ok (.iload 8, 2) := dk_21 8 (dk_at dksX3_closest_4 15 rfl rfl)
theorem dX3_closest_110 : decode cX3_closest 110 = .ok (.iload 6, 2) := dk_21 6 (dk_at dksX3_closest_4 17 rfl rfl)
theorem dX3_closest_112 : decode cX3_closest 112 = .ok (.if_icmp .ge 97, 3) := dk_162 0 97 (dk_at dksX3_closest_4 19 rfl rfl)
theorem dX3_closest_115 : decode cX3_closest 115 = .ok (.iload 7, 2) := dk_21 7 (dk_at dksX3_closest_4 22 rfl rfl)
theorem dX3_closest_117 : decode cX3_closest 117 = .ok (.iload 8, 2) := dk_21 8 (dk_at dksX3_closest_5 0 rfl rfl)
theorem dX3_closest_119 : decode cX3_closest 119 = .ok (.if_icmp .eq 40, 3) := dk_159 0 40 (dk_at dksX3_closest_5 2 rfl rfl)
theorem dX3_closest_122 : decode cX3_closest 122 = .ok (.aload_n 0, 1) := dk_42 (dk_at dksX3_closest_5 5 rfl rfl)
theorem dX3_closest_123 : decode cX3_closest 123 = .ok (.getfield 81, 3) := dk_180 0 81 (dk_at dksX3_closest_5 6 rfl rfl)
theorem dX3_closest_126 : decode cX3_closest 126 = .ok (.bipush 20, 2) := dk_16 20 (dk_at dksX3_closest_5 9 rfl rfl)
theorem dX3_closest_128 : decode cX3_closest 128 = .ok (.iload_n 2, 1) := dk_28 (dk_at dksX3_closest_5 11 rfl rfl)
theorem dX3_closest_129 : decode cX3_closest 129 = .ok (.imul, 1) := dk_104 (dk_at dksX3_closest_5 12 rfl rfl)
theorem dX3_closest_130 : decode cX3_closest 130 = .ok (.iload 7, 2) := dk_21 7 (dk_at dksX3_closest_5 13 rfl rfl)
theorem dX3_closest_132 : decode cX3_closest 132 = .ok (.iadd, 1) := dk_96 (dk_at dksX3_closest_5 15 rfl rfl)
theorem dX3_closest_133 : decode cX3_closest 133 = .ok (.iaload, 1) := dk_46 (dk_at dksX3_closest_5 16 rfl rfl)
theorem dX3_closest_134 : decode cX3_closest 134 = .ok (.iload_n 3, 1) := dk_29 (dk_at dksX3_closest_5 17 rfl rfl)
theorem dX3_closest_135 : decode cX3_closest 135 = .ok (.if_icmp .ne 24, 3) := dk_160 0 24 (dk_at dksX3_closest_5 18 rfl rfl)
theorem dX3_closest_138 : decode cX3_closest 138 = .ok (.aload_n 0, 1) := dk_42 (dk_at dksX3_closest_5 21 rfl rfl)
theorem dX3_closest_139 : decode cX3_closest 139 = .ok (.getfield 81, 3) := dk_180 0 81 (dk_at dksX3_closest_6 0 rfl rfl)
theorem dX3_closest_142 : decode cX3_closest 142 = .ok (.bipush 20, 2) := dk_16 20 (dk_at dksX3_closest_6 3 rfl rfl)
theorem dX3_closest_144 : decode cX3_closest 144 = .ok (.iload_n 2, 1) := dk_28 (dk_at dksX3_closest_6 5 rfl rfl)
theorem dX3_closest_145 : decode cX3_closest 145 = .ok (.imul, 1) := dk_104 (dk_at dksX3_closest_6 6 rfl rfl)
theorem dX3_closest_146 : decode cX3_closest 146 = .ok (.iload 8, 2) := dk_21 8 (dk_at dksX3_closest_6 7 rfl rfl)
theorem dX3_closest_148 : decode cX3_closest 148 = .ok (.iadd, 1) := dk_96 (dk_at dksX3_closest_6 9 rfl rfl)
theorem dX3_closest_149 : decode cX3_closest 149 = .ok (.iaload, 1) := dk_46 (dk_at dksX3_closest_6 10 rfl rfl)
theorem dX3_closest_150 : decode cX3_closest 150 = .ok (.iload 4, 2) := dk_21 4 (dk_at dksX3_closest_6 11 rfl rfl)
theorem dX3_closest_152 : decode cX3_closest 152 = .ok (.if_icmp .ne 7, 3) := dk_160 0 7 (dk_at dksX3_closest_6 13 rfl rfl)
theorem dX3_closest_155 : decode cX3_closest 155 = .ok (.iconst 1, 1) := dk_4 (dk_at dksX3_closest_6 16 rfl rfl)
theorem dX3_closest_156 : decode cX3_closest 156 = .ok (.goto 4, 3) := dk_167 0 4 (dk_at dksX3_closest_6 17 rfl rfl)
theorem dX3_closest_159 : decode cX3_closest 159 = .ok (.iconst 0, 1) := dk_3 (dk_at dksX3_closest_6 20 rfl rfl)
theorem dX3_closest_160 : decode cX3_closest 160 = .ok (.istore 9, 2) := dk_54 9 (dk_at dksX3_closest_6 21 rfl rfl)
theorem dX3_closest_162 : decode cX3_closest 162 = .ok (.iload 9, 2) := dk_21 9 (dk_at dksX3_closest_7 0 rfl rfl)
theorem dX3_closest_164 : decode cX3_closest 164 = .ok (.ifCond .eq 39, 3) := dk_153 0 39 (dk_at dksX3_closest_7 2 rfl rfl)
theorem dX3_closest_167 : decode cX3_closest 167 = .ok (.iload 5, 2) := dk_21 5 (dk_at dksX3_closest_7 5 rfl rfl)
theorem dX3_closest_169 : decode cX3_closest 169 = .ok (.iconst (-1), 1) := dk_2 (dk_at dksX3_closest_7 7 rfl rfl)
theorem dX3_closest_170 : decode cX3_closest 170 = .ok (.if_icmp .eq 23, 3) := dk_159 0 23 (dk_at dksX3_closest_7 8 rfl rfl)
theorem dX3_closest_173 : decode cX3_closest 173 = .ok (.iload 7, 2) := dk_21 7 (dk_at dksX3_closest_7 11 rfl rfl)
theorem dX3_closest_175 : decode cX3_closest 175 = .ok (.iload 8, 2) := dk_21 8 (dk_at dksX3_closest_7 13 rfl rfl)
theorem dX3_closest_177 : decode cX3_closest 177 = .ok (.iload 5, 2) := dk_21 5 (dk_at dksX3_closest_7 15 rfl rfl)
theorem dX3_closest_179 : decode cX3_closest 179 = .ok (.bipush 100, 2) := dk_16 100 (dk_at dksX3_closest_7 17 rfl rfl)
theorem dX3_closest_181 : decode cX3_closest 181 = .ok (.idiv, 1) := dk_108 (dk_at dksX3_closest_7 19 rfl rfl)
theorem dX3_closest_182 : decode cX3_closest 182 = .ok (.iload 5, 2) := dk_21 5 (dk_at dksX3_closest_7 20 rfl rfl)
theorem dX3_closest_184 : decode cX3_closest 184 = .ok (.bipush 100, 2) := dk_16 100 (dk_at dksX3_closest_7 22 rfl rfl)
theorem dX3_closest_186 : decode cX3_closest 186 = .ok (.irem, 1) := dk_112 (dk_at dksX3_closest_8 0 rfl rfl)
theorem dX3_closest_187 : decode cX3_closest 187 = .ok (.invokestatic 299, 3) := dk_184 1 43 (dk_at dksX3_closest_8 1 rfl rfl)
theorem dX3_closest_190 : decode cX3_closest 190 = .ok (.ifCond .eq 13, 3) := dk_153 0 13 (dk_at dksX3_closest_8 4 rfl rfl)
theorem dX3_closest_193 : decode cX3_closest 193 = .ok (.bipush 100, 2) := dk_16 100 (dk_at dksX3_closest_8 7 rfl rfl)
theorem dX3_closest_195 : decode cX3_closest 195 = .ok (.iload 7, 2) := dk_21 7 (dk_at dksX3_closest_8 9 rfl rfl)
theorem dX3_closest_197 : decode cX3_closest 197 = .ok (.imul, 1) := dk_104 (dk_at dksX3_closest_8 11 rfl rfl)
theorem dX3_closest_198 : decode cX3_closest 198 = .ok (.iload 8, 2) := dk_21 8 (dk_at dksX3_closest_8 12 rfl rfl)
theorem dX3_closest_200 : decode cX3_closest 200 = .ok (.iadd, 1) := dk_96 (dk_at dksX3_closest_8 14 rfl rfl)
theorem dX3_closest_201 : decode cX3_closest 201 = .ok (.istore 5, 2) := dk_54 5 (dk_at dksX3_closest_8 15 rfl rfl)
theorem dX3_closest_203 : decode cX3_closest 203 = .ok (.iinc 8 1, 3) := dk_132 8 1 (dk_at dksX3_closest_8 17 rfl rfl)
theorem dX3_closest_206 : decode cX3_closest 206 = .ok (.goto (-98), 3) := dk_167 255 158 (dk_at dksX3_closest_8 20 rfl rfl)
theorem dX3_closest_209 : decode cX3_closest 209 = .ok (.iinc 7 1, 3) := dk_132 7 1 (dk_at dksX3_closest_9 0 rfl rfl)
theorem dX3_closest_212 : decode cX3_closest 212 = .ok (.goto (-114), 3) := dk_167 255 142 (dk_at dksX3_closest_9 3 rfl rfl)
theorem dX3_closest_215 : decode cX3_closest 215 = .ok (.iload 5, 2) := dk_21 5 (dk_at dksX3_closest_9 6 rfl rfl)
theorem dX3_closest_217 : decode cX3_closest 217 = .ok (.ireturn, 1) := dk_172 (dk_at dksX3_closest_9 8 rfl rfl)
abbrev cX3_isCloser : ByteArray := prog_11_method_76_code
def yX3_isCloser : MethodName := ⟨RX3, "isCloser", "(IIII)Z"⟩
def dkwX3_isCloser_4 : List UInt8 := [167, 0, 17, 3, 167, 0, 13, 26, 28, 162, 0, 7, 4, 167, 0, 4, 3, 172]
abbrev dktX3_isCloser_4 : List UInt8 := dkwX3_isCloser_4 ++ []
def dkwX3_isCloser_3 : List UInt8 := [4, 167, 0, 39, 3, 167, 0, 35, 21, 6, 21, 7, 159, 0, 18, 21, 6, 21, 7, 162, 0, 7, 4]
abbrev dktX3_isCloser_3 : List UInt8 := dkwX3_isCloser_3 ++ dktX3_isCloser_4
def dkwX3_isCloser_2 : List UInt8 := [162, 0, 7, 28, 167, 0, 4, 29, 54, 7, 21, 4, 21, 5, 159, 0, 18, 21, 4, 21, 5, 162, 0, 7]
abbrev dktX3_isCloser_2 : List UInt8 := dkwX3_isCloser_2 ++ dktX3_isCloser_3
def dkwX3_isCloser_1 : List UInt8 := [167, 0, 6, 28, 29, 100, 54, 5, 26, 27, 162, 0, 7, 26, 167, 0, 4, 27, 54, 6, 28, 29]
abbrev dktX3_isCloser_1 : List UInt8 := dkwX3_isCloser_1 ++ dktX3_isCloser_2
def dkwX3_isCloser_0 : List UInt8 := [26, 27, 162, 0, 9, 27, 26, 100, 167, 0, 6, 26, 27, 100, 54, 4, 28, 29, 162, 0, 9, 29, 28, 100]
abbrev dktX3_isCloser_0 : List UInt8 := dkwX3_isCloser_0 ++ dktX3_isCloser_1
theorem dksX3_isCloser_0 : cX3_isCloser.data.toList.drop 0 = dktX3_isCloser_0 := by decide +kernel
theorem dksX3_isCloser_1 : cX3_isCloser.data.toList.drop 24 = dktX3_isCloser_1 := dk_seg dksX3_isCloser_0 24 rfl rfl
theorem dksX3_isCloser_2 : cX3_isCloser.data.toList.drop 46 = dktX3_isCloser_2 := dk_seg dksX3_isCloser_1 22 rfl rfl
theorem dksX3_isCloser_3 : cX3_isCloser.data.toList.drop 70 = dktX3_isCloser_3 := dk_seg dksX3_isCloser_2 24 rfl rfl
theorem dksX3_isCloser_4 : cX3_isCloser.data.toList.drop 93 = dktX3_isCloser_4 := dk_seg dksX3_isCloser_3 23 rfl rfl
theorem dX3_isCloser_0 : decode cX3_isCloser 0 = .ok (.iload_n 0, 1) := dk_26 (dk_at dksX3_isCloser_0 0 rfl rfl)
theorem dX3_isCloser_1 : decode cX3_isCloser 1 = .ok (.iload_n 1, 1) := dk_27 (dk_at dksX3_isCloser_0 1 rfl rfl)
theorem dX3_isCloser_2 : decode cX3_isCloser 2 = .ok (.if_icmp .ge 9, 3) := dk_162 0 9 (dk_at dksX3_isCloser_0 2 rfl rfl)
theorem dX3_isCloser_5 : decode cX3_isCloser 5 = .ok (.iload_n 1, 1) := dk_27 (dk_at dksX3_isCloser_0 5 rfl rfl)
theorem dX3_isCloser_6 : decode cX3_isCloser 6 = .ok (.iload_n 0, 1) := dk_26 (dk_at dksX3_isCloser_0 6 rfl rfl)
theorem dX3_isCloser_7 : decode cX3_isCloser 7 = .ok (.isub, 1) := dk_100 (dk_at dksX3_isCloser_0 7 rfl rfl)
theorem dX3_isCloser_8 : decode cX3_isCloser 8 = .ok (.goto 6, 3) := dk_167 0 6 (dk_at dksX3_isCloser_0 8 rfl rfl)
theorem dX3_isCloser_11 : decode cX3_isCloser 11 = .ok (.iload_n 0, 1) := dk_26 (dk_at dksX3_isCloser_0 11 rfl rfl)
theorem dX3_isCloser_12 : decode cX3_isCloser 12 = .ok (.iload_n 1, 1) := dk_27 (dk_at dksX3_isCloser_0 12 rfl rfl)
theorem dX3_isCloser_13 : decode cX3_isCloser 13 = .ok (.isub, 1) := dk_100 (dk_at dksX3_isCloser_0 13 rfl rfl)
theorem dX3_isCloser_14 : decode cX3_isCloser 14 = .ok (.istore 4, 2) := dk_54 4 (dk_at dksX3_isCloser_0 14 rfl rfl)
theorem dX3_isCloser_16 : decode cX3_isCloser 16 = .ok (.iload_n 2, 1) := dk_28 (dk_at dksX3_isCloser_0 16 rfl rfl)
theorem dX3_isCloser_17 : decode cX3_isCloser 17 = .ok (.iload_n 3, 1) := dk_29 (dk_at dksX3_isCloser_0 17 rfl rfl)
theorem dX3_isCloser_18 : decode cX3_isCloser 18 = .ok (.if_icmp .ge 9, 3) := dk_162 0 9 (dk_at dksX3_isCloser_0 18 rfl rfl)
theorem dX3_isCloser_21 : decode cX3_isCloser 21 = .ok (.iload_n 3, 1) := dk_29 (dk_at dksX3_isCloser_0 21 rfl rfl)
theorem dX3_isCloser_22 : decode cX3_isCloser 22 = .ok (.iload_n 2, 1) := dk_28 (dk_at dksX3_isCloser_0 22 rfl rfl)
theorem dX3_isCloser_23 : decode cX3_isCloser 23 = .ok (.isub, 1) := dk_100 (dk_at dksX3_isCloser_0 23 rfl rfl)
theorem dX3_isCloser_24 : decode cX3_isCloser 24 = .ok (.goto 6, 3) := dk_167 0 6 (dk_at dksX3_isCloser_1 0 rfl rfl)
theorem dX3_isCloser_27 : decode cX3_isCloser 27 = .ok (.iload_n 2, 1) := dk_28 (dk_at dksX3_isCloser_1 3 rfl rfl)
theorem dX3_isCloser_28 : decode cX3_isCloser 28 = .ok (.iload_n 3, 1) := dk_29 (dk_at dksX3_isCloser_1 4 rfl rfl)
theorem dX3_isCloser_29 : decode cX3_isCloser 29 = .ok (.isub, 1) := dk_100 (dk_at dksX3_isCloser_1 5 rfl rfl)
theorem dX3_isCloser_30 : decode cX3_isCloser 30 = .ok (.istore 5, 2) := dk_54 5 (dk_at dksX3_isCloser_1 6 rfl rfl)
theorem dX3_isCloser_32 : decode cX3_isCloser 32 = .ok (.iload_n 0, 1) := dk_26 (dk_at dksX3_isCloser_1 8 rfl rfl)
theorem dX3_isCloser_33 : decode cX3_isCloser 33 = .ok (.iload_n 1, 1) := dk_27 (dk_at dksX3_isCloser_1 9 rfl rfl)
theorem dX3_isCloser_34 : decode cX3_isCloser 34 = .ok (.if_icmp .ge 7, 3) := dk_162 0 7 (dk_at dksX3_isCloser_1 10 rfl rfl)
theorem dX3_isCloser_37 : decode cX3_isCloser 37 = .ok (.iload_n 0, 1) := dk_26 (dk_at dksX3_isCloser_1 13 rfl rfl)
theorem dX3_isCloser_38 : decode cX3_isCloser 38 = .ok (.goto 4, 3) := dk_167 0 4 (dk_at dksX3_isCloser_1 14 rfl rfl)
theorem dX3_isCloser_41 : decode cX3_isCloser 41 = .ok (.iload_n 1, 1) := dk_27 (dk_at dksX3_isCloser_1 17 rfl rfl)
theorem dX3_isCloser_42 : decode cX3_isCloser 42 = .ok (.istore 6, 2) := dk_54 6 (dk_at dksX3_isCloser_1 18 rfl rfl)
theorem dX3_isCloser_44 : decode cX3_isCloser 44 = .ok (.iload_n 2, 1) := dk_28 (dk_at dksX3_isCloser_1 20 rfl rfl)
theorem dX3_isCloser_45 : decode cX3_isCloser 45 = .ok (.iload_n 3, 1) := dk_29 (dk_at dksX3_isCloser_1 21 rfl rfl)
theorem dX3_isCloser_46 : decode cX3_isCloser 46 = .ok (.if_icmp .ge 7, 3) := dk_162 0 7 (dk_at dksX3_isCloser_2 0 rfl rfl)
theorem dX3_isCloser_49 : decode cX3_isCloser 49 = .ok (.iload_n 2, 1) := dk_28 (dk_at dksX3_isCloser_2 3 rfl rfl)
theorem dX3_isCloser_50 : decode cX3_isCloser 50 = .ok (.goto 4, 3) := dk_167 0 4 (dk_at dksX3_isCloser_2 4 rfl rfl)
theorem dX3_isCloser_53 : decode cX3_isCloser 53 = .ok (.iload_n 3, 1) := dk_29 (dk_at dksX3_isCloser_2 7 rfl rfl)
theorem dX3_isCloser_54 : decode cX3_isCloser 54 = .ok (.istore 7, 2) := dk_54 7 (dk_at dksX3_isCloser_2 8 rfl rfl)
theorem dX3_isCloser_56 : decode cX3_isCloser 56 = .ok (.iload 4, 2) := dk_21 4 (dk_at dksX3_isCloser_2 10 rfl rfl)
theorem dX3_isCloser_58 : decode cX3_isCloser 58 = .ok (.iload 5, 2) := dk_21 5 (dk_at dksX3_isCloser_2 12 rfl rfl)
theorem dX3_isCloser_60 : decode cX3_isCloser 60 = .ok (.if_icmp .eq 18, 3) := dk_159 0 18 (dk_at dksX3_isCloser_2 14 rfl rfl)
theorem dX3_isCloser_63 : decode cX3_isCloser 63 = .ok (.iload 4, 2) := dk_21 4 (dk_at dksX3_isCloser_2 17 rfl rfl)
theorem dX3_isCloser_65 : decode cX3_isCloser 65 = .ok (.iload 5, 2) := dk_21 5 (dk_at dksX3_isCloser_2 19 rfl rfl)
theorem dX3_isCloser_67 : decode cX3_isCloser 67 = .ok (.if_icmp .ge 7, 3) := dk_162 0 7 (dk_at dksX3_isCloser_2 21 rfl rfl)
theorem dX3_isCloser_70 : decode cX3_isCloser 70 = .ok (.iconst 1, 1) := dk_4 (dk_at dksX3_isCloser_3 0 rfl rfl)
theorem dX3_isCloser_71 : decode cX3_isCloser 71 = .ok (.goto 39, 3) := dk_167 0 39 (dk_at dksX3_isCloser_3 1 rfl rfl)
theorem dX3_isCloser_74 : decode cX3_isCloser 74 = .ok (.iconst 0, 1) := dk_3 (dk_at dksX3_isCloser_3 4 rfl rfl)
theorem dX3_isCloser_75 : decode cX3_isCloser 75 = .ok (.goto 35, 3) := dk_167 0 35 (dk_at dksX3_isCloser_3 5 rfl rfl)
theorem dX3_isCloser_78 : decode cX3_isCloser 78 = .ok (.iload 6, 2) := dk_21 6 (dk_at dksX3_isCloser_3 8 rfl rfl)
theorem dX3_isCloser_80 : decode cX3_isCloser 80 = .ok (.iload 7, 2) := dk_21 7 (dk_at dksX3_isCloser_3 10 rfl rfl)
theorem dX3_isCloser_82 : decode cX3_isCloser 82 = .ok (.if_icmp .eq 18, 3) := dk_159 0 18 (dk_at dksX3_isCloser_3 12 rfl rfl)
theorem dX3_isCloser_85 : decode cX3_isCloser 85 = .ok (.iload 6, 2) := dk_21 6 (dk_at dksX3_isCloser_3 15 rfl rfl)
theorem dX3_isCloser_87 : decode cX3_isCloser 87 = .ok (.iload 7, 2) := dk_21 7 (dk_at dksX3_isCloser_3 17 rfl rfl)
theorem dX3_isCloser_89 : decode cX3_isCloser 89 = .ok (.if_icmp .ge 7, 3) := dk_162 0 7 (dk_at dksX3_isCloser_3 19 rfl rfl)
theorem dX3_isCloser_92 : decode cX3_isCloser 92 = .ok (.iconst 1, 1) := dk_4 (dk_at dksX3_isCloser_3 22 rfl rfl)
theorem dX3_isCloser_93 : decode cX3_isCloser 93 = .ok (.goto 17, 3) := dk_167 0 17 (dk_at dksX3_isCloser_4 0 rfl rfl)
theorem dX3_isCloser_96 : decode cX3_isCloser 96 = .ok (.iconst 0, 1) := dk_3 (dk_at dksX3_isCloser_4 3 rfl rfl)
theorem dX3_isCloser_97 : decode cX3_isCloser 97 = .ok (.goto 13, 3) := dk_167 0 13 (dk_at dksX3_isCloser_4 4 rfl rfl)
theorem dX3_isCloser_100 : decode cX3_isCloser 100 = .ok (.iload_n 0, 1) := dk_26 (dk_at dksX3_isCloser_4 7 rfl rfl)
theorem dX3_isCloser_101 : decode cX3_isCloser 101 = .ok (.iload_n 2, 1) := dk_28 (dk_at dksX3_isCloser_4 8 rfl rfl)
theorem dX3_isCloser_102 : decode cX3_isCloser 102 = .ok (.if_icmp .ge 7, 3) := dk_162 0 7 (dk_at dksX3_isCloser_4 9 rfl rfl)
theorem dX3_isCloser_105 : decode cX3_isCloser 105 = .ok (.iconst 1, 1) := dk_4 (dk_at dksX3_isCloser_4 12 rfl rfl)
theorem dX3_isCloser_106 : decode cX3_isCloser 106 = .ok (.goto 4, 3) := dk_167 0 4 (dk_at dksX3_isCloser_4 13 rfl rfl)
theorem dX3_isCloser_109 : decode cX3_isCloser 109 = .ok (.iconst 0, 1) := dk_3 (dk_at dksX3_isCloser_4 16 rfl rfl)
theorem dX3_isCloser_110 : decode cX3_isCloser 110 = .ok (.ireturn, 1) := dk_172 (dk_at dksX3_isCloser_4 17 rfl rfl)
theorem q108 : (Jvm.Cond.initialized "SearchKeeperModel") ∈ lw_all := lw_g (lw_at lw_m1 14 rfl) rfl
theorem q320 : (Jvm.Cond.selects "SearchKeeperModel" ({ cls := "java/lang/Object", name := "getClass", desc := "()Ljava/lang/Class;" } : Jvm.MethodName) ({ cls := "java/lang/Object", name := "getClass", desc := "()Ljava/lang/Class;" } : Jvm.MethodName)) ∈ lw_all := lw_g (lw_at lw_m1 226 rfl) rfl
theorem q1616 : (Jvm.Cond.selects "SearchKeeperModel" ({ cls := "java/lang/Object", name := "equals", desc := "(Ljava/lang/Object;)Z" } : Jvm.MethodName) ({ cls := "java/lang/Object", name := "equals", desc := "(Ljava/lang/Object;)Z" } : Jvm.MethodName)) ∈ lw_all := lw_g (lw_at lw_m7 82 rfl) rfl
theorem q1961 : (Jvm.Cond.instantiable "SearchKeeperModel" (46 : Nat)) ∈ lw_all := lw_g (lw_at lw_m8 187 rfl) rfl
theorem q1963 : (Jvm.Cond.instanceMethod ({ cls := "SearchKeeperModel", name := "<init>", desc := "()V" } : Jvm.MethodName)) ∈ lw_all := lw_g (lw_at lw_m8 189 rfl) rfl
theorem q1964 : (Jvm.Cond.code ({ cls := "SearchKeeperModel", name := "<init>", desc := "()V" } : Jvm.MethodName) prog_11_method_1_code (1 : Nat) (Option.none : Option Jvm.ClassFile.FieldType)) ∈ lw_all := lw_g (lw_at lw_m8 190 rfl) rfl
theorem q1965 : (Jvm.Cond.methodLink "SearchKeeperModel" (1 : Nat) ({ cls := "java/lang/Object", name := "<init>", desc := "()V" } : Jvm.MethodName)) ∈ lw_all := lw_g (lw_at lw_m8 191 rfl) rfl
theorem q1966 : (Jvm.Cond.fieldLink "SearchKeeperModel" (121 : Nat) "SearchKeeperModel" "thrown" "I") ∈ lw_all := lw_g (lw_at lw_m8 192 rfl) rfl
theorem q1967 : (Jvm.Cond.fieldLink "SearchKeeperModel" (241 : Nat) "SearchKeeperModel" "minute" "I") ∈ lw_all := lw_g (lw_at lw_m8 193 rfl) rfl
theorem q1968 : (Jvm.Cond.fieldLink "SearchKeeperModel" (118 : Nat) "SearchKeeperModel" "made" "I") ∈ lw_all := lw_g (lw_at lw_m8 194 rfl) rfl
theorem q1969 : (Jvm.Cond.fieldLink "SearchKeeperModel" (7 : Nat) "SearchKeeperModel" "isThere" "[Z") ∈ lw_all := lw_g (lw_at lw_m8 195 rfl) rfl
theorem q1970 : (Jvm.Cond.fieldLink "SearchKeeperModel" (13 : Nat) "SearchKeeperModel" "isFolder" "[Z") ∈ lw_all := lw_g (lw_at lw_m8 196 rfl) rfl
theorem q1971 : (Jvm.Cond.fieldLink "SearchKeeperModel" (16 : Nat) "SearchKeeperModel" "parents" "[I") ∈ lw_all := lw_g (lw_at lw_m8 197 rfl) rfl
theorem q1972 : (Jvm.Cond.fieldLink "SearchKeeperModel" (20 : Nat) "SearchKeeperModel" "names" "[C") ∈ lw_all := lw_g (lw_at lw_m8 198 rfl) rfl
theorem q1973 : (Jvm.Cond.fieldLink "SearchKeeperModel" (24 : Nat) "SearchKeeperModel" "editions" "[I") ∈ lw_all := lw_g (lw_at lw_m8 199 rfl) rfl
theorem q1974 : (Jvm.Cond.fieldLink "SearchKeeperModel" (27 : Nat) "SearchKeeperModel" "markMany" "[I") ∈ lw_all := lw_g (lw_at lw_m8 200 rfl) rfl
theorem q1975 : (Jvm.Cond.fieldLink "SearchKeeperModel" (30 : Nat) "SearchKeeperModel" "marks" "[I") ∈ lw_all := lw_g (lw_at lw_m8 201 rfl) rfl
theorem q1976 : (Jvm.Cond.fieldLink "SearchKeeperModel" (33 : Nat) "SearchKeeperModel" "isLocked" "[Z") ∈ lw_all := lw_g (lw_at lw_m8 202 rfl) rfl
theorem q1977 : (Jvm.Cond.fieldLink "SearchKeeperModel" (36 : Nat) "SearchKeeperModel" "allowed" "[I") ∈ lw_all := lw_g (lw_at lw_m8 203 rfl) rfl
theorem q1978 : (Jvm.Cond.fieldLink "SearchKeeperModel" (132 : Nat) "SearchKeeperModel" "rootMany" "I") ∈ lw_all := lw_g (lw_at lw_m8 204 rfl) rfl
theorem q1979 : (Jvm.Cond.fieldLink "SearchKeeperModel" (39 : Nat) "SearchKeeperModel" "roots" "[I") ∈ lw_all := lw_g (lw_at lw_m8 205 rfl) rfl
theorem q1980 : (Jvm.Cond.fieldLink "SearchKeeperModel" (42 : Nat) "SearchKeeperModel" "noticeMany" "[I") ∈ lw_all := lw_g (lw_at lw_m8 206 rfl) rfl
theorem q1981 : (Jvm.Cond.fieldLink "SearchKeeperModel" (45 : Nat) "SearchKeeperModel" "noticeKinds" "[I") ∈ lw_all := lw_g (lw_at lw_m8 207 rfl) rfl
theorem q1982 : (Jvm.Cond.fieldLink "SearchKeeperModel" (48 : Nat) "SearchKeeperModel" "noticeNodes" "[I") ∈ lw_all := lw_g (lw_at lw_m8 208 rfl) rfl
theorem q1983 : (Jvm.Cond.fieldLink "SearchKeeperModel" (51 : Nat) "SearchKeeperModel" "isFlooded" "[Z") ∈ lw_all := lw_g (lw_at lw_m8 209 rfl) rfl
theorem q1984 : (Jvm.Cond.fieldLink "SearchKeeperModel" (54 : Nat) "SearchKeeperModel" "crawls" "[Z") ∈ lw_all := lw_g (lw_at lw_m8 210 rfl) rfl
theorem q1985 : (Jvm.Cond.fieldLink "SearchKeeperModel" (57 : Nat) "SearchKeeperModel" "waitMany" "[I") ∈ lw_all := lw_g (lw_at lw_m8 211 rfl) rfl
theorem q1986 : (Jvm.Cond.fieldLink "SearchKeeperModel" (60 : Nat) "SearchKeeperModel" "waits" "[I") ∈ lw_all := lw_g (lw_at lw_m8 212 rfl) rfl
theorem q1987 : (Jvm.Cond.fieldLink "SearchKeeperModel" (63 : Nat) "SearchKeeperModel" "met" "[Z") ∈ lw_all := lw_g (lw_at lw_m8 213 rfl) rfl
theorem q1988 : (Jvm.Cond.fieldLink "SearchKeeperModel" (66 : Nat) "SearchKeeperModel" "hasEntry" "[Z") ∈ lw_all := lw_g (lw_at lw_m8 214 rfl) rfl
theorem q1989 : (Jvm.Cond.fieldLink "SearchKeeperModel" (69 : Nat) "SearchKeeperModel" "knownParents" "[I") ∈ lw_all := lw_g (lw_at lw_m8 215 rfl) rfl
theorem q1990 : (Jvm.Cond.fieldLink "SearchKeeperModel" (72 : Nat) "SearchKeeperModel" "knownNames" "[C") ∈ lw_all := lw_g (lw_at lw_m8 216 rfl) rfl
theorem q1991 : (Jvm.Cond.fieldLink "SearchKeeperModel" (75 : Nat) "SearchKeeperModel" "knownEditions" "[I") ∈ lw_all := lw_g (lw_at lw_m8 217 rfl) rfl
theorem q1992 : (Jvm.Cond.fieldLink "SearchKeeperModel" (78 : Nat) "SearchKeeperModel" "wordMany" "[I") ∈ lw_all := lw_g (lw_at lw_m8 218 rfl) rfl
theorem q1993 : (Jvm.Cond.fieldLink "SearchKeeperModel" (81 : Nat) "SearchKeeperModel" "words" "[I") ∈ lw_all := lw_g (lw_at lw_m8 219 rfl) rfl
theorem q1994 : (Jvm.Cond.fieldLink "SearchKeeperModel" (84 : Nat) "SearchKeeperModel" "depthLimit" "I") ∈ lw_all := lw_g (lw_at lw_m8 220 rfl) rfl
theorem q1995 : (Jvm.Cond.fieldLink "SearchKeeperModel" (88 : Nat) "SearchKeeperModel" "wordLimit" "I") ∈ lw_all := lw_g (lw_at lw_m8 221 rfl) rfl
theorem q1996 : (Jvm.Cond.fieldLink "SearchKeeperModel" (183 : Nat) "SearchKeeperModel" "actMany" "I") ∈ lw_all := lw_g (lw_at lw_m8 222 rfl) rfl
theorem q1997 : (Jvm.Cond.fieldLink "SearchKeeperModel" (91 : Nat) "SearchKeeperModel" "actNodes" "[I") ∈ lw_all := lw_g (lw_at lw_m8 223 rfl) rfl
theorem q1998 : (Jvm.Cond.fieldLink "SearchKeeperModel" (94 : Nat) "SearchKeeperModel" "actKinds" "[I") ∈ lw_all := lw_g (lw_at lw_m8 224 rfl) rfl
theorem q1999 : (Jvm.Cond.fieldLink "SearchKeeperModel" (97 : Nat) "SearchKeeperModel" "isPutOff" "[Z") ∈ lw_all := lw_g (lw_at lw_m8 225 rfl) rfl
theorem q2000 : (Jvm.Cond.fieldLink "SearchKeeperModel" (245 : Nat) "SearchKeeperModel" "isOnBattery" "Z") ∈ lw_all := lw_g (lw_at lw_m8 226 rfl) rfl
theorem q2001 : (Jvm.Cond.fieldLink "SearchKeeperModel" (249 : Nat) "SearchKeeperModel" "hour" "I") ∈ lw_all := lw_g (lw_at lw_m8 227 rfl) rfl
theorem q2002 : (Jvm.Cond.fieldLink "SearchKeeperModel" (252 : Nat) "SearchKeeperModel" "hourly" "I") ∈ lw_all := lw_g (lw_at lw_m8 228 rfl) rfl
theorem q2003 : (Jvm.Cond.fieldLink "SearchKeeperModel" (192 : Nat) "SearchKeeperModel" "placeMany" "I") ∈ lw_all := lw_g (lw_at lw_m8 229 rfl) rfl
theorem q2004 : (Jvm.Cond.fieldLink "SearchKeeperModel" (100 : Nat) "SearchKeeperModel" "placeSegments" "[I") ∈ lw_all := lw_g (lw_at lw_m8 230 rfl) rfl
theorem q2005 : (Jvm.Cond.fieldLink "SearchKeeperModel" (103 : Nat) "SearchKeeperModel" "placeNodes" "[I") ∈ lw_all := lw_g (lw_at lw_m8 231 rfl) rfl
theorem q2006 : (Jvm.Cond.fieldLink "SearchKeeperModel" (106 : Nat) "SearchKeeperModel" "placeDead" "[Z") ∈ lw_all := lw_g (lw_at lw_m8 232 rfl) rfl
theorem q2007 : (Jvm.Cond.fieldLink "SearchKeeperModel" (264 : Nat) "SearchKeeperModel" "segmentMany" "I") ∈ lw_all := lw_g (lw_at lw_m8 233 rfl) rfl
theorem q2008 : (Jvm.Cond.fieldLink "SearchKeeperModel" (109 : Nat) "SearchKeeperModel" "isRead" "[Z") ∈ lw_all := lw_g (lw_at lw_m8 234 rfl) rfl
theorem q2009 : (Jvm.Cond.fieldLink "SearchKeeperModel" (112 : Nat) "SearchKeeperModel" "leaving" "[Z") ∈ lw_all := lw_g (lw_at lw_m8 235 rfl) rfl
theorem q2010 : (Jvm.Cond.fieldLink "SearchKeeperModel" (195 : Nat) "SearchKeeperModel" "takenMany" "I") ∈ lw_all := lw_g (lw_at lw_m8 236 rfl) rfl
theorem q2011 : (Jvm.Cond.fieldLink "SearchKeeperModel" (115 : Nat) "SearchKeeperModel" "taken" "[I") ∈ lw_all := lw_g (lw_at lw_m8 237 rfl) rfl
theorem q2012 : (Jvm.Cond.lays "SearchKeeperModel" "SearchKeeperModel" "thrown" "I") ∈ lw_all := lw_g (lw_at lw_m8 238 rfl) rfl
theorem q2013 : (Jvm.Cond.soleField "SearchKeeperModel" "thrown") ∈ lw_all := lw_g (lw_at lw_m8 239 rfl) rfl
theorem q2014 : (Jvm.Cond.lays "SearchKeeperModel" "SearchKeeperModel" "minute" "I") ∈ lw_all := lw_g (lw_at lw_m9 0 rfl) rfl
theorem q2015 : (Jvm.Cond.soleField "SearchKeeperModel" "minute") ∈ lw_all := lw_g (lw_at lw_m9 1 rfl) rfl
theorem q2016 : (Jvm.Cond.lays "SearchKeeperModel" "SearchKeeperModel" "made" "I") ∈ lw_all := lw_g (lw_at lw_m9 2 rfl) rfl
theorem q2017 : (Jvm.Cond.soleField "SearchKeeperModel" "made") ∈ lw_all := lw_g (lw_at lw_m9 3 rfl) rfl
theorem q2018 : (Jvm.Cond.laysFinal "SearchKeeperModel" "SearchKeeperModel" "isThere" "[Z") ∈ lw_all := lw_g (lw_at lw_m9 4 rfl) rfl
theorem q2019 : (Jvm.Cond.soleField "SearchKeeperModel" "isThere") ∈ lw_all := lw_g (lw_at lw_m9 5 rfl) rfl
theorem q2020 : (Jvm.Cond.laysFinal "SearchKeeperModel" "SearchKeeperModel" "isFolder" "[Z") ∈ lw_all := lw_g (lw_at lw_m9 6 rfl) rfl
theorem q2021 : (Jvm.Cond.soleField "SearchKeeperModel" "isFolder") ∈ lw_all := lw_g (lw_at lw_m9 7 rfl) rfl
theorem q2022 : (Jvm.Cond.laysFinal "SearchKeeperModel" "SearchKeeperModel" "parents" "[I") ∈ lw_all := lw_g (lw_at lw_m9 8 rfl) rfl
theorem q2023 : (Jvm.Cond.soleField "SearchKeeperModel" "parents") ∈ lw_all := lw_g (lw_at lw_m9 9 rfl) rfl
theorem q2024 : (Jvm.Cond.laysFinal "SearchKeeperModel" "SearchKeeperModel" "names" "[C") ∈ lw_all := lw_g (lw_at lw_m9 10 rfl) rfl
theorem q2025 : (Jvm.Cond.soleField "SearchKeeperModel" "names") ∈ lw_all := lw_g (lw_at lw_m9 11 rfl) rfl
theorem q2026 : (Jvm.Cond.laysFinal "SearchKeeperModel" "SearchKeeperModel" "editions" "[I") ∈ lw_all := lw_g (lw_at lw_m9 12 rfl) rfl
theorem q2027 : (Jvm.Cond.soleField "SearchKeeperModel" "editions") ∈ lw_all := lw_g (lw_at lw_m9 13 rfl) rfl
theorem q2028 : (Jvm.Cond.laysFinal "SearchKeeperModel" "SearchKeeperModel" "markMany" "[I") ∈ lw_all := lw_g (lw_at lw_m9 14 rfl) rfl
theorem q2029 : (Jvm.Cond.soleField "SearchKeeperModel" "markMany") ∈ lw_all := lw_g (lw_at lw_m9 15 rfl) rfl
theorem q2030 : (Jvm.Cond.laysFinal "SearchKeeperModel" "SearchKeeperModel" "marks" "[I") ∈ lw_all := lw_g (lw_at lw_m9 16 rfl) rfl
theorem q2031 : (Jvm.Cond.soleField "SearchKeeperModel" "marks") ∈ lw_all := lw_g (lw_at lw_m9 17 rfl) rfl
theorem q2032 : (Jvm.Cond.laysFinal "SearchKeeperModel" "SearchKeeperModel" "isLocked" "[Z") ∈ lw_all := lw_g (lw_at lw_m9 18 rfl) rfl
theorem q2033 : (Jvm.Cond.soleField "SearchKeeperModel" "isLocked") ∈ lw_all := lw_g (lw_at lw_m9 19 rfl) rfl
theorem q2034 : (Jvm.Cond.laysFinal "SearchKeeperModel" "SearchKeeperModel" "allowed" "[I") ∈ lw_all := lw_g (lw_at lw_m9 20 rfl) rfl
theorem q2035 : (Jvm.Cond.soleField "SearchKeeperModel" "allowed") ∈ lw_all := lw_g (lw_at lw_m9 21 rfl) rfl
theorem q2036 : (Jvm.Cond.lays "SearchKeeperModel" "SearchKeeperModel" "rootMany" "I") ∈ lw_all := lw_g (lw_at lw_m9 22 rfl) rfl
theorem q2037 : (Jvm.Cond.soleField "SearchKeeperModel" "rootMany") ∈ lw_all := lw_g (lw_at lw_m9 23 rfl) rfl
theorem q2038 : (Jvm.Cond.laysFinal "SearchKeeperModel" "SearchKeeperModel" "roots" "[I") ∈ lw_all := lw_g (lw_at lw_m9 24 rfl) rfl
theorem q2039 : (Jvm.Cond.soleField "SearchKeeperModel" "roots") ∈ lw_all := lw_g (lw_at lw_m9 25 rfl) rfl
theorem q2040 : (Jvm.Cond.laysFinal "SearchKeeperModel" "SearchKeeperModel" "noticeMany" "[I") ∈ lw_all := lw_g (lw_at lw_m9 26 rfl) rfl
theorem q2041 : (Jvm.Cond.soleField "SearchKeeperModel" "noticeMany") ∈ lw_all := lw_g (lw_at lw_m9 27 rfl) rfl
theorem q2042 : (Jvm.Cond.laysFinal "SearchKeeperModel" "SearchKeeperModel" "noticeKinds" "[I") ∈ lw_all := lw_g (lw_at lw_m9 28 rfl) rfl
theorem q2043 : (Jvm.Cond.soleField "SearchKeeperModel" "noticeKinds") ∈ lw_all := lw_g (lw_at lw_m9 29 rfl) rfl
theorem q2044 : (Jvm.Cond.laysFinal "SearchKeeperModel" "SearchKeeperModel" "noticeNodes" "[I") ∈ lw_all := lw_g (lw_at lw_m9 30 rfl) rfl
theorem q2045 : (Jvm.Cond.soleField "SearchKeeperModel" "noticeNodes") ∈ lw_all := lw_g (lw_at lw_m9 31 rfl) rfl
theorem q2046 : (Jvm.Cond.laysFinal "SearchKeeperModel" "SearchKeeperModel" "isFlooded" "[Z") ∈ lw_all := lw_g (lw_at lw_m9 32 rfl) rfl
theorem q2047 : (Jvm.Cond.soleField "SearchKeeperModel" "isFlooded") ∈ lw_all := lw_g (lw_at lw_m9 33 rfl) rfl
theorem q2048 : (Jvm.Cond.laysFinal "SearchKeeperModel" "SearchKeeperModel" "crawls" "[Z") ∈ lw_all := lw_g (lw_at lw_m9 34 rfl) rfl
theorem q2049 : (Jvm.Cond.soleField "SearchKeeperModel" "crawls") ∈ lw_all := lw_g (lw_at lw_m9 35 rfl) rfl
theorem q2050 : (Jvm.Cond.laysFinal "SearchKeeperModel" "SearchKeeperModel" "waitMany" "[I") ∈ lw_all := lw_g (lw_at lw_m9 36 rfl) rfl
theorem q2051 : (Jvm.Cond.soleField "SearchKeeperModel" "waitMany") ∈ lw_all := lw_g (lw_at lw_m9 37 rfl) rfl
theorem q2052 : (Jvm.Cond.laysFinal "SearchKeeperModel" "SearchKeeperModel" "waits" "[I") ∈ lw_all := lw_g (lw_at lw_m9 38 rfl) rfl
theorem q2053 : (Jvm.Cond.soleField "SearchKeeperModel" "waits") ∈ lw_all := lw_g (lw_at lw_m9 39 rfl) rfl
theorem q2054 : (Jvm.Cond.laysFinal "SearchKeeperModel" "SearchKeeperModel" "met" "[Z") ∈ lw_all := lw_g (lw_at lw_m9 40 rfl) rfl
theorem q2055 : (Jvm.Cond.soleField "SearchKeeperModel" "met") ∈ lw_all := lw_g (lw_at lw_m9 41 rfl) rfl
theorem q2056 : (Jvm.Cond.laysFinal "SearchKeeperModel" "SearchKeeperModel" "hasEntry" "[Z") ∈ lw_all := lw_g (lw_at lw_m9 42 rfl) rfl
theorem q2057 : (Jvm.Cond.soleField "SearchKeeperModel" "hasEntry") ∈ lw_all := lw_g (lw_at lw_m9 43 rfl) rfl
theorem q2058 : (Jvm.Cond.laysFinal "SearchKeeperModel" "SearchKeeperModel" "knownParents" "[I") ∈ lw_all := lw_g (lw_at lw_m9 44 rfl) rfl
theorem q2059 : (Jvm.Cond.soleField "SearchKeeperModel" "knownParents") ∈ lw_all := lw_g (lw_at lw_m9 45 rfl) rfl
theorem q2060 : (Jvm.Cond.laysFinal "SearchKeeperModel" "SearchKeeperModel" "knownNames" "[C") ∈ lw_all := lw_g (lw_at lw_m9 46 rfl) rfl
theorem q2061 : (Jvm.Cond.soleField "SearchKeeperModel" "knownNames") ∈ lw_all := lw_g (lw_at lw_m9 47 rfl) rfl
theorem q2062 : (Jvm.Cond.laysFinal "SearchKeeperModel" "SearchKeeperModel" "knownEditions" "[I") ∈ lw_all := lw_g (lw_at lw_m9 48 rfl) rfl
theorem q2063 : (Jvm.Cond.soleField "SearchKeeperModel" "knownEditions") ∈ lw_all := lw_g (lw_at lw_m9 49 rfl) rfl
theorem q2064 : (Jvm.Cond.laysFinal "SearchKeeperModel" "SearchKeeperModel" "wordMany" "[I") ∈ lw_all := lw_g (lw_at lw_m9 50 rfl) rfl
theorem q2065 : (Jvm.Cond.soleField "SearchKeeperModel" "wordMany") ∈ lw_all := lw_g (lw_at lw_m9 51 rfl) rfl
theorem q2066 : (Jvm.Cond.laysFinal "SearchKeeperModel" "SearchKeeperModel" "words" "[I") ∈ lw_all := lw_g (lw_at lw_m9 52 rfl) rfl
theorem q2067 : (Jvm.Cond.soleField "SearchKeeperModel" "words") ∈ lw_all := lw_g (lw_at lw_m9 53 rfl) rfl
theorem q2068 : (Jvm.Cond.lays "SearchKeeperModel" "SearchKeeperModel" "depthLimit" "I") ∈ lw_all := lw_g (lw_at lw_m9 54 rfl) rfl
theorem q2069 : (Jvm.Cond.soleField "SearchKeeperModel" "depthLimit") ∈ lw_all := lw_g (lw_at lw_m9 55 rfl) rfl
theorem q2070 : (Jvm.Cond.lays "SearchKeeperModel" "SearchKeeperModel" "wordLimit" "I") ∈ lw_all := lw_g (lw_at lw_m9 56 rfl) rfl
theorem q2071 : (Jvm.Cond.soleField "SearchKeeperModel" "wordLimit") ∈ lw_all := lw_g (lw_at lw_m9 57 rfl) rfl
theorem q2072 : (Jvm.Cond.lays "SearchKeeperModel" "SearchKeeperModel" "actMany" "I") ∈ lw_all := lw_g (lw_at lw_m9 58 rfl) rfl
theorem q2073 : (Jvm.Cond.soleField "SearchKeeperModel" "actMany") ∈ lw_all := lw_g (lw_at lw_m9 59 rfl) rfl
theorem q2074 : (Jvm.Cond.laysFinal "SearchKeeperModel" "SearchKeeperModel" "actNodes" "[I") ∈ lw_all := lw_g (lw_at lw_m9 60 rfl) rfl
theorem q2075 : (Jvm.Cond.soleField "SearchKeeperModel" "actNodes") ∈ lw_all := lw_g (lw_at lw_m9 61 rfl) rfl
theorem q2076 : (Jvm.Cond.laysFinal "SearchKeeperModel" "SearchKeeperModel" "actKinds" "[I") ∈ lw_all := lw_g (lw_at lw_m9 62 rfl) rfl
theorem q2077 : (Jvm.Cond.soleField "SearchKeeperModel" "actKinds") ∈ lw_all := lw_g (lw_at lw_m9 63 rfl) rfl
theorem q2078 : (Jvm.Cond.laysFinal "SearchKeeperModel" "SearchKeeperModel" "isPutOff" "[Z") ∈ lw_all := lw_g (lw_at lw_m9 64 rfl) rfl
theorem q2079 : (Jvm.Cond.soleField "SearchKeeperModel" "isPutOff") ∈ lw_all := lw_g (lw_at lw_m9 65 rfl) rfl
theorem q2080 : (Jvm.Cond.lays "SearchKeeperModel" "SearchKeeperModel" "isOnBattery" "Z") ∈ lw_all := lw_g (lw_at lw_m9 66 rfl) rfl
theorem q2081 : (Jvm.Cond.soleField "SearchKeeperModel" "isOnBattery") ∈ lw_all := lw_g (lw_at lw_m9 67 rfl) rfl
theorem q2082 : (Jvm.Cond.lays "SearchKeeperModel" "SearchKeeperModel" "hour" "I") ∈ lw_all := lw_g (lw_at lw_m9 68 rfl) rfl
theorem q2083 : (Jvm.Cond.soleField "SearchKeeperModel" "hour") ∈ lw_all := lw_g (lw_at lw_m9 69 rfl) rfl
theorem q2084 : (Jvm.Cond.lays "SearchKeeperModel" "SearchKeeperModel" "hourly" "I") ∈ lw_all := lw_g (lw_at lw_m9 70 rfl) rfl
theorem q2085 : (Jvm.Cond.soleField "SearchKeeperModel" "hourly") ∈ lw_all := lw_g (lw_at lw_m9 71 rfl) rfl
theorem q2086 : (Jvm.Cond.lays "SearchKeeperModel" "SearchKeeperModel" "placeMany" "I") ∈ lw_all := lw_g (lw_at lw_m9 72 rfl) rfl
theorem q2087 : (Jvm.Cond.soleField "SearchKeeperModel" "placeMany") ∈ lw_all := lw_g (lw_at lw_m9 73 rfl) rfl
theorem q2088 : (Jvm.Cond.laysFinal "SearchKeeperModel" "SearchKeeperModel" "placeSegments" "[I") ∈ lw_all := lw_g (lw_at lw_m9 74 rfl) rfl
theorem q2089 : (Jvm.Cond.soleField "SearchKeeperModel" "placeSegments") ∈ lw_all := lw_g (lw_at lw_m9 75 rfl) rfl
theorem q2090 : (Jvm.Cond.laysFinal "SearchKeeperModel" "SearchKeeperModel" "placeNodes" "[I") ∈ lw_all := lw_g (lw_at lw_m9 76 rfl) rfl
theorem q2091 : (Jvm.Cond.soleField "SearchKeeperModel" "placeNodes") ∈ lw_all := lw_g (lw_at lw_m9 77 rfl) rfl
theorem q2092 : (Jvm.Cond.laysFinal "SearchKeeperModel" "SearchKeeperModel" "placeDead" "[Z") ∈ lw_all := lw_g (lw_at lw_m9 78 rfl) rfl
theorem q2093 : (Jvm.Cond.soleField "SearchKeeperModel" "placeDead") ∈ lw_all := lw_g (lw_at lw_m9 79 rfl) rfl
theorem q2094 : (Jvm.Cond.lays "SearchKeeperModel" "SearchKeeperModel" "segmentMany" "I") ∈ lw_all := lw_g (lw_at lw_m9 80 rfl) rfl
theorem q2095 : (Jvm.Cond.soleField "SearchKeeperModel" "segmentMany") ∈ lw_all := lw_g (lw_at lw_m9 81 rfl) rfl
theorem q2096 : (Jvm.Cond.laysFinal "SearchKeeperModel" "SearchKeeperModel" "isRead" "[Z") ∈ lw_all := lw_g (lw_at lw_m9 82 rfl) rfl
theorem q2097 : (Jvm.Cond.soleField "SearchKeeperModel" "isRead") ∈ lw_all := lw_g (lw_at lw_m9 83 rfl) rfl
theorem q2098 : (Jvm.Cond.laysFinal "SearchKeeperModel" "SearchKeeperModel" "leaving" "[Z") ∈ lw_all := lw_g (lw_at lw_m9 84 rfl) rfl
theorem q2099 : (Jvm.Cond.soleField "SearchKeeperModel" "leaving") ∈ lw_all := lw_g (lw_at lw_m9 85 rfl) rfl
theorem q2100 : (Jvm.Cond.lays "SearchKeeperModel" "SearchKeeperModel" "takenMany" "I") ∈ lw_all := lw_g (lw_at lw_m9 86 rfl) rfl
theorem q2101 : (Jvm.Cond.soleField "SearchKeeperModel" "takenMany") ∈ lw_all := lw_g (lw_at lw_m9 87 rfl) rfl
theorem q2102 : (Jvm.Cond.laysFinal "SearchKeeperModel" "SearchKeeperModel" "taken" "[I") ∈ lw_all := lw_g (lw_at lw_m9 88 rfl) rfl
theorem q2103 : (Jvm.Cond.soleField "SearchKeeperModel" "taken") ∈ lw_all := lw_g (lw_at lw_m9 89 rfl) rfl
theorem q2104 : (Jvm.Cond.superclass "SearchKeeperModel" "java/lang/Object") ∈ lw_all := lw_g (lw_at lw_m9 90 rfl) rfl
theorem q2109 : (Jvm.Cond.instanceMethod ({ cls := "SearchKeeperModel", name := "thrown", desc := "()I" } : Jvm.MethodName)) ∈ lw_all := lw_g (lw_at lw_m9 95 rfl) rfl
theorem q2110 : (Jvm.Cond.selects "SearchKeeperModel" ({ cls := "SearchKeeperModel", name := "thrown", desc := "()I" } : Jvm.MethodName) ({ cls := "SearchKeeperModel", name := "thrown", desc := "()I" } : Jvm.MethodName)) ∈ lw_all := lw_g (lw_at lw_m9 96 rfl) rfl
theorem q2111 : (Jvm.Cond.code ({ cls := "SearchKeeperModel", name := "thrown", desc := "()I" } : Jvm.MethodName) prog_11_method_2_code (1 : Nat) (Option.some Jvm.ClassFile.FieldType.int)) ∈ lw_all := lw_g (lw_at lw_m9 97 rfl) rfl
theorem q2113 : (Jvm.Cond.instanceMethod ({ cls := "SearchKeeperModel", name := "make", desc := "(ICZ)I" } : Jvm.MethodName)) ∈ lw_all := lw_g (lw_at lw_m9 99 rfl) rfl
theorem q2114 : (Jvm.Cond.selects "SearchKeeperModel" ({ cls := "SearchKeeperModel", name := "make", desc := "(ICZ)I" } : Jvm.MethodName) ({ cls := "SearchKeeperModel", name := "make", desc := "(ICZ)I" } : Jvm.MethodName)) ∈ lw_all := lw_g (lw_at lw_m9 100 rfl) rfl
theorem q2115 : (Jvm.Cond.code ({ cls := "SearchKeeperModel", name := "make", desc := "(ICZ)I" } : Jvm.MethodName) prog_11_method_13_code (5 : Nat) (Option.some Jvm.ClassFile.FieldType.int)) ∈ lw_all := lw_g (lw_at lw_m9 101 rfl) rfl
theorem q2116 : (Jvm.Cond.methodLink "SearchKeeperModel" (139 : Nat) ({ cls := "SearchKeeperModel", name := "isFolderAt", desc := "(I)Z" } : Jvm.MethodName)) ∈ lw_all := lw_g (lw_at lw_m9 102 rfl) rfl
theorem q2117 : (Jvm.Cond.privateMethod ({ cls := "SearchKeeperModel", name := "isFolderAt", desc := "(I)Z" } : Jvm.MethodName)) ∈ lw_tbl := lw_at lw_m9 103 rfl
theorem q2118 : (Jvm.Cond.instanceMethod ({ cls := "SearchKeeperModel", name := "isFolderAt", desc := "(I)Z" } : Jvm.MethodName)) ∈ lw_all := lw_g (lw_at lw_m9 104 rfl) rfl
theorem q2119 : (Jvm.Cond.code ({ cls := "SearchKeeperModel", name := "isFolderAt", desc := "(I)Z" } : Jvm.MethodName) prog_11_method_6_code (2 : Nat) (Option.some Jvm.ClassFile.FieldType.boolean)) ∈ lw_all := lw_g (lw_at lw_m9 105 rfl) rfl
theorem q2120 : (Jvm.Cond.methodLink "SearchKeeperModel" (128 : Nat) ({ cls := "SearchKeeperModel", name := "isNode", desc := "(I)Z" } : Jvm.MethodName)) ∈ lw_all := lw_g (lw_at lw_m9 106 rfl) rfl
theorem q2121 : (Jvm.Cond.privateMethod ({ cls := "SearchKeeperModel", name := "isNode", desc := "(I)Z" } : Jvm.MethodName)) ∈ lw_tbl := lw_at lw_m9 107 rfl
theorem q2122 : (Jvm.Cond.instanceMethod ({ cls := "SearchKeeperModel", name := "isNode", desc := "(I)Z" } : Jvm.MethodName)) ∈ lw_all := lw_g (lw_at lw_m9 108 rfl) rfl
theorem q2123 : (Jvm.Cond.code ({ cls := "SearchKeeperModel", name := "isNode", desc := "(I)Z" } : Jvm.MethodName) prog_11_method_5_code (2 : Nat) (Option.some Jvm.ClassFile.FieldType.boolean)) ∈ lw_all := lw_g (lw_at lw_m9 109 rfl) rfl
theorem q2124 : (Jvm.Cond.methodLink "SearchKeeperModel" (124 : Nat) ({ cls := "SearchKeeperModel", name := "in", desc := "(III)Z" } : Jvm.MethodName)) ∈ lw_all := lw_g (lw_at lw_m9 110 rfl) rfl
theorem q2125 : (Jvm.Cond.static ({ cls := "SearchKeeperModel", name := "in", desc := "(III)Z" } : Jvm.MethodName)) ∈ lw_all := lw_g (lw_at lw_m9 111 rfl) rfl
theorem q2126 : (Jvm.Cond.code ({ cls := "SearchKeeperModel", name := "in", desc := "(III)Z" } : Jvm.MethodName) prog_11_method_4_code (3 : Nat) (Option.some Jvm.ClassFile.FieldType.boolean)) ∈ lw_all := lw_g (lw_at lw_m9 112 rfl) rfl
theorem q2127 : (Jvm.Cond.methodLink "SearchKeeperModel" (142 : Nat) ({ cls := "SearchKeeperModel", name := "fails", desc := "(I)I" } : Jvm.MethodName)) ∈ lw_all := lw_g (lw_at lw_m9 113 rfl) rfl
theorem q2128 : (Jvm.Cond.privateMethod ({ cls := "SearchKeeperModel", name := "fails", desc := "(I)I" } : Jvm.MethodName)) ∈ lw_tbl := lw_at lw_m9 114 rfl
theorem q2129 : (Jvm.Cond.instanceMethod ({ cls := "SearchKeeperModel", name := "fails", desc := "(I)I" } : Jvm.MethodName)) ∈ lw_all := lw_g (lw_at lw_m9 115 rfl) rfl
theorem q2130 : (Jvm.Cond.code ({ cls := "SearchKeeperModel", name := "fails", desc := "(I)I" } : Jvm.MethodName) prog_11_method_3_code (2 : Nat) (Option.some Jvm.ClassFile.FieldType.int)) ∈ lw_all := lw_g (lw_at lw_m9 116 rfl) rfl
theorem q2131 : (Jvm.Cond.methodLink "SearchKeeperModel" (146 : Nat) ({ cls := "SearchKeeperModel", name := "isTaken", desc := "(ICI)Z" } : Jvm.MethodName)) ∈ lw_all := lw_g (lw_at lw_m9 117 rfl) rfl
theorem q2132 : (Jvm.Cond.privateMethod ({ cls := "SearchKeeperModel", name := "isTaken", desc := "(ICI)Z" } : Jvm.MethodName)) ∈ lw_tbl := lw_at lw_m9 118 rfl
theorem q2133 : (Jvm.Cond.instanceMethod ({ cls := "SearchKeeperModel", name := "isTaken", desc := "(ICI)Z" } : Jvm.MethodName)) ∈ lw_all := lw_g (lw_at lw_m9 119 rfl) rfl
theorem q2134 : (Jvm.Cond.code ({ cls := "SearchKeeperModel", name := "isTaken", desc := "(ICI)Z" } : Jvm.MethodName) prog_11_method_11_code (6 : Nat) (Option.some Jvm.ClassFile.FieldType.boolean)) ∈ lw_all := lw_g (lw_at lw_m9 120 rfl) rfl
theorem q2135 : (Jvm.Cond.methodLink "SearchKeeperModel" (150 : Nat) ({ cls := "SearchKeeperModel", name := "over", desc := "(I)I" } : Jvm.MethodName)) ∈ lw_all := lw_g (lw_at lw_m9 121 rfl) rfl
theorem q2136 : (Jvm.Cond.privateMethod ({ cls := "SearchKeeperModel", name := "over", desc := "(I)I" } : Jvm.MethodName)) ∈ lw_tbl := lw_at lw_m9 122 rfl
theorem q2137 : (Jvm.Cond.instanceMethod ({ cls := "SearchKeeperModel", name := "over", desc := "(I)I" } : Jvm.MethodName)) ∈ lw_all := lw_g (lw_at lw_m9 123 rfl) rfl
theorem q2138 : (Jvm.Cond.code ({ cls := "SearchKeeperModel", name := "over", desc := "(I)I" } : Jvm.MethodName) prog_11_method_10_code (4 : Nat) (Option.some Jvm.ClassFile.FieldType.int)) ∈ lw_all := lw_g (lw_at lw_m9 124 rfl) rfl
theorem q2139 : (Jvm.Cond.methodLink "SearchKeeperModel" (135 : Nat) ({ cls := "SearchKeeperModel", name := "isBelow", desc := "(II)Z" } : Jvm.MethodName)) ∈ lw_all := lw_g (lw_at lw_m9 125 rfl) rfl
theorem q2140 : (Jvm.Cond.privateMethod ({ cls := "SearchKeeperModel", name := "isBelow", desc := "(II)Z" } : Jvm.MethodName)) ∈ lw_tbl := lw_at lw_m9 126 rfl
theorem q2141 : (Jvm.Cond.instanceMethod ({ cls := "SearchKeeperModel", name := "isBelow", desc := "(II)Z" } : Jvm.MethodName)) ∈ lw_all := lw_g (lw_at lw_m9 127 rfl) rfl
theorem q2142 : (Jvm.Cond.code ({ cls := "SearchKeeperModel", name := "isBelow", desc := "(II)Z" } : Jvm.MethodName) prog_11_method_8_code (5 : Nat) (Option.some Jvm.ClassFile.FieldType.boolean)) ∈ lw_all := lw_g (lw_at lw_m9 128 rfl) rfl
theorem q2143 : (Jvm.Cond.methodLink "SearchKeeperModel" (153 : Nat) ({ cls := "SearchKeeperModel", name := "comes", desc := "(III)V" } : Jvm.MethodName)) ∈ lw_all := lw_g (lw_at lw_m9 129 rfl) rfl
theorem q2144 : (Jvm.Cond.privateMethod ({ cls := "SearchKeeperModel", name := "comes", desc := "(III)V" } : Jvm.MethodName)) ∈ lw_tbl := lw_at lw_m9 130 rfl
theorem q2145 : (Jvm.Cond.instanceMethod ({ cls := "SearchKeeperModel", name := "comes", desc := "(III)V" } : Jvm.MethodName)) ∈ lw_all := lw_g (lw_at lw_m9 131 rfl) rfl
theorem q2146 : (Jvm.Cond.code ({ cls := "SearchKeeperModel", name := "comes", desc := "(III)V" } : Jvm.MethodName) prog_11_method_12_code (4 : Nat) (Option.none : Option Jvm.ClassFile.FieldType)) ∈ lw_all := lw_g (lw_at lw_m9 132 rfl) rfl
theorem q2148 : (Jvm.Cond.instanceMethod ({ cls := "SearchKeeperModel", name := "write", desc := "(II)I" } : Jvm.MethodName)) ∈ lw_all := lw_g (lw_at lw_m9 134 rfl) rfl
theorem q2149 : (Jvm.Cond.selects "SearchKeeperModel" ({ cls := "SearchKeeperModel", name := "write", desc := "(II)I" } : Jvm.MethodName) ({ cls := "SearchKeeperModel", name := "write", desc := "(II)I" } : Jvm.MethodName)) ∈ lw_all := lw_g (lw_at lw_m9 135 rfl) rfl
theorem q2150 : (Jvm.Cond.code ({ cls := "SearchKeeperModel", name := "write", desc := "(II)I" } : Jvm.MethodName) prog_11_method_14_code (3 : Nat) (Option.some Jvm.ClassFile.FieldType.int)) ∈ lw_all := lw_g (lw_at lw_m9 136 rfl) rfl
theorem q2151 : (Jvm.Cond.methodLink "SearchKeeperModel" (157 : Nat) ({ cls := "SearchKeeperModel", name := "isFileAt", desc := "(I)Z" } : Jvm.MethodName)) ∈ lw_all := lw_g (lw_at lw_m9 137 rfl) rfl
theorem q2152 : (Jvm.Cond.privateMethod ({ cls := "SearchKeeperModel", name := "isFileAt", desc := "(I)Z" } : Jvm.MethodName)) ∈ lw_tbl := lw_at lw_m9 138 rfl
theorem q2153 : (Jvm.Cond.instanceMethod ({ cls := "SearchKeeperModel", name := "isFileAt", desc := "(I)Z" } : Jvm.MethodName)) ∈ lw_all := lw_g (lw_at lw_m9 139 rfl) rfl
theorem q2154 : (Jvm.Cond.code ({ cls := "SearchKeeperModel", name := "isFileAt", desc := "(I)Z" } : Jvm.MethodName) prog_11_method_7_code (2 : Nat) (Option.some Jvm.ClassFile.FieldType.boolean)) ∈ lw_all := lw_g (lw_at lw_m9 140 rfl) rfl
theorem q2156 : (Jvm.Cond.instanceMethod ({ cls := "SearchKeeperModel", name := "empty", desc := "(I)I" } : Jvm.MethodName)) ∈ lw_all := lw_g (lw_at lw_m9 142 rfl) rfl
theorem q2157 : (Jvm.Cond.selects "SearchKeeperModel" ({ cls := "SearchKeeperModel", name := "empty", desc := "(I)I" } : Jvm.MethodName) ({ cls := "SearchKeeperModel", name := "empty", desc := "(I)I" } : Jvm.MethodName)) ∈ lw_all := lw_g (lw_at lw_m9 143 rfl) rfl
theorem q2158 : (Jvm.Cond.code ({ cls := "SearchKeeperModel", name := "empty", desc := "(I)I" } : Jvm.MethodName) prog_11_method_15_code (3 : Nat) (Option.some Jvm.ClassFile.FieldType.int)) ∈ lw_all := lw_g (lw_at lw_m9 144 rfl) rfl
theorem q2160 : (Jvm.Cond.instanceMethod ({ cls := "SearchKeeperModel", name := "move", desc := "(IIC)I" } : Jvm.MethodName)) ∈ lw_all := lw_g (lw_at lw_m9 146 rfl) rfl
theorem q2161 : (Jvm.Cond.selects "SearchKeeperModel" ({ cls := "SearchKeeperModel", name := "move", desc := "(IIC)I" } : Jvm.MethodName) ({ cls := "SearchKeeperModel", name := "move", desc := "(IIC)I" } : Jvm.MethodName)) ∈ lw_all := lw_g (lw_at lw_m9 147 rfl) rfl
theorem q2162 : (Jvm.Cond.code ({ cls := "SearchKeeperModel", name := "move", desc := "(IIC)I" } : Jvm.MethodName) prog_11_method_17_code (9 : Nat) (Option.some Jvm.ClassFile.FieldType.int)) ∈ lw_all := lw_g (lw_at lw_m9 148 rfl) rfl
theorem q2163 : (Jvm.Cond.methodLink "SearchKeeperModel" (160 : Nat) ({ cls := "SearchKeeperModel", name := "holdsRoot", desc := "(I)Z" } : Jvm.MethodName)) ∈ lw_all := lw_g (lw_at lw_m9 149 rfl) rfl
theorem q2164 : (Jvm.Cond.privateMethod ({ cls := "SearchKeeperModel", name := "holdsRoot", desc := "(I)Z" } : Jvm.MethodName)) ∈ lw_tbl := lw_at lw_m9 150 rfl
theorem q2165 : (Jvm.Cond.instanceMethod ({ cls := "SearchKeeperModel", name := "holdsRoot", desc := "(I)Z" } : Jvm.MethodName)) ∈ lw_all := lw_g (lw_at lw_m9 151 rfl) rfl
theorem q2166 : (Jvm.Cond.code ({ cls := "SearchKeeperModel", name := "holdsRoot", desc := "(I)Z" } : Jvm.MethodName) prog_11_method_16_code (4 : Nat) (Option.some Jvm.ClassFile.FieldType.boolean)) ∈ lw_all := lw_g (lw_at lw_m9 152 rfl) rfl
theorem q2167 : (Jvm.Cond.methodLink "SearchKeeperModel" (163 : Nat) ({ cls := "SearchKeeperModel", name := "rootAt", desc := "(I)I" } : Jvm.MethodName)) ∈ lw_all := lw_g (lw_at lw_m9 153 rfl) rfl
theorem q2168 : (Jvm.Cond.privateMethod ({ cls := "SearchKeeperModel", name := "rootAt", desc := "(I)I" } : Jvm.MethodName)) ∈ lw_tbl := lw_at lw_m9 154 rfl
theorem q2169 : (Jvm.Cond.instanceMethod ({ cls := "SearchKeeperModel", name := "rootAt", desc := "(I)I" } : Jvm.MethodName)) ∈ lw_all := lw_g (lw_at lw_m9 155 rfl) rfl
theorem q2170 : (Jvm.Cond.code ({ cls := "SearchKeeperModel", name := "rootAt", desc := "(I)I" } : Jvm.MethodName) prog_11_method_9_code (4 : Nat) (Option.some Jvm.ClassFile.FieldType.int)) ∈ lw_all := lw_g (lw_at lw_m9 156 rfl) rfl
theorem q2172 : (Jvm.Cond.instanceMethod ({ cls := "SearchKeeperModel", name := "remove", desc := "(I)I" } : Jvm.MethodName)) ∈ lw_all := lw_g (lw_at lw_m9 158 rfl) rfl
theorem q2173 : (Jvm.Cond.selects "SearchKeeperModel" ({ cls := "SearchKeeperModel", name := "remove", desc := "(I)I" } : Jvm.MethodName) ({ cls := "SearchKeeperModel", name := "remove", desc := "(I)I" } : Jvm.MethodName)) ∈ lw_all := lw_g (lw_at lw_m9 159 rfl) rfl
theorem q2174 : (Jvm.Cond.code ({ cls := "SearchKeeperModel", name := "remove", desc := "(I)I" } : Jvm.MethodName) prog_11_method_18_code (5 : Nat) (Option.some Jvm.ClassFile.FieldType.int)) ∈ lw_all := lw_g (lw_at lw_m9 160 rfl) rfl
theorem q2175 : (Jvm.Cond.methodLink "SearchKeeperModel" (166 : Nat) ({ cls := "SearchKeeperModel", name := "drops", desc := "(I)V" } : Jvm.MethodName)) ∈ lw_all := lw_g (lw_at lw_m9 161 rfl) rfl
theorem q2176 : (Jvm.Cond.privateMethod ({ cls := "SearchKeeperModel", name := "drops", desc := "(I)V" } : Jvm.MethodName)) ∈ lw_tbl := lw_at lw_m9 162 rfl
theorem q2177 : (Jvm.Cond.instanceMethod ({ cls := "SearchKeeperModel", name := "drops", desc := "(I)V" } : Jvm.MethodName)) ∈ lw_all := lw_g (lw_at lw_m9 163 rfl) rfl
theorem q2178 : (Jvm.Cond.code ({ cls := "SearchKeeperModel", name := "drops", desc := "(I)V" } : Jvm.MethodName) prog_11_method_24_code (4 : Nat) (Option.none : Option Jvm.ClassFile.FieldType)) ∈ lw_all := lw_g (lw_at lw_m9 164 rfl) rfl
theorem q2179 : (Jvm.Cond.methodLink "SearchKeeperModel" (170 : Nat) ({ cls := "SearchKeeperModel", name := "looksAtLost", desc := "()V" } : Jvm.MethodName)) ∈ lw_all := lw_g (lw_at lw_m9 165 rfl) rfl
theorem q2180 : (Jvm.Cond.privateMethod ({ cls := "SearchKeeperModel", name := "looksAtLost", desc := "()V" } : Jvm.MethodName)) ∈ lw_tbl := lw_at lw_m9 166 rfl
theorem q2181 : (Jvm.Cond.instanceMethod ({ cls := "SearchKeeperModel", name := "looksAtLost", desc := "()V" } : Jvm.MethodName)) ∈ lw_all := lw_g (lw_at lw_m9 167 rfl) rfl
theorem q2182 : (Jvm.Cond.code ({ cls := "SearchKeeperModel", name := "looksAtLost", desc := "()V" } : Jvm.MethodName) prog_11_method_25_code (2 : Nat) (Option.none : Option Jvm.ClassFile.FieldType)) ∈ lw_all := lw_g (lw_at lw_m9 168 rfl) rfl
theorem q2183 : (Jvm.Cond.methodLink "SearchKeeperModel" (176 : Nat) ({ cls := "SearchKeeperModel", name := "adds", desc := "(II)V" } : Jvm.MethodName)) ∈ lw_all := lw_g (lw_at lw_m9 169 rfl) rfl
theorem q2184 : (Jvm.Cond.privateMethod ({ cls := "SearchKeeperModel", name := "adds", desc := "(II)V" } : Jvm.MethodName)) ∈ lw_tbl := lw_at lw_m9 170 rfl
theorem q2185 : (Jvm.Cond.instanceMethod ({ cls := "SearchKeeperModel", name := "adds", desc := "(II)V" } : Jvm.MethodName)) ∈ lw_all := lw_g (lw_at lw_m9 171 rfl) rfl
theorem q2186 : (Jvm.Cond.code ({ cls := "SearchKeeperModel", name := "adds", desc := "(II)V" } : Jvm.MethodName) prog_11_method_32_code (5 : Nat) (Option.none : Option Jvm.ClassFile.FieldType)) ∈ lw_all := lw_g (lw_at lw_m9 172 rfl) rfl
theorem q2188 : (Jvm.Cond.instanceMethod ({ cls := "SearchKeeperModel", name := "lock", desc := "(IZ)Z" } : Jvm.MethodName)) ∈ lw_all := lw_g (lw_at lw_m9 174 rfl) rfl
theorem q2189 : (Jvm.Cond.selects "SearchKeeperModel" ({ cls := "SearchKeeperModel", name := "lock", desc := "(IZ)Z" } : Jvm.MethodName) ({ cls := "SearchKeeperModel", name := "lock", desc := "(IZ)Z" } : Jvm.MethodName)) ∈ lw_all := lw_g (lw_at lw_m9 175 rfl) rfl
theorem q2190 : (Jvm.Cond.code ({ cls := "SearchKeeperModel", name := "lock", desc := "(IZ)Z" } : Jvm.MethodName) prog_11_method_19_code (4 : Nat) (Option.some Jvm.ClassFile.FieldType.boolean)) ∈ lw_all := lw_g (lw_at lw_m9 176 rfl) rfl
theorem q2192 : (Jvm.Cond.instanceMethod ({ cls := "SearchKeeperModel", name := "people", desc := "(II)I" } : Jvm.MethodName)) ∈ lw_all := lw_g (lw_at lw_m9 178 rfl) rfl
theorem q2193 : (Jvm.Cond.selects "SearchKeeperModel" ({ cls := "SearchKeeperModel", name := "people", desc := "(II)I" } : Jvm.MethodName) ({ cls := "SearchKeeperModel", name := "people", desc := "(II)I" } : Jvm.MethodName)) ∈ lw_all := lw_g (lw_at lw_m9 179 rfl) rfl
theorem q2194 : (Jvm.Cond.code ({ cls := "SearchKeeperModel", name := "people", desc := "(II)I" } : Jvm.MethodName) prog_11_method_20_code (4 : Nat) (Option.some Jvm.ClassFile.FieldType.int)) ∈ lw_all := lw_g (lw_at lw_m9 180 rfl) rfl
theorem q2196 : (Jvm.Cond.instanceMethod ({ cls := "SearchKeeperModel", name := "mayRead", desc := "(II)Z" } : Jvm.MethodName)) ∈ lw_all := lw_g (lw_at lw_m9 182 rfl) rfl
theorem q2197 : (Jvm.Cond.selects "SearchKeeperModel" ({ cls := "SearchKeeperModel", name := "mayRead", desc := "(II)Z" } : Jvm.MethodName) ({ cls := "SearchKeeperModel", name := "mayRead", desc := "(II)Z" } : Jvm.MethodName)) ∈ lw_all := lw_g (lw_at lw_m9 183 rfl) rfl
theorem q2198 : (Jvm.Cond.code ({ cls := "SearchKeeperModel", name := "mayRead", desc := "(II)Z" } : Jvm.MethodName) prog_11_method_22_code (3 : Nat) (Option.some Jvm.ClassFile.FieldType.boolean)) ∈ lw_all := lw_g (lw_at lw_m9 184 rfl) rfl
theorem q2199 : (Jvm.Cond.methodLink "SearchKeeperModel" (173 : Nat) ({ cls := "SearchKeeperModel", name := "mayReadAt", desc := "(II)Z" } : Jvm.MethodName)) ∈ lw_all := lw_g (lw_at lw_m9 185 rfl) rfl
theorem q2200 : (Jvm.Cond.privateMethod ({ cls := "SearchKeeperModel", name := "mayReadAt", desc := "(II)Z" } : Jvm.MethodName)) ∈ lw_tbl := lw_at lw_m9 186 rfl
theorem q2201 : (Jvm.Cond.instanceMethod ({ cls := "SearchKeeperModel", name := "mayReadAt", desc := "(II)Z" } : Jvm.MethodName)) ∈ lw_all := lw_g (lw_at lw_m9 187 rfl) rfl
theorem q2202 : (Jvm.Cond.code ({ cls := "SearchKeeperModel", name := "mayReadAt", desc := "(II)Z" } : Jvm.MethodName) prog_11_method_21_code (5 : Nat) (Option.some Jvm.ClassFile.FieldType.boolean)) ∈ lw_all := lw_g (lw_at lw_m9 188 rfl) rfl
theorem q2204 : (Jvm.Cond.instanceMethod ({ cls := "SearchKeeperModel", name := "nodes", desc := "()I" } : Jvm.MethodName)) ∈ lw_all := lw_g (lw_at lw_m9 190 rfl) rfl
theorem q2205 : (Jvm.Cond.selects "SearchKeeperModel" ({ cls := "SearchKeeperModel", name := "nodes", desc := "()I" } : Jvm.MethodName) ({ cls := "SearchKeeperModel", name := "nodes", desc := "()I" } : Jvm.MethodName)) ∈ lw_all := lw_g (lw_at lw_m9 191 rfl) rfl
theorem q2206 : (Jvm.Cond.code ({ cls := "SearchKeeperModel", name := "nodes", desc := "()I" } : Jvm.MethodName) prog_11_method_23_code (3 : Nat) (Option.some Jvm.ClassFile.FieldType.int)) ∈ lw_all := lw_g (lw_at lw_m9 192 rfl) rfl
theorem q2208 : (Jvm.Cond.instanceMethod ({ cls := "SearchKeeperModel", name := "watch", desc := "(I)I" } : Jvm.MethodName)) ∈ lw_all := lw_g (lw_at lw_m9 194 rfl) rfl
theorem q2209 : (Jvm.Cond.selects "SearchKeeperModel" ({ cls := "SearchKeeperModel", name := "watch", desc := "(I)I" } : Jvm.MethodName) ({ cls := "SearchKeeperModel", name := "watch", desc := "(I)I" } : Jvm.MethodName)) ∈ lw_all := lw_g (lw_at lw_m9 195 rfl) rfl
theorem q2210 : (Jvm.Cond.code ({ cls := "SearchKeeperModel", name := "watch", desc := "(I)I" } : Jvm.MethodName) prog_11_method_27_code (3 : Nat) (Option.some Jvm.ClassFile.FieldType.int)) ∈ lw_all := lw_g (lw_at lw_m9 196 rfl) rfl
theorem q2211 : (Jvm.Cond.methodLink "SearchKeeperModel" (180 : Nat) ({ cls := "SearchKeeperModel", name := "beginsCrawl", desc := "(I)V" } : Jvm.MethodName)) ∈ lw_all := lw_g (lw_at lw_m9 197 rfl) rfl
theorem q2212 : (Jvm.Cond.privateMethod ({ cls := "SearchKeeperModel", name := "beginsCrawl", desc := "(I)V" } : Jvm.MethodName)) ∈ lw_tbl := lw_at lw_m9 198 rfl
theorem q2213 : (Jvm.Cond.instanceMethod ({ cls := "SearchKeeperModel", name := "beginsCrawl", desc := "(I)V" } : Jvm.MethodName)) ∈ lw_all := lw_g (lw_at lw_m9 199 rfl) rfl
theorem q2214 : (Jvm.Cond.code ({ cls := "SearchKeeperModel", name := "beginsCrawl", desc := "(I)V" } : Jvm.MethodName) prog_11_method_26_code (3 : Nat) (Option.none : Option Jvm.ClassFile.FieldType)) ∈ lw_all := lw_g (lw_at lw_m9 200 rfl) rfl
theorem q2216 : (Jvm.Cond.instanceMethod ({ cls := "SearchKeeperModel", name := "notices", desc := "(I)I" } : Jvm.MethodName)) ∈ lw_all := lw_g (lw_at lw_m9 202 rfl) rfl
theorem q2217 : (Jvm.Cond.selects "SearchKeeperModel" ({ cls := "SearchKeeperModel", name := "notices", desc := "(I)I" } : Jvm.MethodName) ({ cls := "SearchKeeperModel", name := "notices", desc := "(I)I" } : Jvm.MethodName)) ∈ lw_all := lw_g (lw_at lw_m9 203 rfl) rfl
theorem q2218 : (Jvm.Cond.code ({ cls := "SearchKeeperModel", name := "notices", desc := "(I)I" } : Jvm.MethodName) prog_11_method_28_code (3 : Nat) (Option.some Jvm.ClassFile.FieldType.int)) ∈ lw_all := lw_g (lw_at lw_m9 204 rfl) rfl
theorem q2220 : (Jvm.Cond.instanceMethod ({ cls := "SearchKeeperModel", name := "twice", desc := "(I)I" } : Jvm.MethodName)) ∈ lw_all := lw_g (lw_at lw_m9 206 rfl) rfl
theorem q2221 : (Jvm.Cond.selects "SearchKeeperModel" ({ cls := "SearchKeeperModel", name := "twice", desc := "(I)I" } : Jvm.MethodName) ({ cls := "SearchKeeperModel", name := "twice", desc := "(I)I" } : Jvm.MethodName)) ∈ lw_all := lw_g (lw_at lw_m9 207 rfl) rfl
theorem q2222 : (Jvm.Cond.code ({ cls := "SearchKeeperModel", name := "twice", desc := "(I)I" } : Jvm.MethodName) prog_11_method_29_code (3 : Nat) (Option.some Jvm.ClassFile.FieldType.int)) ∈ lw_all := lw_g (lw_at lw_m9 208 rfl) rfl
theorem q2224 : (Jvm.Cond.instanceMethod ({ cls := "SearchKeeperModel", name := "lose", desc := "(II)I" } : Jvm.MethodName)) ∈ lw_all := lw_g (lw_at lw_m9 210 rfl) rfl
theorem q2225 : (Jvm.Cond.selects "SearchKeeperModel" ({ cls := "SearchKeeperModel", name := "lose", desc := "(II)I" } : Jvm.MethodName) ({ cls := "SearchKeeperModel", name := "lose", desc := "(II)I" } : Jvm.MethodName)) ∈ lw_all := lw_g (lw_at lw_m9 211 rfl) rfl
theorem q2226 : (Jvm.Cond.code ({ cls := "SearchKeeperModel", name := "lose", desc := "(II)I" } : Jvm.MethodName) prog_11_method_30_code (4 : Nat) (Option.some Jvm.ClassFile.FieldType.int)) ∈ lw_all := lw_g (lw_at lw_m9 212 rfl) rfl
theorem q2228 : (Jvm.Cond.instanceMethod ({ cls := "SearchKeeperModel", name := "pass", desc := "(I)I" } : Jvm.MethodName)) ∈ lw_all := lw_g (lw_at lw_m9 214 rfl) rfl
theorem q2229 : (Jvm.Cond.selects "SearchKeeperModel" ({ cls := "SearchKeeperModel", name := "pass", desc := "(I)I" } : Jvm.MethodName) ({ cls := "SearchKeeperModel", name := "pass", desc := "(I)I" } : Jvm.MethodName)) ∈ lw_all := lw_g (lw_at lw_m9 215 rfl) rfl
theorem q2230 : (Jvm.Cond.code ({ cls := "SearchKeeperModel", name := "pass", desc := "(I)I" } : Jvm.MethodName) prog_11_method_49_code (2 : Nat) (Option.some Jvm.ClassFile.FieldType.int)) ∈ lw_all := lw_g (lw_at lw_m9 216 rfl) rfl
theorem q2231 : (Jvm.Cond.constant "SearchKeeperModel" (244 : Nat) (100000 : Int32)) ∈ lw_all := lw_g (lw_at lw_m9 217 rfl) rfl
theorem q2233 : (Jvm.Cond.instanceMethod ({ cls := "SearchKeeperModel", name := "battery", desc := "(Z)Z" } : Jvm.MethodName)) ∈ lw_all := lw_g (lw_at lw_m9 219 rfl) rfl
theorem q2234 : (Jvm.Cond.selects "SearchKeeperModel" ({ cls := "SearchKeeperModel", name := "battery", desc := "(Z)Z" } : Jvm.MethodName) ({ cls := "SearchKeeperModel", name := "battery", desc := "(Z)Z" } : Jvm.MethodName)) ∈ lw_all := lw_g (lw_at lw_m9 220 rfl) rfl
theorem q2235 : (Jvm.Cond.code ({ cls := "SearchKeeperModel", name := "battery", desc := "(Z)Z" } : Jvm.MethodName) prog_11_method_50_code (3 : Nat) (Option.some Jvm.ClassFile.FieldType.boolean)) ∈ lw_all := lw_g (lw_at lw_m9 221 rfl) rfl
theorem q2237 : (Jvm.Cond.instanceMethod ({ cls := "SearchKeeperModel", name := "limits", desc := "(II)I" } : Jvm.MethodName)) ∈ lw_all := lw_g (lw_at lw_m9 223 rfl) rfl
theorem q2238 : (Jvm.Cond.selects "SearchKeeperModel" ({ cls := "SearchKeeperModel", name := "limits", desc := "(II)I" } : Jvm.MethodName) ({ cls := "SearchKeeperModel", name := "limits", desc := "(II)I" } : Jvm.MethodName)) ∈ lw_all := lw_g (lw_at lw_m9 224 rfl) rfl
theorem q2239 : (Jvm.Cond.code ({ cls := "SearchKeeperModel", name := "limits", desc := "(II)I" } : Jvm.MethodName) prog_11_method_51_code (4 : Nat) (Option.some Jvm.ClassFile.FieldType.int)) ∈ lw_all := lw_g (lw_at lw_m9 225 rfl) rfl
theorem q2241 : (Jvm.Cond.instanceMethod ({ cls := "SearchKeeperModel", name := "work", desc := "(I)I" } : Jvm.MethodName)) ∈ lw_all := lw_g (lw_at lw_m9 227 rfl) rfl
theorem q2242 : (Jvm.Cond.selects "SearchKeeperModel" ({ cls := "SearchKeeperModel", name := "work", desc := "(I)I" } : Jvm.MethodName) ({ cls := "SearchKeeperModel", name := "work", desc := "(I)I" } : Jvm.MethodName)) ∈ lw_all := lw_g (lw_at lw_m9 228 rfl) rfl
theorem q2243 : (Jvm.Cond.code ({ cls := "SearchKeeperModel", name := "work", desc := "(I)I" } : Jvm.MethodName) prog_11_method_52_code (6 : Nat) (Option.some Jvm.ClassFile.FieldType.int)) ∈ lw_all := lw_g (lw_at lw_m9 229 rfl) rfl
theorem q2244 : (Jvm.Cond.methodLink "SearchKeeperModel" (255 : Nat) ({ cls := "SearchKeeperModel", name := "does", desc := "(I)I" } : Jvm.MethodName)) ∈ lw_all := lw_g (lw_at lw_m9 230 rfl) rfl
theorem q2245 : (Jvm.Cond.privateMethod ({ cls := "SearchKeeperModel", name := "does", desc := "(I)I" } : Jvm.MethodName)) ∈ lw_tbl := lw_at lw_m9 231 rfl
theorem q2246 : (Jvm.Cond.instanceMethod ({ cls := "SearchKeeperModel", name := "does", desc := "(I)I" } : Jvm.MethodName)) ∈ lw_all := lw_g (lw_at lw_m9 232 rfl) rfl
theorem q2247 : (Jvm.Cond.code ({ cls := "SearchKeeperModel", name := "does", desc := "(I)I" } : Jvm.MethodName) prog_11_method_48_code (6 : Nat) (Option.some Jvm.ClassFile.FieldType.int)) ∈ lw_all := lw_g (lw_at lw_m9 233 rfl) rfl
theorem q2248 : (Jvm.Cond.methodLink "SearchKeeperModel" (219 : Nat) ({ cls := "SearchKeeperModel", name := "firstNoticed", desc := "()I" } : Jvm.MethodName)) ∈ lw_all := lw_g (lw_at lw_m9 234 rfl) rfl
theorem q2249 : (Jvm.Cond.privateMethod ({ cls := "SearchKeeperModel", name := "firstNoticed", desc := "()I" } : Jvm.MethodName)) ∈ lw_tbl := lw_at lw_m9 235 rfl
theorem q2250 : (Jvm.Cond.instanceMethod ({ cls := "SearchKeeperModel", name := "firstNoticed", desc := "()I" } : Jvm.MethodName)) ∈ lw_all := lw_g (lw_at lw_m9 236 rfl) rfl
theorem q2251 : (Jvm.Cond.code ({ cls := "SearchKeeperModel", name := "firstNoticed", desc := "()I" } : Jvm.MethodName) prog_11_method_45_code (3 : Nat) (Option.some Jvm.ClassFile.FieldType.int)) ∈ lw_all := lw_g (lw_at lw_m9 237 rfl) rfl
theorem q2252 : (Jvm.Cond.methodLink "SearchKeeperModel" (223 : Nat) ({ cls := "SearchKeeperModel", name := "firstAct", desc := "()I" } : Jvm.MethodName)) ∈ lw_all := lw_g (lw_at lw_m9 238 rfl) rfl
theorem q2253 : (Jvm.Cond.privateMethod ({ cls := "SearchKeeperModel", name := "firstAct", desc := "()I" } : Jvm.MethodName)) ∈ lw_tbl := lw_at lw_m9 239 rfl
theorem q2254 : (Jvm.Cond.instanceMethod ({ cls := "SearchKeeperModel", name := "firstAct", desc := "()I" } : Jvm.MethodName)) ∈ lw_all := lw_g (lw_at lw_m10 0 rfl) rfl
theorem q2255 : (Jvm.Cond.code ({ cls := "SearchKeeperModel", name := "firstAct", desc := "()I" } : Jvm.MethodName) prog_11_method_33_code (3 : Nat) (Option.some Jvm.ClassFile.FieldType.int)) ∈ lw_all := lw_g (lw_at lw_m10 1 rfl) rfl
theorem q2256 : (Jvm.Cond.methodLink "SearchKeeperModel" (226 : Nat) ({ cls := "SearchKeeperModel", name := "firstCrawl", desc := "()I" } : Jvm.MethodName)) ∈ lw_all := lw_g (lw_at lw_m10 2 rfl) rfl
theorem q2257 : (Jvm.Cond.privateMethod ({ cls := "SearchKeeperModel", name := "firstCrawl", desc := "()I" } : Jvm.MethodName)) ∈ lw_tbl := lw_at lw_m10 3 rfl
theorem q2258 : (Jvm.Cond.instanceMethod ({ cls := "SearchKeeperModel", name := "firstCrawl", desc := "()I" } : Jvm.MethodName)) ∈ lw_all := lw_g (lw_at lw_m10 4 rfl) rfl
theorem q2259 : (Jvm.Cond.code ({ cls := "SearchKeeperModel", name := "firstCrawl", desc := "()I" } : Jvm.MethodName) prog_11_method_46_code (3 : Nat) (Option.some Jvm.ClassFile.FieldType.int)) ∈ lw_all := lw_g (lw_at lw_m10 5 rfl) rfl
theorem q2260 : (Jvm.Cond.methodLink "SearchKeeperModel" (229 : Nat) ({ cls := "SearchKeeperModel", name := "cost", desc := "(I)I" } : Jvm.MethodName)) ∈ lw_all := lw_g (lw_at lw_m10 6 rfl) rfl
theorem q2261 : (Jvm.Cond.privateMethod ({ cls := "SearchKeeperModel", name := "cost", desc := "(I)I" } : Jvm.MethodName)) ∈ lw_tbl := lw_at lw_m10 7 rfl
theorem q2262 : (Jvm.Cond.instanceMethod ({ cls := "SearchKeeperModel", name := "cost", desc := "(I)I" } : Jvm.MethodName)) ∈ lw_all := lw_g (lw_at lw_m10 8 rfl) rfl
theorem q2263 : (Jvm.Cond.code ({ cls := "SearchKeeperModel", name := "cost", desc := "(I)I" } : Jvm.MethodName) prog_11_method_40_code (4 : Nat) (Option.some Jvm.ClassFile.FieldType.int)) ∈ lw_all := lw_g (lw_at lw_m10 9 rfl) rfl
theorem q2264 : (Jvm.Cond.methodLink "SearchKeeperModel" (232 : Nat) ({ cls := "SearchKeeperModel", name := "notes", desc := "(I)V" } : Jvm.MethodName)) ∈ lw_all := lw_g (lw_at lw_m10 10 rfl) rfl
theorem q2265 : (Jvm.Cond.privateMethod ({ cls := "SearchKeeperModel", name := "notes", desc := "(I)V" } : Jvm.MethodName)) ∈ lw_tbl := lw_at lw_m10 11 rfl
theorem q2266 : (Jvm.Cond.instanceMethod ({ cls := "SearchKeeperModel", name := "notes", desc := "(I)V" } : Jvm.MethodName)) ∈ lw_all := lw_g (lw_at lw_m10 12 rfl) rfl
theorem q2267 : (Jvm.Cond.code ({ cls := "SearchKeeperModel", name := "notes", desc := "(I)V" } : Jvm.MethodName) prog_11_method_47_code (3 : Nat) (Option.none : Option Jvm.ClassFile.FieldType)) ∈ lw_all := lw_g (lw_at lw_m10 13 rfl) rfl
theorem q2268 : (Jvm.Cond.methodLink "SearchKeeperModel" (235 : Nat) ({ cls := "SearchKeeperModel", name := "acts", desc := "(I)V" } : Jvm.MethodName)) ∈ lw_all := lw_g (lw_at lw_m10 14 rfl) rfl
theorem q2269 : (Jvm.Cond.privateMethod ({ cls := "SearchKeeperModel", name := "acts", desc := "(I)V" } : Jvm.MethodName)) ∈ lw_tbl := lw_at lw_m10 15 rfl
theorem q2270 : (Jvm.Cond.instanceMethod ({ cls := "SearchKeeperModel", name := "acts", desc := "(I)V" } : Jvm.MethodName)) ∈ lw_all := lw_g (lw_at lw_m10 16 rfl) rfl
theorem q2271 : (Jvm.Cond.code ({ cls := "SearchKeeperModel", name := "acts", desc := "(I)V" } : Jvm.MethodName) prog_11_method_41_code (5 : Nat) (Option.none : Option Jvm.ClassFile.FieldType)) ∈ lw_all := lw_g (lw_at lw_m10 17 rfl) rfl
theorem q2272 : (Jvm.Cond.methodLink "SearchKeeperModel" (198 : Nat) ({ cls := "SearchKeeperModel", name := "takesAct", desc := "(I)V" } : Jvm.MethodName)) ∈ lw_all := lw_g (lw_at lw_m10 18 rfl) rfl
theorem q2273 : (Jvm.Cond.privateMethod ({ cls := "SearchKeeperModel", name := "takesAct", desc := "(I)V" } : Jvm.MethodName)) ∈ lw_tbl := lw_at lw_m10 19 rfl
theorem q2274 : (Jvm.Cond.instanceMethod ({ cls := "SearchKeeperModel", name := "takesAct", desc := "(I)V" } : Jvm.MethodName)) ∈ lw_all := lw_g (lw_at lw_m10 20 rfl) rfl
theorem q2275 : (Jvm.Cond.code ({ cls := "SearchKeeperModel", name := "takesAct", desc := "(I)V" } : Jvm.MethodName) prog_11_method_34_code (3 : Nat) (Option.none : Option Jvm.ClassFile.FieldType)) ∈ lw_all := lw_g (lw_at lw_m10 21 rfl) rfl
theorem q2276 : (Jvm.Cond.methodLink "SearchKeeperModel" (201 : Nat) ({ cls := "SearchKeeperModel", name := "forgets", desc := "(I)V" } : Jvm.MethodName)) ∈ lw_all := lw_g (lw_at lw_m10 22 rfl) rfl
theorem q2277 : (Jvm.Cond.privateMethod ({ cls := "SearchKeeperModel", name := "forgets", desc := "(I)V" } : Jvm.MethodName)) ∈ lw_tbl := lw_at lw_m10 23 rfl
theorem q2278 : (Jvm.Cond.instanceMethod ({ cls := "SearchKeeperModel", name := "forgets", desc := "(I)V" } : Jvm.MethodName)) ∈ lw_all := lw_g (lw_at lw_m10 24 rfl) rfl
theorem q2279 : (Jvm.Cond.code ({ cls := "SearchKeeperModel", name := "forgets", desc := "(I)V" } : Jvm.MethodName) prog_11_method_35_code (3 : Nat) (Option.none : Option Jvm.ClassFile.FieldType)) ∈ lw_all := lw_g (lw_at lw_m10 25 rfl) rfl
theorem q2280 : (Jvm.Cond.methodLink "SearchKeeperModel" (186 : Nat) ({ cls := "SearchKeeperModel", name := "liesBelow", desc := "(II)Z" } : Jvm.MethodName)) ∈ lw_all := lw_g (lw_at lw_m10 26 rfl) rfl
theorem q2281 : (Jvm.Cond.privateMethod ({ cls := "SearchKeeperModel", name := "liesBelow", desc := "(II)Z" } : Jvm.MethodName)) ∈ lw_tbl := lw_at lw_m10 27 rfl
theorem q2282 : (Jvm.Cond.instanceMethod ({ cls := "SearchKeeperModel", name := "liesBelow", desc := "(II)Z" } : Jvm.MethodName)) ∈ lw_all := lw_g (lw_at lw_m10 28 rfl) rfl
theorem q2283 : (Jvm.Cond.code ({ cls := "SearchKeeperModel", name := "liesBelow", desc := "(II)Z" } : Jvm.MethodName) prog_11_method_31_code (5 : Nat) (Option.some Jvm.ClassFile.FieldType.boolean)) ∈ lw_all := lw_g (lw_at lw_m10 29 rfl) rfl
theorem q2284 : (Jvm.Cond.methodLink "SearchKeeperModel" (189 : Nat) ({ cls := "SearchKeeperModel", name := "kills", desc := "(I)V" } : Jvm.MethodName)) ∈ lw_all := lw_g (lw_at lw_m10 30 rfl) rfl
theorem q2285 : (Jvm.Cond.privateMethod ({ cls := "SearchKeeperModel", name := "kills", desc := "(I)V" } : Jvm.MethodName)) ∈ lw_tbl := lw_at lw_m10 31 rfl
theorem q2286 : (Jvm.Cond.instanceMethod ({ cls := "SearchKeeperModel", name := "kills", desc := "(I)V" } : Jvm.MethodName)) ∈ lw_all := lw_g (lw_at lw_m10 32 rfl) rfl
theorem q2287 : (Jvm.Cond.code ({ cls := "SearchKeeperModel", name := "kills", desc := "(I)V" } : Jvm.MethodName) prog_11_method_36_code (3 : Nat) (Option.none : Option Jvm.ClassFile.FieldType)) ∈ lw_all := lw_g (lw_at lw_m10 33 rfl) rfl
theorem q2288 : (Jvm.Cond.methodLink "SearchKeeperModel" (204 : Nat) ({ cls := "SearchKeeperModel", name := "places", desc := "(I)V" } : Jvm.MethodName)) ∈ lw_all := lw_g (lw_at lw_m10 34 rfl) rfl
theorem q2289 : (Jvm.Cond.privateMethod ({ cls := "SearchKeeperModel", name := "places", desc := "(I)V" } : Jvm.MethodName)) ∈ lw_tbl := lw_at lw_m10 35 rfl
theorem q2290 : (Jvm.Cond.instanceMethod ({ cls := "SearchKeeperModel", name := "places", desc := "(I)V" } : Jvm.MethodName)) ∈ lw_all := lw_g (lw_at lw_m10 36 rfl) rfl
theorem q2291 : (Jvm.Cond.code ({ cls := "SearchKeeperModel", name := "places", desc := "(I)V" } : Jvm.MethodName) prog_11_method_38_code (2 : Nat) (Option.none : Option Jvm.ClassFile.FieldType)) ∈ lw_all := lw_g (lw_at lw_m10 37 rfl) rfl
theorem q2292 : (Jvm.Cond.methodLink "SearchKeeperModel" (207 : Nat) ({ cls := "SearchKeeperModel", name := "reads", desc := "(I)V" } : Jvm.MethodName)) ∈ lw_all := lw_g (lw_at lw_m10 38 rfl) rfl
theorem q2293 : (Jvm.Cond.privateMethod ({ cls := "SearchKeeperModel", name := "reads", desc := "(I)V" } : Jvm.MethodName)) ∈ lw_tbl := lw_at lw_m10 39 rfl
theorem q2294 : (Jvm.Cond.instanceMethod ({ cls := "SearchKeeperModel", name := "reads", desc := "(I)V" } : Jvm.MethodName)) ∈ lw_all := lw_g (lw_at lw_m10 40 rfl) rfl
theorem q2295 : (Jvm.Cond.code ({ cls := "SearchKeeperModel", name := "reads", desc := "(I)V" } : Jvm.MethodName) prog_11_method_42_code (3 : Nat) (Option.none : Option Jvm.ClassFile.FieldType)) ∈ lw_all := lw_g (lw_at lw_m10 41 rfl) rfl
theorem q2296 : (Jvm.Cond.methodLink "SearchKeeperModel" (210 : Nat) ({ cls := "SearchKeeperModel", name := "takesWords", desc := "(I)V" } : Jvm.MethodName)) ∈ lw_all := lw_g (lw_at lw_m10 42 rfl) rfl
theorem q2297 : (Jvm.Cond.privateMethod ({ cls := "SearchKeeperModel", name := "takesWords", desc := "(I)V" } : Jvm.MethodName)) ∈ lw_tbl := lw_at lw_m10 43 rfl
theorem q2298 : (Jvm.Cond.instanceMethod ({ cls := "SearchKeeperModel", name := "takesWords", desc := "(I)V" } : Jvm.MethodName)) ∈ lw_all := lw_g (lw_at lw_m10 44 rfl) rfl
theorem q2299 : (Jvm.Cond.code ({ cls := "SearchKeeperModel", name := "takesWords", desc := "(I)V" } : Jvm.MethodName) prog_11_method_37_code (7 : Nat) (Option.none : Option Jvm.ClassFile.FieldType)) ∈ lw_all := lw_g (lw_at lw_m10 45 rfl) rfl
theorem q2300 : (Jvm.Cond.methodLink "SearchKeeperModel" (238 : Nat) ({ cls := "SearchKeeperModel", name := "goesOn", desc := "(I)V" } : Jvm.MethodName)) ∈ lw_all := lw_g (lw_at lw_m10 46 rfl) rfl
theorem q2301 : (Jvm.Cond.privateMethod ({ cls := "SearchKeeperModel", name := "goesOn", desc := "(I)V" } : Jvm.MethodName)) ∈ lw_tbl := lw_at lw_m10 47 rfl
theorem q2302 : (Jvm.Cond.instanceMethod ({ cls := "SearchKeeperModel", name := "goesOn", desc := "(I)V" } : Jvm.MethodName)) ∈ lw_all := lw_g (lw_at lw_m10 48 rfl) rfl
theorem q2303 : (Jvm.Cond.code ({ cls := "SearchKeeperModel", name := "goesOn", desc := "(I)V" } : Jvm.MethodName) prog_11_method_44_code (4 : Nat) (Option.none : Option Jvm.ClassFile.FieldType)) ∈ lw_all := lw_g (lw_at lw_m10 49 rfl) rfl
theorem q2304 : (Jvm.Cond.methodLink "SearchKeeperModel" (213 : Nat) ({ cls := "SearchKeeperModel", name := "isKnown", desc := "(I)Z" } : Jvm.MethodName)) ∈ lw_all := lw_g (lw_at lw_m10 50 rfl) rfl
theorem q2305 : (Jvm.Cond.privateMethod ({ cls := "SearchKeeperModel", name := "isKnown", desc := "(I)Z" } : Jvm.MethodName)) ∈ lw_tbl := lw_at lw_m10 51 rfl
theorem q2306 : (Jvm.Cond.instanceMethod ({ cls := "SearchKeeperModel", name := "isKnown", desc := "(I)Z" } : Jvm.MethodName)) ∈ lw_all := lw_g (lw_at lw_m10 52 rfl) rfl
theorem q2307 : (Jvm.Cond.code ({ cls := "SearchKeeperModel", name := "isKnown", desc := "(I)Z" } : Jvm.MethodName) prog_11_method_39_code (2 : Nat) (Option.some Jvm.ClassFile.FieldType.boolean)) ∈ lw_all := lw_g (lw_at lw_m10 53 rfl) rfl
theorem q2308 : (Jvm.Cond.methodLink "SearchKeeperModel" (216 : Nat) ({ cls := "SearchKeeperModel", name := "isWaiting", desc := "(II)Z" } : Jvm.MethodName)) ∈ lw_all := lw_g (lw_at lw_m10 54 rfl) rfl
theorem q2309 : (Jvm.Cond.privateMethod ({ cls := "SearchKeeperModel", name := "isWaiting", desc := "(II)Z" } : Jvm.MethodName)) ∈ lw_tbl := lw_at lw_m10 55 rfl
theorem q2310 : (Jvm.Cond.instanceMethod ({ cls := "SearchKeeperModel", name := "isWaiting", desc := "(II)Z" } : Jvm.MethodName)) ∈ lw_all := lw_g (lw_at lw_m10 56 rfl) rfl
theorem q2311 : (Jvm.Cond.code ({ cls := "SearchKeeperModel", name := "isWaiting", desc := "(II)Z" } : Jvm.MethodName) prog_11_method_43_code (5 : Nat) (Option.some Jvm.ClassFile.FieldType.boolean)) ∈ lw_all := lw_g (lw_at lw_m10 57 rfl) rfl
theorem q2312 : (Jvm.Cond.methodLink "SearchKeeperModel" (258 : Nat) ({ cls := "SearchKeeperModel", name := "indexes", desc := "()V" } : Jvm.MethodName)) ∈ lw_all := lw_g (lw_at lw_m10 58 rfl) rfl
theorem q2313 : (Jvm.Cond.privateMethod ({ cls := "SearchKeeperModel", name := "indexes", desc := "()V" } : Jvm.MethodName)) ∈ lw_tbl := lw_at lw_m10 59 rfl
theorem q2314 : (Jvm.Cond.instanceMethod ({ cls := "SearchKeeperModel", name := "indexes", desc := "()V" } : Jvm.MethodName)) ∈ lw_all := lw_g (lw_at lw_m10 60 rfl) rfl
theorem q2315 : (Jvm.Cond.code ({ cls := "SearchKeeperModel", name := "indexes", desc := "()V" } : Jvm.MethodName) prog_11_method_63_code (4 : Nat) (Option.none : Option Jvm.ClassFile.FieldType)) ∈ lw_all := lw_g (lw_at lw_m10 61 rfl) rfl
theorem q2316 : (Jvm.Cond.methodLink "SearchKeeperModel" (267 : Nat) ({ cls := "SearchKeeperModel", name := "count", desc := "(IZ)I" } : Jvm.MethodName)) ∈ lw_all := lw_g (lw_at lw_m10 62 rfl) rfl
theorem q2317 : (Jvm.Cond.privateMethod ({ cls := "SearchKeeperModel", name := "count", desc := "(IZ)I" } : Jvm.MethodName)) ∈ lw_tbl := lw_at lw_m10 63 rfl
theorem q2318 : (Jvm.Cond.instanceMethod ({ cls := "SearchKeeperModel", name := "count", desc := "(IZ)I" } : Jvm.MethodName)) ∈ lw_all := lw_g (lw_at lw_m10 64 rfl) rfl
theorem q2319 : (Jvm.Cond.code ({ cls := "SearchKeeperModel", name := "count", desc := "(IZ)I" } : Jvm.MethodName) prog_11_method_59_code (5 : Nat) (Option.some Jvm.ClassFile.FieldType.int)) ∈ lw_all := lw_g (lw_at lw_m10 65 rfl) rfl
theorem q2320 : (Jvm.Cond.methodLink "SearchKeeperModel" (271 : Nat) ({ cls := "SearchKeeperModel", name := "cleans", desc := "(I)V" } : Jvm.MethodName)) ∈ lw_all := lw_g (lw_at lw_m10 66 rfl) rfl
theorem q2321 : (Jvm.Cond.privateMethod ({ cls := "SearchKeeperModel", name := "cleans", desc := "(I)V" } : Jvm.MethodName)) ∈ lw_tbl := lw_at lw_m10 67 rfl
theorem q2322 : (Jvm.Cond.instanceMethod ({ cls := "SearchKeeperModel", name := "cleans", desc := "(I)V" } : Jvm.MethodName)) ∈ lw_all := lw_g (lw_at lw_m10 68 rfl) rfl
theorem q2323 : (Jvm.Cond.code ({ cls := "SearchKeeperModel", name := "cleans", desc := "(I)V" } : Jvm.MethodName) prog_11_method_61_code (3 : Nat) (Option.none : Option Jvm.ClassFile.FieldType)) ∈ lw_all := lw_g (lw_at lw_m10 69 rfl) rfl
theorem q2324 : (Jvm.Cond.methodLink "SearchKeeperModel" (261 : Nat) ({ cls := "SearchKeeperModel", name := "takesPlace", desc := "(I)V" } : Jvm.MethodName)) ∈ lw_all := lw_g (lw_at lw_m10 70 rfl) rfl
theorem q2325 : (Jvm.Cond.privateMethod ({ cls := "SearchKeeperModel", name := "takesPlace", desc := "(I)V" } : Jvm.MethodName)) ∈ lw_tbl := lw_at lw_m10 71 rfl
theorem q2326 : (Jvm.Cond.instanceMethod ({ cls := "SearchKeeperModel", name := "takesPlace", desc := "(I)V" } : Jvm.MethodName)) ∈ lw_all := lw_g (lw_at lw_m10 72 rfl) rfl
theorem q2327 : (Jvm.Cond.code ({ cls := "SearchKeeperModel", name := "takesPlace", desc := "(I)V" } : Jvm.MethodName) prog_11_method_60_code (3 : Nat) (Option.none : Option Jvm.ClassFile.FieldType)) ∈ lw_all := lw_g (lw_at lw_m10 73 rfl) rfl
theorem q2328 : (Jvm.Cond.methodLink "SearchKeeperModel" (274 : Nat) ({ cls := "SearchKeeperModel", name := "joins", desc := "(I)V" } : Jvm.MethodName)) ∈ lw_all := lw_g (lw_at lw_m10 74 rfl) rfl
theorem q2329 : (Jvm.Cond.privateMethod ({ cls := "SearchKeeperModel", name := "joins", desc := "(I)V" } : Jvm.MethodName)) ∈ lw_tbl := lw_at lw_m10 75 rfl
theorem q2330 : (Jvm.Cond.instanceMethod ({ cls := "SearchKeeperModel", name := "joins", desc := "(I)V" } : Jvm.MethodName)) ∈ lw_all := lw_g (lw_at lw_m10 76 rfl) rfl
theorem q2331 : (Jvm.Cond.code ({ cls := "SearchKeeperModel", name := "joins", desc := "(I)V" } : Jvm.MethodName) prog_11_method_62_code (3 : Nat) (Option.none : Option Jvm.ClassFile.FieldType)) ∈ lw_all := lw_g (lw_at lw_m10 77 rfl) rfl
theorem q2333 : (Jvm.Cond.instanceMethod ({ cls := "SearchKeeperModel", name := "crawl", desc := "(I)I" } : Jvm.MethodName)) ∈ lw_all := lw_g (lw_at lw_m10 79 rfl) rfl
theorem q2334 : (Jvm.Cond.selects "SearchKeeperModel" ({ cls := "SearchKeeperModel", name := "crawl", desc := "(I)I" } : Jvm.MethodName) ({ cls := "SearchKeeperModel", name := "crawl", desc := "(I)I" } : Jvm.MethodName)) ∈ lw_all := lw_g (lw_at lw_m10 80 rfl) rfl
theorem q2335 : (Jvm.Cond.code ({ cls := "SearchKeeperModel", name := "crawl", desc := "(I)I" } : Jvm.MethodName) prog_11_method_53_code (5 : Nat) (Option.some Jvm.ClassFile.FieldType.int)) ∈ lw_all := lw_g (lw_at lw_m10 81 rfl) rfl
theorem q2337 : (Jvm.Cond.instanceMethod ({ cls := "SearchKeeperModel", name := "acts", desc := "()I" } : Jvm.MethodName)) ∈ lw_all := lw_g (lw_at lw_m10 83 rfl) rfl
theorem q2338 : (Jvm.Cond.selects "SearchKeeperModel" ({ cls := "SearchKeeperModel", name := "acts", desc := "()I" } : Jvm.MethodName) ({ cls := "SearchKeeperModel", name := "acts", desc := "()I" } : Jvm.MethodName)) ∈ lw_all := lw_g (lw_at lw_m10 84 rfl) rfl
theorem q2339 : (Jvm.Cond.code ({ cls := "SearchKeeperModel", name := "acts", desc := "()I" } : Jvm.MethodName) prog_11_method_54_code (1 : Nat) (Option.some Jvm.ClassFile.FieldType.int)) ∈ lw_all := lw_g (lw_at lw_m10 85 rfl) rfl
theorem q2341 : (Jvm.Cond.instanceMethod ({ cls := "SearchKeeperModel", name := "isQuiet", desc := "()Z" } : Jvm.MethodName)) ∈ lw_all := lw_g (lw_at lw_m10 87 rfl) rfl
theorem q2342 : (Jvm.Cond.selects "SearchKeeperModel" ({ cls := "SearchKeeperModel", name := "isQuiet", desc := "()Z" } : Jvm.MethodName) ({ cls := "SearchKeeperModel", name := "isQuiet", desc := "()Z" } : Jvm.MethodName)) ∈ lw_all := lw_g (lw_at lw_m10 88 rfl) rfl
theorem q2343 : (Jvm.Cond.code ({ cls := "SearchKeeperModel", name := "isQuiet", desc := "()Z" } : Jvm.MethodName) prog_11_method_55_code (1 : Nat) (Option.some Jvm.ClassFile.FieldType.boolean)) ∈ lw_all := lw_g (lw_at lw_m10 89 rfl) rfl
theorem q2345 : (Jvm.Cond.instanceMethod ({ cls := "SearchKeeperModel", name := "entries", desc := "()I" } : Jvm.MethodName)) ∈ lw_all := lw_g (lw_at lw_m10 91 rfl) rfl
theorem q2346 : (Jvm.Cond.selects "SearchKeeperModel" ({ cls := "SearchKeeperModel", name := "entries", desc := "()I" } : Jvm.MethodName) ({ cls := "SearchKeeperModel", name := "entries", desc := "()I" } : Jvm.MethodName)) ∈ lw_all := lw_g (lw_at lw_m10 92 rfl) rfl
theorem q2347 : (Jvm.Cond.code ({ cls := "SearchKeeperModel", name := "entries", desc := "()I" } : Jvm.MethodName) prog_11_method_56_code (3 : Nat) (Option.some Jvm.ClassFile.FieldType.int)) ∈ lw_all := lw_g (lw_at lw_m10 93 rfl) rfl
theorem q2349 : (Jvm.Cond.instanceMethod ({ cls := "SearchKeeperModel", name := "edition", desc := "(I)I" } : Jvm.MethodName)) ∈ lw_all := lw_g (lw_at lw_m10 95 rfl) rfl
theorem q2350 : (Jvm.Cond.selects "SearchKeeperModel" ({ cls := "SearchKeeperModel", name := "edition", desc := "(I)I" } : Jvm.MethodName) ({ cls := "SearchKeeperModel", name := "edition", desc := "(I)I" } : Jvm.MethodName)) ∈ lw_all := lw_g (lw_at lw_m10 96 rfl) rfl
theorem q2351 : (Jvm.Cond.code ({ cls := "SearchKeeperModel", name := "edition", desc := "(I)I" } : Jvm.MethodName) prog_11_method_57_code (2 : Nat) (Option.some Jvm.ClassFile.FieldType.int)) ∈ lw_all := lw_g (lw_at lw_m10 97 rfl) rfl
theorem q2353 : (Jvm.Cond.instanceMethod ({ cls := "SearchKeeperModel", name := "stale", desc := "()I" } : Jvm.MethodName)) ∈ lw_all := lw_g (lw_at lw_m10 99 rfl) rfl
theorem q2354 : (Jvm.Cond.selects "SearchKeeperModel" ({ cls := "SearchKeeperModel", name := "stale", desc := "()I" } : Jvm.MethodName) ({ cls := "SearchKeeperModel", name := "stale", desc := "()I" } : Jvm.MethodName)) ∈ lw_all := lw_g (lw_at lw_m10 100 rfl) rfl
theorem q2355 : (Jvm.Cond.code ({ cls := "SearchKeeperModel", name := "stale", desc := "()I" } : Jvm.MethodName) prog_11_method_58_code (4 : Nat) (Option.some Jvm.ClassFile.FieldType.int)) ∈ lw_all := lw_g (lw_at lw_m10 101 rfl) rfl
theorem q2357 : (Jvm.Cond.instanceMethod ({ cls := "SearchKeeperModel", name := "segments", desc := "()I" } : Jvm.MethodName)) ∈ lw_all := lw_g (lw_at lw_m10 103 rfl) rfl
theorem q2358 : (Jvm.Cond.selects "SearchKeeperModel" ({ cls := "SearchKeeperModel", name := "segments", desc := "()I" } : Jvm.MethodName) ({ cls := "SearchKeeperModel", name := "segments", desc := "()I" } : Jvm.MethodName)) ∈ lw_all := lw_g (lw_at lw_m10 104 rfl) rfl
theorem q2359 : (Jvm.Cond.code ({ cls := "SearchKeeperModel", name := "segments", desc := "()I" } : Jvm.MethodName) prog_11_method_64_code (1 : Nat) (Option.some Jvm.ClassFile.FieldType.int)) ∈ lw_all := lw_g (lw_at lw_m10 105 rfl) rfl
theorem q2361 : (Jvm.Cond.instanceMethod ({ cls := "SearchKeeperModel", name := "dead", desc := "()I" } : Jvm.MethodName)) ∈ lw_all := lw_g (lw_at lw_m10 107 rfl) rfl
theorem q2362 : (Jvm.Cond.selects "SearchKeeperModel" ({ cls := "SearchKeeperModel", name := "dead", desc := "()I" } : Jvm.MethodName) ({ cls := "SearchKeeperModel", name := "dead", desc := "()I" } : Jvm.MethodName)) ∈ lw_all := lw_g (lw_at lw_m10 108 rfl) rfl
theorem q2363 : (Jvm.Cond.code ({ cls := "SearchKeeperModel", name := "dead", desc := "()I" } : Jvm.MethodName) prog_11_method_65_code (3 : Nat) (Option.some Jvm.ClassFile.FieldType.int)) ∈ lw_all := lw_g (lw_at lw_m10 109 rfl) rfl
theorem q2365 : (Jvm.Cond.instanceMethod ({ cls := "SearchKeeperModel", name := "answers", desc := "(IIII)I" } : Jvm.MethodName)) ∈ lw_all := lw_g (lw_at lw_m10 111 rfl) rfl
theorem q2366 : (Jvm.Cond.selects "SearchKeeperModel" ({ cls := "SearchKeeperModel", name := "answers", desc := "(IIII)I" } : Jvm.MethodName) ({ cls := "SearchKeeperModel", name := "answers", desc := "(IIII)I" } : Jvm.MethodName)) ∈ lw_all := lw_g (lw_at lw_m10 112 rfl) rfl
theorem q2367 : (Jvm.Cond.code ({ cls := "SearchKeeperModel", name := "answers", desc := "(IIII)I" } : Jvm.MethodName) prog_11_method_72_code (8 : Nat) (Option.some Jvm.ClassFile.FieldType.int)) ∈ lw_all := lw_g (lw_at lw_m10 113 rfl) rfl
theorem q2368 : (Jvm.Cond.methodLink "SearchKeeperModel" (287 : Nat) ({ cls := "SearchKeeperModel", name := "canAsk", desc := "(IIII)Z" } : Jvm.MethodName)) ∈ lw_all := lw_g (lw_at lw_m10 114 rfl) rfl
theorem q2369 : (Jvm.Cond.privateMethod ({ cls := "SearchKeeperModel", name := "canAsk", desc := "(IIII)Z" } : Jvm.MethodName)) ∈ lw_tbl := lw_at lw_m10 115 rfl
theorem q2370 : (Jvm.Cond.instanceMethod ({ cls := "SearchKeeperModel", name := "canAsk", desc := "(IIII)Z" } : Jvm.MethodName)) ∈ lw_all := lw_g (lw_at lw_m10 116 rfl) rfl
theorem q2371 : (Jvm.Cond.code ({ cls := "SearchKeeperModel", name := "canAsk", desc := "(IIII)Z" } : Jvm.MethodName) prog_11_method_71_code (6 : Nat) (Option.some Jvm.ClassFile.FieldType.boolean)) ∈ lw_all := lw_g (lw_at lw_m10 117 rfl) rfl
theorem q2372 : (Jvm.Cond.methodLink "SearchKeeperModel" (284 : Nat) ({ cls := "SearchKeeperModel", name := "areWords", desc := "(II)Z" } : Jvm.MethodName)) ∈ lw_all := lw_g (lw_at lw_m10 118 rfl) rfl
theorem q2373 : (Jvm.Cond.privateMethod ({ cls := "SearchKeeperModel", name := "areWords", desc := "(II)Z" } : Jvm.MethodName)) ∈ lw_tbl := lw_at lw_m10 119 rfl
theorem q2374 : (Jvm.Cond.instanceMethod ({ cls := "SearchKeeperModel", name := "areWords", desc := "(II)Z" } : Jvm.MethodName)) ∈ lw_all := lw_g (lw_at lw_m10 120 rfl) rfl
theorem q2375 : (Jvm.Cond.code ({ cls := "SearchKeeperModel", name := "areWords", desc := "(II)Z" } : Jvm.MethodName) prog_11_method_66_code (3 : Nat) (Option.some Jvm.ClassFile.FieldType.boolean)) ∈ lw_all := lw_g (lw_at lw_m10 121 rfl) rfl
theorem q2376 : (Jvm.Cond.methodLink "SearchKeeperModel" (291 : Nat) ({ cls := "SearchKeeperModel", name := "isAnswer", desc := "(IIIII)Z" } : Jvm.MethodName)) ∈ lw_all := lw_g (lw_at lw_m10 122 rfl) rfl
theorem q2377 : (Jvm.Cond.privateMethod ({ cls := "SearchKeeperModel", name := "isAnswer", desc := "(IIIII)Z" } : Jvm.MethodName)) ∈ lw_tbl := lw_at lw_m10 123 rfl
theorem q2378 : (Jvm.Cond.instanceMethod ({ cls := "SearchKeeperModel", name := "isAnswer", desc := "(IIIII)Z" } : Jvm.MethodName)) ∈ lw_all := lw_g (lw_at lw_m10 124 rfl) rfl
theorem q2379 : (Jvm.Cond.code ({ cls := "SearchKeeperModel", name := "isAnswer", desc := "(IIIII)Z" } : Jvm.MethodName) prog_11_method_70_code (6 : Nat) (Option.some Jvm.ClassFile.FieldType.boolean)) ∈ lw_all := lw_g (lw_at lw_m10 125 rfl) rfl
theorem q2380 : (Jvm.Cond.methodLink "SearchKeeperModel" (281 : Nat) ({ cls := "SearchKeeperModel", name := "has", desc := "(III)Z" } : Jvm.MethodName)) ∈ lw_all := lw_g (lw_at lw_m10 126 rfl) rfl
theorem q2381 : (Jvm.Cond.privateMethod ({ cls := "SearchKeeperModel", name := "has", desc := "(III)Z" } : Jvm.MethodName)) ∈ lw_tbl := lw_at lw_m10 127 rfl
theorem q2382 : (Jvm.Cond.instanceMethod ({ cls := "SearchKeeperModel", name := "has", desc := "(III)Z" } : Jvm.MethodName)) ∈ lw_all := lw_g (lw_at lw_m10 128 rfl) rfl
theorem q2383 : (Jvm.Cond.code ({ cls := "SearchKeeperModel", name := "has", desc := "(III)Z" } : Jvm.MethodName) prog_11_method_68_code (4 : Nat) (Option.some Jvm.ClassFile.FieldType.boolean)) ∈ lw_all := lw_g (lw_at lw_m10 129 rfl) rfl
theorem q2384 : (Jvm.Cond.methodLink "SearchKeeperModel" (277 : Nat) ({ cls := "SearchKeeperModel", name := "often", desc := "(II)I" } : Jvm.MethodName)) ∈ lw_all := lw_g (lw_at lw_m10 130 rfl) rfl
theorem q2385 : (Jvm.Cond.privateMethod ({ cls := "SearchKeeperModel", name := "often", desc := "(II)I" } : Jvm.MethodName)) ∈ lw_tbl := lw_at lw_m10 131 rfl
theorem q2386 : (Jvm.Cond.instanceMethod ({ cls := "SearchKeeperModel", name := "often", desc := "(II)I" } : Jvm.MethodName)) ∈ lw_all := lw_g (lw_at lw_m10 132 rfl) rfl
theorem q2387 : (Jvm.Cond.code ({ cls := "SearchKeeperModel", name := "often", desc := "(II)I" } : Jvm.MethodName) prog_11_method_67_code (5 : Nat) (Option.some Jvm.ClassFile.FieldType.int)) ∈ lw_all := lw_g (lw_at lw_m10 133 rfl) rfl
theorem q2389 : (Jvm.Cond.instanceMethod ({ cls := "SearchKeeperModel", name := "answersAnew", desc := "(IIII)I" } : Jvm.MethodName)) ∈ lw_all := lw_g (lw_at lw_m10 135 rfl) rfl
theorem q2390 : (Jvm.Cond.selects "SearchKeeperModel" ({ cls := "SearchKeeperModel", name := "answersAnew", desc := "(IIII)I" } : Jvm.MethodName) ({ cls := "SearchKeeperModel", name := "answersAnew", desc := "(IIII)I" } : Jvm.MethodName)) ∈ lw_all := lw_g (lw_at lw_m10 136 rfl) rfl
theorem q2391 : (Jvm.Cond.code ({ cls := "SearchKeeperModel", name := "answersAnew", desc := "(IIII)I" } : Jvm.MethodName) prog_11_method_73_code (13 : Nat) (Option.some Jvm.ClassFile.FieldType.int)) ∈ lw_all := lw_g (lw_at lw_m10 137 rfl) rfl
theorem q2393 : (Jvm.Cond.instanceMethod ({ cls := "SearchKeeperModel", name := "answer", desc := "(IIII)I" } : Jvm.MethodName)) ∈ lw_all := lw_g (lw_at lw_m10 139 rfl) rfl
theorem q2394 : (Jvm.Cond.selects "SearchKeeperModel" ({ cls := "SearchKeeperModel", name := "answer", desc := "(IIII)I" } : Jvm.MethodName) ({ cls := "SearchKeeperModel", name := "answer", desc := "(IIII)I" } : Jvm.MethodName)) ∈ lw_all := lw_g (lw_at lw_m10 140 rfl) rfl
theorem q2395 : (Jvm.Cond.code ({ cls := "SearchKeeperModel", name := "answer", desc := "(IIII)I" } : Jvm.MethodName) prog_11_method_74_code (10 : Nat) (Option.some Jvm.ClassFile.FieldType.int)) ∈ lw_all := lw_g (lw_at lw_m10 141 rfl) rfl
theorem q2396 : (Jvm.Cond.methodLink "SearchKeeperModel" (295 : Nat) ({ cls := "SearchKeeperModel", name := "score", desc := "(III)I" } : Jvm.MethodName)) ∈ lw_all := lw_g (lw_at lw_m10 142 rfl) rfl
theorem q2397 : (Jvm.Cond.privateMethod ({ cls := "SearchKeeperModel", name := "score", desc := "(III)I" } : Jvm.MethodName)) ∈ lw_tbl := lw_at lw_m10 143 rfl
theorem q2398 : (Jvm.Cond.instanceMethod ({ cls := "SearchKeeperModel", name := "score", desc := "(III)I" } : Jvm.MethodName)) ∈ lw_all := lw_g (lw_at lw_m10 144 rfl) rfl
theorem q2399 : (Jvm.Cond.code ({ cls := "SearchKeeperModel", name := "score", desc := "(III)I" } : Jvm.MethodName) prog_11_method_69_code (7 : Nat) (Option.some Jvm.ClassFile.FieldType.int)) ∈ lw_all := lw_g (lw_at lw_m10 145 rfl) rfl
theorem q2401 : (Jvm.Cond.instanceMethod ({ cls := "SearchKeeperModel", name := "closest", desc := "(IIII)I" } : Jvm.MethodName)) ∈ lw_all := lw_g (lw_at lw_m10 147 rfl) rfl
theorem q2402 : (Jvm.Cond.selects "SearchKeeperModel" ({ cls := "SearchKeeperModel", name := "closest", desc := "(IIII)I" } : Jvm.MethodName) ({ cls := "SearchKeeperModel", name := "closest", desc := "(IIII)I" } : Jvm.MethodName)) ∈ lw_all := lw_g (lw_at lw_m10 148 rfl) rfl
theorem q2403 : (Jvm.Cond.code ({ cls := "SearchKeeperModel", name := "closest", desc := "(IIII)I" } : Jvm.MethodName) prog_11_method_75_code (10 : Nat) (Option.some Jvm.ClassFile.FieldType.int)) ∈ lw_all := lw_g (lw_at lw_m10 149 rfl) rfl
theorem q2404 : (Jvm.Cond.methodLink "SearchKeeperModel" (299 : Nat) ({ cls := "SearchKeeperModel", name := "isCloser", desc := "(IIII)Z" } : Jvm.MethodName)) ∈ lw_all := lw_g (lw_at lw_m10 150 rfl) rfl
theorem q2405 : (Jvm.Cond.static ({ cls := "SearchKeeperModel", name := "isCloser", desc := "(IIII)Z" } : Jvm.MethodName)) ∈ lw_all := lw_g (lw_at lw_m10 151 rfl) rfl
theorem q2406 : (Jvm.Cond.code ({ cls := "SearchKeeperModel", name := "isCloser", desc := "(IIII)Z" } : Jvm.MethodName) prog_11_method_76_code (8 : Nat) (Option.some Jvm.ClassFile.FieldType.boolean)) ∈ lw_all := lw_g (lw_at lw_m10 152 rfl) rfl
theorem q2432 : (Jvm.Cond.castable "SearchKeeperModel" "java/lang/Object") ∈ lw_tbl := lw_at lw_m10 178 rfl
theorem in_X3 : ∀ w ∈ wsX30, w ∈ lw_all := lw_in wsX30 [2012, 2014, 2016, 2018, 2020, 2022, 2024, 2026, 2028, 2030, 2032, 2034, 2036, 2038, 2040, 2042, 2044, 2046, 2048, 2050, 2052, 2054, 2056, 2058, 2060, 2062, 2064, 2066, 2068, 2070, 2072, 2074, 2076, 2078, 2080, 2082, 2084, 2086, 2088, 2090, 2092, 2094, 2096, 2098, 2100, 2102] (by decide +kernel) (by decide +kernel)

/-! the law's own entry -/
set_option maxRecDepth 100000
abbrev cL_law : ByteArray := code
def dkwL_law_72 : List UInt8 := [153, 0, 5, 3, 172, 167, 0, 3, 132, 4, 5, 167, 249, 22, 4, 172]
abbrev dktL_law_72 : List UInt8 := dkwL_law_72 ++ []
def dkwL_law_71 : List UInt8 := [182, 0, 95, 21, 5, 159, 0, 5, 3, 172, 21, 5, 154, 0, 15, 45, 3, 47, 21, 6, 133, 148]
abbrev dktL_law_71 : List UInt8 := dkwL_law_71 ++ dktL_law_72
def dkwL_law_70 : List UInt8 := [42, 21, 4, 5, 96, 46, 42, 21, 4, 6, 96, 46, 42, 21, 4, 7, 96, 46, 182, 0, 197, 54, 6, 44]
abbrev dktL_law_70 : List UInt8 := dkwL_law_70 ++ dktL_law_71
def dkwL_law_69 : List UInt8 := [21, 4, 6, 96, 46, 42, 21, 4, 7, 96, 46, 45, 184, 0, 195, 54, 5, 44, 42, 21, 4, 4, 96, 46]
abbrev dktL_law_69 : List UInt8 := dkwL_law_69 ++ dktL_law_70
def dkwL_law_68 : List UInt8 := [148, 153, 0, 5, 3, 172, 167, 0, 95, 43, 42, 21, 4, 4, 96, 46, 42, 21, 4, 5, 96, 46, 42]
abbrev dktL_law_68 : List UInt8 := dkwL_law_68 ++ dktL_law_69
def dkwL_law_67 : List UInt8 := [54, 6, 44, 182, 0, 95, 21, 5, 159, 0, 5, 3, 172, 21, 5, 154, 0, 15, 45, 3, 47, 21, 6, 133]
abbrev dktL_law_67 : List UInt8 := dkwL_law_67 ++ dktL_law_68
def dkwL_law_66 : List UInt8 := [96, 46, 42, 21, 4, 5, 96, 46, 42, 21, 4, 6, 96, 46, 42, 21, 4, 7, 96, 46, 182, 0, 194]
abbrev dktL_law_66 : List UInt8 := dkwL_law_66 ++ dktL_law_67
def dkwL_law_65 : List UInt8 := [46, 42, 21, 4, 6, 96, 46, 42, 21, 4, 7, 96, 46, 45, 184, 0, 192, 54, 5, 44, 42, 21, 4, 4]
abbrev dktL_law_65 : List UInt8 := dkwL_law_65 ++ dktL_law_66
def dkwL_law_64 : List UInt8 := [21, 6, 133, 148, 153, 0, 5, 3, 172, 167, 0, 187, 43, 42, 21, 4, 4, 96, 46, 42, 21, 4, 5, 96]
abbrev dktL_law_64 : List UInt8 := dkwL_law_64 ++ dktL_law_65
def dkwL_law_63 : List UInt8 := [182, 0, 191, 54, 6, 44, 182, 0, 95, 21, 5, 159, 0, 5, 3, 172, 21, 5, 154, 0, 15, 45, 3, 47]
abbrev dktL_law_63 : List UInt8 := dkwL_law_63 ++ dktL_law_64
def dkwL_law_62 : List UInt8 := [42, 21, 4, 4, 96, 46, 42, 21, 4, 5, 96, 46, 42, 21, 4, 6, 96, 46, 42, 21, 4, 7, 96, 46]
abbrev dktL_law_62 : List UInt8 := dkwL_law_62 ++ dktL_law_63
def dkwL_law_61 : List UInt8 := [21, 4, 5, 96, 46, 42, 21, 4, 6, 96, 46, 42, 21, 4, 7, 96, 46, 45, 184, 0, 189, 54, 5, 44]
abbrev dktL_law_61 : List UInt8 := dkwL_law_61 ++ dktL_law_62
def dkwL_law_60 : List UInt8 := [45, 3, 47, 21, 6, 133, 148, 153, 0, 5, 3, 172, 167, 1, 23, 43, 42, 21, 4, 4, 96, 46, 42]
abbrev dktL_law_60 : List UInt8 := dkwL_law_60 ++ dktL_law_61
def dkwL_law_59 : List UInt8 := [7, 96, 46, 182, 0, 188, 54, 6, 44, 182, 0, 95, 21, 5, 159, 0, 5, 3, 172, 21, 5, 154, 0, 15]
abbrev dktL_law_59 : List UInt8 := dkwL_law_59 ++ dktL_law_60
def dkwL_law_58 : List UInt8 := [54, 5, 44, 42, 21, 4, 4, 96, 46, 42, 21, 4, 5, 96, 46, 42, 21, 4, 6, 96, 46, 42, 21, 4]
abbrev dktL_law_58 : List UInt8 := dkwL_law_58 ++ dktL_law_59
def dkwL_law_57 : List UInt8 := [46, 42, 21, 4, 5, 96, 46, 42, 21, 4, 6, 96, 46, 42, 21, 4, 7, 96, 46, 45, 184, 0, 185]
abbrev dktL_law_57 : List UInt8 := dkwL_law_57 ++ dktL_law_58
def dkwL_law_56 : List UInt8 := [159, 1, 130, 3, 172, 43, 182, 0, 181, 44, 182, 0, 184, 159, 1, 117, 3, 172, 43, 42, 21, 4, 4, 96]
abbrev dktL_law_56 : List UInt8 := dkwL_law_56 ++ dktL_law_57
def dkwL_law_55 : List UInt8 := [167, 1, 154, 43, 182, 0, 173, 44, 182, 0, 176, 159, 1, 143, 3, 172, 43, 182, 0, 177, 44, 182, 0, 180]
abbrev dktL_law_55 : List UInt8 := dkwL_law_55 ++ dktL_law_56
def dkwL_law_54 : List UInt8 := [21, 5, 159, 0, 5, 3, 172, 21, 5, 154, 0, 15, 45, 3, 47, 21, 6, 133, 148, 153, 0, 5, 3, 172]
abbrev dktL_law_54 : List UInt8 := dkwL_law_54 ++ dktL_law_55
def dkwL_law_53 : List UInt8 := [46, 45, 184, 0, 170, 54, 5, 44, 42, 21, 4, 4, 96, 46, 182, 0, 172, 54, 6, 44, 182, 0, 95]
abbrev dktL_law_53 : List UInt8 := dkwL_law_53 ++ dktL_law_54
def dkwL_law_52 : List UInt8 := [159, 1, 225, 3, 172, 43, 182, 0, 166, 44, 182, 0, 169, 159, 1, 212, 3, 172, 43, 42, 21, 4, 4, 96]
abbrev dktL_law_52 : List UInt8 := dkwL_law_52 ++ dktL_law_53
def dkwL_law_51 : List UInt8 := [167, 1, 249, 43, 182, 0, 157, 44, 182, 0, 160, 159, 1, 238, 3, 172, 43, 182, 0, 161, 44, 182, 0, 165]
abbrev dktL_law_51 : List UInt8 := dkwL_law_51 ++ dktL_law_52
def dkwL_law_50 : List UInt8 := [21, 5, 159, 0, 5, 3, 172, 21, 5, 154, 0, 15, 45, 3, 47, 21, 6, 133, 148, 153, 0, 5, 3, 172]
abbrev dktL_law_50 : List UInt8 := dkwL_law_50 ++ dktL_law_51
def dkwL_law_49 : List UInt8 := [46, 45, 184, 0, 154, 54, 5, 44, 42, 21, 4, 4, 96, 46, 182, 0, 156, 54, 6, 44, 182, 0, 95]
abbrev dktL_law_49 : List UInt8 := dkwL_law_49 ++ dktL_law_50
def dkwL_law_48 : List UInt8 := [154, 0, 15, 45, 3, 47, 21, 6, 133, 148, 153, 0, 5, 3, 172, 167, 2, 49, 43, 42, 21, 4, 4, 96]
abbrev dktL_law_48 : List UInt8 := dkwL_law_48 ++ dktL_law_49
def dkwL_law_47 : List UInt8 := [21, 4, 4, 96, 46, 182, 0, 153, 54, 6, 44, 182, 0, 95, 21, 5, 159, 0, 5, 3, 172, 21, 5]
abbrev dktL_law_47 : List UInt8 := dkwL_law_47 ++ dktL_law_48
def dkwL_law_46 : List UInt8 := [153, 0, 5, 3, 172, 167, 2, 105, 43, 42, 21, 4, 4, 96, 46, 45, 184, 0, 151, 54, 5, 44, 42]
abbrev dktL_law_46 : List UInt8 := dkwL_law_46 ++ dktL_law_47
def dkwL_law_45 : List UInt8 := [182, 0, 95, 21, 5, 159, 0, 5, 3, 172, 21, 5, 154, 0, 15, 45, 3, 47, 21, 6, 133, 148]
abbrev dktL_law_45 : List UInt8 := dkwL_law_45 ++ dktL_law_46
def dkwL_law_44 : List UInt8 := [184, 0, 148, 54, 5, 44, 42, 21, 4, 4, 96, 46, 42, 21, 4, 5, 96, 46, 182, 0, 150, 54, 6, 44]
abbrev dktL_law_44 : List UInt8 := dkwL_law_44 ++ dktL_law_45
def dkwL_law_43 : List UInt8 := [182, 0, 147, 159, 2, 175, 3, 172, 43, 42, 21, 4, 4, 96, 46, 42, 21, 4, 5, 96, 46, 45]
abbrev dktL_law_43 : List UInt8 := dkwL_law_43 ++ dktL_law_44
def dkwL_law_42 : List UInt8 := [167, 0, 4, 3, 182, 0, 143, 44, 42, 21, 4, 4, 96, 46, 153, 0, 7, 4, 167, 0, 4, 3]
abbrev dktL_law_42 : List UInt8 := dkwL_law_42 ++ dktL_law_43
def dkwL_law_41 : List UInt8 := [21, 6, 133, 148, 153, 0, 5, 3, 172, 167, 2, 214, 43, 42, 21, 4, 4, 96, 46, 153, 0, 7, 4]
abbrev dktL_law_41 : List UInt8 := dkwL_law_41 ++ dktL_law_42
def dkwL_law_40 : List UInt8 := [182, 0, 142, 54, 6, 44, 182, 0, 95, 21, 5, 159, 0, 5, 3, 172, 21, 5, 154, 0, 15, 45, 3, 47]
abbrev dktL_law_40 : List UInt8 := dkwL_law_40 ++ dktL_law_41
def dkwL_law_39 : List UInt8 := [167, 3, 14, 43, 42, 21, 4, 4, 96, 46, 45, 184, 0, 140, 54, 5, 44, 42, 21, 4, 4, 96, 46]
abbrev dktL_law_39 : List UInt8 := dkwL_law_39 ++ dktL_law_40
def dkwL_law_38 : List UInt8 := [159, 0, 5, 3, 172, 21, 5, 154, 0, 15, 45, 3, 47, 21, 6, 133, 148, 153, 0, 5, 3, 172]
abbrev dktL_law_38 : List UInt8 := dkwL_law_38 ++ dktL_law_39
def dkwL_law_37 : List UInt8 := [21, 4, 4, 96, 46, 42, 21, 4, 5, 96, 46, 182, 0, 139, 54, 6, 44, 182, 0, 95, 21, 5]
abbrev dktL_law_37 : List UInt8 := dkwL_law_37 ++ dktL_law_38
def dkwL_law_36 : List UInt8 := [167, 3, 82, 43, 42, 21, 4, 4, 96, 46, 42, 21, 4, 5, 96, 46, 45, 184, 0, 137, 54, 5, 44, 42]
abbrev dktL_law_36 : List UInt8 := dkwL_law_36 ++ dktL_law_37
def dkwL_law_35 : List UInt8 := [21, 5, 159, 0, 5, 3, 172, 21, 5, 154, 0, 15, 45, 3, 47, 21, 6, 133, 148, 153, 0, 5, 3, 172]
abbrev dktL_law_35 : List UInt8 := dkwL_law_35 ++ dktL_law_36
def dkwL_law_34 : List UInt8 := [46, 45, 184, 0, 134, 54, 5, 44, 42, 21, 4, 4, 96, 46, 182, 0, 136, 54, 6, 44, 182, 0, 95]
abbrev dktL_law_34 : List UInt8 := dkwL_law_34 ++ dktL_law_35
def dkwL_law_33 : List UInt8 := [154, 0, 15, 45, 3, 47, 21, 6, 133, 148, 153, 0, 5, 3, 172, 167, 3, 138, 43, 42, 21, 4, 4, 96]
abbrev dktL_law_33 : List UInt8 := dkwL_law_33 ++ dktL_law_34
def dkwL_law_32 : List UInt8 := [21, 4, 4, 96, 46, 182, 0, 133, 54, 6, 44, 182, 0, 95, 21, 5, 159, 0, 5, 3, 172, 21, 5]
abbrev dktL_law_32 : List UInt8 := dkwL_law_32 ++ dktL_law_33
def dkwL_law_31 : List UInt8 := [153, 0, 5, 3, 172, 167, 3, 194, 43, 42, 21, 4, 4, 96, 46, 45, 184, 0, 131, 54, 5, 44, 42]
abbrev dktL_law_31 : List UInt8 := dkwL_law_31 ++ dktL_law_32
def dkwL_law_30 : List UInt8 := [182, 0, 95, 21, 5, 159, 0, 5, 3, 172, 21, 5, 154, 0, 15, 45, 3, 47, 21, 6, 133, 148]
abbrev dktL_law_30 : List UInt8 := dkwL_law_30 ++ dktL_law_31
def dkwL_law_29 : List UInt8 := [21, 4, 4, 96, 46, 45, 184, 0, 128, 54, 5, 44, 42, 21, 4, 4, 96, 46, 182, 0, 130, 54, 6, 44]
abbrev dktL_law_29 : List UInt8 := dkwL_law_29 ++ dktL_law_30
def dkwL_law_28 : List UInt8 := [153, 0, 5, 3, 172, 167, 4, 7, 43, 182, 0, 124, 44, 182, 0, 127, 159, 3, 252, 3, 172, 43, 42]
abbrev dktL_law_28 : List UInt8 := dkwL_law_28 ++ dktL_law_29
def dkwL_law_27 : List UInt8 := [159, 0, 5, 3, 172, 21, 5, 154, 0, 22, 45, 3, 47, 21, 6, 153, 0, 7, 10, 167, 0, 4, 9, 148]
abbrev dktL_law_27 : List UInt8 := dkwL_law_27 ++ dktL_law_28
def dkwL_law_26 : List UInt8 := [21, 4, 4, 96, 46, 42, 21, 4, 5, 96, 46, 182, 0, 123, 54, 6, 44, 182, 0, 95, 21, 5]
abbrev dktL_law_26 : List UInt8 := dkwL_law_26 ++ dktL_law_27
def dkwL_law_25 : List UInt8 := [167, 4, 82, 43, 42, 21, 4, 4, 96, 46, 42, 21, 4, 5, 96, 46, 45, 184, 0, 121, 54, 5, 44, 42]
abbrev dktL_law_25 : List UInt8 := dkwL_law_25 ++ dktL_law_26
def dkwL_law_24 : List UInt8 := [159, 0, 5, 3, 172, 21, 5, 154, 0, 15, 45, 3, 47, 21, 6, 133, 148, 153, 0, 5, 3, 172]
abbrev dktL_law_24 : List UInt8 := dkwL_law_24 ++ dktL_law_25
def dkwL_law_23 : List UInt8 := [21, 4, 4, 96, 46, 42, 21, 4, 5, 96, 46, 182, 0, 120, 54, 6, 44, 182, 0, 95, 21, 5]
abbrev dktL_law_23 : List UInt8 := dkwL_law_23 ++ dktL_law_24
def dkwL_law_22 : List UInt8 := [167, 4, 150, 43, 42, 21, 4, 4, 96, 46, 42, 21, 4, 5, 96, 46, 45, 184, 0, 118, 54, 5, 44, 42]
abbrev dktL_law_22 : List UInt8 := dkwL_law_22 ++ dktL_law_23
def dkwL_law_21 : List UInt8 := [21, 5, 154, 0, 22, 45, 3, 47, 21, 6, 153, 0, 7, 10, 167, 0, 4, 9, 148, 153, 0, 5, 3, 172]
abbrev dktL_law_21 : List UInt8 := dkwL_law_21 ++ dktL_law_22
def dkwL_law_20 : List UInt8 := [153, 0, 7, 4, 167, 0, 4, 3, 182, 0, 117, 54, 6, 44, 182, 0, 95, 21, 5, 159, 0, 5, 3, 172]
abbrev dktL_law_20 : List UInt8 := dkwL_law_20 ++ dktL_law_21
def dkwL_law_19 : List UInt8 := [4, 167, 0, 4, 3, 45, 184, 0, 114, 54, 5, 44, 42, 21, 4, 4, 96, 46, 42, 21, 4, 5, 96, 46]
abbrev dktL_law_19 : List UInt8 := dkwL_law_19 ++ dktL_law_20
def dkwL_law_18 : List UInt8 := [153, 0, 5, 3, 172, 167, 4, 241, 43, 42, 21, 4, 4, 96, 46, 42, 21, 4, 5, 96, 46, 153, 0, 7]
abbrev dktL_law_18 : List UInt8 := dkwL_law_18 ++ dktL_law_19
def dkwL_law_17 : List UInt8 := [182, 0, 95, 21, 5, 159, 0, 5, 3, 172, 21, 5, 154, 0, 15, 45, 3, 47, 21, 6, 133, 148]
abbrev dktL_law_17 : List UInt8 := dkwL_law_17 ++ dktL_law_18
def dkwL_law_16 : List UInt8 := [21, 4, 4, 96, 46, 45, 184, 0, 111, 54, 5, 44, 42, 21, 4, 4, 96, 46, 182, 0, 113, 54, 6, 44]
abbrev dktL_law_16 : List UInt8 := dkwL_law_16 ++ dktL_law_17
def dkwL_law_15 : List UInt8 := [3, 172, 21, 5, 154, 0, 15, 45, 3, 47, 21, 6, 133, 148, 153, 0, 5, 3, 172, 167, 5, 41, 43, 42]
abbrev dktL_law_15 : List UInt8 := dkwL_law_15 ++ dktL_law_16
def dkwL_law_14 : List UInt8 := [5, 96, 46, 42, 21, 4, 6, 96, 46, 146, 182, 0, 110, 54, 6, 44, 182, 0, 95, 21, 5, 159, 0, 5]
abbrev dktL_law_14 : List UInt8 := dkwL_law_14 ++ dktL_law_15
def dkwL_law_13 : List UInt8 := [46, 42, 21, 4, 6, 96, 46, 146, 45, 184, 0, 107, 54, 5, 44, 42, 21, 4, 4, 96, 46, 42, 21, 4]
abbrev dktL_law_13 : List UInt8 := dkwL_law_13 ++ dktL_law_14
def dkwL_law_12 : List UInt8 := [21, 6, 133, 148, 153, 0, 5, 3, 172, 167, 5, 123, 43, 42, 21, 4, 4, 96, 46, 42, 21, 4, 5, 96]
abbrev dktL_law_12 : List UInt8 := dkwL_law_12 ++ dktL_law_13
def dkwL_law_11 : List UInt8 := [182, 0, 106, 54, 6, 44, 182, 0, 95, 21, 5, 159, 0, 5, 3, 172, 21, 5, 154, 0, 15, 45, 3, 47]
abbrev dktL_law_11 : List UInt8 := dkwL_law_11 ++ dktL_law_12
def dkwL_law_10 : List UInt8 := [167, 5, 179, 43, 42, 21, 4, 4, 96, 46, 45, 184, 0, 103, 54, 5, 44, 42, 21, 4, 4, 96, 46]
abbrev dktL_law_10 : List UInt8 := dkwL_law_10 ++ dktL_law_11
def dkwL_law_9 : List UInt8 := [159, 0, 5, 3, 172, 21, 5, 154, 0, 15, 45, 3, 47, 21, 6, 133, 148, 153, 0, 5, 3, 172]
abbrev dktL_law_9 : List UInt8 := dkwL_law_9 ++ dktL_law_10
def dkwL_law_8 : List UInt8 := [21, 4, 4, 96, 46, 42, 21, 4, 5, 96, 46, 182, 0, 102, 54, 6, 44, 182, 0, 95, 21, 5]
abbrev dktL_law_8 : List UInt8 := dkwL_law_8 ++ dktL_law_9
def dkwL_law_7 : List UInt8 := [167, 5, 247, 43, 42, 21, 4, 4, 96, 46, 42, 21, 4, 5, 96, 46, 45, 184, 0, 99, 54, 5, 44, 42]
abbrev dktL_law_7 : List UInt8 := dkwL_law_7 ++ dktL_law_8
def dkwL_law_6 : List UInt8 := [21, 5, 159, 0, 5, 3, 172, 21, 5, 154, 0, 15, 45, 3, 47, 21, 6, 133, 148, 153, 0, 5, 3, 172]
abbrev dktL_law_6 : List UInt8 := dkwL_law_6 ++ dktL_law_7
def dkwL_law_5 : List UInt8 := [42, 21, 4, 6, 96, 46, 153, 0, 7, 4, 167, 0, 4, 3, 182, 0, 94, 54, 6, 44, 182, 0, 95]
abbrev dktL_law_5 : List UInt8 := dkwL_law_5 ++ dktL_law_6
def dkwL_law_4 : List UInt8 := [167, 0, 4, 3, 45, 184, 0, 89, 54, 5, 44, 42, 21, 4, 4, 96, 46, 42, 21, 4, 5, 96, 46, 146]
abbrev dktL_law_4 : List UInt8 := dkwL_law_4 ++ dktL_law_5
def dkwL_law_3 : List UInt8 := [43, 42, 21, 4, 4, 96, 46, 42, 21, 4, 5, 96, 46, 146, 42, 21, 4, 6, 96, 46, 153, 0, 7, 4]
abbrev dktL_law_3 : List UInt8 := dkwL_law_3 ++ dktL_law_4
def dkwL_law_2 : List UInt8 := [170, 0, 0, 6, 215, 0, 0, 0, 0, 0, 0, 0, 28, 0, 0, 0, 129, 0, 0, 0, 227, 0, 0, 1, 39, 0, 0, 1, 95, 0, 0, 1, 177, 0, 0, 1, 233, 0, 0, 2, 68, 0, 0, 2, 136, 0, 0, 2, 211, 0, 0, 2, 224, 0, 0, 3, 24, 0, 0, 3, 80, 0, 0, 3, 136, 0, 0, 3, 204, 0, 0, 4, 4, 0, 0, 4, 45, 0, 0, 4, 113, 0, 0, 4, 169, 0, 0, 4, 225, 0, 0, 4, 238, 0, 0, 4, 251, 0, 0, 5, 8, 0, 0, 5, 64, 0, 0, 5, 77, 0, 0, 5, 90, 0, 0, 5, 103, 0, 0, 5, 195, 0, 0, 6, 31, 0, 0, 6, 123]
abbrev dktL_law_2 : List UInt8 := dkwL_law_2 ++ dktL_law_3
def dkwL_law_1 : List UInt8 := [21, 4, 42, 190, 8, 100, 163, 6, 231, 42, 21, 4, 46, 16, 31, 126]
abbrev dktL_law_1 : List UInt8 := dkwL_law_1 ++ dktL_law_2
def dkwL_law_0 : List UInt8 := [187, 0, 8, 89, 183, 0, 85, 76, 187, 0, 86, 89, 183, 0, 88, 77, 4, 188, 11, 78, 3, 54, 4]
abbrev dktL_law_0 : List UInt8 := dkwL_law_0 ++ dktL_law_1
theorem dksL_law_0 : cL_law.data.toList.drop 0 = dktL_law_0 := by decide +kernel
theorem dksL_law_1 : cL_law.data.toList.drop 23 = dktL_law_1 := dk_seg dksL_law_0 23 rfl rfl
theorem dksL_law_2 : cL_law.data.toList.drop 39 = dktL_law_2 := dk_seg dksL_law_1 16 rfl rfl
theorem dksL_law_3 : cL_law.data.toList.drop 168 = dktL_law_3 := dk_seg dksL_law_2 129 rfl rfl
theorem dksL_law_4 : cL_law.data.toList.drop 192 = dktL_law_4 := dk_seg dksL_law_3 24 rfl rfl
theorem dksL_law_5 : cL_law.data.toList.drop 216 = dktL_law_5 := dk_seg dksL_law_4 24 rfl rfl
theorem dksL_law_6 : cL_law.data.toList.drop 239 = dktL_law_6 := dk_seg dksL_law_5 23 rfl rfl
theorem dksL_law_7 : cL_law.data.toList.drop 263 = dktL_law_7 := dk_seg dksL_law_6 24 rfl rfl
theorem dksL_law_8 : cL_law.data.toList.drop 287 = dktL_law_8 := dk_seg dksL_law_7 24 rfl rfl
theorem dksL_law_9 : cL_law.data.toList.drop 309 = dktL_law_9 := dk_seg dksL_law_8 22 rfl rfl
theorem dksL_law_10 : cL_law.data.toList.drop 331 = dktL_law_10 := dk_seg dksL_law_9 22 rfl rfl
theorem dksL_law_11 : cL_law.data.toList.drop 354 = dktL_law_11 := dk_seg dksL_law_10 23 rfl rfl
theorem dksL_law_12 : cL_law.data.toList.drop 378 = dktL_law_12 := dk_seg dksL_law_11 24 rfl rfl
theorem dksL_law_13 : cL_law.data.toList.drop 402 = dktL_law_13 := dk_seg dksL_law_12 24 rfl rfl
theorem dksL_law_14 : cL_law.data.toList.drop 426 = dktL_law_14 := dk_seg dksL_law_13 24 rfl rfl
theorem dksL_law_15 : cL_law.data.toList.drop 450 = dktL_law_15 := dk_seg dksL_law_14 24 rfl rfl
theorem dksL_law_16 : cL_law.data.toList.drop 474 = dktL_law_16 := dk_seg dksL_law_15 24 rfl rfl
theorem dksL_law_17 : cL_law.data.toList.drop 498 = dktL_law_17 := dk_seg dksL_law_16 24 rfl rfl
theorem dksL_law_18 : cL_law.data.toList.drop 520 = dktL_law_18 := dk_seg dksL_law_17 22 rfl rfl
theorem dksL_law_19 : cL_law.data.toList.drop 544 = dktL_law_19 := dk_seg dksL_law_18 24 rfl rfl
theorem dksL_law_20 : cL_law.data.toList.drop 568 = dktL_law_20 := dk_seg dksL_law_19 24 rfl rfl
theorem dksL_law_21 : cL_law.data.toList.drop 592 = dktL_law_21 := dk_seg dksL_law_20 24 rfl rfl
theorem dksL_law_22 : cL_law.data.toList.drop 616 = dktL_law_22 := dk_seg dksL_law_21 24 rfl rfl
theorem dksL_law_23 : cL_law.data.toList.drop 640 = dktL_law_23 := dk_seg dksL_law_22 24 rfl rfl
theorem dksL_law_24 : cL_law.data.toList.drop 662 = dktL_law_24 := dk_seg dksL_law_23 22 rfl rfl
theorem dksL_law_25 : cL_law.data.toList.drop 684 = dktL_law_25 := dk_seg dksL_law_24 22 rfl rfl
theorem dksL_law_26 : cL_law.data.toList.drop 708 = dktL_law_26 := dk_seg dksL_law_25 24 rfl rfl
theorem dksL_law_27 : cL_law.data.toList.drop 730 = dktL_law_27 := dk_seg dksL_law_26 22 rfl rfl
theorem dksL_law_28 : cL_law.data.toList.drop 754 = dktL_law_28 := dk_seg dksL_law_27 24 rfl rfl
theorem dksL_law_29 : cL_law.data.toList.drop 777 = dktL_law_29 := dk_seg dksL_law_28 23 rfl rfl
theorem dksL_law_30 : cL_law.data.toList.drop 801 = dktL_law_30 := dk_seg dksL_law_29 24 rfl rfl
theorem dksL_law_31 : cL_law.data.toList.drop 823 = dktL_law_31 := dk_seg dksL_law_30 22 rfl rfl
theorem dksL_law_32 : cL_law.data.toList.drop 846 = dktL_law_32 := dk_seg dksL_law_31 23 rfl rfl
theorem dksL_law_33 : cL_law.data.toList.drop 869 = dktL_law_33 := dk_seg dksL_law_32 23 rfl rfl
theorem dksL_law_34 : cL_law.data.toList.drop 893 = dktL_law_34 := dk_seg dksL_law_33 24 rfl rfl
theorem dksL_law_35 : cL_law.data.toList.drop 916 = dktL_law_35 := dk_seg dksL_law_34 23 rfl rfl
theorem dksL_law_36 : cL_law.data.toList.drop 940 = dktL_law_36 := dk_seg dksL_law_35 24 rfl rfl
theorem dksL_law_37 : cL_law.data.toList.drop 964 = dktL_law_37 := dk_seg dksL_law_36 24 rfl rfl
theorem dksL_law_38 : cL_law.data.toList.drop 986 = dktL_law_38 := dk_seg dksL_law_37 22 rfl rfl
theorem dksL_law_39 : cL_law.data.toList.drop 1008 = dktL_law_39 := dk_seg dksL_law_38 22 rfl rfl
theorem dksL_law_40 : cL_law.data.toList.drop 1031 = dktL_law_40 := dk_seg dksL_law_39 23 rfl rfl
theorem dksL_law_41 : cL_law.data.toList.drop 1055 = dktL_law_41 := dk_seg dksL_law_40 24 rfl rfl
theorem dksL_law_42 : cL_law.data.toList.drop 1078 = dktL_law_42 := dk_seg dksL_law_41 23 rfl rfl
theorem dksL_law_43 : cL_law.data.toList.drop 1100 = dktL_law_43 := dk_seg dksL_law_42 22 rfl rfl
theorem dksL_law_44 : cL_law.data.toList.drop 1122 = dktL_law_44 := dk_seg dksL_law_43 22 rfl rfl
theorem dksL_law_45 : cL_law.data.toList.drop 1146 = dktL_law_45 := dk_seg dksL_law_44 24 rfl rfl
theorem dksL_law_46 : cL_law.data.toList.drop 1168 = dktL_law_46 := dk_seg dksL_law_45 22 rfl rfl
theorem dksL_law_47 : cL_law.data.toList.drop 1191 = dktL_law_47 := dk_seg dksL_law_46 23 rfl rfl
theorem dksL_law_48 : cL_law.data.toList.drop 1214 = dktL_law_48 := dk_seg dksL_law_47 23 rfl rfl
theorem dksL_law_49 : cL_law.data.toList.drop 1238 = dktL_law_49 := dk_seg dksL_law_48 24 rfl rfl
theorem dksL_law_50 : cL_law.data.toList.drop 1261 = dktL_law_50 := dk_seg dksL_law_49 23 rfl rfl
theorem dksL_law_51 : cL_law.data.toList.drop 1285 = dktL_law_51 := dk_seg dksL_law_50 24 rfl rfl
theorem dksL_law_52 : cL_law.data.toList.drop 1309 = dktL_law_52 := dk_seg dksL_law_51 24 rfl rfl
theorem dksL_law_53 : cL_law.data.toList.drop 1333 = dktL_law_53 := dk_seg dksL_law_52 24 rfl rfl
theorem dksL_law_54 : cL_law.data.toList.drop 1356 = dktL_law_54 := dk_seg dksL_law_53 23 rfl rfl
theorem dksL_law_55 : cL_law.data.toList.drop 1380 = dktL_law_55 := dk_seg dksL_law_54 24 rfl rfl
theorem dksL_law_56 : cL_law.data.toList.drop 1404 = dktL_law_56 := dk_seg dksL_law_55 24 rfl rfl
theorem dksL_law_57 : cL_law.data.toList.drop 1428 = dktL_law_57 := dk_seg dksL_law_56 24 rfl rfl
theorem dksL_law_58 : cL_law.data.toList.drop 1451 = dktL_law_58 := dk_seg dksL_law_57 23 rfl rfl
theorem dksL_law_59 : cL_law.data.toList.drop 1475 = dktL_law_59 := dk_seg dksL_law_58 24 rfl rfl
theorem dksL_law_60 : cL_law.data.toList.drop 1499 = dktL_law_60 := dk_seg dksL_law_59 24 rfl rfl
theorem dksL_law_61 : cL_law.data.toList.drop 1522 = dktL_law_61 := dk_seg dksL_law_60 23 rfl rfl
theorem dksL_law_62 : cL_law.data.toList.drop 1546 = dktL_law_62 := dk_seg dksL_law_61 24 rfl rfl
theorem dksL_law_63 : cL_law.data.toList.drop 1570 = dktL_law_63 := dk_seg dksL_law_62 24 rfl rfl
theorem dksL_law_64 : cL_law.data.toList.drop 1594 = dktL_law_64 := dk_seg dksL_law_63 24 rfl rfl
theorem dksL_law_65 : cL_law.data.toList.drop 1618 = dktL_law_65 := dk_seg dksL_law_64 24 rfl rfl
theorem dksL_law_66 : cL_law.data.toList.drop 1642 = dktL_law_66 := dk_seg dksL_law_65 24 rfl rfl
theorem dksL_law_67 : cL_law.data.toList.drop 1665 = dktL_law_67 := dk_seg dksL_law_66 23 rfl rfl
theorem dksL_law_68 : cL_law.data.toList.drop 1689 = dktL_law_68 := dk_seg dksL_law_67 24 rfl rfl
theorem dksL_law_69 : cL_law.data.toList.drop 1712 = dktL_law_69 := dk_seg dksL_law_68 23 rfl rfl
theorem dksL_law_70 : cL_law.data.toList.drop 1736 = dktL_law_70 := dk_seg dksL_law_69 24 rfl rfl
theorem dksL_law_71 : cL_law.data.toList.drop 1760 = dktL_law_71 := dk_seg dksL_law_70 24 rfl rfl
theorem dksL_law_72 : cL_law.data.toList.drop 1782 = dktL_law_72 := dk_seg dksL_law_71 22 rfl rfl
theorem dL_law_0 : decode cL_law 0 = .ok (.new 8, 3) := dk_187 0 8 (dk_at dksL_law_0 0 rfl rfl)
theorem dL_law_3 : decode cL_law 3 = .ok (.dup, 1) := dk_89 (dk_at dksL_law_0 3 rfl rfl)
theorem dL_law_4 : decode cL_law 4 = .ok (.invokespecial 85, 3) := dk_183 0 85 (dk_at dksL_law_0 4 rfl rfl)
theorem dL_law_7 : decode cL_law 7 = .ok (.astore_n 1, 1) := dk_76 (dk_at dksL_law_0 7 rfl rfl)
theorem dL_law_8 : decode cL_law 8 = .ok (.new 86, 3) := dk_187 0 86 (dk_at dksL_law_0 8 rfl rfl)
theorem dL_law_11 : decode cL_law 11 = .ok (.dup, 1) := dk_89 (dk_at dksL_law_0 11 rfl rfl)
theorem dL_law_12 : decode cL_law 12 = .ok (.invokespecial 88, 3) := dk_183 0 88 (dk_at dksL_law_0 12 rfl rfl)
theorem dL_law_15 : decode cL_law 15 = .ok (.astore_n 2, 1) := dk_77 (dk_at dksL_law_0 15 rfl rfl)
theorem dL_law_16 : decode cL_law 16 = .ok (.iconst 1, 1) := dk_4 (dk_at dksL_law_0 16 rfl rfl)
theorem dL_law_17 : decode cL_law 17 = .ok (.newarray .long, 2) := dk_188_11 (dk_at dksL_law_0 17 rfl rfl)
theorem dL_law_19 : decode cL_law 19 = .ok (.astore_n 3, 1) := dk_78 (dk_at dksL_law_0 19 rfl rfl)
theorem dL_law_20 : decode cL_law 20 = .ok (.iconst 0, 1) := dk_3 (dk_at dksL_law_0 20 rfl rfl)
theorem dL_law_21 : decode cL_law 21 = .ok (.istore 4, 2) := dk_54 4 (dk_at dksL_law_0 21 rfl rfl)
theorem dL_law_23 : decode cL_law 23 = .ok (.iload 4, 2) := dk_21 4 (dk_at dksL_law_1 0 rfl rfl)
theorem dL_law_25 : decode cL_law 25 = .ok (.aload_n 0, 1) := dk_42 (dk_at dksL_law_1 2 rfl rfl)
theorem dL_law_26 : decode cL_law 26 = .ok (.arraylength, 1) := dk_190 (dk_at dksL_law_1 3 rfl rfl)
theorem dL_law_27 : decode cL_law 27 = .ok (.iconst 5, 1) := dk_8 (dk_at dksL_law_1 4 rfl rfl)
theorem dL_law_28 : decode cL_law 28 = .ok (.isub, 1) := dk_100 (dk_at dksL_law_1 5 rfl rfl)
theorem dL_law_29 : decode cL_law 29 = .ok (.if_icmp .gt 1767, 3) := dk_163 6 231 (dk_at dksL_law_1 6 rfl rfl)
theorem dL_law_32 : decode cL_law 32 = .ok (.aload_n 0, 1) := dk_42 (dk_at dksL_law_1 9 rfl rfl)
theorem dL_law_33 : decode cL_law 33 = .ok (.iload 4, 2) := dk_21 4 (dk_at dksL_law_1 10 rfl rfl)
theorem dL_law_35 : decode cL_law 35 = .ok (.iaload, 1) := dk_46 (dk_at dksL_law_1 12 rfl rfl)
theorem dL_law_36 : decode cL_law 36 = .ok (.bipush 31, 2) := dk_16 31 (dk_at dksL_law_1 13 rfl rfl)
theorem dL_law_38 : decode cL_law 38 = .ok (.iand, 1) := dk_126 (dk_at dksL_law_1 15 rfl rfl)
theorem dL_law_39 : decode cL_law 39 = .ok (.tableswitch 1751 0 28 #[129, 227, 295, 351, 433, 489, 580, 648, 723, 736, 792, 848, 904, 972, 1028, 1069, 1137, 1193, 1249, 1262, 1275, 1288, 1344, 1357, 1370, 1383, 1475, 1567, 1659], 129) := by decide +kernel
theorem dL_law_168 : decode cL_law 168 = .ok (.aload_n 1, 1) := dk_43 (dk_at dksL_law_3 0 rfl rfl)
theorem dL_law_169 : decode cL_law 169 = .ok (.aload_n 0, 1) := dk_42 (dk_at dksL_law_3 1 rfl rfl)
theorem dL_law_170 : decode cL_law 170 = .ok (.iload 4, 2) := dk_21 4 (dk_at dksL_law_3 2 rfl rfl)
theorem dL_law_172 : decode cL_law 172 = .ok (.iconst 1, 1) := dk_4 (dk_at dksL_law_3 4 rfl rfl)
theorem dL_law_173 : decode cL_law 173 = .ok (.iadd, 1) := dk_96 (dk_at dksL_law_3 5 rfl rfl)
theorem dL_law_174 : decode cL_law 174 = .ok (.iaload, 1) := dk_46 (dk_at dksL_law_3 6 rfl rfl)
theorem dL_law_175 : decode cL_law 175 = .ok (.aload_n 0, 1) := dk_42 (dk_at dksL_law_3 7 rfl rfl)
theorem dL_law_176 : decode cL_law 176 = .ok (.iload 4, 2) := dk_21 4 (dk_at dksL_law_3 8 rfl rfl)
theorem dL_law_178 : decode cL_law 178 = .ok (.iconst 2, 1) := dk_5 (dk_at dksL_law_3 10 rfl rfl)
theorem dL_law_179 : decode cL_law 179 = .ok (.iadd, 1) := dk_96 (dk_at dksL_law_3 11 rfl rfl)
theorem dL_law_180 : decode cL_law 180 = .ok (.iaload, 1) := dk_46 (dk_at dksL_law_3 12 rfl rfl)
theorem dL_law_181 : decode cL_law 181 = .ok (.i2c, 1) := dk_146 (dk_at dksL_law_3 13 rfl rfl)
theorem dL_law_182 : decode cL_law 182 = .ok (.aload_n 0, 1) := dk_42 (dk_at dksL_law_3 14 rfl rfl)
theorem dL_law_183 : decode cL_law 183 = .ok (.iload 4, 2) := dk_21 4 (dk_at dksL_law_3 15 rfl rfl)
theorem dL_law_185 : decode cL_law 185 = .ok (.iconst 3, 1) := dk_6 (dk_at dksL_law_3 17 rfl rfl)
theorem dL_law_186 : decode cL_law 186 = .ok (.iadd, 1) := dk_96 (dk_at dksL_law_3 18 rfl rfl)
theorem dL_law_187 : decode cL_law 187 = .ok (.iaload, 1) := dk_46 (dk_at dksL_law_3 19 rfl rfl)
theorem dL_law_188 : decode cL_law 188 = .ok (.ifCond .eq 7, 3) := dk_153 0 7 (dk_at dksL_law_3 20 rfl rfl)
theorem dL_law_191 : decode cL_law 191 = .ok (.iconst 1, 1) := dk_4 (dk_at dksL_law_3 23 rfl rfl)
theorem dL_law_192 : decode cL_law 192 = .ok (.goto 4, 3) := dk_167 0 4 (dk_at dksL_law_4 0 rfl rfl)
theorem dL_law_195 : decode cL_law 195 = .ok (.iconst 0, 1) := dk_3 (dk_at dksL_law_4 3 rfl rfl)
theorem dL_law_196 : decode cL_law 196 = .ok (.aload_n 3, 1) := dk_45 (dk_at dksL_law_4 4 rfl rfl)
theorem dL_law_197 : decode cL_law 197 = .ok (.invokestatic 89, 3) := dk_184 0 89 (dk_at dksL_law_4 5 rfl rfl)
theorem dL_law_200 : decode cL_law 200 = .ok (.istore 5, 2) := dk_54 5 (dk_at dksL_law_4 8 rfl rfl)
theorem dL_law_202 : decode cL_law 202 = .ok (.aload_n 2, 1) := dk_44 (dk_at dksL_law_4 10 rfl rfl)
theorem dL_law_203 : decode cL_law 203 = .ok (.aload_n 0, 1) := dk_42 (dk_at dksL_law_4 11 rfl rfl)
theorem dL_law_204 : decode cL_law 204 = .ok (.iload 4, 2) := dk_21 4 (dk_at dksL_law_4 12 rfl rfl)
theorem dL_law_206 : decode cL_law 206 = .ok (.iconst 1, 1) := dk_4 (dk_at dksL_law_4 14 rfl rfl)
theorem dL_law_207 : decode cL_law 207 = .ok (.iadd, 1) := dk_96 (dk_at dksL_law_4 15 rfl rfl)
theorem dL_law_208 : decode cL_law 208 = .ok (.iaload, 1) := dk_46 (dk_at dksL_law_4 16 rfl rfl)
theorem dL_law_209 : decode cL_law 209 = .ok (.aload_n 0, 1) := dk_42 (dk_at dksL_law_4 17 rfl rfl)
theorem dL_law_210 : decode cL_law 210 = .ok (.iload 4, 2) := dk_21 4 (dk_at dksL_law_4 18 rfl rfl)
theorem dL_law_212 : decode cL_law 212 = .ok (.iconst 2, 1) := dk_5 (dk_at dksL_law_4 20 rfl rfl)
theorem dL_law_213 : decode cL_law 213 = .ok (.iadd, 1) := dk_96 (dk_at dksL_law_4 21 rfl rfl)
theorem dL_law_214 : decode cL_law 214 = .ok (.iaload, 1) := dk_46 (dk_at dksL_law_4 22 rfl rfl)
theorem dL_law_215 : decode cL_law 215 = .ok (.i2c, 1) := dk_146 (dk_at dksL_law_4 23 rfl rfl)
theorem dL_law_216 : decode cL_law 216 = .ok (.aload_n 0, 1) := dk_42 (dk_at dksL_law_5 0 rfl rfl)
theorem dL_law_217 : decode cL_law 217 = .ok (.iload 4, 2) := dk_21 4 (dk_at dksL_law_5 1 rfl rfl)
theorem dL_law_219 : decode cL_law 219 = .ok (.iconst 3, 1) := dk_6 (dk_at dksL_law_5 3 rfl rfl)
theorem dL_law_220 : decode cL_law 220 = .ok (.iadd, 1) := dk_96 (dk_at dksL_law_5 4 rfl rfl)
theorem dL_law_221 : decode cL_law 221 = .ok (.iaload, 1) := dk_46 (dk_at dksL_law_5 5 rfl rfl)
theorem dL_law_222 : decode cL_law 222 = .ok (.ifCond .eq 7, 3) := dk_153 0 7 (dk_at dksL_law_5 6 rfl rfl)
theorem dL_law_225 : decode cL_law 225 = .ok (.iconst 1, 1) := dk_4 (dk_at dksL_law_5 9 rfl rfl)
theorem dL_law_226 : decode cL_law 226 = .ok (.goto 4, 3) := dk_167 0 4 (dk_at dksL_law_5 10 rfl rfl)
theorem dL_law_229 : decode cL_law 229 = .ok (.iconst 0, 1) := dk_3 (dk_at dksL_law_5 13 rfl rfl)
theorem dL_law_230 : decode cL_law 230 = .ok (.invokevirtual 94, 3) := dk_182 0 94 (dk_at dksL_law_5 14 rfl rfl)
theorem dL_law_233 : decode cL_law 233 = .ok (.istore 6, 2) := dk_54 6 (dk_at dksL_law_5 17 rfl rfl)
theorem dL_law_235 : decode cL_law 235 = .ok (.aload_n 2, 1) := dk_44 (dk_at dksL_law_5 19 rfl rfl)
theorem dL_law_236 : decode cL_law 236 = .ok (.invokevirtual 95, 3) := dk_182 0 95 (dk_at dksL_law_5 20 rfl rfl)
theorem dL_law_239 : decode cL_law 239 = .ok (.iload 5, 2) := dk_21 5 (dk_at dksL_law_6 0 rfl rfl)
theorem dL_law_241 : decode cL_law 241 = .ok (.if_icmp .eq 5, 3) := dk_159 0 5 (dk_at dksL_law_6 2 rfl rfl)
theorem dL_law_244 : decode cL_law 244 = .ok (.iconst 0, 1) := dk_3 (dk_at dksL_law_6 5 rfl rfl)
theorem dL_law_245 : decode cL_law 245 = .ok (.ireturn, 1) := dk_172 (dk_at dksL_law_6 6 rfl rfl)
theorem dL_law_246 : decode cL_law 246 = .ok (.iload 5, 2) := dk_21 5 (dk_at dksL_law_6 7 rfl rfl)
theorem dL_law_248 : decode cL_law 248 = .ok (.ifCond .ne 15, 3) := dk_154 0 15 (dk_at dksL_law_6 9 rfl rfl)
theorem dL_law_251 : decode cL_law 251 = .ok (.aload_n 3, 1) := dk_45 (dk_at dksL_law_6 12 rfl rfl)
theorem dL_law_252 : decode cL_law 252 = .ok (.iconst 0, 1) := dk_3 (dk_at dksL_law_6 13 rfl rfl)
theorem dL_law_253 : decode cL_law 253 = .ok (.laload, 1) := dk_47 (dk_at dksL_law_6 14 rfl rfl)
theorem dL_law_254 : decode cL_law 254 = .ok (.iload 6, 2) := dk_21 6 (dk_at dksL_law_6 15 rfl rfl)
theorem dL_law_256 : decode cL_law 256 = .ok (.i2l, 1) := dk_133 (dk_at dksL_law_6 17 rfl rfl)
theorem dL_law_257 : decode cL_law 257 = .ok (.lcmp, 1) := dk_148 (dk_at dksL_law_6 18 rfl rfl)
theorem dL_law_258 : decode cL_law 258 = .ok (.ifCond .eq 5, 3) := dk_153 0 5 (dk_at dksL_law_6 19 rfl rfl)
theorem dL_law_261 : decode cL_law 261 = .ok (.iconst 0, 1) := dk_3 (dk_at dksL_law_6 22 rfl rfl)
theorem dL_law_262 : decode cL_law 262 = .ok (.ireturn, 1) := dk_172 (dk_at dksL_law_6 23 rfl rfl)
theorem dL_law_263 : decode cL_law 263 = .ok (.goto 1527, 3) := dk_167 5 247 (dk_at dksL_law_7 0 rfl rfl)
theorem dL_law_266 : decode cL_law 266 = .ok (.aload_n 1, 1) := dk_43 (dk_at dksL_law_7 3 rfl rfl)
theorem dL_law_267 : decode cL_law 267 = .ok (.aload_n 0, 1) := dk_42 (dk_at dksL_law_7 4 rfl rfl)
theorem dL_law_268 : decode cL_law 268 = .ok (.iload 4, 2) := dk_21 4 (dk_at dksL_law_7 5 rfl rfl)
theorem dL_law_270 : decode cL_law 270 = .ok (.iconst 1, 1) := dk_4 (dk_at dksL_law_7 7 rfl rfl)
theorem dL_law_271 : decode cL_law 271 = .ok (.iadd, 1) := dk_96 (dk_at dksL_law_7 8 rfl rfl)
theorem dL_law_272 : decode cL_law 272 = .ok (.iaload, 1) := dk_46 (dk_at dksL_law_7 9 rfl rfl)
theorem dL_law_273 : decode cL_law 273 = .ok (.aload_n 0, 1) := dk_42 (dk_at dksL_law_7 10 rfl rfl)
theorem dL_law_274 : decode cL_law 274 = .ok (.iload 4, 2) := dk_21 4 (dk_at dksL_law_7 11 rfl rfl)
theorem dL_law_276 : decode cL_law 276 = .ok (.iconst 2, 1) := dk_5 (dk_at dksL_law_7 13 rfl rfl)
theorem dL_law_277 : decode cL_law 277 = .ok (.iadd, 1) := dk_96 (dk_at dksL_law_7 14 rfl rfl)
theorem dL_law_278 : decode cL_law 278 = .ok (.iaload, 1) := dk_46 (dk_at dksL_law_7 15 rfl rfl)
theorem dL_law_279 : decode cL_law 279 = .ok (.aload_n 3, 1) := dk_45 (dk_at dksL_law_7 16 rfl rfl)
theorem dL_law_280 : decode cL_law 280 = .ok (.invokestatic 99, 3) := dk_184 0 99 (dk_at dksL_law_7 17 rfl rfl)
theorem dL_law_283 : decode cL_law 283 = .ok (.istore 5, 2) := dk_54 5 (dk_at dksL_law_7 20 rfl rfl)
theorem dL_law_285 : decode cL_law 285 = .ok (.aload_n 2, 1) := dk_44 (dk_at dksL_law_7 22 rfl rfl)
theorem dL_law_286 : decode cL_law 286 = .ok (.aload_n 0, 1) := dk_42 (dk_at dksL_law_7 23 rfl rfl)
theorem dL_law_287 : decode cL_law 287 = .ok (.iload 4, 2) := dk_21 4 (dk_at dksL_law_8 0 rfl rfl)
theorem dL_law_289 : decode cL_law 289 = .ok (.iconst 1, 1) := dk_4 (dk_at dksL_law_8 2 rfl rfl)
theorem dL_law_290 : decode cL_law 290 = .ok (.iadd, 1) := dk_96 (dk_at dksL_law_8 3 rfl rfl)
theorem dL_law_291 : decode cL_law 291 = .ok (.iaload, 1) := dk_46 (dk_at dksL_law_8 4 rfl rfl)
theorem dL_law_292 : decode cL_law 292 = .ok (.aload_n 0, 1) := dk_42 (dk_at dksL_law_8 5 rfl rfl)
theorem dL_law_293 : decode cL_law 293 = .ok (.iload 4, 2) := dk_21 4 (dk_at dksL_law_8 6 rfl rfl)
theorem dL_law_295 : decode cL_law 295 = .ok (.iconst 2, 1) := dk_5 (dk_at dksL_law_8 8 rfl rfl)
theorem dL_law_296 : decode cL_law 296 = .ok (.iadd, 1) := dk_96 (dk_at dksL_law_8 9 rfl rfl)
theorem dL_law_297 : decode cL_law 297 = .ok (.iaload, 1) := dk_46 (dk_at dksL_law_8 10 rfl rfl)
theorem dL_law_298 : decode cL_law 298 = .ok (.invokevirtual 102, 3) := dk_182 0 102 (dk_at dksL_law_8 11 rfl rfl)
theorem dL_law_301 : decode cL_law 301 = .ok (.istore 6, 2) := dk_54 6 (dk_at dksL_law_8 14 rfl rfl)
theorem dL_law_303 : decode cL_law 303 = .ok (.aload_n 2, 1) := dk_44 (dk_at dksL_law_8 16 rfl rfl)
theorem dL_law_304 : decode cL_law 304 = .ok (.invokevirtual 95, 3) := dk_182 0 95 (dk_at dksL_law_8 17 rfl rfl)
theorem dL_law_307 : decode cL_law 307 = .ok (.iload 5, 2) := dk_21 5 (dk_at dksL_law_8 20 rfl rfl)
theorem dL_law_309 : decode cL_law 309 = .ok (.if_icmp .eq 5, 3) := dk_159 0 5 (dk_at dksL_law_9 0 rfl rfl)
theorem dL_law_312 : decode cL_law 312 = .ok (.iconst 0, 1) := dk_3 (dk_at dksL_law_9 3 rfl rfl)
theorem dL_law_313 : decode cL_law 313 = .ok (.ireturn, 1) := dk_172 (dk_at dksL_law_9 4 rfl rfl)
theorem dL_law_314 : decode cL_law 314 = .ok (.iload 5, 2) := dk_21 5 (dk_at dksL_law_9 5 rfl rfl)
theorem dL_law_316 : decode cL_law 316 = .ok (.ifCond .ne 15, 3) := dk_154 0 15 (dk_at dksL_law_9 7 rfl rfl)
theorem dL_law_319 : decode cL_law 319 = .ok (.aload_n 3, 1) := dk_45 (dk_at dksL_law_9 10 rfl rfl)
theorem dL_law_320 : decode cL_law 320 = .ok (.iconst 0, 1) := dk_3 (dk_at dksL_law_9 11 rfl rfl)
theorem dL_law_321 : decode cL_law 321 = .ok (.laload, 1) := dk_47 (dk_at dksL_law_9 12 rfl rfl)
theorem dL_law_322 : decode cL_law 322 = .ok (.iload 6, 2) := dk_21 6 (dk_at dksL_law_9 13 rfl rfl)
theorem dL_law_324 : decode cL_law 324 = .ok (.i2l, 1) := dk_133 (dk_at dksL_law_9 15 rfl rfl)
theorem dL_law_325 : decode cL_law 325 = .ok (.lcmp, 1) := dk_148 (dk_at dksL_law_9 16 rfl rfl)
theorem dL_law_326 : decode cL_law 326 = .ok (.ifCond .eq 5, 3) := dk_153 0 5 (dk_at dksL_law_9 17 rfl rfl)
theorem dL_law_329 : decode cL_law 329 = .ok (.iconst 0, 1) := dk_3 (dk_at dksL_law_9 20 rfl rfl)
theorem dL_law_330 : decode cL_law 330 = .ok (.ireturn, 1) := dk_172 (dk_at dksL_law_9 21 rfl rfl)
theorem dL_law_331 : decode cL_law 331 = .ok (.goto 1459, 3) := dk_167 5 179 (dk_at dksL_law_10 0 rfl rfl)
theorem dL_law_334 : decode cL_law 334 = .ok (.aload_n 1, 1) := dk_43 (dk_at dksL_law_10 3 rfl rfl)
theorem dL_law_335 : decode cL_law 335 = .ok (.aload_n 0, 1) := dk_42 (dk_at dksL_law_10 4 rfl rfl)
theorem dL_law_336 : decode cL_law 336 = .ok (.iload 4, 2) := dk_21 4 (dk_at dksL_law_10 5 rfl rfl)
theorem dL_law_338 : decode cL_law 338 = .ok (.iconst 1, 1) := dk_4 (dk_at dksL_law_10 7 rfl rfl)
theorem dL_law_339 : decode cL_law 339 = .ok (.iadd, 1) := dk_96 (dk_at dksL_law_10 8 rfl rfl)
theorem dL_law_340 : decode cL_law 340 = .ok (.iaload, 1) := dk_46 (dk_at dksL_law_10 9 rfl rfl)
theorem dL_law_341 : decode cL_law 341 = .ok (.aload_n 3, 1) := dk_45 (dk_at dksL_law_10 10 rfl rfl)
theorem dL_law_342 : decode cL_law 342 = .ok (.invokestatic 103, 3) := dk_184 0 103 (dk_at dksL_law_10 11 rfl rfl)
theorem dL_law_345 : decode cL_law 345 = .ok (.istore 5, 2) := dk_54 5 (dk_at dksL_law_10 14 rfl rfl)
theorem dL_law_347 : decode cL_law 347 = .ok (.aload_n 2, 1) := dk_44 (dk_at dksL_law_10 16 rfl rfl)
theorem dL_law_348 : decode cL_law 348 = .ok (.aload_n 0, 1) := dk_42 (dk_at dksL_law_10 17 rfl rfl)
theorem dL_law_349 : decode cL_law 349 = .ok (.iload 4, 2) := dk_21 4 (dk_at dksL_law_10 18 rfl rfl)
theorem dL_law_351 : decode cL_law 351 = .ok (.iconst 1, 1) := dk_4 (dk_at dksL_law_10 20 rfl rfl)
theorem dL_law_352 : decode cL_law 352 = .ok (.iadd, 1) := dk_96 (dk_at dksL_law_10 21 rfl rfl)
theorem dL_law_353 : decode cL_law 353 = .ok (.iaload, 1) := dk_46 (dk_at dksL_law_10 22 rfl rfl)
theorem dL_law_354 : decode cL_law 354 = .ok (.invokevirtual 106, 3) := dk_182 0 106 (dk_at dksL_law_11 0 rfl rfl)
theorem dL_law_357 : decode cL_law 357 = .ok (.istore 6, 2) := dk_54 6 (dk_at dksL_law_11 3 rfl rfl)
theorem dL_law_359 : decode cL_law 359 = .ok (.aload_n 2, 1) := dk_44 (dk_at dksL_law_11 5 rfl rfl)
theorem dL_law_360 : decode cL_law 360 = .ok (.invokevirtual 95, 3) := dk_182 0 95 (dk_at dksL_law_11 6 rfl rfl)
theorem dL_law_363 : decode cL_law 363 = .ok (.iload 5, 2) := dk_21 5 (dk_at dksL_law_11 9 rfl rfl)
theorem dL_law_365 : decode cL_law 365 = .ok (.if_icmp .eq 5, 3) := dk_159 0 5 (dk_at dksL_law_11 11 rfl rfl)
theorem dL_law_368 : decode cL_law 368 = .ok (.iconst 0, 1) := dk_3 (dk_at dksL_law_11 14 rfl rfl)
theorem dL_law_369 : decode cL_law 369 = .ok (.ireturn, 1) := dk_172 (dk_at dksL_law_11 15 rfl rfl)
theorem dL_law_370 : decode cL_law 370 = .ok (.iload 5, 2) := dk_21 5 (dk_at dksL_law_11 16 rfl rfl)
theorem dL_law_372 : decode cL_law 372 = .ok (.ifCond .ne 15, 3) := dk_154 0 15 (dk_at dksL_law_11 18 rfl rfl)
theorem dL_law_375 : decode cL_law 375 = .ok (.aload_n 3, 1) := dk_45 (dk_at dksL_law_11 21 rfl rfl)
theorem dL_law_376 : decode cL_law 376 = .ok (.iconst 0, 1) := dk_3 (dk_at dksL_law_11 22 rfl rfl)
theorem dL_law_377 : decode cL_law 377 = .ok (.laload, 1) := dk_47 (dk_at dksL_law_11 23 rfl rfl)
theorem dL_law_378 : decode cL_law 378 = .ok (.iload 6, 2) := dk_21 6 (dk_at dksL_law_12 0 rfl rfl)
theorem dL_law_380 : decode cL_law 380 = .ok (.i2l, 1) := dk_133 (dk_at dksL_law_12 2 rfl rfl)
theorem dL_law_381 : decode cL_law 381 = .ok (.lcmp, 1) := dk_148 (dk_at dksL_law_12 3 rfl rfl)
theorem dL_law_382 : decode cL_law 382 = .ok (.ifCond .eq 5, 3) := dk_153 0 5 (dk_at dksL_law_12 4 rfl rfl)
theorem dL_law_385 : decode cL_law 385 = .ok (.iconst 0, 1) := dk_3 (dk_at dksL_law_12 7 rfl rfl)
theorem dL_law_386 : decode cL_law 386 = .ok (.ireturn, 1) := dk_172 (dk_at dksL_law_12 8 rfl rfl)
theorem dL_law_387 : decode cL_law 387 = .ok (.goto 1403, 3) := dk_167 5 123 (dk_at dksL_law_12 9 rfl rfl)
theorem dL_law_390 : decode cL_law 390 = .ok (.aload_n 1, 1) := dk_43 (dk_at dksL_law_12 12 rfl rfl)
theorem dL_law_391 : decode cL_law 391 = .ok (.aload_n 0, 1) := dk_42 (dk_at dksL_law_12 13 rfl rfl)
theorem dL_law_392 : decode cL_law 392 = .ok (.iload 4, 2) := dk_21 4 (dk_at dksL_law_12 14 rfl rfl)
theorem dL_law_394 : decode cL_law 394 = .ok (.iconst 1, 1) := dk_4 (dk_at dksL_law_12 16 rfl rfl)
theorem dL_law_395 : decode cL_law 395 = .ok (.iadd, 1) := dk_96 (dk_at dksL_law_12 17 rfl rfl)
theorem dL_law_396 : decode cL_law 396 = .ok (.iaload, 1) := dk_46 (dk_at dksL_law_12 18 rfl rfl)
theorem dL_law_397 : decode cL_law 397 = .ok (.aload_n 0, 1) := dk_42 (dk_at dksL_law_12 19 rfl rfl)
theorem dL_law_398 : decode cL_law 398 = .ok (.iload 4, 2) := dk_21 4 (dk_at dksL_law_12 20 rfl rfl)
theorem dL_law_400 : decode cL_law 400 = .ok (.iconst 2, 1) := dk_5 (dk_at dksL_law_12 22 rfl rfl)
theorem dL_law_401 : decode cL_law 401 = .ok (.iadd, 1) := dk_96 (dk_at dksL_law_12 23 rfl rfl)
theorem dL_law_402 : decode cL_law 402 = .ok (.iaload, 1) := dk_46 (dk_at dksL_law_13 0 rfl rfl)
theorem dL_law_403 : decode cL_law 403 = .ok (.aload_n 0, 1) := dk_42 (dk_at dksL_law_13 1 rfl rfl)
theorem dL_law_404 : decode cL_law 404 = .ok (.iload 4, 2) := dk_21 4 (dk_at dksL_law_13 2 rfl rfl)
theorem dL_law_406 : decode cL_law 406 = .ok (.iconst 3, 1) := dk_6 (dk_at dksL_law_13 4 rfl rfl)
theorem dL_law_407 : decode cL_law 407 = .ok (.iadd, 1) := dk_96 (dk_at dksL_law_13 5 rfl rfl)
theorem dL_law_408 : decode cL_law 408 = .ok (.iaload, 1) := dk_46 (dk_at dksL_law_13 6 rfl rfl)
theorem dL_law_409 : decode cL_law 409 = .ok (.i2c, 1) := dk_146 (dk_at dksL_law_13 7 rfl rfl)
theorem dL_law_410 : decode cL_law 410 = .ok (.aload_n 3, 1) := dk_45 (dk_at dksL_law_13 8 rfl rfl)
theorem dL_law_411 : decode cL_law 411 = .ok (.invokestatic 107, 3) := dk_184 0 107 (dk_at dksL_law_13 9 rfl rfl)
theorem dL_law_414 : decode cL_law 414 = .ok (.istore 5, 2) := dk_54 5 (dk_at dksL_law_13 12 rfl rfl)
theorem dL_law_416 : decode cL_law 416 = .ok (.aload_n 2, 1) := dk_44 (dk_at dksL_law_13 14 rfl rfl)
theorem dL_law_417 : decode cL_law 417 = .ok (.aload_n 0, 1) := dk_42 (dk_at dksL_law_13 15 rfl rfl)
theorem dL_law_418 : decode cL_law 418 = .ok (.iload 4, 2) := dk_21 4 (dk_at dksL_law_13 16 rfl rfl)
theorem dL_law_420 : decode cL_law 420 = .ok (.iconst 1, 1) := dk_4 (dk_at dksL_law_13 18 rfl rfl)
theorem dL_law_421 : decode cL_law 421 = .ok (.iadd, 1) := dk_96 (dk_at dksL_law_13 19 rfl rfl)
theorem dL_law_422 : decode cL_law 422 = .ok (.iaload, 1) := dk_46 (dk_at dksL_law_13 20 rfl rfl)
theorem dL_law_423 : decode cL_law 423 = .ok (.aload_n 0, 1) := dk_42 (dk_at dksL_law_13 21 rfl rfl)
theorem dL_law_424 : decode cL_law 424 = .ok (.iload 4, 2) := dk_21 4 (dk_at dksL_law_13 22 rfl rfl)
theorem dL_law_426 : decode cL_law 426 = .ok (.iconst 2, 1) := dk_5 (dk_at dksL_law_14 0 rfl rfl)
theorem dL_law_427 : decode cL_law 427 = .ok (.iadd, 1) := dk_96 (dk_at dksL_law_14 1 rfl rfl)
theorem dL_law_428 : decode cL_law 428 = .ok (.iaload, 1) := dk_46 (dk_at dksL_law_14 2 rfl rfl)
theorem dL_law_429 : decode cL_law 429 = .ok (.aload_n 0, 1) := dk_42 (dk_at dksL_law_14 3 rfl rfl)
theorem dL_law_430 : decode cL_law 430 = .ok (.iload 4, 2) := dk_21 4 (dk_at dksL_law_14 4 rfl rfl)
theorem dL_law_432 : decode cL_law 432 = .ok (.iconst 3, 1) := dk_6 (dk_at dksL_law_14 6 rfl rfl)
theorem dL_law_433 : decode cL_law 433 = .ok (.iadd, 1) := dk_96 (dk_at dksL_law_14 7 rfl rfl)
theorem dL_law_434 : decode cL_law 434 = .ok (.iaload, 1) := dk_46 (dk_at dksL_law_14 8 rfl rfl)
theorem dL_law_435 : decode cL_law 435 = .ok (.i2c, 1) := dk_146 (dk_at dksL_law_14 9 rfl rfl)
theorem dL_law_436 : decode cL_law 436 = .ok (.invokevirtual 110, 3) := dk_182 0 110 (dk_at dksL_law_14 10 rfl rfl)
theorem dL_law_439 : decode cL_law 439 = .ok (.istore 6, 2) := dk_54 6 (dk_at dksL_law_14 13 rfl rfl)
theorem dL_law_441 : decode cL_law 441 = .ok (.aload_n 2, 1) := dk_44 (dk_at dksL_law_14 15 rfl rfl)
theorem dL_law_442 : decode cL_law 442 = .ok (.invokevirtual 95, 3) := dk_182 0 95 (dk_at dksL_law_14 16 rfl rfl)
theorem dL_law_445 : decode cL_law 445 = .ok (.iload 5, 2) := dk_21 5 (dk_at dksL_law_14 19 rfl rfl)
theorem dL_law_447 : decode cL_law 447 = .ok (.if_icmp .eq 5, 3) := dk_159 0 5 (dk_at dksL_law_14 21 rfl rfl)
theorem dL_law_450 : decode cL_law 450 = .ok (.iconst 0, 1) := dk_3 (dk_at dksL_law_15 0 rfl rfl)
theorem dL_law_451 : decode cL_law 451 = .ok (.ireturn, 1) := dk_172 (dk_at dksL_law_15 1 rfl rfl)
theorem dL_law_452 : decode cL_law 452 = .ok (.iload 5, 2) := dk_21 5 (dk_at dksL_law_15 2 rfl rfl)
theorem dL_law_454 : decode cL_law 454 = .ok (.ifCond .ne 15, 3) := dk_154 0 15 (dk_at dksL_law_15 4 rfl rfl)
theorem dL_law_457 : decode cL_law 457 = .ok (.aload_n 3, 1) := dk_45 (dk_at dksL_law_15 7 rfl rfl)
theorem dL_law_458 : decode cL_law 458 = .ok (.iconst 0, 1) := dk_3 (dk_at dksL_law_15 8 rfl rfl)
theorem dL_law_459 : decode cL_law 459 = .ok (.laload, 1) := dk_47 (dk_at dksL_law_15 9 rfl rfl)
theorem dL_law_460 : decode cL_law 460 = .ok (.iload 6, 2) := dk_21 6 (dk_at dksL_law_15 10 rfl rfl)
theorem dL_law_462 : decode cL_law 462 = .ok (.i2l, 1) := dk_133 (dk_at dksL_law_15 12 rfl rfl)
theorem dL_law_463 : decode cL_law 463 = .ok (.lcmp, 1) := dk_148 (dk_at dksL_law_15 13 rfl rfl)
theorem dL_law_464 : decode cL_law 464 = .ok (.ifCond .eq 5, 3) := dk_153 0 5 (dk_at dksL_law_15 14 rfl rfl)
theorem dL_law_467 : decode cL_law 467 = .ok (.iconst 0, 1) := dk_3 (dk_at dksL_law_15 17 rfl rfl)
theorem dL_law_468 : decode cL_law 468 = .ok (.ireturn, 1) := dk_172 (dk_at dksL_law_15 18 rfl rfl)
theorem dL_law_469 : decode cL_law 469 = .ok (.goto 1321, 3) := dk_167 5 41 (dk_at dksL_law_15 19 rfl rfl)
theorem dL_law_472 : decode cL_law 472 = .ok (.aload_n 1, 1) := dk_43 (dk_at dksL_law_15 22 rfl rfl)
theorem dL_law_473 : decode cL_law 473 = .ok (.aload_n 0, 1) := dk_42 (dk_at dksL_law_15 23 rfl rfl)
theorem dL_law_474 : decode cL_law 474 = .ok (.iload 4, 2) := dk_21 4 (dk_at dksL_law_16 0 rfl rfl)
theorem dL_law_476 : decode cL_law 476 = .ok (.iconst 1, 1) := dk_4 (dk_at dksL_law_16 2 rfl rfl)
theorem dL_law_477 : decode cL_law 477 = .ok (.iadd, 1) := dk_96 (dk_at dksL_law_16 3 rfl rfl)
theorem dL_law_478 : decode cL_law 478 = .ok (.iaload, 1) := dk_46 (dk_at dksL_law_16 4 rfl rfl)
theorem dL_law_479 : decode cL_law 479 = .ok (.aload_n 3, 1) := dk_45 (dk_at dksL_law_16 5 rfl rfl)
theorem dL_law_480 : decode cL_law 480 = .ok (.invokestatic 111, 3) := dk_184 0 111 (dk_at dksL_law_16 6 rfl rfl)
theorem dL_law_483 : decode cL_law 483 = .ok (.istore 5, 2) := dk_54 5 (dk_at dksL_law_16 9 rfl rfl)
theorem dL_law_485 : decode cL_law 485 = .ok (.aload_n 2, 1) := dk_44 (dk_at dksL_law_16 11 rfl rfl)
theorem dL_law_486 : decode cL_law 486 = .ok (.aload_n 0, 1) := dk_42 (dk_at dksL_law_16 12 rfl rfl)
theorem dL_law_487 : decode cL_law 487 = .ok (.iload 4, 2) := dk_21 4 (dk_at dksL_law_16 13 rfl rfl)
theorem dL_law_489 : decode cL_law 489 = .ok (.iconst 1, 1) := dk_4 (dk_at dksL_law_16 15 rfl rfl)
theorem dL_law_490 : decode cL_law 490 = .ok (.iadd, 1) := dk_96 (dk_at dksL_law_16 16 rfl rfl)
theorem dL_law_491 : decode cL_law 491 = .ok (.iaload, 1) := dk_46 (dk_at dksL_law_16 17 rfl rfl)
theorem dL_law_492 : decode cL_law 492 = .ok (.invokevirtual 113, 3) := dk_182 0 113 (dk_at dksL_law_16 18 rfl rfl)
theorem dL_law_495 : decode cL_law 495 = .ok (.istore 6, 2) := dk_54 6 (dk_at dksL_law_16 21 rfl rfl)
theorem dL_law_497 : decode cL_law 497 = .ok (.aload_n 2, 1) := dk_44 (dk_at dksL_law_16 23 rfl rfl)
theorem dL_law_498 : decode cL_law 498 = .ok (.invokevirtual 95, 3) := dk_182 0 95 (dk_at dksL_law_17 0 rfl rfl)
theorem dL_law_501 : decode cL_law 501 = .ok (.iload 5, 2) := dk_21 5 (dk_at dksL_law_17 3 rfl rfl)
theorem dL_law_503 : decode cL_law 503 = .ok (.if_icmp .eq 5, 3) := dk_159 0 5 (dk_at dksL_law_17 5 rfl rfl)
theorem dL_law_506 : decode cL_law 506 = .ok (.iconst 0, 1) := dk_3 (dk_at dksL_law_17 8 rfl rfl)
theorem dL_law_507 : decode cL_law 507 = .ok (.ireturn, 1) := dk_172 (dk_at dksL_law_17 9 rfl rfl)
theorem dL_law_508 : decode cL_law 508 = .ok (.iload 5, 2) := dk_21 5 (dk_at dksL_law_17 10 rfl rfl)
theorem dL_law_510 : decode cL_law 510 = .ok (.ifCond .ne 15, 3) := dk_154 0 15 (dk_at dksL_law_17 12 rfl rfl)
theorem dL_law_513 : decode cL_law 513 = .ok (.aload_n 3, 1) := dk_45 (dk_at dksL_law_17 15 rfl rfl)
theorem dL_law_514 : decode cL_law 514 = .ok (.iconst 0, 1) := dk_3 (dk_at dksL_law_17 16 rfl rfl)
theorem dL_law_515 : decode cL_law 515 = .ok (.laload, 1) := dk_47 (dk_at dksL_law_17 17 rfl rfl)
theorem dL_law_516 : decode cL_law 516 = .ok (.iload 6, 2) := dk_21 6 (dk_at dksL_law_17 18 rfl rfl)
theorem dL_law_518 : decode cL_law 518 = .ok (.i2l, 1) := dk_133 (dk_at dksL_law_17 20 rfl rfl)
theorem dL_law_519 : decode cL_law 519 = .ok (.lcmp, 1) := dk_148 (dk_at dksL_law_17 21 rfl rfl)
theorem dL_law_520 : decode cL_law 520 = .ok (.ifCond .eq 5, 3) := dk_153 0 5 (dk_at dksL_law_18 0 rfl rfl)
theorem dL_law_523 : decode cL_law 523 = .ok (.iconst 0, 1) := dk_3 (dk_at dksL_law_18 3 rfl rfl)
theorem dL_law_524 : decode cL_law 524 = .ok (.ireturn, 1) := dk_172 (dk_at dksL_law_18 4 rfl rfl)
theorem dL_law_525 : decode cL_law 525 = .ok (.goto 1265, 3) := dk_167 4 241 (dk_at dksL_law_18 5 rfl rfl)
theorem dL_law_528 : decode cL_law 528 = .ok (.aload_n 1, 1) := dk_43 (dk_at dksL_law_18 8 rfl rfl)
theorem dL_law_529 : decode cL_law 529 = .ok (.aload_n 0, 1) := dk_42 (dk_at dksL_law_18 9 rfl rfl)
theorem dL_law_530 : decode cL_law 530 = .ok (.iload 4, 2) := dk_21 4 (dk_at dksL_law_18 10 rfl rfl)
theorem dL_law_532 : decode cL_law 532 = .ok (.iconst 1, 1) := dk_4 (dk_at dksL_law_18 12 rfl rfl)
theorem dL_law_533 : decode cL_law 533 = .ok (.iadd, 1) := dk_96 (dk_at dksL_law_18 13 rfl rfl)
theorem dL_law_534 : decode cL_law 534 = .ok (.iaload, 1) := dk_46 (dk_at dksL_law_18 14 rfl rfl)
theorem dL_law_535 : decode cL_law 535 = .ok (.aload_n 0, 1) := dk_42 (dk_at dksL_law_18 15 rfl rfl)
theorem dL_law_536 : decode cL_law 536 = .ok (.iload 4, 2) := dk_21 4 (dk_at dksL_law_18 16 rfl rfl)
theorem dL_law_538 : decode cL_law 538 = .ok (.iconst 2, 1) := dk_5 (dk_at dksL_law_18 18 rfl rfl)
theorem dL_law_539 : decode cL_law 539 = .ok (.iadd, 1) := dk_96 (dk_at dksL_law_18 19 rfl rfl)
theorem dL_law_540 : decode cL_law 540 = .ok (.iaload, 1) := dk_46 (dk_at dksL_law_18 20 rfl rfl)
theorem dL_law_541 : decode cL_law 541 = .ok (.ifCond .eq 7, 3) := dk_153 0 7 (dk_at dksL_law_18 21 rfl rfl)
theorem dL_law_544 : decode cL_law 544 = .ok (.iconst 1, 1) := dk_4 (dk_at dksL_law_19 0 rfl rfl)
theorem dL_law_545 : decode cL_law 545 = .ok (.goto 4, 3) := dk_167 0 4 (dk_at dksL_law_19 1 rfl rfl)
theorem dL_law_548 : decode cL_law 548 = .ok (.iconst 0, 1) := dk_3 (dk_at dksL_law_19 4 rfl rfl)
theorem dL_law_549 : decode cL_law 549 = .ok (.aload_n 3, 1) := dk_45 (dk_at dksL_law_19 5 rfl rfl)
theorem dL_law_550 : decode cL_law 550 = .ok (.invokestatic 114, 3) := dk_184 0 114 (dk_at dksL_law_19 6 rfl rfl)
theorem dL_law_553 : decode cL_law 553 = .ok (.istore 5, 2) := dk_54 5 (dk_at dksL_law_19 9 rfl rfl)
theorem dL_law_555 : decode cL_law 555 = .ok (.aload_n 2, 1) := dk_44 (dk_at dksL_law_19 11 rfl rfl)
theorem dL_law_556 : decode cL_law 556 = .ok (.aload_n 0, 1) := dk_42 (dk_at dksL_law_19 12 rfl rfl)
theorem dL_law_557 : decode cL_law 557 = .ok (.iload 4, 2) := dk_21 4 (dk_at dksL_law_19 13 rfl rfl)
theorem dL_law_559 : decode cL_law 559 = .ok (.iconst 1, 1) := dk_4 (dk_at dksL_law_19 15 rfl rfl)
theorem dL_law_560 : decode cL_law 560 = .ok (.iadd, 1) := dk_96 (dk_at dksL_law_19 16 rfl rfl)
theorem dL_law_561 : decode cL_law 561 = .ok (.iaload, 1) := dk_46 (dk_at dksL_law_19 17 rfl rfl)
theorem dL_law_562 : decode cL_law 562 = .ok (.aload_n 0, 1) := dk_42 (dk_at dksL_law_19 18 rfl rfl)
theorem dL_law_563 : decode cL_law 563 = .ok (.iload 4, 2) := dk_21 4 (dk_at dksL_law_19 19 rfl rfl)
theorem dL_law_565 : decode cL_law 565 = .ok (.iconst 2, 1) := dk_5 (dk_at dksL_law_19 21 rfl rfl)
theorem dL_law_566 : decode cL_law 566 = .ok (.iadd, 1) := dk_96 (dk_at dksL_law_19 22 rfl rfl)
theorem dL_law_567 : decode cL_law 567 = .ok (.iaload, 1) := dk_46 (dk_at dksL_law_19 23 rfl rfl)
theorem dL_law_568 : decode cL_law 568 = .ok (.ifCond .eq 7, 3) := dk_153 0 7 (dk_at dksL_law_20 0 rfl rfl)
theorem dL_law_571 : decode cL_law 571 = .ok (.iconst 1, 1) := dk_4 (dk_at dksL_law_20 3 rfl rfl)
theorem dL_law_572 : decode cL_law 572 = .ok (.goto 4, 3) := dk_167 0 4 (dk_at dksL_law_20 4 rfl rfl)
theorem dL_law_575 : decode cL_law 575 = .ok (.iconst 0, 1) := dk_3 (dk_at dksL_law_20 7 rfl rfl)
theorem dL_law_576 : decode cL_law 576 = .ok (.invokevirtual 117, 3) := dk_182 0 117 (dk_at dksL_law_20 8 rfl rfl)
theorem dL_law_579 : decode cL_law 579 = .ok (.istore 6, 2) := dk_54 6 (dk_at dksL_law_20 11 rfl rfl)
theorem dL_law_581 : decode cL_law 581 = .ok (.aload_n 2, 1) := dk_44 (dk_at dksL_law_20 13 rfl rfl)
theorem dL_law_582 : decode cL_law 582 = .ok (.invokevirtual 95, 3) := dk_182 0 95 (dk_at dksL_law_20 14 rfl rfl)
theorem dL_law_585 : decode cL_law 585 = .ok (.iload 5, 2) := dk_21 5 (dk_at dksL_law_20 17 rfl rfl)
theorem dL_law_587 : decode cL_law 587 = .ok (.if_icmp .eq 5, 3) := dk_159 0 5 (dk_at dksL_law_20 19 rfl rfl)
theorem dL_law_590 : decode cL_law 590 = .ok (.iconst 0, 1) := dk_3 (dk_at dksL_law_20 22 rfl rfl)
theorem dL_law_591 : decode cL_law 591 = .ok (.ireturn, 1) := dk_172 (dk_at dksL_law_20 23 rfl rfl)
theorem dL_law_592 : decode cL_law 592 = .ok (.iload 5, 2) := dk_21 5 (dk_at dksL_law_21 0 rfl rfl)
theorem dL_law_594 : decode cL_law 594 = .ok (.ifCond .ne 22, 3) := dk_154 0 22 (dk_at dksL_law_21 2 rfl rfl)
theorem dL_law_597 : decode cL_law 597 = .ok (.aload_n 3, 1) := dk_45 (dk_at dksL_law_21 5 rfl rfl)
theorem dL_law_598 : decode cL_law 598 = .ok (.iconst 0, 1) := dk_3 (dk_at dksL_law_21 6 rfl rfl)
theorem dL_law_599 : decode cL_law 599 = .ok (.laload, 1) := dk_47 (dk_at dksL_law_21 7 rfl rfl)
theorem dL_law_600 : decode cL_law 600 = .ok (.iload 6, 2) := dk_21 6 (dk_at dksL_law_21 8 rfl rfl)
theorem dL_law_602 : decode cL_law 602 = .ok (.ifCond .eq 7, 3) := dk_153 0 7 (dk_at dksL_law_21 10 rfl rfl)
theorem dL_law_605 : decode cL_law 605 = .ok (.lconst 1, 1) := dk_10 (dk_at dksL_law_21 13 rfl rfl)
theorem dL_law_606 : decode cL_law 606 = .ok (.goto 4, 3) := dk_167 0 4 (dk_at dksL_law_21 14 rfl rfl)
theorem dL_law_609 : decode cL_law 609 = .ok (.lconst 0, 1) := dk_9 (dk_at dksL_law_21 17 rfl rfl)
theorem dL_law_610 : decode cL_law 610 = .ok (.lcmp, 1) := dk_148 (dk_at dksL_law_21 18 rfl rfl)
theorem dL_law_611 : decode cL_law 611 = .ok (.ifCond .eq 5, 3) := dk_153 0 5 (dk_at dksL_law_21 19 rfl rfl)
theorem dL_law_614 : decode cL_law 614 = .ok (.iconst 0, 1) := dk_3 (dk_at dksL_law_21 22 rfl rfl)
theorem dL_law_615 : decode cL_law 615 = .ok (.ireturn, 1) := dk_172 (dk_at dksL_law_21 23 rfl rfl)
theorem dL_law_616 : decode cL_law 616 = .ok (.goto 1174, 3) := dk_167 4 150 (dk_at dksL_law_22 0 rfl rfl)
theorem dL_law_619 : decode cL_law 619 = .ok (.aload_n 1, 1) := dk_43 (dk_at dksL_law_22 3 rfl rfl)
theorem dL_law_620 : decode cL_law 620 = .ok (.aload_n 0, 1) := dk_42 (dk_at dksL_law_22 4 rfl rfl)
theorem dL_law_621 : decode cL_law 621 = .ok (.iload 4, 2) := dk_21 4 (dk_at dksL_law_22 5 rfl rfl)
theorem dL_law_623 : decode cL_law 623 = .ok (.iconst 1, 1) := dk_4 (dk_at dksL_law_22 7 rfl rfl)
theorem dL_law_624 : decode cL_law 624 = .ok (.iadd, 1) := dk_96 (dk_at dksL_law_22 8 rfl rfl)
theorem dL_law_625 : decode cL_law 625 = .ok (.iaload, 1) := dk_46 (dk_at dksL_law_22 9 rfl rfl)
theorem dL_law_626 : decode cL_law 626 = .ok (.aload_n 0, 1) := dk_42 (dk_at dksL_law_22 10 rfl rfl)
theorem dL_law_627 : decode cL_law 627 = .ok (.iload 4, 2) := dk_21 4 (dk_at dksL_law_22 11 rfl rfl)
theorem dL_law_629 : decode cL_law 629 = .ok (.iconst 2, 1) := dk_5 (dk_at dksL_law_22 13 rfl rfl)
theorem dL_law_630 : decode cL_law 630 = .ok (.iadd, 1) := dk_96 (dk_at dksL_law_22 14 rfl rfl)
theorem dL_law_631 : decode cL_law 631 = .ok (.iaload, 1) := dk_46 (dk_at dksL_law_22 15 rfl rfl)
theorem dL_law_632 : decode cL_law 632 = .ok (.aload_n 3, 1) := dk_45 (dk_at dksL_law_22 16 rfl rfl)
theorem dL_law_633 : decode cL_law 633 = .ok (.invokestatic 118, 3) := dk_184 0 118 (dk_at dksL_law_22 17 rfl rfl)
theorem dL_law_636 : decode cL_law 636 = .ok (.istore 5, 2) := dk_54 5 (dk_at dksL_law_22 20 rfl rfl)
theorem dL_law_638 : decode cL_law 638 = .ok (.aload_n 2, 1) := dk_44 (dk_at dksL_law_22 22 rfl rfl)
theorem dL_law_639 : decode cL_law 639 = .ok (.aload_n 0, 1) := dk_42 (dk_at dksL_law_22 23 rfl rfl)
theorem dL_law_640 : decode cL_law 640 = .ok (.iload 4, 2) := dk_21 4 (dk_at dksL_law_23 0 rfl rfl)
theorem dL_law_642 : decode cL_law 642 = .ok (.iconst 1, 1) := dk_4 (dk_at dksL_law_23 2 rfl rfl)
theorem dL_law_643 : decode cL_law 643 = .ok (.iadd, 1) := dk_96 (dk_at dksL_law_23 3 rfl rfl)
theorem dL_law_644 : decode cL_law 644 = .ok (.iaload, 1) := dk_46 (dk_at dksL_law_23 4 rfl rfl)
theorem dL_law_645 : decode cL_law 645 = .ok (.aload_n 0, 1) := dk_42 (dk_at dksL_law_23 5 rfl rfl)
theorem dL_law_646 : decode cL_law 646 = .ok (.iload 4, 2) := dk_21 4 (dk_at dksL_law_23 6 rfl rfl)
theorem dL_law_648 : decode cL_law 648 = .ok (.iconst 2, 1) := dk_5 (dk_at dksL_law_23 8 rfl rfl)
theorem dL_law_649 : decode cL_law 649 = .ok (.iadd, 1) := dk_96 (dk_at dksL_law_23 9 rfl rfl)
theorem dL_law_650 : decode cL_law 650 = .ok (.iaload, 1) := dk_46 (dk_at dksL_law_23 10 rfl rfl)
theorem dL_law_651 : decode cL_law 651 = .ok (.invokevirtual 120, 3) := dk_182 0 120 (dk_at dksL_law_23 11 rfl rfl)
theorem dL_law_654 : decode cL_law 654 = .ok (.istore 6, 2) := dk_54 6 (dk_at dksL_law_23 14 rfl rfl)
theorem dL_law_656 : decode cL_law 656 = .ok (.aload_n 2, 1) := dk_44 (dk_at dksL_law_23 16 rfl rfl)
theorem dL_law_657 : decode cL_law 657 = .ok (.invokevirtual 95, 3) := dk_182 0 95 (dk_at dksL_law_23 17 rfl rfl)
theorem dL_law_660 : decode cL_law 660 = .ok (.iload 5, 2) := dk_21 5 (dk_at dksL_law_23 20 rfl rfl)
theorem dL_law_662 : decode cL_law 662 = .ok (.if_icmp .eq 5, 3) := dk_159 0 5 (dk_at dksL_law_24 0 rfl rfl)
theorem dL_law_665 : decode cL_law 665 = .ok (.iconst 0, 1) := dk_3 (dk_at dksL_law_24 3 rfl rfl)
theorem dL_law_666 : decode cL_law 666 = .ok (.ireturn, 1) := dk_172 (dk_at dksL_law_24 4 rfl rfl)
theorem dL_law_667 : decode cL_law 667 = .ok (.iload 5, 2) := dk_21 5 (dk_at dksL_law_24 5 rfl rfl)
theorem dL_law_669 : decode cL_law 669 = .ok (.ifCond .ne 15, 3) := dk_154 0 15 (dk_at dksL_law_24 7 rfl rfl)
theorem dL_law_672 : decode cL_law 672 = .ok (.aload_n 3, 1) := dk_45 (dk_at dksL_law_24 10 rfl rfl)
theorem dL_law_673 : decode cL_law 673 = .ok (.iconst 0, 1) := dk_3 (dk_at dksL_law_24 11 rfl rfl)
theorem dL_law_674 : decode cL_law 674 = .ok (.laload, 1) := dk_47 (dk_at dksL_law_24 12 rfl rfl)
theorem dL_law_675 : decode cL_law 675 = .ok (.iload 6, 2) := dk_21 6 (dk_at dksL_law_24 13 rfl rfl)
theorem dL_law_677 : decode cL_law 677 = .ok (.i2l, 1) := dk_133 (dk_at dksL_law_24 15 rfl rfl)
theorem dL_law_678 : decode cL_law 678 = .ok (.lcmp, 1) := dk_148 (dk_at dksL_law_24 16 rfl rfl)
theorem dL_law_679 : decode cL_law 679 = .ok (.ifCond .eq 5, 3) := dk_153 0 5 (dk_at dksL_law_24 17 rfl rfl)
theorem dL_law_682 : decode cL_law 682 = .ok (.iconst 0, 1) := dk_3 (dk_at dksL_law_24 20 rfl rfl)
theorem dL_law_683 : decode cL_law 683 = .ok (.ireturn, 1) := dk_172 (dk_at dksL_law_24 21 rfl rfl)
theorem dL_law_684 : decode cL_law 684 = .ok (.goto 1106, 3) := dk_167 4 82 (dk_at dksL_law_25 0 rfl rfl)
theorem dL_law_687 : decode cL_law 687 = .ok (.aload_n 1, 1) := dk_43 (dk_at dksL_law_25 3 rfl rfl)
theorem dL_law_688 : decode cL_law 688 = .ok (.aload_n 0, 1) := dk_42 (dk_at dksL_law_25 4 rfl rfl)
theorem dL_law_689 : decode cL_law 689 = .ok (.iload 4, 2) := dk_21 4 (dk_at dksL_law_25 5 rfl rfl)
theorem dL_law_691 : decode cL_law 691 = .ok (.iconst 1, 1) := dk_4 (dk_at dksL_law_25 7 rfl rfl)
theorem dL_law_692 : decode cL_law 692 = .ok (.iadd, 1) := dk_96 (dk_at dksL_law_25 8 rfl rfl)
theorem dL_law_693 : decode cL_law 693 = .ok (.iaload, 1) := dk_46 (dk_at dksL_law_25 9 rfl rfl)
theorem dL_law_694 : decode cL_law 694 = .ok (.aload_n 0, 1) := dk_42 (dk_at dksL_law_25 10 rfl rfl)
theorem dL_law_695 : decode cL_law 695 = .ok (.iload 4, 2) := dk_21 4 (dk_at dksL_law_25 11 rfl rfl)
theorem dL_law_697 : decode cL_law 697 = .ok (.iconst 2, 1) := dk_5 (dk_at dksL_law_25 13 rfl rfl)
theorem dL_law_698 : decode cL_law 698 = .ok (.iadd, 1) := dk_96 (dk_at dksL_law_25 14 rfl rfl)
theorem dL_law_699 : decode cL_law 699 = .ok (.iaload, 1) := dk_46 (dk_at dksL_law_25 15 rfl rfl)
theorem dL_law_700 : decode cL_law 700 = .ok (.aload_n 3, 1) := dk_45 (dk_at dksL_law_25 16 rfl rfl)
theorem dL_law_701 : decode cL_law 701 = .ok (.invokestatic 121, 3) := dk_184 0 121 (dk_at dksL_law_25 17 rfl rfl)
theorem dL_law_704 : decode cL_law 704 = .ok (.istore 5, 2) := dk_54 5 (dk_at dksL_law_25 20 rfl rfl)
theorem dL_law_706 : decode cL_law 706 = .ok (.aload_n 2, 1) := dk_44 (dk_at dksL_law_25 22 rfl rfl)
theorem dL_law_707 : decode cL_law 707 = .ok (.aload_n 0, 1) := dk_42 (dk_at dksL_law_25 23 rfl rfl)
theorem dL_law_708 : decode cL_law 708 = .ok (.iload 4, 2) := dk_21 4 (dk_at dksL_law_26 0 rfl rfl)
theorem dL_law_710 : decode cL_law 710 = .ok (.iconst 1, 1) := dk_4 (dk_at dksL_law_26 2 rfl rfl)
theorem dL_law_711 : decode cL_law 711 = .ok (.iadd, 1) := dk_96 (dk_at dksL_law_26 3 rfl rfl)
theorem dL_law_712 : decode cL_law 712 = .ok (.iaload, 1) := dk_46 (dk_at dksL_law_26 4 rfl rfl)
theorem dL_law_713 : decode cL_law 713 = .ok (.aload_n 0, 1) := dk_42 (dk_at dksL_law_26 5 rfl rfl)
theorem dL_law_714 : decode cL_law 714 = .ok (.iload 4, 2) := dk_21 4 (dk_at dksL_law_26 6 rfl rfl)
theorem dL_law_716 : decode cL_law 716 = .ok (.iconst 2, 1) := dk_5 (dk_at dksL_law_26 8 rfl rfl)
theorem dL_law_717 : decode cL_law 717 = .ok (.iadd, 1) := dk_96 (dk_at dksL_law_26 9 rfl rfl)
theorem dL_law_718 : decode cL_law 718 = .ok (.iaload, 1) := dk_46 (dk_at dksL_law_26 10 rfl rfl)
theorem dL_law_719 : decode cL_law 719 = .ok (.invokevirtual 123, 3) := dk_182 0 123 (dk_at dksL_law_26 11 rfl rfl)
theorem dL_law_722 : decode cL_law 722 = .ok (.istore 6, 2) := dk_54 6 (dk_at dksL_law_26 14 rfl rfl)
theorem dL_law_724 : decode cL_law 724 = .ok (.aload_n 2, 1) := dk_44 (dk_at dksL_law_26 16 rfl rfl)
theorem dL_law_725 : decode cL_law 725 = .ok (.invokevirtual 95, 3) := dk_182 0 95 (dk_at dksL_law_26 17 rfl rfl)
theorem dL_law_728 : decode cL_law 728 = .ok (.iload 5, 2) := dk_21 5 (dk_at dksL_law_26 20 rfl rfl)
theorem dL_law_730 : decode cL_law 730 = .ok (.if_icmp .eq 5, 3) := dk_159 0 5 (dk_at dksL_law_27 0 rfl rfl)
theorem dL_law_733 : decode cL_law 733 = .ok (.iconst 0, 1) := dk_3 (dk_at dksL_law_27 3 rfl rfl)
theorem dL_law_734 : decode cL_law 734 = .ok (.ireturn, 1) := dk_172 (dk_at dksL_law_27 4 rfl rfl)
theorem dL_law_735 : decode cL_law 735 = .ok (.iload 5, 2) := dk_21 5 (dk_at dksL_law_27 5 rfl rfl)
theorem dL_law_737 : decode cL_law 737 = .ok (.ifCond .ne 22, 3) := dk_154 0 22 (dk_at dksL_law_27 7 rfl rfl)
theorem dL_law_740 : decode cL_law 740 = .ok (.aload_n 3, 1) := dk_45 (dk_at dksL_law_27 10 rfl rfl)
theorem dL_law_741 : decode cL_law 741 = .ok (.iconst 0, 1) := dk_3 (dk_at dksL_law_27 11 rfl rfl)
theorem dL_law_742 : decode cL_law 742 = .ok (.laload, 1) := dk_47 (dk_at dksL_law_27 12 rfl rfl)
theorem dL_law_743 : decode cL_law 743 = .ok (.iload 6, 2) := dk_21 6 (dk_at dksL_law_27 13 rfl rfl)
theorem dL_law_745 : decode cL_law 745 = .ok (.ifCond .eq 7, 3) := dk_153 0 7 (dk_at dksL_law_27 15 rfl rfl)
theorem dL_law_748 : decode cL_law 748 = .ok (.lconst 1, 1) := dk_10 (dk_at dksL_law_27 18 rfl rfl)
theorem dL_law_749 : decode cL_law 749 = .ok (.goto 4, 3) := dk_167 0 4 (dk_at dksL_law_27 19 rfl rfl)
theorem dL_law_752 : decode cL_law 752 = .ok (.lconst 0, 1) := dk_9 (dk_at dksL_law_27 22 rfl rfl)
theorem dL_law_753 : decode cL_law 753 = .ok (.lcmp, 1) := dk_148 (dk_at dksL_law_27 23 rfl rfl)
theorem dL_law_754 : decode cL_law 754 = .ok (.ifCond .eq 5, 3) := dk_153 0 5 (dk_at dksL_law_28 0 rfl rfl)
theorem dL_law_757 : decode cL_law 757 = .ok (.iconst 0, 1) := dk_3 (dk_at dksL_law_28 3 rfl rfl)
theorem dL_law_758 : decode cL_law 758 = .ok (.ireturn, 1) := dk_172 (dk_at dksL_law_28 4 rfl rfl)
theorem dL_law_759 : decode cL_law 759 = .ok (.goto 1031, 3) := dk_167 4 7 (dk_at dksL_law_28 5 rfl rfl)
theorem dL_law_762 : decode cL_law 762 = .ok (.aload_n 1, 1) := dk_43 (dk_at dksL_law_28 8 rfl rfl)
theorem dL_law_763 : decode cL_law 763 = .ok (.invokevirtual 124, 3) := dk_182 0 124 (dk_at dksL_law_28 9 rfl rfl)
theorem dL_law_766 : decode cL_law 766 = .ok (.aload_n 2, 1) := dk_44 (dk_at dksL_law_28 12 rfl rfl)
theorem dL_law_767 : decode cL_law 767 = .ok (.invokevirtual 127, 3) := dk_182 0 127 (dk_at dksL_law_28 13 rfl rfl)
theorem dL_law_770 : decode cL_law 770 = .ok (.if_icmp .eq 1020, 3) := dk_159 3 252 (dk_at dksL_law_28 16 rfl rfl)
theorem dL_law_773 : decode cL_law 773 = .ok (.iconst 0, 1) := dk_3 (dk_at dksL_law_28 19 rfl rfl)
theorem dL_law_774 : decode cL_law 774 = .ok (.ireturn, 1) := dk_172 (dk_at dksL_law_28 20 rfl rfl)
theorem dL_law_775 : decode cL_law 775 = .ok (.aload_n 1, 1) := dk_43 (dk_at dksL_law_28 21 rfl rfl)
theorem dL_law_776 : decode cL_law 776 = .ok (.aload_n 0, 1) := dk_42 (dk_at dksL_law_28 22 rfl rfl)
theorem dL_law_777 : decode cL_law 777 = .ok (.iload 4, 2) := dk_21 4 (dk_at dksL_law_29 0 rfl rfl)
theorem dL_law_779 : decode cL_law 779 = .ok (.iconst 1, 1) := dk_4 (dk_at dksL_law_29 2 rfl rfl)
theorem dL_law_780 : decode cL_law 780 = .ok (.iadd, 1) := dk_96 (dk_at dksL_law_29 3 rfl rfl)
theorem dL_law_781 : decode cL_law 781 = .ok (.iaload, 1) := dk_46 (dk_at dksL_law_29 4 rfl rfl)
theorem dL_law_782 : decode cL_law 782 = .ok (.aload_n 3, 1) := dk_45 (dk_at dksL_law_29 5 rfl rfl)
theorem dL_law_783 : decode cL_law 783 = .ok (.invokestatic 128, 3) := dk_184 0 128 (dk_at dksL_law_29 6 rfl rfl)
theorem dL_law_786 : decode cL_law 786 = .ok (.istore 5, 2) := dk_54 5 (dk_at dksL_law_29 9 rfl rfl)
theorem dL_law_788 : decode cL_law 788 = .ok (.aload_n 2, 1) := dk_44 (dk_at dksL_law_29 11 rfl rfl)
theorem dL_law_789 : decode cL_law 789 = .ok (.aload_n 0, 1) := dk_42 (dk_at dksL_law_29 12 rfl rfl)
theorem dL_law_790 : decode cL_law 790 = .ok (.iload 4, 2) := dk_21 4 (dk_at dksL_law_29 13 rfl rfl)
theorem dL_law_792 : decode cL_law 792 = .ok (.iconst 1, 1) := dk_4 (dk_at dksL_law_29 15 rfl rfl)
theorem dL_law_793 : decode cL_law 793 = .ok (.iadd, 1) := dk_96 (dk_at dksL_law_29 16 rfl rfl)
theorem dL_law_794 : decode cL_law 794 = .ok (.iaload, 1) := dk_46 (dk_at dksL_law_29 17 rfl rfl)
theorem dL_law_795 : decode cL_law 795 = .ok (.invokevirtual 130, 3) := dk_182 0 130 (dk_at dksL_law_29 18 rfl rfl)
theorem dL_law_798 : decode cL_law 798 = .ok (.istore 6, 2) := dk_54 6 (dk_at dksL_law_29 21 rfl rfl)
theorem dL_law_800 : decode cL_law 800 = .ok (.aload_n 2, 1) := dk_44 (dk_at dksL_law_29 23 rfl rfl)
theorem dL_law_801 : decode cL_law 801 = .ok (.invokevirtual 95, 3) := dk_182 0 95 (dk_at dksL_law_30 0 rfl rfl)
theorem dL_law_804 : decode cL_law 804 = .ok (.iload 5, 2) := dk_21 5 (dk_at dksL_law_30 3 rfl rfl)
theorem dL_law_806 : decode cL_law 806 = .ok (.if_icmp .eq 5, 3) := dk_159 0 5 (dk_at dksL_law_30 5 rfl rfl)
theorem dL_law_809 : decode cL_law 809 = .ok (.iconst 0, 1) := dk_3 (dk_at dksL_law_30 8 rfl rfl)
theorem dL_law_810 : decode cL_law 810 = .ok (.ireturn, 1) := dk_172 (dk_at dksL_law_30 9 rfl rfl)
theorem dL_law_811 : decode cL_law 811 = .ok (.iload 5, 2) := dk_21 5 (dk_at dksL_law_30 10 rfl rfl)
theorem dL_law_813 : decode cL_law 813 = .ok (.ifCond .ne 15, 3) := dk_154 0 15 (dk_at dksL_law_30 12 rfl rfl)
theorem dL_law_816 : decode cL_law 816 = .ok (.aload_n 3, 1) := dk_45 (dk_at dksL_law_30 15 rfl rfl)
theorem dL_law_817 : decode cL_law 817 = .ok (.iconst 0, 1) := dk_3 (dk_at dksL_law_30 16 rfl rfl)
theorem dL_law_818 : decode cL_law 818 = .ok (.laload, 1) := dk_47 (dk_at dksL_law_30 17 rfl rfl)
theorem dL_law_819 : decode cL_law 819 = .ok (.iload 6, 2) := dk_21 6 (dk_at dksL_law_30 18 rfl rfl)
theorem dL_law_821 : decode cL_law 821 = .ok (.i2l, 1) := dk_133 (dk_at dksL_law_30 20 rfl rfl)
theorem dL_law_822 : decode cL_law 822 = .ok (.lcmp, 1) := dk_148 (dk_at dksL_law_30 21 rfl rfl)
theorem dL_law_823 : decode cL_law 823 = .ok (.ifCond .eq 5, 3) := dk_153 0 5 (dk_at dksL_law_31 0 rfl rfl)
theorem dL_law_826 : decode cL_law 826 = .ok (.iconst 0, 1) := dk_3 (dk_at dksL_law_31 3 rfl rfl)
theorem dL_law_827 : decode cL_law 827 = .ok (.ireturn, 1) := dk_172 (dk_at dksL_law_31 4 rfl rfl)
theorem dL_law_828 : decode cL_law 828 = .ok (.goto 962, 3) := dk_167 3 194 (dk_at dksL_law_31 5 rfl rfl)
theorem dL_law_831 : decode cL_law 831 = .ok (.aload_n 1, 1) := dk_43 (dk_at dksL_law_31 8 rfl rfl)
theorem dL_law_832 : decode cL_law 832 = .ok (.aload_n 0, 1) := dk_42 (dk_at dksL_law_31 9 rfl rfl)
theorem dL_law_833 : decode cL_law 833 = .ok (.iload 4, 2) := dk_21 4 (dk_at dksL_law_31 10 rfl rfl)
theorem dL_law_835 : decode cL_law 835 = .ok (.iconst 1, 1) := dk_4 (dk_at dksL_law_31 12 rfl rfl)
theorem dL_law_836 : decode cL_law 836 = .ok (.iadd, 1) := dk_96 (dk_at dksL_law_31 13 rfl rfl)
theorem dL_law_837 : decode cL_law 837 = .ok (.iaload, 1) := dk_46 (dk_at dksL_law_31 14 rfl rfl)
theorem dL_law_838 : decode cL_law 838 = .ok (.aload_n 3, 1) := dk_45 (dk_at dksL_law_31 15 rfl rfl)
theorem dL_law_839 : decode cL_law 839 = .ok (.invokestatic 131, 3) := dk_184 0 131 (dk_at dksL_law_31 16 rfl rfl)
theorem dL_law_842 : decode cL_law 842 = .ok (.istore 5, 2) := dk_54 5 (dk_at dksL_law_31 19 rfl rfl)
theorem dL_law_844 : decode cL_law 844 = .ok (.aload_n 2, 1) := dk_44 (dk_at dksL_law_31 21 rfl rfl)
theorem dL_law_845 : decode cL_law 845 = .ok (.aload_n 0, 1) := dk_42 (dk_at dksL_law_31 22 rfl rfl)
theorem dL_law_846 : decode cL_law 846 = .ok (.iload 4, 2) := dk_21 4 (dk_at dksL_law_32 0 rfl rfl)
theorem dL_law_848 : decode cL_law 848 = .ok (.iconst 1, 1) := dk_4 (dk_at dksL_law_32 2 rfl rfl)
theorem dL_law_849 : decode cL_law 849 = .ok (.iadd, 1) := dk_96 (dk_at dksL_law_32 3 rfl rfl)
theorem dL_law_850 : decode cL_law 850 = .ok (.iaload, 1) := dk_46 (dk_at dksL_law_32 4 rfl rfl)
theorem dL_law_851 : decode cL_law 851 = .ok (.invokevirtual 133, 3) := dk_182 0 133 (dk_at dksL_law_32 5 rfl rfl)
theorem dL_law_854 : decode cL_law 854 = .ok (.istore 6, 2) := dk_54 6 (dk_at dksL_law_32 8 rfl rfl)
theorem dL_law_856 : decode cL_law 856 = .ok (.aload_n 2, 1) := dk_44 (dk_at dksL_law_32 10 rfl rfl)
theorem dL_law_857 : decode cL_law 857 = .ok (.invokevirtual 95, 3) := dk_182 0 95 (dk_at dksL_law_32 11 rfl rfl)
theorem dL_law_860 : decode cL_law 860 = .ok (.iload 5, 2) := dk_21 5 (dk_at dksL_law_32 14 rfl rfl)
theorem dL_law_862 : decode cL_law 862 = .ok (.if_icmp .eq 5, 3) := dk_159 0 5 (dk_at dksL_law_32 16 rfl rfl)
theorem dL_law_865 : decode cL_law 865 = .ok (.iconst 0, 1) := dk_3 (dk_at dksL_law_32 19 rfl rfl)
theorem dL_law_866 : decode cL_law 866 = .ok (.ireturn, 1) := dk_172 (dk_at dksL_law_32 20 rfl rfl)
theorem dL_law_867 : decode cL_law 867 = .ok (.iload 5, 2) := dk_21 5 (dk_at dksL_law_32 21 rfl rfl)
theorem dL_law_869 : decode cL_law 869 = .ok (.ifCond .ne 15, 3) := dk_154 0 15 (dk_at dksL_law_33 0 rfl rfl)
theorem dL_law_872 : decode cL_law 872 = .ok (.aload_n 3, 1) := dk_45 (dk_at dksL_law_33 3 rfl rfl)
theorem dL_law_873 : decode cL_law 873 = .ok (.iconst 0, 1) := dk_3 (dk_at dksL_law_33 4 rfl rfl)
theorem dL_law_874 : decode cL_law 874 = .ok (.laload, 1) := dk_47 (dk_at dksL_law_33 5 rfl rfl)
theorem dL_law_875 : decode cL_law 875 = .ok (.iload 6, 2) := dk_21 6 (dk_at dksL_law_33 6 rfl rfl)
theorem dL_law_877 : decode cL_law 877 = .ok (.i2l, 1) := dk_133 (dk_at dksL_law_33 8 rfl rfl)
theorem dL_law_878 : decode cL_law 878 = .ok (.lcmp, 1) := dk_148 (dk_at dksL_law_33 9 rfl rfl)
theorem dL_law_879 : decode cL_law 879 = .ok (.ifCond .eq 5, 3) := dk_153 0 5 (dk_at dksL_law_33 10 rfl rfl)
theorem dL_law_882 : decode cL_law 882 = .ok (.iconst 0, 1) := dk_3 (dk_at dksL_law_33 13 rfl rfl)
theorem dL_law_883 : decode cL_law 883 = .ok (.ireturn, 1) := dk_172 (dk_at dksL_law_33 14 rfl rfl)
theorem dL_law_884 : decode cL_law 884 = .ok (.goto 906, 3) := dk_167 3 138 (dk_at dksL_law_33 15 rfl rfl)
theorem dL_law_887 : decode cL_law 887 = .ok (.aload_n 1, 1) := dk_43 (dk_at dksL_law_33 18 rfl rfl)
theorem dL_law_888 : decode cL_law 888 = .ok (.aload_n 0, 1) := dk_42 (dk_at dksL_law_33 19 rfl rfl)
theorem dL_law_889 : decode cL_law 889 = .ok (.iload 4, 2) := dk_21 4 (dk_at dksL_law_33 20 rfl rfl)
theorem dL_law_891 : decode cL_law 891 = .ok (.iconst 1, 1) := dk_4 (dk_at dksL_law_33 22 rfl rfl)
theorem dL_law_892 : decode cL_law 892 = .ok (.iadd, 1) := dk_96 (dk_at dksL_law_33 23 rfl rfl)
theorem dL_law_893 : decode cL_law 893 = .ok (.iaload, 1) := dk_46 (dk_at dksL_law_34 0 rfl rfl)
theorem dL_law_894 : decode cL_law 894 = .ok (.aload_n 3, 1) := dk_45 (dk_at dksL_law_34 1 rfl rfl)
theorem dL_law_895 : decode cL_law 895 = .ok (.invokestatic 134, 3) := dk_184 0 134 (dk_at dksL_law_34 2 rfl rfl)
theorem dL_law_898 : decode cL_law 898 = .ok (.istore 5, 2) := dk_54 5 (dk_at dksL_law_34 5 rfl rfl)
theorem dL_law_900 : decode cL_law 900 = .ok (.aload_n 2, 1) := dk_44 (dk_at dksL_law_34 7 rfl rfl)
theorem dL_law_901 : decode cL_law 901 = .ok (.aload_n 0, 1) := dk_42 (dk_at dksL_law_34 8 rfl rfl)
theorem dL_law_902 : decode cL_law 902 = .ok (.iload 4, 2) := dk_21 4 (dk_at dksL_law_34 9 rfl rfl)
theorem dL_law_904 : decode cL_law 904 = .ok (.iconst 1, 1) := dk_4 (dk_at dksL_law_34 11 rfl rfl)
theorem dL_law_905 : decode cL_law 905 = .ok (.iadd, 1) := dk_96 (dk_at dksL_law_34 12 rfl rfl)
theorem dL_law_906 : decode cL_law 906 = .ok (.iaload, 1) := dk_46 (dk_at dksL_law_34 13 rfl rfl)
theorem dL_law_907 : decode cL_law 907 = .ok (.invokevirtual 136, 3) := dk_182 0 136 (dk_at dksL_law_34 14 rfl rfl)
theorem dL_law_910 : decode cL_law 910 = .ok (.istore 6, 2) := dk_54 6 (dk_at dksL_law_34 17 rfl rfl)
theorem dL_law_912 : decode cL_law 912 = .ok (.aload_n 2, 1) := dk_44 (dk_at dksL_law_34 19 rfl rfl)
theorem dL_law_913 : decode cL_law 913 = .ok (.invokevirtual 95, 3) := dk_182 0 95 (dk_at dksL_law_34 20 rfl rfl)
theorem dL_law_916 : decode cL_law 916 = .ok (.iload 5, 2) := dk_21 5 (dk_at dksL_law_35 0 rfl rfl)
theorem dL_law_918 : decode cL_law 918 = .ok (.if_icmp .eq 5, 3) := dk_159 0 5 (dk_at dksL_law_35 2 rfl rfl)
theorem dL_law_921 : decode cL_law 921 = .ok (.iconst 0, 1) := dk_3 (dk_at dksL_law_35 5 rfl rfl)
theorem dL_law_922 : decode cL_law 922 = .ok (.ireturn, 1) := dk_172 (dk_at dksL_law_35 6 rfl rfl)
theorem dL_law_923 : decode cL_law 923 = .ok (.iload 5, 2) := dk_21 5 (dk_at dksL_law_35 7 rfl rfl)
theorem dL_law_925 : decode cL_law 925 = .ok (.ifCond .ne 15, 3) := dk_154 0 15 (dk_at dksL_law_35 9 rfl rfl)
theorem dL_law_928 : decode cL_law 928 = .ok (.aload_n 3, 1) := dk_45 (dk_at dksL_law_35 12 rfl rfl)
theorem dL_law_929 : decode cL_law 929 = .ok (.iconst 0, 1) := dk_3 (dk_at dksL_law_35 13 rfl rfl)
theorem dL_law_930 : decode cL_law 930 = .ok (.laload, 1) := dk_47 (dk_at dksL_law_35 14 rfl rfl)
theorem dL_law_931 : decode cL_law 931 = .ok (.iload 6, 2) := dk_21 6 (dk_at dksL_law_35 15 rfl rfl)
theorem dL_law_933 : decode cL_law 933 = .ok (.i2l, 1) := dk_133 (dk_at dksL_law_35 17 rfl rfl)
theorem dL_law_934 : decode cL_law 934 = .ok (.lcmp, 1) := dk_148 (dk_at dksL_law_35 18 rfl rfl)
theorem dL_law_935 : decode cL_law 935 = .ok (.ifCond .eq 5, 3) := dk_153 0 5 (dk_at dksL_law_35 19 rfl rfl)
theorem dL_law_938 : decode cL_law 938 = .ok (.iconst 0, 1) := dk_3 (dk_at dksL_law_35 22 rfl rfl)
theorem dL_law_939 : decode cL_law 939 = .ok (.ireturn, 1) := dk_172 (dk_at dksL_law_35 23 rfl rfl)
theorem dL_law_940 : decode cL_law 940 = .ok (.goto 850, 3) := dk_167 3 82 (dk_at dksL_law_36 0 rfl rfl)
theorem dL_law_943 : decode cL_law 943 = .ok (.aload_n 1, 1) := dk_43 (dk_at dksL_law_36 3 rfl rfl)
theorem dL_law_944 : decode cL_law 944 = .ok (.aload_n 0, 1) := dk_42 (dk_at dksL_law_36 4 rfl rfl)
theorem dL_law_945 : decode cL_law 945 = .ok (.iload 4, 2) := dk_21 4 (dk_at dksL_law_36 5 rfl rfl)
theorem dL_law_947 : decode cL_law 947 = .ok (.iconst 1, 1) := dk_4 (dk_at dksL_law_36 7 rfl rfl)
theorem dL_law_948 : decode cL_law 948 = .ok (.iadd, 1) := dk_96 (dk_at dksL_law_36 8 rfl rfl)
theorem dL_law_949 : decode cL_law 949 = .ok (.iaload, 1) := dk_46 (dk_at dksL_law_36 9 rfl rfl)
theorem dL_law_950 : decode cL_law 950 = .ok (.aload_n 0, 1) := dk_42 (dk_at dksL_law_36 10 rfl rfl)
theorem dL_law_951 : decode cL_law 951 = .ok (.iload 4, 2) := dk_21 4 (dk_at dksL_law_36 11 rfl rfl)
theorem dL_law_953 : decode cL_law 953 = .ok (.iconst 2, 1) := dk_5 (dk_at dksL_law_36 13 rfl rfl)
theorem dL_law_954 : decode cL_law 954 = .ok (.iadd, 1) := dk_96 (dk_at dksL_law_36 14 rfl rfl)
theorem dL_law_955 : decode cL_law 955 = .ok (.iaload, 1) := dk_46 (dk_at dksL_law_36 15 rfl rfl)
theorem dL_law_956 : decode cL_law 956 = .ok (.aload_n 3, 1) := dk_45 (dk_at dksL_law_36 16 rfl rfl)
theorem dL_law_957 : decode cL_law 957 = .ok (.invokestatic 137, 3) := dk_184 0 137 (dk_at dksL_law_36 17 rfl rfl)
theorem dL_law_960 : decode cL_law 960 = .ok (.istore 5, 2) := dk_54 5 (dk_at dksL_law_36 20 rfl rfl)
theorem dL_law_962 : decode cL_law 962 = .ok (.aload_n 2, 1) := dk_44 (dk_at dksL_law_36 22 rfl rfl)
theorem dL_law_963 : decode cL_law 963 = .ok (.aload_n 0, 1) := dk_42 (dk_at dksL_law_36 23 rfl rfl)
theorem dL_law_964 : decode cL_law 964 = .ok (.iload 4, 2) := dk_21 4 (dk_at dksL_law_37 0 rfl rfl)
theorem dL_law_966 : decode cL_law 966 = .ok (.iconst 1, 1) := dk_4 (dk_at dksL_law_37 2 rfl rfl)
theorem dL_law_967 : decode cL_law 967 = .ok (.iadd, 1) := dk_96 (dk_at dksL_law_37 3 rfl rfl)
theorem dL_law_968 : decode cL_law 968 = .ok (.iaload, 1) := dk_46 (dk_at dksL_law_37 4 rfl rfl)
theorem dL_law_969 : decode cL_law 969 = .ok (.aload_n 0, 1) := dk_42 (dk_at dksL_law_37 5 rfl rfl)
theorem dL_law_970 : decode cL_law 970 = .ok (.iload 4, 2) := dk_21 4 (dk_at dksL_law_37 6 rfl rfl)
theorem dL_law_972 : decode cL_law 972 = .ok (.iconst 2, 1) := dk_5 (dk_at dksL_law_37 8 rfl rfl)
theorem dL_law_973 : decode cL_law 973 = .ok (.iadd, 1) := dk_96 (dk_at dksL_law_37 9 rfl rfl)
theorem dL_law_974 : decode cL_law 974 = .ok (.iaload, 1) := dk_46 (dk_at dksL_law_37 10 rfl rfl)
theorem dL_law_975 : decode cL_law 975 = .ok (.invokevirtual 139, 3) := dk_182 0 139 (dk_at dksL_law_37 11 rfl rfl)
theorem dL_law_978 : decode cL_law 978 = .ok (.istore 6, 2) := dk_54 6 (dk_at dksL_law_37 14 rfl rfl)
theorem dL_law_980 : decode cL_law 980 = .ok (.aload_n 2, 1) := dk_44 (dk_at dksL_law_37 16 rfl rfl)
theorem dL_law_981 : decode cL_law 981 = .ok (.invokevirtual 95, 3) := dk_182 0 95 (dk_at dksL_law_37 17 rfl rfl)
theorem dL_law_984 : decode cL_law 984 = .ok (.iload 5, 2) := dk_21 5 (dk_at dksL_law_37 20 rfl rfl)
theorem dL_law_986 : decode cL_law 986 = .ok (.if_icmp .eq 5, 3) := dk_159 0 5 (dk_at dksL_law_38 0 rfl rfl)
theorem dL_law_989 : decode cL_law 989 = .ok (.iconst 0, 1) := dk_3 (dk_at dksL_law_38 3 rfl rfl)
theorem dL_law_990 : decode cL_law 990 = .ok (.ireturn, 1) := dk_172 (dk_at dksL_law_38 4 rfl rfl)
theorem dL_law_991 : decode cL_law 991 = .ok (.iload 5, 2) := dk_21 5 (dk_at dksL_law_38 5 rfl rfl)
theorem dL_law_993 : decode cL_law 993 = .ok (.ifCond .ne 15, 3) := dk_154 0 15 (dk_at dksL_law_38 7 rfl rfl)
theorem dL_law_996 : decode cL_law 996 = .ok (.aload_n 3, 1) := dk_45 (dk_at dksL_law_38 10 rfl rfl)
theorem dL_law_997 : decode cL_law 997 = .ok (.iconst 0, 1) := dk_3 (dk_at dksL_law_38 11 rfl rfl)
theorem dL_law_998 : decode cL_law 998 = .ok (.laload, 1) := dk_47 (dk_at dksL_law_38 12 rfl rfl)
theorem dL_law_999 : decode cL_law 999 = .ok (.iload 6, 2) := dk_21 6 (dk_at dksL_law_38 13 rfl rfl)
theorem dL_law_1001 : decode cL_law 1001 = .ok (.i2l, 1) := dk_133 (dk_at dksL_law_38 15 rfl rfl)
theorem dL_law_1002 : decode cL_law 1002 = .ok (.lcmp, 1) := dk_148 (dk_at dksL_law_38 16 rfl rfl)
theorem dL_law_1003 : decode cL_law 1003 = .ok (.ifCond .eq 5, 3) := dk_153 0 5 (dk_at dksL_law_38 17 rfl rfl)
theorem dL_law_1006 : decode cL_law 1006 = .ok (.iconst 0, 1) := dk_3 (dk_at dksL_law_38 20 rfl rfl)
theorem dL_law_1007 : decode cL_law 1007 = .ok (.ireturn, 1) := dk_172 (dk_at dksL_law_38 21 rfl rfl)
theorem dL_law_1008 : decode cL_law 1008 = .ok (.goto 782, 3) := dk_167 3 14 (dk_at dksL_law_39 0 rfl rfl)
theorem dL_law_1011 : decode cL_law 1011 = .ok (.aload_n 1, 1) := dk_43 (dk_at dksL_law_39 3 rfl rfl)
theorem dL_law_1012 : decode cL_law 1012 = .ok (.aload_n 0, 1) := dk_42 (dk_at dksL_law_39 4 rfl rfl)
theorem dL_law_1013 : decode cL_law 1013 = .ok (.iload 4, 2) := dk_21 4 (dk_at dksL_law_39 5 rfl rfl)
theorem dL_law_1015 : decode cL_law 1015 = .ok (.iconst 1, 1) := dk_4 (dk_at dksL_law_39 7 rfl rfl)
theorem dL_law_1016 : decode cL_law 1016 = .ok (.iadd, 1) := dk_96 (dk_at dksL_law_39 8 rfl rfl)
theorem dL_law_1017 : decode cL_law 1017 = .ok (.iaload, 1) := dk_46 (dk_at dksL_law_39 9 rfl rfl)
theorem dL_law_1018 : decode cL_law 1018 = .ok (.aload_n 3, 1) := dk_45 (dk_at dksL_law_39 10 rfl rfl)
theorem dL_law_1019 : decode cL_law 1019 = .ok (.invokestatic 140, 3) := dk_184 0 140 (dk_at dksL_law_39 11 rfl rfl)
theorem dL_law_1022 : decode cL_law 1022 = .ok (.istore 5, 2) := dk_54 5 (dk_at dksL_law_39 14 rfl rfl)
theorem dL_law_1024 : decode cL_law 1024 = .ok (.aload_n 2, 1) := dk_44 (dk_at dksL_law_39 16 rfl rfl)
theorem dL_law_1025 : decode cL_law 1025 = .ok (.aload_n 0, 1) := dk_42 (dk_at dksL_law_39 17 rfl rfl)
theorem dL_law_1026 : decode cL_law 1026 = .ok (.iload 4, 2) := dk_21 4 (dk_at dksL_law_39 18 rfl rfl)
theorem dL_law_1028 : decode cL_law 1028 = .ok (.iconst 1, 1) := dk_4 (dk_at dksL_law_39 20 rfl rfl)
theorem dL_law_1029 : decode cL_law 1029 = .ok (.iadd, 1) := dk_96 (dk_at dksL_law_39 21 rfl rfl)
theorem dL_law_1030 : decode cL_law 1030 = .ok (.iaload, 1) := dk_46 (dk_at dksL_law_39 22 rfl rfl)
theorem dL_law_1031 : decode cL_law 1031 = .ok (.invokevirtual 142, 3) := dk_182 0 142 (dk_at dksL_law_40 0 rfl rfl)
theorem dL_law_1034 : decode cL_law 1034 = .ok (.istore 6, 2) := dk_54 6 (dk_at dksL_law_40 3 rfl rfl)
theorem dL_law_1036 : decode cL_law 1036 = .ok (.aload_n 2, 1) := dk_44 (dk_at dksL_law_40 5 rfl rfl)
theorem dL_law_1037 : decode cL_law 1037 = .ok (.invokevirtual 95, 3) := dk_182 0 95 (dk_at dksL_law_40 6 rfl rfl)
theorem dL_law_1040 : decode cL_law 1040 = .ok (.iload 5, 2) := dk_21 5 (dk_at dksL_law_40 9 rfl rfl)
theorem dL_law_1042 : decode cL_law 1042 = .ok (.if_icmp .eq 5, 3) := dk_159 0 5 (dk_at dksL_law_40 11 rfl rfl)
theorem dL_law_1045 : decode cL_law 1045 = .ok (.iconst 0, 1) := dk_3 (dk_at dksL_law_40 14 rfl rfl)
theorem dL_law_1046 : decode cL_law 1046 = .ok (.ireturn, 1) := dk_172 (dk_at dksL_law_40 15 rfl rfl)
theorem dL_law_1047 : decode cL_law 1047 = .ok (.iload 5, 2) := dk_21 5 (dk_at dksL_law_40 16 rfl rfl)
theorem dL_law_1049 : decode cL_law 1049 = .ok (.ifCond .ne 15, 3) := dk_154 0 15 (dk_at dksL_law_40 18 rfl rfl)
theorem dL_law_1052 : decode cL_law 1052 = .ok (.aload_n 3, 1) := dk_45 (dk_at dksL_law_40 21 rfl rfl)
theorem dL_law_1053 : decode cL_law 1053 = .ok (.iconst 0, 1) := dk_3 (dk_at dksL_law_40 22 rfl rfl)
theorem dL_law_1054 : decode cL_law 1054 = .ok (.laload, 1) := dk_47 (dk_at dksL_law_40 23 rfl rfl)
theorem dL_law_1055 : decode cL_law 1055 = .ok (.iload 6, 2) := dk_21 6 (dk_at dksL_law_41 0 rfl rfl)
theorem dL_law_1057 : decode cL_law 1057 = .ok (.i2l, 1) := dk_133 (dk_at dksL_law_41 2 rfl rfl)
theorem dL_law_1058 : decode cL_law 1058 = .ok (.lcmp, 1) := dk_148 (dk_at dksL_law_41 3 rfl rfl)
theorem dL_law_1059 : decode cL_law 1059 = .ok (.ifCond .eq 5, 3) := dk_153 0 5 (dk_at dksL_law_41 4 rfl rfl)
theorem dL_law_1062 : decode cL_law 1062 = .ok (.iconst 0, 1) := dk_3 (dk_at dksL_law_41 7 rfl rfl)
theorem dL_law_1063 : decode cL_law 1063 = .ok (.ireturn, 1) := dk_172 (dk_at dksL_law_41 8 rfl rfl)
theorem dL_law_1064 : decode cL_law 1064 = .ok (.goto 726, 3) := dk_167 2 214 (dk_at dksL_law_41 9 rfl rfl)
theorem dL_law_1067 : decode cL_law 1067 = .ok (.aload_n 1, 1) := dk_43 (dk_at dksL_law_41 12 rfl rfl)
theorem dL_law_1068 : decode cL_law 1068 = .ok (.aload_n 0, 1) := dk_42 (dk_at dksL_law_41 13 rfl rfl)
theorem dL_law_1069 : decode cL_law 1069 = .ok (.iload 4, 2) := dk_21 4 (dk_at dksL_law_41 14 rfl rfl)
theorem dL_law_1071 : decode cL_law 1071 = .ok (.iconst 1, 1) := dk_4 (dk_at dksL_law_41 16 rfl rfl)
theorem dL_law_1072 : decode cL_law 1072 = .ok (.iadd, 1) := dk_96 (dk_at dksL_law_41 17 rfl rfl)
theorem dL_law_1073 : decode cL_law 1073 = .ok (.iaload, 1) := dk_46 (dk_at dksL_law_41 18 rfl rfl)
theorem dL_law_1074 : decode cL_law 1074 = .ok (.ifCond .eq 7, 3) := dk_153 0 7 (dk_at dksL_law_41 19 rfl rfl)
theorem dL_law_1077 : decode cL_law 1077 = .ok (.iconst 1, 1) := dk_4 (dk_at dksL_law_41 22 rfl rfl)
theorem dL_law_1078 : decode cL_law 1078 = .ok (.goto 4, 3) := dk_167 0 4 (dk_at dksL_law_42 0 rfl rfl)
theorem dL_law_1081 : decode cL_law 1081 = .ok (.iconst 0, 1) := dk_3 (dk_at dksL_law_42 3 rfl rfl)
theorem dL_law_1082 : decode cL_law 1082 = .ok (.invokevirtual 143, 3) := dk_182 0 143 (dk_at dksL_law_42 4 rfl rfl)
theorem dL_law_1085 : decode cL_law 1085 = .ok (.aload_n 2, 1) := dk_44 (dk_at dksL_law_42 7 rfl rfl)
theorem dL_law_1086 : decode cL_law 1086 = .ok (.aload_n 0, 1) := dk_42 (dk_at dksL_law_42 8 rfl rfl)
theorem dL_law_1087 : decode cL_law 1087 = .ok (.iload 4, 2) := dk_21 4 (dk_at dksL_law_42 9 rfl rfl)
theorem dL_law_1089 : decode cL_law 1089 = .ok (.iconst 1, 1) := dk_4 (dk_at dksL_law_42 11 rfl rfl)
theorem dL_law_1090 : decode cL_law 1090 = .ok (.iadd, 1) := dk_96 (dk_at dksL_law_42 12 rfl rfl)
theorem dL_law_1091 : decode cL_law 1091 = .ok (.iaload, 1) := dk_46 (dk_at dksL_law_42 13 rfl rfl)
theorem dL_law_1092 : decode cL_law 1092 = .ok (.ifCond .eq 7, 3) := dk_153 0 7 (dk_at dksL_law_42 14 rfl rfl)
theorem dL_law_1095 : decode cL_law 1095 = .ok (.iconst 1, 1) := dk_4 (dk_at dksL_law_42 17 rfl rfl)
theorem dL_law_1096 : decode cL_law 1096 = .ok (.goto 4, 3) := dk_167 0 4 (dk_at dksL_law_42 18 rfl rfl)
theorem dL_law_1099 : decode cL_law 1099 = .ok (.iconst 0, 1) := dk_3 (dk_at dksL_law_42 21 rfl rfl)
theorem dL_law_1100 : decode cL_law 1100 = .ok (.invokevirtual 147, 3) := dk_182 0 147 (dk_at dksL_law_43 0 rfl rfl)
theorem dL_law_1103 : decode cL_law 1103 = .ok (.if_icmp .eq 687, 3) := dk_159 2 175 (dk_at dksL_law_43 3 rfl rfl)
theorem dL_law_1106 : decode cL_law 1106 = .ok (.iconst 0, 1) := dk_3 (dk_at dksL_law_43 6 rfl rfl)
theorem dL_law_1107 : decode cL_law 1107 = .ok (.ireturn, 1) := dk_172 (dk_at dksL_law_43 7 rfl rfl)
theorem dL_law_1108 : decode cL_law 1108 = .ok (.aload_n 1, 1) := dk_43 (dk_at dksL_law_43 8 rfl rfl)
theorem dL_law_1109 : decode cL_law 1109 = .ok (.aload_n 0, 1) := dk_42 (dk_at dksL_law_43 9 rfl rfl)
theorem dL_law_1110 : decode cL_law 1110 = .ok (.iload 4, 2) := dk_21 4 (dk_at dksL_law_43 10 rfl rfl)
theorem dL_law_1112 : decode cL_law 1112 = .ok (.iconst 1, 1) := dk_4 (dk_at dksL_law_43 12 rfl rfl)
theorem dL_law_1113 : decode cL_law 1113 = .ok (.iadd, 1) := dk_96 (dk_at dksL_law_43 13 rfl rfl)
theorem dL_law_1114 : decode cL_law 1114 = .ok (.iaload, 1) := dk_46 (dk_at dksL_law_43 14 rfl rfl)
theorem dL_law_1115 : decode cL_law 1115 = .ok (.aload_n 0, 1) := dk_42 (dk_at dksL_law_43 15 rfl rfl)
theorem dL_law_1116 : decode cL_law 1116 = .ok (.iload 4, 2) := dk_21 4 (dk_at dksL_law_43 16 rfl rfl)
theorem dL_law_1118 : decode cL_law 1118 = .ok (.iconst 2, 1) := dk_5 (dk_at dksL_law_43 18 rfl rfl)
theorem dL_law_1119 : decode cL_law 1119 = .ok (.iadd, 1) := dk_96 (dk_at dksL_law_43 19 rfl rfl)
theorem dL_law_1120 : decode cL_law 1120 = .ok (.iaload, 1) := dk_46 (dk_at dksL_law_43 20 rfl rfl)
theorem dL_law_1121 : decode cL_law 1121 = .ok (.aload_n 3, 1) := dk_45 (dk_at dksL_law_43 21 rfl rfl)
theorem dL_law_1122 : decode cL_law 1122 = .ok (.invokestatic 148, 3) := dk_184 0 148 (dk_at dksL_law_44 0 rfl rfl)
theorem dL_law_1125 : decode cL_law 1125 = .ok (.istore 5, 2) := dk_54 5 (dk_at dksL_law_44 3 rfl rfl)
theorem dL_law_1127 : decode cL_law 1127 = .ok (.aload_n 2, 1) := dk_44 (dk_at dksL_law_44 5 rfl rfl)
theorem dL_law_1128 : decode cL_law 1128 = .ok (.aload_n 0, 1) := dk_42 (dk_at dksL_law_44 6 rfl rfl)
theorem dL_law_1129 : decode cL_law 1129 = .ok (.iload 4, 2) := dk_21 4 (dk_at dksL_law_44 7 rfl rfl)
theorem dL_law_1131 : decode cL_law 1131 = .ok (.iconst 1, 1) := dk_4 (dk_at dksL_law_44 9 rfl rfl)
theorem dL_law_1132 : decode cL_law 1132 = .ok (.iadd, 1) := dk_96 (dk_at dksL_law_44 10 rfl rfl)
theorem dL_law_1133 : decode cL_law 1133 = .ok (.iaload, 1) := dk_46 (dk_at dksL_law_44 11 rfl rfl)
theorem dL_law_1134 : decode cL_law 1134 = .ok (.aload_n 0, 1) := dk_42 (dk_at dksL_law_44 12 rfl rfl)
theorem dL_law_1135 : decode cL_law 1135 = .ok (.iload 4, 2) := dk_21 4 (dk_at dksL_law_44 13 rfl rfl)
theorem dL_law_1137 : decode cL_law 1137 = .ok (.iconst 2, 1) := dk_5 (dk_at dksL_law_44 15 rfl rfl)
theorem dL_law_1138 : decode cL_law 1138 = .ok (.iadd, 1) := dk_96 (dk_at dksL_law_44 16 rfl rfl)
theorem dL_law_1139 : decode cL_law 1139 = .ok (.iaload, 1) := dk_46 (dk_at dksL_law_44 17 rfl rfl)
theorem dL_law_1140 : decode cL_law 1140 = .ok (.invokevirtual 150, 3) := dk_182 0 150 (dk_at dksL_law_44 18 rfl rfl)
theorem dL_law_1143 : decode cL_law 1143 = .ok (.istore 6, 2) := dk_54 6 (dk_at dksL_law_44 21 rfl rfl)
theorem dL_law_1145 : decode cL_law 1145 = .ok (.aload_n 2, 1) := dk_44 (dk_at dksL_law_44 23 rfl rfl)
theorem dL_law_1146 : decode cL_law 1146 = .ok (.invokevirtual 95, 3) := dk_182 0 95 (dk_at dksL_law_45 0 rfl rfl)
theorem dL_law_1149 : decode cL_law 1149 = .ok (.iload 5, 2) := dk_21 5 (dk_at dksL_law_45 3 rfl rfl)
theorem dL_law_1151 : decode cL_law 1151 = .ok (.if_icmp .eq 5, 3) := dk_159 0 5 (dk_at dksL_law_45 5 rfl rfl)
theorem dL_law_1154 : decode cL_law 1154 = .ok (.iconst 0, 1) := dk_3 (dk_at dksL_law_45 8 rfl rfl)
theorem dL_law_1155 : decode cL_law 1155 = .ok (.ireturn, 1) := dk_172 (dk_at dksL_law_45 9 rfl rfl)
theorem dL_law_1156 : decode cL_law 1156 = .ok (.iload 5, 2) := dk_21 5 (dk_at dksL_law_45 10 rfl rfl)
theorem dL_law_1158 : decode cL_law 1158 = .ok (.ifCond .ne 15, 3) := dk_154 0 15 (dk_at dksL_law_45 12 rfl rfl)
theorem dL_law_1161 : decode cL_law 1161 = .ok (.aload_n 3, 1) := dk_45 (dk_at dksL_law_45 15 rfl rfl)
theorem dL_law_1162 : decode cL_law 1162 = .ok (.iconst 0, 1) := dk_3 (dk_at dksL_law_45 16 rfl rfl)
theorem dL_law_1163 : decode cL_law 1163 = .ok (.laload, 1) := dk_47 (dk_at dksL_law_45 17 rfl rfl)
theorem dL_law_1164 : decode cL_law 1164 = .ok (.iload 6, 2) := dk_21 6 (dk_at dksL_law_45 18 rfl rfl)
theorem dL_law_1166 : decode cL_law 1166 = .ok (.i2l, 1) := dk_133 (dk_at dksL_law_45 20 rfl rfl)
theorem dL_law_1167 : decode cL_law 1167 = .ok (.lcmp, 1) := dk_148 (dk_at dksL_law_45 21 rfl rfl)
theorem dL_law_1168 : decode cL_law 1168 = .ok (.ifCond .eq 5, 3) := dk_153 0 5 (dk_at dksL_law_46 0 rfl rfl)
theorem dL_law_1171 : decode cL_law 1171 = .ok (.iconst 0, 1) := dk_3 (dk_at dksL_law_46 3 rfl rfl)
theorem dL_law_1172 : decode cL_law 1172 = .ok (.ireturn, 1) := dk_172 (dk_at dksL_law_46 4 rfl rfl)
theorem dL_law_1173 : decode cL_law 1173 = .ok (.goto 617, 3) := dk_167 2 105 (dk_at dksL_law_46 5 rfl rfl)
theorem dL_law_1176 : decode cL_law 1176 = .ok (.aload_n 1, 1) := dk_43 (dk_at dksL_law_46 8 rfl rfl)
theorem dL_law_1177 : decode cL_law 1177 = .ok (.aload_n 0, 1) := dk_42 (dk_at dksL_law_46 9 rfl rfl)
theorem dL_law_1178 : decode cL_law 1178 = .ok (.iload 4, 2) := dk_21 4 (dk_at dksL_law_46 10 rfl rfl)
theorem dL_law_1180 : decode cL_law 1180 = .ok (.iconst 1, 1) := dk_4 (dk_at dksL_law_46 12 rfl rfl)
theorem dL_law_1181 : decode cL_law 1181 = .ok (.iadd, 1) := dk_96 (dk_at dksL_law_46 13 rfl rfl)
theorem dL_law_1182 : decode cL_law 1182 = .ok (.iaload, 1) := dk_46 (dk_at dksL_law_46 14 rfl rfl)
theorem dL_law_1183 : decode cL_law 1183 = .ok (.aload_n 3, 1) := dk_45 (dk_at dksL_law_46 15 rfl rfl)
theorem dL_law_1184 : decode cL_law 1184 = .ok (.invokestatic 151, 3) := dk_184 0 151 (dk_at dksL_law_46 16 rfl rfl)
theorem dL_law_1187 : decode cL_law 1187 = .ok (.istore 5, 2) := dk_54 5 (dk_at dksL_law_46 19 rfl rfl)
theorem dL_law_1189 : decode cL_law 1189 = .ok (.aload_n 2, 1) := dk_44 (dk_at dksL_law_46 21 rfl rfl)
theorem dL_law_1190 : decode cL_law 1190 = .ok (.aload_n 0, 1) := dk_42 (dk_at dksL_law_46 22 rfl rfl)
theorem dL_law_1191 : decode cL_law 1191 = .ok (.iload 4, 2) := dk_21 4 (dk_at dksL_law_47 0 rfl rfl)
theorem dL_law_1193 : decode cL_law 1193 = .ok (.iconst 1, 1) := dk_4 (dk_at dksL_law_47 2 rfl rfl)
theorem dL_law_1194 : decode cL_law 1194 = .ok (.iadd, 1) := dk_96 (dk_at dksL_law_47 3 rfl rfl)
theorem dL_law_1195 : decode cL_law 1195 = .ok (.iaload, 1) := dk_46 (dk_at dksL_law_47 4 rfl rfl)
theorem dL_law_1196 : decode cL_law 1196 = .ok (.invokevirtual 153, 3) := dk_182 0 153 (dk_at dksL_law_47 5 rfl rfl)
theorem dL_law_1199 : decode cL_law 1199 = .ok (.istore 6, 2) := dk_54 6 (dk_at dksL_law_47 8 rfl rfl)
theorem dL_law_1201 : decode cL_law 1201 = .ok (.aload_n 2, 1) := dk_44 (dk_at dksL_law_47 10 rfl rfl)
theorem dL_law_1202 : decode cL_law 1202 = .ok (.invokevirtual 95, 3) := dk_182 0 95 (dk_at dksL_law_47 11 rfl rfl)
theorem dL_law_1205 : decode cL_law 1205 = .ok (.iload 5, 2) := dk_21 5 (dk_at dksL_law_47 14 rfl rfl)
theorem dL_law_1207 : decode cL_law 1207 = .ok (.if_icmp .eq 5, 3) := dk_159 0 5 (dk_at dksL_law_47 16 rfl rfl)
theorem dL_law_1210 : decode cL_law 1210 = .ok (.iconst 0, 1) := dk_3 (dk_at dksL_law_47 19 rfl rfl)
theorem dL_law_1211 : decode cL_law 1211 = .ok (.ireturn, 1) := dk_172 (dk_at dksL_law_47 20 rfl rfl)
theorem dL_law_1212 : decode cL_law 1212 = .ok (.iload 5, 2) := dk_21 5 (dk_at dksL_law_47 21 rfl rfl)
theorem dL_law_1214 : decode cL_law 1214 = .ok (.ifCond .ne 15, 3) := dk_154 0 15 (dk_at dksL_law_48 0 rfl rfl)
theorem dL_law_1217 : decode cL_law 1217 = .ok (.aload_n 3, 1) := dk_45 (dk_at dksL_law_48 3 rfl rfl)
theorem dL_law_1218 : decode cL_law 1218 = .ok (.iconst 0, 1) := dk_3 (dk_at dksL_law_48 4 rfl rfl)
theorem dL_law_1219 : decode cL_law 1219 = .ok (.laload, 1) := dk_47 (dk_at dksL_law_48 5 rfl rfl)
theorem dL_law_1220 : decode cL_law 1220 = .ok (.iload 6, 2) := dk_21 6 (dk_at dksL_law_48 6 rfl rfl)
theorem dL_law_1222 : decode cL_law 1222 = .ok (.i2l, 1) := dk_133 (dk_at dksL_law_48 8 rfl rfl)
theorem dL_law_1223 : decode cL_law 1223 = .ok (.lcmp, 1) := dk_148 (dk_at dksL_law_48 9 rfl rfl)
theorem dL_law_1224 : decode cL_law 1224 = .ok (.ifCond .eq 5, 3) := dk_153 0 5 (dk_at dksL_law_48 10 rfl rfl)
theorem dL_law_1227 : decode cL_law 1227 = .ok (.iconst 0, 1) := dk_3 (dk_at dksL_law_48 13 rfl rfl)
theorem dL_law_1228 : decode cL_law 1228 = .ok (.ireturn, 1) := dk_172 (dk_at dksL_law_48 14 rfl rfl)
theorem dL_law_1229 : decode cL_law 1229 = .ok (.goto 561, 3) := dk_167 2 49 (dk_at dksL_law_48 15 rfl rfl)
theorem dL_law_1232 : decode cL_law 1232 = .ok (.aload_n 1, 1) := dk_43 (dk_at dksL_law_48 18 rfl rfl)
theorem dL_law_1233 : decode cL_law 1233 = .ok (.aload_n 0, 1) := dk_42 (dk_at dksL_law_48 19 rfl rfl)
theorem dL_law_1234 : decode cL_law 1234 = .ok (.iload 4, 2) := dk_21 4 (dk_at dksL_law_48 20 rfl rfl)
theorem dL_law_1236 : decode cL_law 1236 = .ok (.iconst 1, 1) := dk_4 (dk_at dksL_law_48 22 rfl rfl)
theorem dL_law_1237 : decode cL_law 1237 = .ok (.iadd, 1) := dk_96 (dk_at dksL_law_48 23 rfl rfl)
theorem dL_law_1238 : decode cL_law 1238 = .ok (.iaload, 1) := dk_46 (dk_at dksL_law_49 0 rfl rfl)
theorem dL_law_1239 : decode cL_law 1239 = .ok (.aload_n 3, 1) := dk_45 (dk_at dksL_law_49 1 rfl rfl)
theorem dL_law_1240 : decode cL_law 1240 = .ok (.invokestatic 154, 3) := dk_184 0 154 (dk_at dksL_law_49 2 rfl rfl)
theorem dL_law_1243 : decode cL_law 1243 = .ok (.istore 5, 2) := dk_54 5 (dk_at dksL_law_49 5 rfl rfl)
theorem dL_law_1245 : decode cL_law 1245 = .ok (.aload_n 2, 1) := dk_44 (dk_at dksL_law_49 7 rfl rfl)
theorem dL_law_1246 : decode cL_law 1246 = .ok (.aload_n 0, 1) := dk_42 (dk_at dksL_law_49 8 rfl rfl)
theorem dL_law_1247 : decode cL_law 1247 = .ok (.iload 4, 2) := dk_21 4 (dk_at dksL_law_49 9 rfl rfl)
theorem dL_law_1249 : decode cL_law 1249 = .ok (.iconst 1, 1) := dk_4 (dk_at dksL_law_49 11 rfl rfl)
theorem dL_law_1250 : decode cL_law 1250 = .ok (.iadd, 1) := dk_96 (dk_at dksL_law_49 12 rfl rfl)
theorem dL_law_1251 : decode cL_law 1251 = .ok (.iaload, 1) := dk_46 (dk_at dksL_law_49 13 rfl rfl)
theorem dL_law_1252 : decode cL_law 1252 = .ok (.invokevirtual 156, 3) := dk_182 0 156 (dk_at dksL_law_49 14 rfl rfl)
theorem dL_law_1255 : decode cL_law 1255 = .ok (.istore 6, 2) := dk_54 6 (dk_at dksL_law_49 17 rfl rfl)
theorem dL_law_1257 : decode cL_law 1257 = .ok (.aload_n 2, 1) := dk_44 (dk_at dksL_law_49 19 rfl rfl)
theorem dL_law_1258 : decode cL_law 1258 = .ok (.invokevirtual 95, 3) := dk_182 0 95 (dk_at dksL_law_49 20 rfl rfl)
theorem dL_law_1261 : decode cL_law 1261 = .ok (.iload 5, 2) := dk_21 5 (dk_at dksL_law_50 0 rfl rfl)
theorem dL_law_1263 : decode cL_law 1263 = .ok (.if_icmp .eq 5, 3) := dk_159 0 5 (dk_at dksL_law_50 2 rfl rfl)
theorem dL_law_1266 : decode cL_law 1266 = .ok (.iconst 0, 1) := dk_3 (dk_at dksL_law_50 5 rfl rfl)
theorem dL_law_1267 : decode cL_law 1267 = .ok (.ireturn, 1) := dk_172 (dk_at dksL_law_50 6 rfl rfl)
theorem dL_law_1268 : decode cL_law 1268 = .ok (.iload 5, 2) := dk_21 5 (dk_at dksL_law_50 7 rfl rfl)
theorem dL_law_1270 : decode cL_law 1270 = .ok (.ifCond .ne 15, 3) := dk_154 0 15 (dk_at dksL_law_50 9 rfl rfl)
theorem dL_law_1273 : decode cL_law 1273 = .ok (.aload_n 3, 1) := dk_45 (dk_at dksL_law_50 12 rfl rfl)
theorem dL_law_1274 : decode cL_law 1274 = .ok (.iconst 0, 1) := dk_3 (dk_at dksL_law_50 13 rfl rfl)
theorem dL_law_1275 : decode cL_law 1275 = .ok (.laload, 1) := dk_47 (dk_at dksL_law_50 14 rfl rfl)
theorem dL_law_1276 : decode cL_law 1276 = .ok (.iload 6, 2) := dk_21 6 (dk_at dksL_law_50 15 rfl rfl)
theorem dL_law_1278 : decode cL_law 1278 = .ok (.i2l, 1) := dk_133 (dk_at dksL_law_50 17 rfl rfl)
theorem dL_law_1279 : decode cL_law 1279 = .ok (.lcmp, 1) := dk_148 (dk_at dksL_law_50 18 rfl rfl)
theorem dL_law_1280 : decode cL_law 1280 = .ok (.ifCond .eq 5, 3) := dk_153 0 5 (dk_at dksL_law_50 19 rfl rfl)
theorem dL_law_1283 : decode cL_law 1283 = .ok (.iconst 0, 1) := dk_3 (dk_at dksL_law_50 22 rfl rfl)
theorem dL_law_1284 : decode cL_law 1284 = .ok (.ireturn, 1) := dk_172 (dk_at dksL_law_50 23 rfl rfl)
theorem dL_law_1285 : decode cL_law 1285 = .ok (.goto 505, 3) := dk_167 1 249 (dk_at dksL_law_51 0 rfl rfl)
theorem dL_law_1288 : decode cL_law 1288 = .ok (.aload_n 1, 1) := dk_43 (dk_at dksL_law_51 3 rfl rfl)
theorem dL_law_1289 : decode cL_law 1289 = .ok (.invokevirtual 157, 3) := dk_182 0 157 (dk_at dksL_law_51 4 rfl rfl)
theorem dL_law_1292 : decode cL_law 1292 = .ok (.aload_n 2, 1) := dk_44 (dk_at dksL_law_51 7 rfl rfl)
theorem dL_law_1293 : decode cL_law 1293 = .ok (.invokevirtual 160, 3) := dk_182 0 160 (dk_at dksL_law_51 8 rfl rfl)
theorem dL_law_1296 : decode cL_law 1296 = .ok (.if_icmp .eq 494, 3) := dk_159 1 238 (dk_at dksL_law_51 11 rfl rfl)
theorem dL_law_1299 : decode cL_law 1299 = .ok (.iconst 0, 1) := dk_3 (dk_at dksL_law_51 14 rfl rfl)
theorem dL_law_1300 : decode cL_law 1300 = .ok (.ireturn, 1) := dk_172 (dk_at dksL_law_51 15 rfl rfl)
theorem dL_law_1301 : decode cL_law 1301 = .ok (.aload_n 1, 1) := dk_43 (dk_at dksL_law_51 16 rfl rfl)
theorem dL_law_1302 : decode cL_law 1302 = .ok (.invokevirtual 161, 3) := dk_182 0 161 (dk_at dksL_law_51 17 rfl rfl)
theorem dL_law_1305 : decode cL_law 1305 = .ok (.aload_n 2, 1) := dk_44 (dk_at dksL_law_51 20 rfl rfl)
theorem dL_law_1306 : decode cL_law 1306 = .ok (.invokevirtual 165, 3) := dk_182 0 165 (dk_at dksL_law_51 21 rfl rfl)
theorem dL_law_1309 : decode cL_law 1309 = .ok (.if_icmp .eq 481, 3) := dk_159 1 225 (dk_at dksL_law_52 0 rfl rfl)
theorem dL_law_1312 : decode cL_law 1312 = .ok (.iconst 0, 1) := dk_3 (dk_at dksL_law_52 3 rfl rfl)
theorem dL_law_1313 : decode cL_law 1313 = .ok (.ireturn, 1) := dk_172 (dk_at dksL_law_52 4 rfl rfl)
theorem dL_law_1314 : decode cL_law 1314 = .ok (.aload_n 1, 1) := dk_43 (dk_at dksL_law_52 5 rfl rfl)
theorem dL_law_1315 : decode cL_law 1315 = .ok (.invokevirtual 166, 3) := dk_182 0 166 (dk_at dksL_law_52 6 rfl rfl)
theorem dL_law_1318 : decode cL_law 1318 = .ok (.aload_n 2, 1) := dk_44 (dk_at dksL_law_52 9 rfl rfl)
theorem dL_law_1319 : decode cL_law 1319 = .ok (.invokevirtual 169, 3) := dk_182 0 169 (dk_at dksL_law_52 10 rfl rfl)
theorem dL_law_1322 : decode cL_law 1322 = .ok (.if_icmp .eq 468, 3) := dk_159 1 212 (dk_at dksL_law_52 13 rfl rfl)
theorem dL_law_1325 : decode cL_law 1325 = .ok (.iconst 0, 1) := dk_3 (dk_at dksL_law_52 16 rfl rfl)
theorem dL_law_1326 : decode cL_law 1326 = .ok (.ireturn, 1) := dk_172 (dk_at dksL_law_52 17 rfl rfl)
theorem dL_law_1327 : decode cL_law 1327 = .ok (.aload_n 1, 1) := dk_43 (dk_at dksL_law_52 18 rfl rfl)
theorem dL_law_1328 : decode cL_law 1328 = .ok (.aload_n 0, 1) := dk_42 (dk_at dksL_law_52 19 rfl rfl)
theorem dL_law_1329 : decode cL_law 1329 = .ok (.iload 4, 2) := dk_21 4 (dk_at dksL_law_52 20 rfl rfl)
theorem dL_law_1331 : decode cL_law 1331 = .ok (.iconst 1, 1) := dk_4 (dk_at dksL_law_52 22 rfl rfl)
theorem dL_law_1332 : decode cL_law 1332 = .ok (.iadd, 1) := dk_96 (dk_at dksL_law_52 23 rfl rfl)
theorem dL_law_1333 : decode cL_law 1333 = .ok (.iaload, 1) := dk_46 (dk_at dksL_law_53 0 rfl rfl)
theorem dL_law_1334 : decode cL_law 1334 = .ok (.aload_n 3, 1) := dk_45 (dk_at dksL_law_53 1 rfl rfl)
theorem dL_law_1335 : decode cL_law 1335 = .ok (.invokestatic 170, 3) := dk_184 0 170 (dk_at dksL_law_53 2 rfl rfl)
theorem dL_law_1338 : decode cL_law 1338 = .ok (.istore 5, 2) := dk_54 5 (dk_at dksL_law_53 5 rfl rfl)
theorem dL_law_1340 : decode cL_law 1340 = .ok (.aload_n 2, 1) := dk_44 (dk_at dksL_law_53 7 rfl rfl)
theorem dL_law_1341 : decode cL_law 1341 = .ok (.aload_n 0, 1) := dk_42 (dk_at dksL_law_53 8 rfl rfl)
theorem dL_law_1342 : decode cL_law 1342 = .ok (.iload 4, 2) := dk_21 4 (dk_at dksL_law_53 9 rfl rfl)
theorem dL_law_1344 : decode cL_law 1344 = .ok (.iconst 1, 1) := dk_4 (dk_at dksL_law_53 11 rfl rfl)
theorem dL_law_1345 : decode cL_law 1345 = .ok (.iadd, 1) := dk_96 (dk_at dksL_law_53 12 rfl rfl)
theorem dL_law_1346 : decode cL_law 1346 = .ok (.iaload, 1) := dk_46 (dk_at dksL_law_53 13 rfl rfl)
theorem dL_law_1347 : decode cL_law 1347 = .ok (.invokevirtual 172, 3) := dk_182 0 172 (dk_at dksL_law_53 14 rfl rfl)
theorem dL_law_1350 : decode cL_law 1350 = .ok (.istore 6, 2) := dk_54 6 (dk_at dksL_law_53 17 rfl rfl)
theorem dL_law_1352 : decode cL_law 1352 = .ok (.aload_n 2, 1) := dk_44 (dk_at dksL_law_53 19 rfl rfl)
theorem dL_law_1353 : decode cL_law 1353 = .ok (.invokevirtual 95, 3) := dk_182 0 95 (dk_at dksL_law_53 20 rfl rfl)
theorem dL_law_1356 : decode cL_law 1356 = .ok (.iload 5, 2) := dk_21 5 (dk_at dksL_law_54 0 rfl rfl)
theorem dL_law_1358 : decode cL_law 1358 = .ok (.if_icmp .eq 5, 3) := dk_159 0 5 (dk_at dksL_law_54 2 rfl rfl)
theorem dL_law_1361 : decode cL_law 1361 = .ok (.iconst 0, 1) := dk_3 (dk_at dksL_law_54 5 rfl rfl)
theorem dL_law_1362 : decode cL_law 1362 = .ok (.ireturn, 1) := dk_172 (dk_at dksL_law_54 6 rfl rfl)
theorem dL_law_1363 : decode cL_law 1363 = .ok (.iload 5, 2) := dk_21 5 (dk_at dksL_law_54 7 rfl rfl)
theorem dL_law_1365 : decode cL_law 1365 = .ok (.ifCond .ne 15, 3) := dk_154 0 15 (dk_at dksL_law_54 9 rfl rfl)
theorem dL_law_1368 : decode cL_law 1368 = .ok (.aload_n 3, 1) := dk_45 (dk_at dksL_law_54 12 rfl rfl)
theorem dL_law_1369 : decode cL_law 1369 = .ok (.iconst 0, 1) := dk_3 (dk_at dksL_law_54 13 rfl rfl)
theorem dL_law_1370 : decode cL_law 1370 = .ok (.laload, 1) := dk_47 (dk_at dksL_law_54 14 rfl rfl)
theorem dL_law_1371 : decode cL_law 1371 = .ok (.iload 6, 2) := dk_21 6 (dk_at dksL_law_54 15 rfl rfl)
theorem dL_law_1373 : decode cL_law 1373 = .ok (.i2l, 1) := dk_133 (dk_at dksL_law_54 17 rfl rfl)
theorem dL_law_1374 : decode cL_law 1374 = .ok (.lcmp, 1) := dk_148 (dk_at dksL_law_54 18 rfl rfl)
theorem dL_law_1375 : decode cL_law 1375 = .ok (.ifCond .eq 5, 3) := dk_153 0 5 (dk_at dksL_law_54 19 rfl rfl)
theorem dL_law_1378 : decode cL_law 1378 = .ok (.iconst 0, 1) := dk_3 (dk_at dksL_law_54 22 rfl rfl)
theorem dL_law_1379 : decode cL_law 1379 = .ok (.ireturn, 1) := dk_172 (dk_at dksL_law_54 23 rfl rfl)
theorem dL_law_1380 : decode cL_law 1380 = .ok (.goto 410, 3) := dk_167 1 154 (dk_at dksL_law_55 0 rfl rfl)
theorem dL_law_1383 : decode cL_law 1383 = .ok (.aload_n 1, 1) := dk_43 (dk_at dksL_law_55 3 rfl rfl)
theorem dL_law_1384 : decode cL_law 1384 = .ok (.invokevirtual 173, 3) := dk_182 0 173 (dk_at dksL_law_55 4 rfl rfl)
theorem dL_law_1387 : decode cL_law 1387 = .ok (.aload_n 2, 1) := dk_44 (dk_at dksL_law_55 7 rfl rfl)
theorem dL_law_1388 : decode cL_law 1388 = .ok (.invokevirtual 176, 3) := dk_182 0 176 (dk_at dksL_law_55 8 rfl rfl)
theorem dL_law_1391 : decode cL_law 1391 = .ok (.if_icmp .eq 399, 3) := dk_159 1 143 (dk_at dksL_law_55 11 rfl rfl)
theorem dL_law_1394 : decode cL_law 1394 = .ok (.iconst 0, 1) := dk_3 (dk_at dksL_law_55 14 rfl rfl)
theorem dL_law_1395 : decode cL_law 1395 = .ok (.ireturn, 1) := dk_172 (dk_at dksL_law_55 15 rfl rfl)
theorem dL_law_1396 : decode cL_law 1396 = .ok (.aload_n 1, 1) := dk_43 (dk_at dksL_law_55 16 rfl rfl)
theorem dL_law_1397 : decode cL_law 1397 = .ok (.invokevirtual 177, 3) := dk_182 0 177 (dk_at dksL_law_55 17 rfl rfl)
theorem dL_law_1400 : decode cL_law 1400 = .ok (.aload_n 2, 1) := dk_44 (dk_at dksL_law_55 20 rfl rfl)
theorem dL_law_1401 : decode cL_law 1401 = .ok (.invokevirtual 180, 3) := dk_182 0 180 (dk_at dksL_law_55 21 rfl rfl)
theorem dL_law_1404 : decode cL_law 1404 = .ok (.if_icmp .eq 386, 3) := dk_159 1 130 (dk_at dksL_law_56 0 rfl rfl)
theorem dL_law_1407 : decode cL_law 1407 = .ok (.iconst 0, 1) := dk_3 (dk_at dksL_law_56 3 rfl rfl)
theorem dL_law_1408 : decode cL_law 1408 = .ok (.ireturn, 1) := dk_172 (dk_at dksL_law_56 4 rfl rfl)
theorem dL_law_1409 : decode cL_law 1409 = .ok (.aload_n 1, 1) := dk_43 (dk_at dksL_law_56 5 rfl rfl)
theorem dL_law_1410 : decode cL_law 1410 = .ok (.invokevirtual 181, 3) := dk_182 0 181 (dk_at dksL_law_56 6 rfl rfl)
theorem dL_law_1413 : decode cL_law 1413 = .ok (.aload_n 2, 1) := dk_44 (dk_at dksL_law_56 9 rfl rfl)
theorem dL_law_1414 : decode cL_law 1414 = .ok (.invokevirtual 184, 3) := dk_182 0 184 (dk_at dksL_law_56 10 rfl rfl)
theorem dL_law_1417 : decode cL_law 1417 = .ok (.if_icmp .eq 373, 3) := dk_159 1 117 (dk_at dksL_law_56 13 rfl rfl)
theorem dL_law_1420 : decode cL_law 1420 = .ok (.iconst 0, 1) := dk_3 (dk_at dksL_law_56 16 rfl rfl)
theorem dL_law_1421 : decode cL_law 1421 = .ok (.ireturn, 1) := dk_172 (dk_at dksL_law_56 17 rfl rfl)
theorem dL_law_1422 : decode cL_law 1422 = .ok (.aload_n 1, 1) := dk_43 (dk_at dksL_law_56 18 rfl rfl)
theorem dL_law_1423 : decode cL_law 1423 = .ok (.aload_n 0, 1) := dk_42 (dk_at dksL_law_56 19 rfl rfl)
theorem dL_law_1424 : decode cL_law 1424 = .ok (.iload 4, 2) := dk_21 4 (dk_at dksL_law_56 20 rfl rfl)
theorem dL_law_1426 : decode cL_law 1426 = .ok (.iconst 1, 1) := dk_4 (dk_at dksL_law_56 22 rfl rfl)
theorem dL_law_1427 : decode cL_law 1427 = .ok (.iadd, 1) := dk_96 (dk_at dksL_law_56 23 rfl rfl)
theorem dL_law_1428 : decode cL_law 1428 = .ok (.iaload, 1) := dk_46 (dk_at dksL_law_57 0 rfl rfl)
theorem dL_law_1429 : decode cL_law 1429 = .ok (.aload_n 0, 1) := dk_42 (dk_at dksL_law_57 1 rfl rfl)
theorem dL_law_1430 : decode cL_law 1430 = .ok (.iload 4, 2) := dk_21 4 (dk_at dksL_law_57 2 rfl rfl)
theorem dL_law_1432 : decode cL_law 1432 = .ok (.iconst 2, 1) := dk_5 (dk_at dksL_law_57 4 rfl rfl)
theorem dL_law_1433 : decode cL_law 1433 = .ok (.iadd, 1) := dk_96 (dk_at dksL_law_57 5 rfl rfl)
theorem dL_law_1434 : decode cL_law 1434 = .ok (.iaload, 1) := dk_46 (dk_at dksL_law_57 6 rfl rfl)
theorem dL_law_1435 : decode cL_law 1435 = .ok (.aload_n 0, 1) := dk_42 (dk_at dksL_law_57 7 rfl rfl)
theorem dL_law_1436 : decode cL_law 1436 = .ok (.iload 4, 2) := dk_21 4 (dk_at dksL_law_57 8 rfl rfl)
theorem dL_law_1438 : decode cL_law 1438 = .ok (.iconst 3, 1) := dk_6 (dk_at dksL_law_57 10 rfl rfl)
theorem dL_law_1439 : decode cL_law 1439 = .ok (.iadd, 1) := dk_96 (dk_at dksL_law_57 11 rfl rfl)
theorem dL_law_1440 : decode cL_law 1440 = .ok (.iaload, 1) := dk_46 (dk_at dksL_law_57 12 rfl rfl)
theorem dL_law_1441 : decode cL_law 1441 = .ok (.aload_n 0, 1) := dk_42 (dk_at dksL_law_57 13 rfl rfl)
theorem dL_law_1442 : decode cL_law 1442 = .ok (.iload 4, 2) := dk_21 4 (dk_at dksL_law_57 14 rfl rfl)
theorem dL_law_1444 : decode cL_law 1444 = .ok (.iconst 4, 1) := dk_7 (dk_at dksL_law_57 16 rfl rfl)
theorem dL_law_1445 : decode cL_law 1445 = .ok (.iadd, 1) := dk_96 (dk_at dksL_law_57 17 rfl rfl)
theorem dL_law_1446 : decode cL_law 1446 = .ok (.iaload, 1) := dk_46 (dk_at dksL_law_57 18 rfl rfl)
theorem dL_law_1447 : decode cL_law 1447 = .ok (.aload_n 3, 1) := dk_45 (dk_at dksL_law_57 19 rfl rfl)
theorem dL_law_1448 : decode cL_law 1448 = .ok (.invokestatic 185, 3) := dk_184 0 185 (dk_at dksL_law_57 20 rfl rfl)
theorem dL_law_1451 : decode cL_law 1451 = .ok (.istore 5, 2) := dk_54 5 (dk_at dksL_law_58 0 rfl rfl)
theorem dL_law_1453 : decode cL_law 1453 = .ok (.aload_n 2, 1) := dk_44 (dk_at dksL_law_58 2 rfl rfl)
theorem dL_law_1454 : decode cL_law 1454 = .ok (.aload_n 0, 1) := dk_42 (dk_at dksL_law_58 3 rfl rfl)
theorem dL_law_1455 : decode cL_law 1455 = .ok (.iload 4, 2) := dk_21 4 (dk_at dksL_law_58 4 rfl rfl)
theorem dL_law_1457 : decode cL_law 1457 = .ok (.iconst 1, 1) := dk_4 (dk_at dksL_law_58 6 rfl rfl)
theorem dL_law_1458 : decode cL_law 1458 = .ok (.iadd, 1) := dk_96 (dk_at dksL_law_58 7 rfl rfl)
theorem dL_law_1459 : decode cL_law 1459 = .ok (.iaload, 1) := dk_46 (dk_at dksL_law_58 8 rfl rfl)
theorem dL_law_1460 : decode cL_law 1460 = .ok (.aload_n 0, 1) := dk_42 (dk_at dksL_law_58 9 rfl rfl)
theorem dL_law_1461 : decode cL_law 1461 = .ok (.iload 4, 2) := dk_21 4 (dk_at dksL_law_58 10 rfl rfl)
theorem dL_law_1463 : decode cL_law 1463 = .ok (.iconst 2, 1) := dk_5 (dk_at dksL_law_58 12 rfl rfl)
theorem dL_law_1464 : decode cL_law 1464 = .ok (.iadd, 1) := dk_96 (dk_at dksL_law_58 13 rfl rfl)
theorem dL_law_1465 : decode cL_law 1465 = .ok (.iaload, 1) := dk_46 (dk_at dksL_law_58 14 rfl rfl)
theorem dL_law_1466 : decode cL_law 1466 = .ok (.aload_n 0, 1) := dk_42 (dk_at dksL_law_58 15 rfl rfl)
theorem dL_law_1467 : decode cL_law 1467 = .ok (.iload 4, 2) := dk_21 4 (dk_at dksL_law_58 16 rfl rfl)
theorem dL_law_1469 : decode cL_law 1469 = .ok (.iconst 3, 1) := dk_6 (dk_at dksL_law_58 18 rfl rfl)
theorem dL_law_1470 : decode cL_law 1470 = .ok (.iadd, 1) := dk_96 (dk_at dksL_law_58 19 rfl rfl)
theorem dL_law_1471 : decode cL_law 1471 = .ok (.iaload, 1) := dk_46 (dk_at dksL_law_58 20 rfl rfl)
theorem dL_law_1472 : decode cL_law 1472 = .ok (.aload_n 0, 1) := dk_42 (dk_at dksL_law_58 21 rfl rfl)
theorem dL_law_1473 : decode cL_law 1473 = .ok (.iload 4, 2) := dk_21 4 (dk_at dksL_law_58 22 rfl rfl)
theorem dL_law_1475 : decode cL_law 1475 = .ok (.iconst 4, 1) := dk_7 (dk_at dksL_law_59 0 rfl rfl)
theorem dL_law_1476 : decode cL_law 1476 = .ok (.iadd, 1) := dk_96 (dk_at dksL_law_59 1 rfl rfl)
theorem dL_law_1477 : decode cL_law 1477 = .ok (.iaload, 1) := dk_46 (dk_at dksL_law_59 2 rfl rfl)
theorem dL_law_1478 : decode cL_law 1478 = .ok (.invokevirtual 188, 3) := dk_182 0 188 (dk_at dksL_law_59 3 rfl rfl)
theorem dL_law_1481 : decode cL_law 1481 = .ok (.istore 6, 2) := dk_54 6 (dk_at dksL_law_59 6 rfl rfl)
theorem dL_law_1483 : decode cL_law 1483 = .ok (.aload_n 2, 1) := dk_44 (dk_at dksL_law_59 8 rfl rfl)
theorem dL_law_1484 : decode cL_law 1484 = .ok (.invokevirtual 95, 3) := dk_182 0 95 (dk_at dksL_law_59 9 rfl rfl)
theorem dL_law_1487 : decode cL_law 1487 = .ok (.iload 5, 2) := dk_21 5 (dk_at dksL_law_59 12 rfl rfl)
theorem dL_law_1489 : decode cL_law 1489 = .ok (.if_icmp .eq 5, 3) := dk_159 0 5 (dk_at dksL_law_59 14 rfl rfl)
theorem dL_law_1492 : decode cL_law 1492 = .ok (.iconst 0, 1) := dk_3 (dk_at dksL_law_59 17 rfl rfl)
theorem dL_law_1493 : decode cL_law 1493 = .ok (.ireturn, 1) := dk_172 (dk_at dksL_law_59 18 rfl rfl)
theorem dL_law_1494 : decode cL_law 1494 = .ok (.iload 5, 2) := dk_21 5 (dk_at dksL_law_59 19 rfl rfl)
theorem dL_law_1496 : decode cL_law 1496 = .ok (.ifCond .ne 15, 3) := dk_154 0 15 (dk_at dksL_law_59 21 rfl rfl)
theorem dL_law_1499 : decode cL_law 1499 = .ok (.aload_n 3, 1) := dk_45 (dk_at dksL_law_60 0 rfl rfl)
theorem dL_law_1500 : decode cL_law 1500 = .ok (.iconst 0, 1) := dk_3 (dk_at dksL_law_60 1 rfl rfl)
theorem dL_law_1501 : decode cL_law 1501 = .ok (.laload, 1) := dk_47 (dk_at dksL_law_60 2 rfl rfl)
theorem dL_law_1502 : decode cL_law 1502 = .ok (.iload 6, 2) := dk_21 6 (dk_at dksL_law_60 3 rfl rfl)
theorem dL_law_1504 : decode cL_law 1504 = .ok (.i2l, 1) := dk_133 (dk_at dksL_law_60 5 rfl rfl)
theorem dL_law_1505 : decode cL_law 1505 = .ok (.lcmp, 1) := dk_148 (dk_at dksL_law_60 6 rfl rfl)
theorem dL_law_1506 : decode cL_law 1506 = .ok (.ifCond .eq 5, 3) := dk_153 0 5 (dk_at dksL_law_60 7 rfl rfl)
theorem dL_law_1509 : decode cL_law 1509 = .ok (.iconst 0, 1) := dk_3 (dk_at dksL_law_60 10 rfl rfl)
theorem dL_law_1510 : decode cL_law 1510 = .ok (.ireturn, 1) := dk_172 (dk_at dksL_law_60 11 rfl rfl)
theorem dL_law_1511 : decode cL_law 1511 = .ok (.goto 279, 3) := dk_167 1 23 (dk_at dksL_law_60 12 rfl rfl)
theorem dL_law_1514 : decode cL_law 1514 = .ok (.aload_n 1, 1) := dk_43 (dk_at dksL_law_60 15 rfl rfl)
theorem dL_law_1515 : decode cL_law 1515 = .ok (.aload_n 0, 1) := dk_42 (dk_at dksL_law_60 16 rfl rfl)
theorem dL_law_1516 : decode cL_law 1516 = .ok (.iload 4, 2) := dk_21 4 (dk_at dksL_law_60 17 rfl rfl)
theorem dL_law_1518 : decode cL_law 1518 = .ok (.iconst 1, 1) := dk_4 (dk_at dksL_law_60 19 rfl rfl)
theorem dL_law_1519 : decode cL_law 1519 = .ok (.iadd, 1) := dk_96 (dk_at dksL_law_60 20 rfl rfl)
theorem dL_law_1520 : decode cL_law 1520 = .ok (.iaload, 1) := dk_46 (dk_at dksL_law_60 21 rfl rfl)
theorem dL_law_1521 : decode cL_law 1521 = .ok (.aload_n 0, 1) := dk_42 (dk_at dksL_law_60 22 rfl rfl)
theorem dL_law_1522 : decode cL_law 1522 = .ok (.iload 4, 2) := dk_21 4 (dk_at dksL_law_61 0 rfl rfl)
theorem dL_law_1524 : decode cL_law 1524 = .ok (.iconst 2, 1) := dk_5 (dk_at dksL_law_61 2 rfl rfl)
theorem dL_law_1525 : decode cL_law 1525 = .ok (.iadd, 1) := dk_96 (dk_at dksL_law_61 3 rfl rfl)
theorem dL_law_1526 : decode cL_law 1526 = .ok (.iaload, 1) := dk_46 (dk_at dksL_law_61 4 rfl rfl)
theorem dL_law_1527 : decode cL_law 1527 = .ok (.aload_n 0, 1) := dk_42 (dk_at dksL_law_61 5 rfl rfl)
theorem dL_law_1528 : decode cL_law 1528 = .ok (.iload 4, 2) := dk_21 4 (dk_at dksL_law_61 6 rfl rfl)
theorem dL_law_1530 : decode cL_law 1530 = .ok (.iconst 3, 1) := dk_6 (dk_at dksL_law_61 8 rfl rfl)
theorem dL_law_1531 : decode cL_law 1531 = .ok (.iadd, 1) := dk_96 (dk_at dksL_law_61 9 rfl rfl)
theorem dL_law_1532 : decode cL_law 1532 = .ok (.iaload, 1) := dk_46 (dk_at dksL_law_61 10 rfl rfl)
theorem dL_law_1533 : decode cL_law 1533 = .ok (.aload_n 0, 1) := dk_42 (dk_at dksL_law_61 11 rfl rfl)
theorem dL_law_1534 : decode cL_law 1534 = .ok (.iload 4, 2) := dk_21 4 (dk_at dksL_law_61 12 rfl rfl)
theorem dL_law_1536 : decode cL_law 1536 = .ok (.iconst 4, 1) := dk_7 (dk_at dksL_law_61 14 rfl rfl)
theorem dL_law_1537 : decode cL_law 1537 = .ok (.iadd, 1) := dk_96 (dk_at dksL_law_61 15 rfl rfl)
theorem dL_law_1538 : decode cL_law 1538 = .ok (.iaload, 1) := dk_46 (dk_at dksL_law_61 16 rfl rfl)
theorem dL_law_1539 : decode cL_law 1539 = .ok (.aload_n 3, 1) := dk_45 (dk_at dksL_law_61 17 rfl rfl)
theorem dL_law_1540 : decode cL_law 1540 = .ok (.invokestatic 189, 3) := dk_184 0 189 (dk_at dksL_law_61 18 rfl rfl)
theorem dL_law_1543 : decode cL_law 1543 = .ok (.istore 5, 2) := dk_54 5 (dk_at dksL_law_61 21 rfl rfl)
theorem dL_law_1545 : decode cL_law 1545 = .ok (.aload_n 2, 1) := dk_44 (dk_at dksL_law_61 23 rfl rfl)
theorem dL_law_1546 : decode cL_law 1546 = .ok (.aload_n 0, 1) := dk_42 (dk_at dksL_law_62 0 rfl rfl)
theorem dL_law_1547 : decode cL_law 1547 = .ok (.iload 4, 2) := dk_21 4 (dk_at dksL_law_62 1 rfl rfl)
theorem dL_law_1549 : decode cL_law 1549 = .ok (.iconst 1, 1) := dk_4 (dk_at dksL_law_62 3 rfl rfl)
theorem dL_law_1550 : decode cL_law 1550 = .ok (.iadd, 1) := dk_96 (dk_at dksL_law_62 4 rfl rfl)
theorem dL_law_1551 : decode cL_law 1551 = .ok (.iaload, 1) := dk_46 (dk_at dksL_law_62 5 rfl rfl)
theorem dL_law_1552 : decode cL_law 1552 = .ok (.aload_n 0, 1) := dk_42 (dk_at dksL_law_62 6 rfl rfl)
theorem dL_law_1553 : decode cL_law 1553 = .ok (.iload 4, 2) := dk_21 4 (dk_at dksL_law_62 7 rfl rfl)
theorem dL_law_1555 : decode cL_law 1555 = .ok (.iconst 2, 1) := dk_5 (dk_at dksL_law_62 9 rfl rfl)
theorem dL_law_1556 : decode cL_law 1556 = .ok (.iadd, 1) := dk_96 (dk_at dksL_law_62 10 rfl rfl)
theorem dL_law_1557 : decode cL_law 1557 = .ok (.iaload, 1) := dk_46 (dk_at dksL_law_62 11 rfl rfl)
theorem dL_law_1558 : decode cL_law 1558 = .ok (.aload_n 0, 1) := dk_42 (dk_at dksL_law_62 12 rfl rfl)
theorem dL_law_1559 : decode cL_law 1559 = .ok (.iload 4, 2) := dk_21 4 (dk_at dksL_law_62 13 rfl rfl)
theorem dL_law_1561 : decode cL_law 1561 = .ok (.iconst 3, 1) := dk_6 (dk_at dksL_law_62 15 rfl rfl)
theorem dL_law_1562 : decode cL_law 1562 = .ok (.iadd, 1) := dk_96 (dk_at dksL_law_62 16 rfl rfl)
theorem dL_law_1563 : decode cL_law 1563 = .ok (.iaload, 1) := dk_46 (dk_at dksL_law_62 17 rfl rfl)
theorem dL_law_1564 : decode cL_law 1564 = .ok (.aload_n 0, 1) := dk_42 (dk_at dksL_law_62 18 rfl rfl)
theorem dL_law_1565 : decode cL_law 1565 = .ok (.iload 4, 2) := dk_21 4 (dk_at dksL_law_62 19 rfl rfl)
theorem dL_law_1567 : decode cL_law 1567 = .ok (.iconst 4, 1) := dk_7 (dk_at dksL_law_62 21 rfl rfl)
theorem dL_law_1568 : decode cL_law 1568 = .ok (.iadd, 1) := dk_96 (dk_at dksL_law_62 22 rfl rfl)
theorem dL_law_1569 : decode cL_law 1569 = .ok (.iaload, 1) := dk_46 (dk_at dksL_law_62 23 rfl rfl)
theorem dL_law_1570 : decode cL_law 1570 = .ok (.invokevirtual 191, 3) := dk_182 0 191 (dk_at dksL_law_63 0 rfl rfl)
theorem dL_law_1573 : decode cL_law 1573 = .ok (.istore 6, 2) := dk_54 6 (dk_at dksL_law_63 3 rfl rfl)
theorem dL_law_1575 : decode cL_law 1575 = .ok (.aload_n 2, 1) := dk_44 (dk_at dksL_law_63 5 rfl rfl)
theorem dL_law_1576 : decode cL_law 1576 = .ok (.invokevirtual 95, 3) := dk_182 0 95 (dk_at dksL_law_63 6 rfl rfl)
theorem dL_law_1579 : decode cL_law 1579 = .ok (.iload 5, 2) := dk_21 5 (dk_at dksL_law_63 9 rfl rfl)
theorem dL_law_1581 : decode cL_law 1581 = .ok (.if_icmp .eq 5, 3) := dk_159 0 5 (dk_at dksL_law_63 11 rfl rfl)
theorem dL_law_1584 : decode cL_law 1584 = .ok (.iconst 0, 1) := dk_3 (dk_at dksL_law_63 14 rfl rfl)
theorem dL_law_1585 : decode cL_law 1585 = .ok (.ireturn, 1) := dk_172 (dk_at dksL_law_63 15 rfl rfl)
theorem dL_law_1586 : decode cL_law 1586 = .ok (.iload 5, 2) := dk_21 5 (dk_at dksL_law_63 16 rfl rfl)
theorem dL_law_1588 : decode cL_law 1588 = .ok (.ifCond .ne 15, 3) := dk_154 0 15 (dk_at dksL_law_63 18 rfl rfl)
theorem dL_law_1591 : decode cL_law 1591 = .ok (.aload_n 3, 1) := dk_45 (dk_at dksL_law_63 21 rfl rfl)
theorem dL_law_1592 : decode cL_law 1592 = .ok (.iconst 0, 1) := dk_3 (dk_at dksL_law_63 22 rfl rfl)
theorem dL_law_1593 : decode cL_law 1593 = .ok (.laload, 1) := dk_47 (dk_at dksL_law_63 23 rfl rfl)
theorem dL_law_1594 : decode cL_law 1594 = .ok (.iload 6, 2) := dk_21 6 (dk_at dksL_law_64 0 rfl rfl)
theorem dL_law_1596 : decode cL_law 1596 = .ok (.i2l, 1) := dk_133 (dk_at dksL_law_64 2 rfl rfl)
theorem dL_law_1597 : decode cL_law 1597 = .ok (.lcmp, 1) := dk_148 (dk_at dksL_law_64 3 rfl rfl)
theorem dL_law_1598 : decode cL_law 1598 = .ok (.ifCond .eq 5, 3) := dk_153 0 5 (dk_at dksL_law_64 4 rfl rfl)
theorem dL_law_1601 : decode cL_law 1601 = .ok (.iconst 0, 1) := dk_3 (dk_at dksL_law_64 7 rfl rfl)
theorem dL_law_1602 : decode cL_law 1602 = .ok (.ireturn, 1) := dk_172 (dk_at dksL_law_64 8 rfl rfl)
theorem dL_law_1603 : decode cL_law 1603 = .ok (.goto 187, 3) := dk_167 0 187 (dk_at dksL_law_64 9 rfl rfl)
theorem dL_law_1606 : decode cL_law 1606 = .ok (.aload_n 1, 1) := dk_43 (dk_at dksL_law_64 12 rfl rfl)
theorem dL_law_1607 : decode cL_law 1607 = .ok (.aload_n 0, 1) := dk_42 (dk_at dksL_law_64 13 rfl rfl)
theorem dL_law_1608 : decode cL_law 1608 = .ok (.iload 4, 2) := dk_21 4 (dk_at dksL_law_64 14 rfl rfl)
theorem dL_law_1610 : decode cL_law 1610 = .ok (.iconst 1, 1) := dk_4 (dk_at dksL_law_64 16 rfl rfl)
theorem dL_law_1611 : decode cL_law 1611 = .ok (.iadd, 1) := dk_96 (dk_at dksL_law_64 17 rfl rfl)
theorem dL_law_1612 : decode cL_law 1612 = .ok (.iaload, 1) := dk_46 (dk_at dksL_law_64 18 rfl rfl)
theorem dL_law_1613 : decode cL_law 1613 = .ok (.aload_n 0, 1) := dk_42 (dk_at dksL_law_64 19 rfl rfl)
theorem dL_law_1614 : decode cL_law 1614 = .ok (.iload 4, 2) := dk_21 4 (dk_at dksL_law_64 20 rfl rfl)
theorem dL_law_1616 : decode cL_law 1616 = .ok (.iconst 2, 1) := dk_5 (dk_at dksL_law_64 22 rfl rfl)
theorem dL_law_1617 : decode cL_law 1617 = .ok (.iadd, 1) := dk_96 (dk_at dksL_law_64 23 rfl rfl)
theorem dL_law_1618 : decode cL_law 1618 = .ok (.iaload, 1) := dk_46 (dk_at dksL_law_65 0 rfl rfl)
theorem dL_law_1619 : decode cL_law 1619 = .ok (.aload_n 0, 1) := dk_42 (dk_at dksL_law_65 1 rfl rfl)
theorem dL_law_1620 : decode cL_law 1620 = .ok (.iload 4, 2) := dk_21 4 (dk_at dksL_law_65 2 rfl rfl)
theorem dL_law_1622 : decode cL_law 1622 = .ok (.iconst 3, 1) := dk_6 (dk_at dksL_law_65 4 rfl rfl)
theorem dL_law_1623 : decode cL_law 1623 = .ok (.iadd, 1) := dk_96 (dk_at dksL_law_65 5 rfl rfl)
theorem dL_law_1624 : decode cL_law 1624 = .ok (.iaload, 1) := dk_46 (dk_at dksL_law_65 6 rfl rfl)
theorem dL_law_1625 : decode cL_law 1625 = .ok (.aload_n 0, 1) := dk_42 (dk_at dksL_law_65 7 rfl rfl)
theorem dL_law_1626 : decode cL_law 1626 = .ok (.iload 4, 2) := dk_21 4 (dk_at dksL_law_65 8 rfl rfl)
theorem dL_law_1628 : decode cL_law 1628 = .ok (.iconst 4, 1) := dk_7 (dk_at dksL_law_65 10 rfl rfl)
theorem dL_law_1629 : decode cL_law 1629 = .ok (.iadd, 1) := dk_96 (dk_at dksL_law_65 11 rfl rfl)
theorem dL_law_1630 : decode cL_law 1630 = .ok (.iaload, 1) := dk_46 (dk_at dksL_law_65 12 rfl rfl)
theorem dL_law_1631 : decode cL_law 1631 = .ok (.aload_n 3, 1) := dk_45 (dk_at dksL_law_65 13 rfl rfl)
theorem dL_law_1632 : decode cL_law 1632 = .ok (.invokestatic 192, 3) := dk_184 0 192 (dk_at dksL_law_65 14 rfl rfl)
theorem dL_law_1635 : decode cL_law 1635 = .ok (.istore 5, 2) := dk_54 5 (dk_at dksL_law_65 17 rfl rfl)
theorem dL_law_1637 : decode cL_law 1637 = .ok (.aload_n 2, 1) := dk_44 (dk_at dksL_law_65 19 rfl rfl)
theorem dL_law_1638 : decode cL_law 1638 = .ok (.aload_n 0, 1) := dk_42 (dk_at dksL_law_65 20 rfl rfl)
theorem dL_law_1639 : decode cL_law 1639 = .ok (.iload 4, 2) := dk_21 4 (dk_at dksL_law_65 21 rfl rfl)
theorem dL_law_1641 : decode cL_law 1641 = .ok (.iconst 1, 1) := dk_4 (dk_at dksL_law_65 23 rfl rfl)
theorem dL_law_1642 : decode cL_law 1642 = .ok (.iadd, 1) := dk_96 (dk_at dksL_law_66 0 rfl rfl)
theorem dL_law_1643 : decode cL_law 1643 = .ok (.iaload, 1) := dk_46 (dk_at dksL_law_66 1 rfl rfl)
theorem dL_law_1644 : decode cL_law 1644 = .ok (.aload_n 0, 1) := dk_42 (dk_at dksL_law_66 2 rfl rfl)
theorem dL_law_1645 : decode cL_law 1645 = .ok (.iload 4, 2) := dk_21 4 (dk_at dksL_law_66 3 rfl rfl)
theorem dL_law_1647 : decode cL_law 1647 = .ok (.iconst 2, 1) := dk_5 (dk_at dksL_law_66 5 rfl rfl)
theorem dL_law_1648 : decode cL_law 1648 = .ok (.iadd, 1) := dk_96 (dk_at dksL_law_66 6 rfl rfl)
theorem dL_law_1649 : decode cL_law 1649 = .ok (.iaload, 1) := dk_46 (dk_at dksL_law_66 7 rfl rfl)
theorem dL_law_1650 : decode cL_law 1650 = .ok (.aload_n 0, 1) := dk_42 (dk_at dksL_law_66 8 rfl rfl)
theorem dL_law_1651 : decode cL_law 1651 = .ok (.iload 4, 2) := dk_21 4 (dk_at dksL_law_66 9 rfl rfl)
theorem dL_law_1653 : decode cL_law 1653 = .ok (.iconst 3, 1) := dk_6 (dk_at dksL_law_66 11 rfl rfl)
theorem dL_law_1654 : decode cL_law 1654 = .ok (.iadd, 1) := dk_96 (dk_at dksL_law_66 12 rfl rfl)
theorem dL_law_1655 : decode cL_law 1655 = .ok (.iaload, 1) := dk_46 (dk_at dksL_law_66 13 rfl rfl)
theorem dL_law_1656 : decode cL_law 1656 = .ok (.aload_n 0, 1) := dk_42 (dk_at dksL_law_66 14 rfl rfl)
theorem dL_law_1657 : decode cL_law 1657 = .ok (.iload 4, 2) := dk_21 4 (dk_at dksL_law_66 15 rfl rfl)
theorem dL_law_1659 : decode cL_law 1659 = .ok (.iconst 4, 1) := dk_7 (dk_at dksL_law_66 17 rfl rfl)
theorem dL_law_1660 : decode cL_law 1660 = .ok (.iadd, 1) := dk_96 (dk_at dksL_law_66 18 rfl rfl)
theorem dL_law_1661 : decode cL_law 1661 = .ok (.iaload, 1) := dk_46 (dk_at dksL_law_66 19 rfl rfl)
theorem dL_law_1662 : decode cL_law 1662 = .ok (.invokevirtual 194, 3) := dk_182 0 194 (dk_at dksL_law_66 20 rfl rfl)
theorem dL_law_1665 : decode cL_law 1665 = .ok (.istore 6, 2) := dk_54 6 (dk_at dksL_law_67 0 rfl rfl)
theorem dL_law_1667 : decode cL_law 1667 = .ok (.aload_n 2, 1) := dk_44 (dk_at dksL_law_67 2 rfl rfl)
theorem dL_law_1668 : decode cL_law 1668 = .ok (.invokevirtual 95, 3) := dk_182 0 95 (dk_at dksL_law_67 3 rfl rfl)
theorem dL_law_1671 : decode cL_law 1671 = .ok (.iload 5, 2) := dk_21 5 (dk_at dksL_law_67 6 rfl rfl)
theorem dL_law_1673 : decode cL_law 1673 = .ok (.if_icmp .eq 5, 3) := dk_159 0 5 (dk_at dksL_law_67 8 rfl rfl)
theorem dL_law_1676 : decode cL_law 1676 = .ok (.iconst 0, 1) := dk_3 (dk_at dksL_law_67 11 rfl rfl)
theorem dL_law_1677 : decode cL_law 1677 = .ok (.ireturn, 1) := dk_172 (dk_at dksL_law_67 12 rfl rfl)
theorem dL_law_1678 : decode cL_law 1678 = .ok (.iload 5, 2) := dk_21 5 (dk_at dksL_law_67 13 rfl rfl)
theorem dL_law_1680 : decode cL_law 1680 = .ok (.ifCond .ne 15, 3) := dk_154 0 15 (dk_at dksL_law_67 15 rfl rfl)
theorem dL_law_1683 : decode cL_law 1683 = .ok (.aload_n 3, 1) := dk_45 (dk_at dksL_law_67 18 rfl rfl)
theorem dL_law_1684 : decode cL_law 1684 = .ok (.iconst 0, 1) := dk_3 (dk_at dksL_law_67 19 rfl rfl)
theorem dL_law_1685 : decode cL_law 1685 = .ok (.laload, 1) := dk_47 (dk_at dksL_law_67 20 rfl rfl)
theorem dL_law_1686 : decode cL_law 1686 = .ok (.iload 6, 2) := dk_21 6 (dk_at dksL_law_67 21 rfl rfl)
theorem dL_law_1688 : decode cL_law 1688 = .ok (.i2l, 1) := dk_133 (dk_at dksL_law_67 23 rfl rfl)
theorem dL_law_1689 : decode cL_law 1689 = .ok (.lcmp, 1) := dk_148 (dk_at dksL_law_68 0 rfl rfl)
theorem dL_law_1690 : decode cL_law 1690 = .ok (.ifCond .eq 5, 3) := dk_153 0 5 (dk_at dksL_law_68 1 rfl rfl)
theorem dL_law_1693 : decode cL_law 1693 = .ok (.iconst 0, 1) := dk_3 (dk_at dksL_law_68 4 rfl rfl)
theorem dL_law_1694 : decode cL_law 1694 = .ok (.ireturn, 1) := dk_172 (dk_at dksL_law_68 5 rfl rfl)
theorem dL_law_1695 : decode cL_law 1695 = .ok (.goto 95, 3) := dk_167 0 95 (dk_at dksL_law_68 6 rfl rfl)
theorem dL_law_1698 : decode cL_law 1698 = .ok (.aload_n 1, 1) := dk_43 (dk_at dksL_law_68 9 rfl rfl)
theorem dL_law_1699 : decode cL_law 1699 = .ok (.aload_n 0, 1) := dk_42 (dk_at dksL_law_68 10 rfl rfl)
theorem dL_law_1700 : decode cL_law 1700 = .ok (.iload 4, 2) := dk_21 4 (dk_at dksL_law_68 11 rfl rfl)
theorem dL_law_1702 : decode cL_law 1702 = .ok (.iconst 1, 1) := dk_4 (dk_at dksL_law_68 13 rfl rfl)
theorem dL_law_1703 : decode cL_law 1703 = .ok (.iadd, 1) := dk_96 (dk_at dksL_law_68 14 rfl rfl)
theorem dL_law_1704 : decode cL_law 1704 = .ok (.iaload, 1) := dk_46 (dk_at dksL_law_68 15 rfl rfl)
theorem dL_law_1705 : decode cL_law 1705 = .ok (.aload_n 0, 1) := dk_42 (dk_at dksL_law_68 16 rfl rfl)
theorem dL_law_1706 : decode cL_law 1706 = .ok (.iload 4, 2) := dk_21 4 (dk_at dksL_law_68 17 rfl rfl)
theorem dL_law_1708 : decode cL_law 1708 = .ok (.iconst 2, 1) := dk_5 (dk_at dksL_law_68 19 rfl rfl)
theorem dL_law_1709 : decode cL_law 1709 = .ok (.iadd, 1) := dk_96 (dk_at dksL_law_68 20 rfl rfl)
theorem dL_law_1710 : decode cL_law 1710 = .ok (.iaload, 1) := dk_46 (dk_at dksL_law_68 21 rfl rfl)
theorem dL_law_1711 : decode cL_law 1711 = .ok (.aload_n 0, 1) := dk_42 (dk_at dksL_law_68 22 rfl rfl)
theorem dL_law_1712 : decode cL_law 1712 = .ok (.iload 4, 2) := dk_21 4 (dk_at dksL_law_69 0 rfl rfl)
theorem dL_law_1714 : decode cL_law 1714 = .ok (.iconst 3, 1) := dk_6 (dk_at dksL_law_69 2 rfl rfl)
theorem dL_law_1715 : decode cL_law 1715 = .ok (.iadd, 1) := dk_96 (dk_at dksL_law_69 3 rfl rfl)
theorem dL_law_1716 : decode cL_law 1716 = .ok (.iaload, 1) := dk_46 (dk_at dksL_law_69 4 rfl rfl)
theorem dL_law_1717 : decode cL_law 1717 = .ok (.aload_n 0, 1) := dk_42 (dk_at dksL_law_69 5 rfl rfl)
theorem dL_law_1718 : decode cL_law 1718 = .ok (.iload 4, 2) := dk_21 4 (dk_at dksL_law_69 6 rfl rfl)
theorem dL_law_1720 : decode cL_law 1720 = .ok (.iconst 4, 1) := dk_7 (dk_at dksL_law_69 8 rfl rfl)
theorem dL_law_1721 : decode cL_law 1721 = .ok (.iadd, 1) := dk_96 (dk_at dksL_law_69 9 rfl rfl)
theorem dL_law_1722 : decode cL_law 1722 = .ok (.iaload, 1) := dk_46 (dk_at dksL_law_69 10 rfl rfl)
theorem dL_law_1723 : decode cL_law 1723 = .ok (.aload_n 3, 1) := dk_45 (dk_at dksL_law_69 11 rfl rfl)
theorem dL_law_1724 : decode cL_law 1724 = .ok (.invokestatic 195, 3) := dk_184 0 195 (dk_at dksL_law_69 12 rfl rfl)
theorem dL_law_1727 : decode cL_law 1727 = .ok (.istore 5, 2) := dk_54 5 (dk_at dksL_law_69 15 rfl rfl)
theorem dL_law_1729 : decode cL_law 1729 = .ok (.aload_n 2, 1) := dk_44 (dk_at dksL_law_69 17 rfl rfl)
theorem dL_law_1730 : decode cL_law 1730 = .ok (.aload_n 0, 1) := dk_42 (dk_at dksL_law_69 18 rfl rfl)
theorem dL_law_1731 : decode cL_law 1731 = .ok (.iload 4, 2) := dk_21 4 (dk_at dksL_law_69 19 rfl rfl)
theorem dL_law_1733 : decode cL_law 1733 = .ok (.iconst 1, 1) := dk_4 (dk_at dksL_law_69 21 rfl rfl)
theorem dL_law_1734 : decode cL_law 1734 = .ok (.iadd, 1) := dk_96 (dk_at dksL_law_69 22 rfl rfl)
theorem dL_law_1735 : decode cL_law 1735 = .ok (.iaload, 1) := dk_46 (dk_at dksL_law_69 23 rfl rfl)
theorem dL_law_1736 : decode cL_law 1736 = .ok (.aload_n 0, 1) := dk_42 (dk_at dksL_law_70 0 rfl rfl)
theorem dL_law_1737 : decode cL_law 1737 = .ok (.iload 4, 2) := dk_21 4 (dk_at dksL_law_70 1 rfl rfl)
theorem dL_law_1739 : decode cL_law 1739 = .ok (.iconst 2, 1) := dk_5 (dk_at dksL_law_70 3 rfl rfl)
theorem dL_law_1740 : decode cL_law 1740 = .ok (.iadd, 1) := dk_96 (dk_at dksL_law_70 4 rfl rfl)
theorem dL_law_1741 : decode cL_law 1741 = .ok (.iaload, 1) := dk_46 (dk_at dksL_law_70 5 rfl rfl)
theorem dL_law_1742 : decode cL_law 1742 = .ok (.aload_n 0, 1) := dk_42 (dk_at dksL_law_70 6 rfl rfl)
theorem dL_law_1743 : decode cL_law 1743 = .ok (.iload 4, 2) := dk_21 4 (dk_at dksL_law_70 7 rfl rfl)
theorem dL_law_1745 : decode cL_law 1745 = .ok (.iconst 3, 1) := dk_6 (dk_at dksL_law_70 9 rfl rfl)
theorem dL_law_1746 : decode cL_law 1746 = .ok (.iadd, 1) := dk_96 (dk_at dksL_law_70 10 rfl rfl)
theorem dL_law_1747 : decode cL_law 1747 = .ok (.iaload, 1) := dk_46 (dk_at dksL_law_70 11 rfl rfl)
theorem dL_law_1748 : decode cL_law 1748 = .ok (.aload_n 0, 1) := dk_42 (dk_at dksL_law_70 12 rfl rfl)
theorem dL_law_1749 : decode cL_law 1749 = .ok (.iload 4, 2) := dk_21 4 (dk_at dksL_law_70 13 rfl rfl)
theorem dL_law_1751 : decode cL_law 1751 = .ok (.iconst 4, 1) := dk_7 (dk_at dksL_law_70 15 rfl rfl)
theorem dL_law_1752 : decode cL_law 1752 = .ok (.iadd, 1) := dk_96 (dk_at dksL_law_70 16 rfl rfl)
theorem dL_law_1753 : decode cL_law 1753 = .ok (.iaload, 1) := dk_46 (dk_at dksL_law_70 17 rfl rfl)
theorem dL_law_1754 : decode cL_law 1754 = .ok (.invokevirtual 197, 3) := dk_182 0 197 (dk_at dksL_law_70 18 rfl rfl)
theorem dL_law_1757 : decode cL_law 1757 = .ok (.istore 6, 2) := dk_54 6 (dk_at dksL_law_70 21 rfl rfl)
theorem dL_law_1759 : decode cL_law 1759 = .ok (.aload_n 2, 1) := dk_44 (dk_at dksL_law_70 23 rfl rfl)
theorem dL_law_1760 : decode cL_law 1760 = .ok (.invokevirtual 95, 3) := dk_182 0 95 (dk_at dksL_law_71 0 rfl rfl)
theorem dL_law_1763 : decode cL_law 1763 = .ok (.iload 5, 2) := dk_21 5 (dk_at dksL_law_71 3 rfl rfl)
theorem dL_law_1765 : decode cL_law 1765 = .ok (.if_icmp .eq 5, 3) := dk_159 0 5 (dk_at dksL_law_71 5 rfl rfl)
theorem dL_law_1768 : decode cL_law 1768 = .ok (.iconst 0, 1) := dk_3 (dk_at dksL_law_71 8 rfl rfl)
theorem dL_law_1769 : decode cL_law 1769 = .ok (.ireturn, 1) := dk_172 (dk_at dksL_law_71 9 rfl rfl)
theorem dL_law_1770 : decode cL_law 1770 = .ok (.iload 5, 2) := dk_21 5 (dk_at dksL_law_71 10 rfl rfl)
theorem dL_law_1772 : decode cL_law 1772 = .ok (.ifCond .ne 15, 3) := dk_154 0 15 (dk_at dksL_law_71 12 rfl rfl)
theorem dL_law_1775 : decode cL_law 1775 = .ok (.aload_n 3, 1) := dk_45 (dk_at dksL_law_71 15 rfl rfl)
theorem dL_law_1776 : decode cL_law 1776 = .ok (.iconst 0, 1) := dk_3 (dk_at dksL_law_71 16 rfl rfl)
theorem dL_law_1777 : decode cL_law 1777 = .ok (.laload, 1) := dk_47 (dk_at dksL_law_71 17 rfl rfl)
theorem dL_law_1778 : decode cL_law 1778 = .ok (.iload 6, 2) := dk_21 6 (dk_at dksL_law_71 18 rfl rfl)
theorem dL_law_1780 : decode cL_law 1780 = .ok (.i2l, 1) := dk_133 (dk_at dksL_law_71 20 rfl rfl)
theorem dL_law_1781 : decode cL_law 1781 = .ok (.lcmp, 1) := dk_148 (dk_at dksL_law_71 21 rfl rfl)
theorem dL_law_1782 : decode cL_law 1782 = .ok (.ifCond .eq 5, 3) := dk_153 0 5 (dk_at dksL_law_72 0 rfl rfl)
theorem dL_law_1785 : decode cL_law 1785 = .ok (.iconst 0, 1) := dk_3 (dk_at dksL_law_72 3 rfl rfl)
theorem dL_law_1786 : decode cL_law 1786 = .ok (.ireturn, 1) := dk_172 (dk_at dksL_law_72 4 rfl rfl)
theorem dL_law_1787 : decode cL_law 1787 = .ok (.goto 3, 3) := dk_167 0 3 (dk_at dksL_law_72 5 rfl rfl)
theorem dL_law_1790 : decode cL_law 1790 = .ok (.iinc 4 5, 3) := dk_132 4 5 (dk_at dksL_law_72 8 rfl rfl)
theorem dL_law_1793 : decode cL_law 1793 = .ok (.goto (-1770), 3) := dk_167 249 22 (dk_at dksL_law_72 11 rfl rfl)
theorem dL_law_1796 : decode cL_law 1796 = .ok (.iconst 1, 1) := dk_4 (dk_at dksL_law_72 14 rfl rfl)
theorem dL_law_1797 : decode cL_law 1797 = .ok (.ireturn, 1) := dk_172 (dk_at dksL_law_72 15 rfl rfl)
